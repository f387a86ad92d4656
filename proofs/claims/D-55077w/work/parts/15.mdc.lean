/-! printed by tools/gen_md.py -/
set_option maxRecDepth 100000
def f_append (M : MS) (a1 : Int32) : Option (Int32 × MS) := lj (fun (M1 : MS) => some ((-2), M1)) (fun j20_1 => if (p_isIn a1 32 126) = 0 then (j20_1 M) else (if (M 0 17) = 60 then (j20_1 M) else (gd (gi (M 0 17) 60) (lt (rup M 10 (upd (M 10) (M 0 17).toNatClampNeg a1)) (fun M6 => lt (rup M6 0 (upd (M6 0) 17 ((M6 0 17) + 1))) (fun M7 => some ((M7 0 17), M7)))))))
set_option maxHeartbeats 4000000 in
theorem w_append (l : Launch) (G : va_G) (ai : Nat → ClassId) (o : Nat) (ar : Nat → Nat) (M : MS) (a1 : Int32) (r0 : Int32) (M0 : MS) (hF : f_append M a1 = some (r0, M0)) : md_M l G ai o ar yX9_append cX9_append 2 (some .int) ({ frames := 1, cells := 0, slots := 0, locals := 22 } : Room) [.ref o, .int a1] M r0 M0 := by
  refine mo_body (Qc := fun A => va_Qi (fun (r' : Int32) (M2 : MS) => r' = r0 ∧ M2 = M0) (gw_E G ai (md_W ai o ar) A) A) (by decide) (Nat.le_of_ble_eq_true rfl) ?_
  intro p e s m args below meth c A ls hC hr hI hl _
  have hx := hC.1
  have hb := hC.2.1
  have hl : lv_has ls 2 [(0, .ref o), (1, .int a1)] := hl
  show W p l e _ s m args below meth c s.heap [] 0 0 (md_Q below G ai o ar A args s r0 M0) (F0 m 0 ls [])
  rw [f_append] at hF
  refine lv_iload_n hx hb dX9_append_0 rfl (lv_at hl 1 rfl) ?_
  refine lv_bipush (v := 32) hx hb dX9_append_1 (by decide) ?_
  refine lv_bipush (v := 126) hx hb dX9_append_3 (by decide) ?_
  refine k_isIn (mo_CN hC) (Nat.le_of_ble_eq_true rfl) (Nat.le_of_ble_eq_true rfl) hl.1 (Nat.le_of_ble_eq_true rfl) dX9_append_5 ?_
  obtain ⟨j20_1, hj20_1, hF⟩ := lj_some hF
  have J20 : ∀ (M1 : MS) (H : Heap) (locs : List Loc) (ls : Array Slot), j20_1 M1 = some (r0, M0) → mo_I G A s.heap (md_W ai o ar M1) H locs → lv_has ls 2 [] → W p l e ({ frames := 1, cells := 0, slots := 0, locals := 22 } : Room) s m args below meth c H locs 0 0 (md_Q below G ai o ar A args s r0 M0) (F0 m 20 ls []) := by
    intro M1 H locs ls hF hI hl
    rw [hj20_1] at hF
    refine lv_bipush (v := (-2)) hx hb dX9_append_20 (by decide) ?_
    exact md_iret hC hI hr hF dX9_append_22
  refine lv_if_eq (tgt := 20) hx hb dX9_append_8 (by decide) (fun c3 => ?_) (fun c3 => ?_)
  · have hF := if_t hF c3
    exact J20 _ _ _ _ hF hI (lv_sub hl [] rfl)
  · have hF := if_f hF c3
    refine lv_aload_n hx hb dX9_append_11 rfl (lv_at hl 0 rfl) ?_
    refine md_g17 hC hI dX9_append_12 ?_
    refine lv_bipush (v := 60) hx hb dX9_append_15 (by decide) ?_
    refine lv_icmp_ne (tgt := 23) hx hb dX9_append_17 (by decide) (fun c4 => ?_) (fun c4 => ?_)
    · have hF := if_f hF c4
      refine lv_aload_n hx hb dX9_append_23 rfl (lv_at hl 0 rfl) ?_
      refine md_g15 hC hI dX9_append_24 ?_
      refine lv_aload_n hx hb dX9_append_27 rfl (lv_at hl 0 rfl) ?_
      refine md_g17 hC hI dX9_append_28 ?_
      refine lv_iload_n hx hb dX9_append_31 rfl (lv_at hl 1 rfl) ?_
      obtain ⟨hg5, hF⟩ := gd_some hF
      obtain ⟨M6, hM6, hF⟩ := lt_some hF
      refine md_s10 hC hI hg5 hM6 dX9_append_32 (fun H locs hI => ?_)
      refine lv_aload_n hx hb dX9_append_33 rfl (lv_at hl 0 rfl) ?_
      refine lv_dup hx hb dX9_append_34 rfl ?_
      refine md_g17 hC hI dX9_append_35 ?_
      refine lv_iconst (v := 1) hx hb dX9_append_38 (by decide) ?_
      refine lv_iadd hx hb dX9_append_39 ?_
      obtain ⟨M7, hM7, hF⟩ := lt_some hF
      refine md_p17 hC hI hM7 dX9_append_40 (fun H locs hI => ?_)
      refine lv_aload_n hx hb dX9_append_43 rfl (lv_at hl 0 rfl) ?_
      refine md_g17 hC hI dX9_append_44 ?_
      exact md_iret hC hI hr hF dX9_append_47
    · have hF := if_t hF c4
      exact J20 _ _ _ _ hF hI (lv_sub hl [] rfl)
def f_sign (M : MS) : Option (Int32 × MS) := if (M 0 17) ≤ (M 0 19) then (some ((-1), M)) else (gd (gi (M 0 19) 60) (some ((M 10 (M 0 19).toNatClampNeg), M)))
set_option maxHeartbeats 4000000 in
theorem w_sign (l : Launch) (G : va_G) (ai : Nat → ClassId) (o : Nat) (ar : Nat → Nat) (M : MS) (r0 : Int32) (M0 : MS) (hF : f_sign M = some (r0, M0)) : md_M l G ai o ar yX9_sign cX9_sign 1 (some .int) ({ frames := 0, cells := 0, slots := 0, locals := 0 } : Room) [.ref o] M r0 M0 := by
  refine mo_body (Qc := fun A => va_Qi (fun (r' : Int32) (M2 : MS) => r' = r0 ∧ M2 = M0) (gw_E G ai (md_W ai o ar) A) A) (by decide) (Nat.le_of_ble_eq_true rfl) ?_
  intro p e s m args below meth c A ls hC hr hI hl _
  have hx := hC.1
  have hb := hC.2.1
  have hl : lv_has ls 1 [(0, .ref o)] := hl
  show W p l e _ s m args below meth c s.heap [] 0 0 (md_Q below G ai o ar A args s r0 M0) (F0 m 0 ls [])
  rw [f_sign] at hF
  refine lv_aload_n hx hb dX9_sign_0 rfl (lv_at hl 0 rfl) ?_
  refine md_g19 hC hI dX9_sign_1 ?_
  refine lv_aload_n hx hb dX9_sign_4 rfl (lv_at hl 0 rfl) ?_
  refine md_g17 hC hI dX9_sign_5 ?_
  refine lv_icmp_ge (tgt := 23) hx hb dX9_sign_8 (by decide) (fun c1 => ?_) (fun c1 => ?_)
  · have hF := if_t hF c1
    refine lv_iconst (v := (-1)) hx hb dX9_sign_23 (by decide) ?_
    exact md_iret hC hI hr hF dX9_sign_24
  · have hF := if_f hF c1
    refine lv_aload_n hx hb dX9_sign_11 rfl (lv_at hl 0 rfl) ?_
    refine md_g15 hC hI dX9_sign_12 ?_
    refine lv_aload_n hx hb dX9_sign_15 rfl (lv_at hl 0 rfl) ?_
    refine md_g19 hC hI dX9_sign_16 ?_
    obtain ⟨hg2, hF⟩ := gd_some hF
    refine md_l10 hC hI hg2 dX9_sign_19 ?_
    refine lv_goto (tgt := 24) hx hb dX9_sign_20 (by decide) ?_
    exact md_iret hC hI hr hF dX9_sign_24
theorem k_sign {p : Program} {l : Launch} {e : Env} {R : Room} {s : State} {m : MethodId} {args : Array Value} {below : List Frame} {meth : Method} {c : Code} {H : Heap} {locs : List Loc} {cells slots : Nat} {Q : State → Prop} {pc : Nat} {ls : Array Slot} {rest : List Value} {G : va_G} {ai : Nat → ClassId} {A : Nat → Prop} {cc : ByteArray} {nL f L kc ks o : Nat} {ar : Nat → Nat} {M M1 : MS} {r1 : Int32} (hC : mo_C p R s m args meth c G ai A RX9 cc nL f L kc ks) (hI : mo_I G A s.heap (md_W ai o ar M) H locs) (hz : f_sign M = some (r1, M1)) (hf : 0 + 1 ≤ f) (hL : 8 + (1 + 11) + 0 ≤ L) (hsz : ls.size = nL) (hW : (rest.map fun v => v.category).sum ≤ 8) (hdg : decode cc pc = .ok (.invokevirtual 205, 3)) (kk : ∀ (H1 : Heap) (locs1 : List Loc), mo_I G A s.heap (md_W ai o ar M1) H1 locs1 → W p l e R s m args below meth c H1 locs1 cells slots Q (F0 m (pc + 3) ls (.int r1 :: rest))) (hc0 : cells ≤ kc := by first | exact Nat.zero_le _ | assumption) (hs0 : slots ≤ ks := by first | exact Nat.zero_le _ | assumption) : W p l e R s m args below meth c H locs cells slots Q (F0 m pc ls (.ref o :: rest)) := by
  have hI : mo_I G A s.heap (md_W ai o ar M ++ []) H locs := by rw [List.append_nil]; exact hI
  refine gw_cVi (As := []) (mc := 0) (ms := 0) (fs := md_F ar M) hC 0 hI (w_sign l G ai o ar M r1 M1 hz) 0 0 rfl rfl q2301 q2303 qs106 q142 q2304 rfl rfl (by decide +kernel) rfl hf hL hc0 hs0 hsz rfl hW hdg (fun r u H1 locs1 hp hI1 => ?_)
  obtain ⟨rfl, rfl⟩ := hp
  rw [List.append_nil] at hI1
  exact kk H1 locs1 hI1
def f_number_L36 (a1 : Int32) (kont : MS → Int32 → Option (Int32 × MS)) : Nat → MS → Int32 → Int32 → Option (Int32 × MS)
  | 0, _, _, _ => none
  | n + 1, M, x3, x2 => if a1 ≤ x3 then (kont M x2) else (if (M 0 20) = 0 then (ob (f_sign M) (fun r13 M14 => if (p_isIn r13 48 57) = 0 then (kont M14 x2) else (ob (f_sign M14) (fun r17 M18 => lt ((((10 * x2) + r17) - 48)) (fun x2_20 => lt (rup M18 0 (upd (M18 0) 19 ((M18 0 19) + 1))) (fun M21 => lt (x3 + 1) (fun x3_22 => f_number_L36 a1 kont n M21 x3_22 x2_20))))))) else (kont M x2))
def f_number (M : MS) (a1 : Int32) : Option (Int32 × MS) := if (M 0 20) = 0 then (ob (f_sign M) (fun r2 M3 => lj (fun (M5 : MS) (t7 : Int32) => gd (gb t7) (lt (rup M5 0 (upd (M5 0) 20 t7)) (fun M10 => f_number_L36 a1 (fun M23 x2_24 => some (x2_24, M23)) 2000 M10 0 0))) (fun j29_7 => if (p_isIn r2 48 57) = 0 then (j29_7 M3 1) else (j29_7 M3 0)))) else (some (0, M))
set_option maxHeartbeats 4000000 in
theorem w_number_L36 {p : Program} {l : Launch} {e : Env} {R : Room} {s : State} {m : MethodId} {args : Array Value} {below : List Frame} {meth : Method} {c : Code} {G : va_G} {ai : Nat → ClassId} {A : Nat → Prop} {o : Nat} {ar : Nat → Nat} {r0 : Int32} {M0 : MS} (hC : mo_C p R s m args meth c G ai A RX9 cX9_number 4 1 22 0 0) (hr : meth.sig.returnType = (some .int)) (a1 : Int32) (kont : MS → Int32 → Option (Int32 × MS)) (K : ∀ (M : MS) (x2 : Int32) (H : Heap) (locs : List Loc) (ls : Array Slot), kont M x2 = some (r0, M0) → mo_I G A s.heap (md_W ai o ar M) H locs → lv_has ls 4 [(2, .int x2)] → W p l e R s m args below meth c H locs 0 0 (md_Q below G ai o ar A args s r0 M0) (F0 m 91 ls [])) :
    ∀ (n : Nat) (M : MS) (x3 : Int32) (x2 : Int32) (H : Heap) (locs : List Loc) (ls : Array Slot), f_number_L36 a1 kont n M x3 x2 = some (r0, M0) → mo_I G A s.heap (md_W ai o ar M) H locs → lv_has ls 4 [(3, .int x3), (2, .int x2), (0, .ref o), (1, .int a1)] → W p l e R s m args below meth c H locs 0 0 (md_Q below G ai o ar A args s r0 M0) (F0 m 36 ls []) := by
  have hx := hC.1
  have hb := hC.2.1
  intro n
  induction n with
  | zero =>
    intro M x3 x2 H locs ls hF
    have h0 : (none : Option (Int32 × MS)) = some (r0, M0) := hF
    cases h0
  | succ n ih =>
    intro M x3 x2 H locs ls hF hI hl
    rw [f_number_L36] at hF
    refine lv_iload_n hx hb dX9_number_36 rfl (lv_at hl 0 rfl) ?_
    refine lv_iload_n hx hb dX9_number_37 rfl (lv_at hl 3 rfl) ?_
    refine lv_icmp_ge (tgt := 91) hx hb dX9_number_38 (by decide) (fun c11 => ?_) (fun c11 => ?_)
    · have hF := if_t hF c11
      exact K _ _ _ _ _ hF hI (lv_sub hl [1] rfl)
    · have hF := if_f hF c11
      refine lv_aload_n hx hb dX9_number_41 rfl (lv_at hl 2 rfl) ?_
      refine md_g20 hC hI dX9_number_42 ?_
      refine lv_if_ne (tgt := 91) hx hb dX9_number_45 (by decide) (fun c12 => ?_) (fun c12 => ?_)
      · have hF := if_f hF c12
        exact K _ _ _ _ _ hF hI (lv_sub hl [1] rfl)
      · have hF := if_t hF c12
        refine lv_aload_n hx hb dX9_number_48 rfl (lv_at hl 2 rfl) ?_
        obtain ⟨r13, M14, hz15, hF⟩ := ob_some hF
        refine k_sign hC hI hz15 (Nat.le_of_ble_eq_true rfl) (Nat.le_of_ble_eq_true rfl) hl.1 (Nat.le_of_ble_eq_true rfl) dX9_number_49 (fun H locs hI => ?_)
        refine lv_bipush (v := 48) hx hb dX9_number_52 (by decide) ?_
        refine lv_bipush (v := 57) hx hb dX9_number_54 (by decide) ?_
        refine k_isIn (mo_CN hC) (Nat.le_of_ble_eq_true rfl) (Nat.le_of_ble_eq_true rfl) hl.1 (Nat.le_of_ble_eq_true rfl) dX9_number_56 ?_
        refine lv_if_eq (tgt := 91) hx hb dX9_number_59 (by decide) (fun c16 => ?_) (fun c16 => ?_)
        · have hF := if_t hF c16
          exact K _ _ _ _ _ hF hI (lv_sub hl [1] rfl)
        · have hF := if_f hF c16
          refine lv_bipush (v := 10) hx hb dX9_number_62 (by decide) ?_
          refine lv_iload_n hx hb dX9_number_64 rfl (lv_at hl 1 rfl) ?_
          refine lv_imul hx hb dX9_number_65 ?_
          refine lv_aload_n hx hb dX9_number_66 rfl (lv_at hl 2 rfl) ?_
          obtain ⟨r17, M18, hz19, hF⟩ := ob_some hF
          refine k_sign hC hI hz19 (Nat.le_of_ble_eq_true rfl) (Nat.le_of_ble_eq_true rfl) hl.1 (Nat.le_of_ble_eq_true rfl) dX9_number_67 (fun H locs hI => ?_)
          refine lv_iadd hx hb dX9_number_70 ?_
          refine lv_bipush (v := 48) hx hb dX9_number_71 (by decide) ?_
          refine lv_isub hx hb dX9_number_73 ?_
          obtain ⟨x2_20, hx2_20, hF⟩ := lt_some hF
          refine mo_ist (lv' := [(2, .int x2_20), (3, .int x3), (0, .ref o), (1, .int a1)]) hx hb hx2_20 dX9_number_74 rfl hl (by decide) rfl (fun ls hl => ?_)
          refine lv_aload_n hx hb dX9_number_75 rfl (lv_at hl 2 rfl) ?_
          refine lv_dup hx hb dX9_number_76 rfl ?_
          refine md_g19 hC hI dX9_number_77 ?_
          refine lv_iconst (v := 1) hx hb dX9_number_80 (by decide) ?_
          refine lv_iadd hx hb dX9_number_81 ?_
          obtain ⟨M21, hM21, hF⟩ := lt_some hF
          refine md_p19 hC hI hM21 dX9_number_82 (fun H locs hI => ?_)
          obtain ⟨x3_22, hx3_22, hF⟩ := lt_some hF
          refine mo_inc (k := 1) (lv' := [(3, .int x3_22), (2, .int x2_20), (0, .ref o), (1, .int a1)]) hx hb hx3_22 (by decide) dX9_number_85 hl rfl (by decide) rfl (fun ls hl => ?_)
          refine lv_goto (tgt := 36) hx hb dX9_number_88 (by decide) ?_
          exact ih _ _ _ _ _ _ hF hI (lv_sub hl [0, 1, 2, 3] rfl)
set_option maxHeartbeats 4000000 in
theorem w_number (l : Launch) (G : va_G) (ai : Nat → ClassId) (o : Nat) (ar : Nat → Nat) (M : MS) (a1 : Int32) (r0 : Int32) (M0 : MS) (hF : f_number M a1 = some (r0, M0)) : md_M l G ai o ar yX9_number cX9_number 4 (some .int) ({ frames := 1, cells := 0, slots := 0, locals := 22 } : Room) [.ref o, .int a1] M r0 M0 := by
  refine mo_body (Qc := fun A => va_Qi (fun (r' : Int32) (M2 : MS) => r' = r0 ∧ M2 = M0) (gw_E G ai (md_W ai o ar) A) A) (by decide) (Nat.le_of_ble_eq_true rfl) ?_
  intro p e s m args below meth c A ls hC hr hI hl _
  have hx := hC.1
  have hb := hC.2.1
  have hl : lv_has ls 4 [(0, .ref o), (1, .int a1)] := hl
  show W p l e _ s m args below meth c s.heap [] 0 0 (md_Q below G ai o ar A args s r0 M0) (F0 m 0 ls [])
  rw [f_number] at hF
  refine lv_aload_n hx hb dX9_number_0 rfl (lv_at hl 0 rfl) ?_
  refine md_g20 hC hI dX9_number_1 ?_
  refine lv_if_eq (tgt := 9) hx hb dX9_number_4 (by decide) (fun c1 => ?_) (fun c1 => ?_)
  · have hF := if_t hF c1
    refine lv_aload_n hx hb dX9_number_9 rfl (lv_at hl 0 rfl) ?_
    refine lv_aload_n hx hb dX9_number_10 rfl (lv_at hl 0 rfl) ?_
    obtain ⟨r2, M3, hz4, hF⟩ := ob_some hF
    refine k_sign hC hI hz4 (Nat.le_of_ble_eq_true rfl) (Nat.le_of_ble_eq_true rfl) hl.1 (Nat.le_of_ble_eq_true rfl) dX9_number_11 (fun H locs hI => ?_)
    refine lv_bipush (v := 48) hx hb dX9_number_14 (by decide) ?_
    refine lv_bipush (v := 57) hx hb dX9_number_16 (by decide) ?_
    refine k_isIn (mo_CN hC) (Nat.le_of_ble_eq_true rfl) (Nat.le_of_ble_eq_true rfl) hl.1 (Nat.le_of_ble_eq_true rfl) dX9_number_18 ?_
    obtain ⟨j29_7, hj29_7, hF⟩ := lj_some hF
    have J29 : ∀ (M5 : MS) (t7 : Int32) (H : Heap) (locs : List Loc) (ls : Array Slot), j29_7 M5 t7 = some (r0, M0) → mo_I G A s.heap (md_W ai o ar M5) H locs → lv_has ls 4 [(0, .ref o), (1, .int a1)] → W p l e ({ frames := 1, cells := 0, slots := 0, locals := 22 } : Room) s m args below meth c H locs 0 0 (md_Q below G ai o ar A args s r0 M0) (F0 m 29 ls [.int t7, .ref o]) := by
      intro M5 t7 H locs ls hF hI hl
      rw [hj29_7] at hF
      obtain ⟨hg9, hF⟩ := gd_some hF
      obtain ⟨M10, hM10, hF⟩ := lt_some hF
      refine md_p20 hC hI (gb_or hg9) hM10 dX9_number_29 (fun H locs hI => ?_)
      refine lv_iconst (v := 0) hx hb dX9_number_32 (by decide) ?_
      refine mo_ist (lv' := [(2, .int 0), (0, .ref o), (1, .int a1)]) hx hb rfl dX9_number_33 rfl hl (by decide) rfl (fun ls hl => ?_)
      refine lv_iconst (v := 0) hx hb dX9_number_34 (by decide) ?_
      refine mo_ist (lv' := [(3, .int 0), (2, .int 0), (0, .ref o), (1, .int a1)]) hx hb rfl dX9_number_35 rfl hl (by decide) rfl (fun ls hl => ?_)
      refine w_number_L36 hC hr a1 _ (fun M23 x2_24 H locs ls hF hI hl => ?_) 2000 _ _ _ _ _ _ hF hI (lv_sub hl [0, 1, 2, 3] rfl)
      refine lv_iload_n hx hb dX9_number_91 rfl (lv_at hl 0 rfl) ?_
      exact md_iret hC hI hr hF dX9_number_92
    refine lv_if_ne (tgt := 28) hx hb dX9_number_21 (by decide) (fun c25 => ?_) (fun c25 => ?_)
    · have hF := if_f hF c25
      refine lv_iconst (v := 0) hx hb dX9_number_28 (by decide) ?_
      exact J29 _ _ _ _ _ hF hI (lv_sub hl [0, 1] rfl)
    · have hF := if_t hF c25
      refine lv_iconst (v := 1) hx hb dX9_number_24 (by decide) ?_
      refine lv_goto (tgt := 29) hx hb dX9_number_25 (by decide) ?_
      exact J29 _ _ _ _ _ hF hI (lv_sub hl [0, 1] rfl)
  · have hF := if_f hF c1
    refine lv_iconst (v := 0) hx hb dX9_number_7 (by decide) ?_
    exact md_iret hC hI hr hF dX9_number_8
theorem k_number {p : Program} {l : Launch} {e : Env} {R : Room} {s : State} {m : MethodId} {args : Array Value} {below : List Frame} {meth : Method} {c : Code} {H : Heap} {locs : List Loc} {cells slots : Nat} {Q : State → Prop} {pc : Nat} {ls : Array Slot} {rest : List Value} {G : va_G} {ai : Nat → ClassId} {A : Nat → Prop} {cc : ByteArray} {nL f L kc ks o : Nat} {ar : Nat → Nat} {M M1 : MS} {r1 : Int32} {a1 : Int32} (hC : mo_C p R s m args meth c G ai A RX9 cc nL f L kc ks) (hI : mo_I G A s.heap (md_W ai o ar M) H locs) (hz : f_number M a1 = some (r1, M1)) (hf : 1 + 1 ≤ f) (hL : 8 + (4 + 11) + 22 ≤ L) (hsz : ls.size = nL) (hW : (rest.map fun v => v.category).sum ≤ 8) (hdg : decode cc pc = .ok (.invokevirtual 208, 3)) (kk : ∀ (H1 : Heap) (locs1 : List Loc), mo_I G A s.heap (md_W ai o ar M1) H1 locs1 → W p l e R s m args below meth c H1 locs1 cells slots Q (F0 m (pc + 3) ls (.int r1 :: rest))) (hc0 : cells ≤ kc := by first | exact Nat.zero_le _ | assumption) (hs0 : slots ≤ ks := by first | exact Nat.zero_le _ | assumption) : W p l e R s m args below meth c H locs cells slots Q (F0 m pc ls (.int a1 :: .ref o :: rest)) := by
  have hI : mo_I G A s.heap (md_W ai o ar M ++ []) H locs := by rw [List.append_nil]; exact hI
  refine gw_cVi (As := [.int a1]) (mc := 0) (ms := 0) (fs := md_F ar M) hC 1 hI (w_number l G ai o ar M a1 r1 M1 hz) 0 0 rfl rfl q2305 q2307 qs107 q142 q2308 rfl rfl (by decide +kernel) rfl hf hL hc0 hs0 hsz rfl hW hdg (fun r u H1 locs1 hp hI1 => ?_)
  obtain ⟨rfl, rfl⟩ := hp
  rw [List.append_nil] at hI1
  exact kk H1 locs1 hI1
def f_letter (M : MS) : Option (Int32 × MS) := if (M 0 20) = 0 then (ob (f_sign M) (fun r2 M3 => lj (fun (M5 : MS) (t7 : Int32) => gd (gb t7) (lt (rup M5 0 (upd (M5 0) 20 t7)) (fun M10 => lj (fun (M11 : MS) (t13 : Int32) (t14 : Int32) => lt (rup M11 0 (upd (M11 0) 19 (t13 + t14))) (fun M16 => some (r2, M16))) (fun j47_14 => if (M10 0 20) = 0 then (j47_14 M10 (M10 0 19) 1) else (j47_14 M10 (M10 0 19) 0))))) (fun j27_7 => if 0 ≤ (p_sideOf r2) then (j27_7 M3 0) else (j27_7 M3 1)))) else (some (0, M))
set_option maxHeartbeats 4000000 in
theorem w_letter (l : Launch) (G : va_G) (ai : Nat → ClassId) (o : Nat) (ar : Nat → Nat) (M : MS) (r0 : Int32) (M0 : MS) (hF : f_letter M = some (r0, M0)) : md_M l G ai o ar yX9_letter cX9_letter 2 (some .int) ({ frames := 1, cells := 0, slots := 0, locals := 20 } : Room) [.ref o] M r0 M0 := by
  refine mo_body (Qc := fun A => va_Qi (fun (r' : Int32) (M2 : MS) => r' = r0 ∧ M2 = M0) (gw_E G ai (md_W ai o ar) A) A) (by decide) (Nat.le_of_ble_eq_true rfl) ?_
  intro p e s m args below meth c A ls hC hr hI hl _
  have hx := hC.1
  have hb := hC.2.1
  have hl : lv_has ls 2 [(0, .ref o)] := hl
  show W p l e _ s m args below meth c s.heap [] 0 0 (md_Q below G ai o ar A args s r0 M0) (F0 m 0 ls [])
  rw [f_letter] at hF
  refine lv_aload_n hx hb dX9_letter_0 rfl (lv_at hl 0 rfl) ?_
  refine md_g20 hC hI dX9_letter_1 ?_
  refine lv_if_eq (tgt := 9) hx hb dX9_letter_4 (by decide) (fun c1 => ?_) (fun c1 => ?_)
  · have hF := if_t hF c1
    refine lv_aload_n hx hb dX9_letter_9 rfl (lv_at hl 0 rfl) ?_
    obtain ⟨r2, M3, hz4, hF⟩ := ob_some hF
    refine k_sign hC hI hz4 (Nat.le_of_ble_eq_true rfl) (Nat.le_of_ble_eq_true rfl) hl.1 (Nat.le_of_ble_eq_true rfl) dX9_letter_10 (fun H locs hI => ?_)
    refine mo_ist (lv' := [(1, .int r2), (0, .ref o)]) hx hb rfl dX9_letter_13 rfl hl (by decide) rfl (fun ls hl => ?_)
    refine lv_aload_n hx hb dX9_letter_14 rfl (lv_at hl 1 rfl) ?_
    refine lv_iload_n hx hb dX9_letter_15 rfl (lv_at hl 0 rfl) ?_
    refine k_sideOf (mo_CN hC) (Nat.le_of_ble_eq_true rfl) (Nat.le_of_ble_eq_true rfl) hl.1 (Nat.le_of_ble_eq_true rfl) dX9_letter_16 ?_
    obtain ⟨j27_7, hj27_7, hF⟩ := lj_some hF
    have J27 : ∀ (M5 : MS) (t7 : Int32) (H : Heap) (locs : List Loc) (ls : Array Slot), j27_7 M5 t7 = some (r0, M0) → mo_I G A s.heap (md_W ai o ar M5) H locs → lv_has ls 2 [(1, .int r2), (0, .ref o)] → W p l e ({ frames := 1, cells := 0, slots := 0, locals := 20 } : Room) s m args below meth c H locs 0 0 (md_Q below G ai o ar A args s r0 M0) (F0 m 27 ls [.int t7, .ref o]) := by
      intro M5 t7 H locs ls hF hI hl
      rw [hj27_7] at hF
      obtain ⟨hg9, hF⟩ := gd_some hF
      obtain ⟨M10, hM10, hF⟩ := lt_some hF
      refine md_p20 hC hI (gb_or hg9) hM10 dX9_letter_27 (fun H locs hI => ?_)
      refine lv_aload_n hx hb dX9_letter_30 rfl (lv_at hl 1 rfl) ?_
      refine lv_dup hx hb dX9_letter_31 rfl ?_
      refine md_g19 hC hI dX9_letter_32 ?_
      refine lv_aload_n hx hb dX9_letter_35 rfl (lv_at hl 1 rfl) ?_
      refine md_g20 hC hI dX9_letter_36 ?_
      obtain ⟨j47_14, hj47_14, hF⟩ := lj_some hF
      have J47 : ∀ (M11 : MS) (t13 : Int32) (t14 : Int32) (H : Heap) (locs : List Loc) (ls : Array Slot), j47_14 M11 t13 t14 = some (r0, M0) → mo_I G A s.heap (md_W ai o ar M11) H locs → lv_has ls 2 [(1, .int r2)] → W p l e ({ frames := 1, cells := 0, slots := 0, locals := 20 } : Room) s m args below meth c H locs 0 0 (md_Q below G ai o ar A args s r0 M0) (F0 m 47 ls [.int t14, .int t13, .ref o]) := by
        intro M11 t13 t14 H locs ls hF hI hl
        rw [hj47_14] at hF
        refine lv_iadd hx hb dX9_letter_47 ?_
        obtain ⟨M16, hM16, hF⟩ := lt_some hF
        refine md_p19 hC hI hM16 dX9_letter_48 (fun H locs hI => ?_)
        refine lv_iload_n hx hb dX9_letter_51 rfl (lv_at hl 0 rfl) ?_
        exact md_iret hC hI hr hF dX9_letter_52
      refine lv_if_eq (tgt := 46) hx hb dX9_letter_39 (by decide) (fun c17 => ?_) (fun c17 => ?_)
      · have hF := if_t hF c17
        refine lv_iconst (v := 1) hx hb dX9_letter_46 (by decide) ?_
        exact J47 _ _ _ _ _ _ hF hI (lv_sub hl [0] rfl)
      · have hF := if_f hF c17
        refine lv_iconst (v := 0) hx hb dX9_letter_42 (by decide) ?_
        refine lv_goto (tgt := 47) hx hb dX9_letter_43 (by decide) ?_
        exact J47 _ _ _ _ _ _ hF hI (lv_sub hl [0] rfl)
    refine lv_if_ge (tgt := 26) hx hb dX9_letter_19 (by decide) (fun c18 => ?_) (fun c18 => ?_)
    · have hF := if_t hF c18
      refine lv_iconst (v := 0) hx hb dX9_letter_26 (by decide) ?_
      exact J27 _ _ _ _ _ hF hI (lv_sub hl [0, 1] rfl)
    · have hF := if_f hF c18
      refine lv_iconst (v := 1) hx hb dX9_letter_22 (by decide) ?_
      refine lv_goto (tgt := 27) hx hb dX9_letter_23 (by decide) ?_
      exact J27 _ _ _ _ _ hF hI (lv_sub hl [0, 1] rfl)
  · have hF := if_f hF c1
    refine lv_iconst (v := 0) hx hb dX9_letter_7 (by decide) ?_
    exact md_iret hC hI hr hF dX9_letter_8
theorem k_letter {p : Program} {l : Launch} {e : Env} {R : Room} {s : State} {m : MethodId} {args : Array Value} {below : List Frame} {meth : Method} {c : Code} {H : Heap} {locs : List Loc} {cells slots : Nat} {Q : State → Prop} {pc : Nat} {ls : Array Slot} {rest : List Value} {G : va_G} {ai : Nat → ClassId} {A : Nat → Prop} {cc : ByteArray} {nL f L kc ks o : Nat} {ar : Nat → Nat} {M M1 : MS} {r1 : Int32} (hC : mo_C p R s m args meth c G ai A RX9 cc nL f L kc ks) (hI : mo_I G A s.heap (md_W ai o ar M) H locs) (hz : f_letter M = some (r1, M1)) (hf : 1 + 1 ≤ f) (hL : 8 + (2 + 11) + 20 ≤ L) (hsz : ls.size = nL) (hW : (rest.map fun v => v.category).sum ≤ 8) (hdg : decode cc pc = .ok (.invokevirtual 211, 3)) (kk : ∀ (H1 : Heap) (locs1 : List Loc), mo_I G A s.heap (md_W ai o ar M1) H1 locs1 → W p l e R s m args below meth c H1 locs1 cells slots Q (F0 m (pc + 3) ls (.int r1 :: rest))) (hc0 : cells ≤ kc := by first | exact Nat.zero_le _ | assumption) (hs0 : slots ≤ ks := by first | exact Nat.zero_le _ | assumption) : W p l e R s m args below meth c H locs cells slots Q (F0 m pc ls (.ref o :: rest)) := by
  have hI : mo_I G A s.heap (md_W ai o ar M ++ []) H locs := by rw [List.append_nil]; exact hI
  refine gw_cVi (As := []) (mc := 0) (ms := 0) (fs := md_F ar M) hC 0 hI (w_letter l G ai o ar M r1 M1 hz) 0 0 rfl rfl q2309 q2311 qs108 q142 q2312 rfl rfl (by decide +kernel) rfl hf hL hc0 hs0 hsz rfl hW hdg (fun r u H1 locs1 hp hI1 => ?_)
  obtain ⟨rfl, rfl⟩ := hp
  rw [List.append_nil] at hI1
  exact kk H1 locs1 hI1
def f_mark (M : MS) (a1 : Int32) : Option (Int32 × MS) := if (M 0 20) = 0 then (ob (f_sign M) (fun r2 M3 => lj (fun (M5 : MS) (t7 : Int32) => gd (gb t7) (lt (rup M5 0 (upd (M5 0) 20 t7)) (fun M10 => lj (fun (M11 : MS) (t13 : Int32) (t14 : Int32) => lt (rup M11 0 (upd (M11 0) 19 (t13 + t14))) (fun M16 => some (0, M16))) (fun j42_14 => if (M10 0 20) = 0 then (j42_14 M10 (M10 0 19) 1) else (j42_14 M10 (M10 0 19) 0))))) (fun j22_7 => if r2 = a1 then (j22_7 M3 0) else (j22_7 M3 1)))) else (some (0, M))
set_option maxHeartbeats 4000000 in
theorem w_mark (l : Launch) (G : va_G) (ai : Nat → ClassId) (o : Nat) (ar : Nat → Nat) (M : MS) (a1 : Int32) (r0 : Int32) (M0 : MS) (hF : f_mark M a1 = some (r0, M0)) : md_Mv l G ai o ar yX9_mark cX9_mark 2 ({ frames := 1, cells := 0, slots := 0, locals := 20 } : Room) [.ref o, .int a1] M M0 := by
  refine mo_body (Qc := fun A => va_Qv (fun (M2 : MS) => M2 = M0) (gw_E G ai (md_W ai o ar) A) A) (by decide) (Nat.le_of_ble_eq_true rfl) ?_
  intro p e s m args below meth c A ls hC hr hI hl _
  have hx := hC.1
  have hb := hC.2.1
  have hl : lv_has ls 2 [(0, .ref o), (1, .int a1)] := hl
  show W p l e _ s m args below meth c s.heap [] 0 0 (md_Qv below G ai o ar A args s M0) (F0 m 0 ls [])
  rw [f_mark] at hF
  refine lv_aload_n hx hb dX9_mark_0 rfl (lv_at hl 0 rfl) ?_
  refine md_g20 hC hI dX9_mark_1 ?_
  refine lv_if_eq (tgt := 8) hx hb dX9_mark_4 (by decide) (fun c1 => ?_) (fun c1 => ?_)
  · have hF := if_t hF c1
    refine lv_aload_n hx hb dX9_mark_8 rfl (lv_at hl 0 rfl) ?_
    refine lv_aload_n hx hb dX9_mark_9 rfl (lv_at hl 0 rfl) ?_
    obtain ⟨r2, M3, hz4, hF⟩ := ob_some hF
    refine k_sign hC hI hz4 (Nat.le_of_ble_eq_true rfl) (Nat.le_of_ble_eq_true rfl) hl.1 (Nat.le_of_ble_eq_true rfl) dX9_mark_10 (fun H locs hI => ?_)
    refine lv_iload_n hx hb dX9_mark_13 rfl (lv_at hl 1 rfl) ?_
    obtain ⟨j22_7, hj22_7, hF⟩ := lj_some hF
    have J22 : ∀ (M5 : MS) (t7 : Int32) (H : Heap) (locs : List Loc) (ls : Array Slot), j22_7 M5 t7 = some (r0, M0) → mo_I G A s.heap (md_W ai o ar M5) H locs → lv_has ls 2 [(0, .ref o)] → W p l e ({ frames := 1, cells := 0, slots := 0, locals := 20 } : Room) s m args below meth c H locs 0 0 (md_Qv below G ai o ar A args s M0) (F0 m 22 ls [.int t7, .ref o]) := by
      intro M5 t7 H locs ls hF hI hl
      rw [hj22_7] at hF
      obtain ⟨hg9, hF⟩ := gd_some hF
      obtain ⟨M10, hM10, hF⟩ := lt_some hF
      refine md_p20 hC hI (gb_or hg9) hM10 dX9_mark_22 (fun H locs hI => ?_)
      refine lv_aload_n hx hb dX9_mark_25 rfl (lv_at hl 0 rfl) ?_
      refine lv_dup hx hb dX9_mark_26 rfl ?_
      refine md_g19 hC hI dX9_mark_27 ?_
      refine lv_aload_n hx hb dX9_mark_30 rfl (lv_at hl 0 rfl) ?_
      refine md_g20 hC hI dX9_mark_31 ?_
      obtain ⟨j42_14, hj42_14, hF⟩ := lj_some hF
      have J42 : ∀ (M11 : MS) (t13 : Int32) (t14 : Int32) (H : Heap) (locs : List Loc) (ls : Array Slot), j42_14 M11 t13 t14 = some (r0, M0) → mo_I G A s.heap (md_W ai o ar M11) H locs → lv_has ls 2 [] → W p l e ({ frames := 1, cells := 0, slots := 0, locals := 20 } : Room) s m args below meth c H locs 0 0 (md_Qv below G ai o ar A args s M0) (F0 m 42 ls [.int t14, .int t13, .ref o]) := by
        intro M11 t13 t14 H locs ls hF hI hl
        rw [hj42_14] at hF
        refine lv_iadd hx hb dX9_mark_42 ?_
        obtain ⟨M16, hM16, hF⟩ := lt_some hF
        refine md_p19 hC hI hM16 dX9_mark_43 (fun H locs hI => ?_)
        exact md_vret hC hI hr hF dX9_mark_46
      refine lv_if_eq (tgt := 41) hx hb dX9_mark_34 (by decide) (fun c17 => ?_) (fun c17 => ?_)
      · have hF := if_t hF c17
        refine lv_iconst (v := 1) hx hb dX9_mark_41 (by decide) ?_
        exact J42 _ _ _ _ _ _ hF hI (lv_sub hl [] rfl)
      · have hF := if_f hF c17
        refine lv_iconst (v := 0) hx hb dX9_mark_37 (by decide) ?_
        refine lv_goto (tgt := 42) hx hb dX9_mark_38 (by decide) ?_
        exact J42 _ _ _ _ _ _ hF hI (lv_sub hl [] rfl)
    refine lv_icmp_eq (tgt := 21) hx hb dX9_mark_14 (by decide) (fun c18 => ?_) (fun c18 => ?_)
    · have hF := if_t hF c18
      refine lv_iconst (v := 0) hx hb dX9_mark_21 (by decide) ?_
      exact J22 _ _ _ _ _ hF hI (lv_sub hl [0] rfl)
    · have hF := if_f hF c18
      refine lv_iconst (v := 1) hx hb dX9_mark_17 (by decide) ?_
      refine lv_goto (tgt := 22) hx hb dX9_mark_18 (by decide) ?_
      exact J22 _ _ _ _ _ hF hI (lv_sub hl [0] rfl)
  · have hF := if_f hF c1
    exact md_vret hC hI hr hF dX9_mark_7
theorem k_mark {p : Program} {l : Launch} {e : Env} {R : Room} {s : State} {m : MethodId} {args : Array Value} {below : List Frame} {meth : Method} {c : Code} {H : Heap} {locs : List Loc} {cells slots : Nat} {Q : State → Prop} {pc : Nat} {ls : Array Slot} {rest : List Value} {G : va_G} {ai : Nat → ClassId} {A : Nat → Prop} {cc : ByteArray} {nL f L kc ks o : Nat} {ar : Nat → Nat} {M M1 : MS} {r1 : Int32} {a1 : Int32} (hC : mo_C p R s m args meth c G ai A RX9 cc nL f L kc ks) (hI : mo_I G A s.heap (md_W ai o ar M) H locs) (hz : f_mark M a1 = some (r1, M1)) (hf : 1 + 1 ≤ f) (hL : 8 + (2 + 11) + 20 ≤ L) (hsz : ls.size = nL) (hW : (rest.map fun v => v.category).sum ≤ 8) (hdg : decode cc pc = .ok (.invokevirtual 214, 3)) (kk : ∀ (H1 : Heap) (locs1 : List Loc), mo_I G A s.heap (md_W ai o ar M1) H1 locs1 → W p l e R s m args below meth c H1 locs1 cells slots Q (F0 m (pc + 3) ls (rest))) (hc0 : cells ≤ kc := by first | exact Nat.zero_le _ | assumption) (hs0 : slots ≤ ks := by first | exact Nat.zero_le _ | assumption) : W p l e R s m args below meth c H locs cells slots Q (F0 m pc ls (.int a1 :: .ref o :: rest)) := by
  have hI : mo_I G A s.heap (md_W ai o ar M ++ []) H locs := by rw [List.append_nil]; exact hI
  refine gw_cVv (As := [.int a1]) (mc := 0) (ms := 0) (fs := md_F ar M) hC 1 hI (w_mark l G ai o ar M a1 r1 M1 hz) 0 0 rfl rfl q2313 q2315 qs109 q142 q2316 rfl rfl (by decide +kernel) rfl hf hL hc0 hs0 hsz rfl hW hdg (fun u H1 locs1 hp hI1 => ?_)
  obtain rfl := hp
  rw [List.append_nil] at hI1
  exact kk H1 locs1 hI1
def f_does (M : MS) (a1 : Int32) (a2 : Int32) (a3 : Int32) (a4 : Int32) : Option (Int32 × MS) := if a1 = 98 then (ob (f_binds M a2) (fun r2 M3 => some (r2, M3))) else if a1 = 99 then (ob (f_passes M a2) (fun r6 M7 => some (r6, M7))) else if a1 = 100 then (ob (f_passes M a2) (fun r10 M11 => some (r10, M11))) else if a1 = 101 then (ob (f_passes M a2) (fun r14 M15 => some (r14, M15))) else if a1 = 102 then (ob (f_passes M a2) (fun r18 M19 => some (r18, M19))) else if a1 = 103 then (ob (f_passes M a2) (fun r22 M23 => some (r22, M23))) else if a1 = 104 then (ob (f_passes M a2) (fun r26 M27 => some (r26, M27))) else if a1 = 105 then (ob (f_passes M a2) (fun r30 M31 => some (r30, M31))) else if a1 = 106 then (ob (f_passes M a2) (fun r34 M35 => some (r34, M35))) else if a1 = 107 then (ob (f_passes M a2) (fun r38 M39 => some (r38, M39))) else if a1 = 108 then (ob (f_passes M a2) (fun r42 M43 => some (r42, M43))) else if a1 = 109 then (ob (f_passes M a2) (fun r46 M47 => some (r46, M47))) else if a1 = 110 then (ob (f_passes M a2) (fun r50 M51 => some (r50, M51))) else if a1 = 111 then (ob (f_passes M a2) (fun r54 M55 => some (r54, M55))) else if a1 = 112 then (ob (f_plants M a2 a3) (fun r58 M59 => some (r58, M59))) else if a1 = 113 then (ob (f_passes M a2) (fun r62 M63 => some (r62, M63))) else if a1 = 114 then (ob (f_rains M a2) (fun r66 M67 => some (r66, M67))) else if a1 = 115 then (ob (f_sweeps M a2) (fun r70 M71 => some (r70, M71))) else if a1 = 116 then (ob (f_setsTrap M a2) (fun r74 M75 => some (r74, M75))) else if a1 = 117 then (ob (f_passes M a2) (fun r78 M79 => some (r78, M79))) else if a1 = 118 then (ob (f_visits M a2 a3 a4) (fun r82 M83 => some (r82, M83))) else if a1 = 119 then (ob (f_walks M a2 a3) (fun r86 M87 => some (r86, M87))) else (ob (f_passes M a2) (fun r89 M90 => some (r89, M90)))
set_option maxHeartbeats 4000000 in
theorem w_does (l : Launch) (G : va_G) (ai : Nat → ClassId) (o : Nat) (ar : Nat → Nat) (M : MS) (a1 : Int32) (a2 : Int32) (a3 : Int32) (a4 : Int32) (r0 : Int32) (M0 : MS) (hF : f_does M a1 a2 a3 a4 = some (r0, M0)) : md_M l G ai o ar yX9_does cX9_does 5 (some .int) ({ frames := 5, cells := 0, slots := 0, locals := 116 } : Room) [.ref o, .int a1, .int a2, .int a3, .int a4] M r0 M0 := by
  refine mo_body (Qc := fun A => va_Qi (fun (r' : Int32) (M2 : MS) => r' = r0 ∧ M2 = M0) (gw_E G ai (md_W ai o ar) A) A) (by decide) (Nat.le_of_ble_eq_true rfl) ?_
  intro p e s m args below meth c A ls hC hr hI hl _
  have hx := hC.1
  have hb := hC.2.1
  have hl : lv_has ls 5 [(0, .ref o), (1, .int a1), (2, .int a2), (3, .int a3), (4, .int a4)] := hl
  show W p l e _ s m args below meth c s.heap [] 0 0 (md_Q below G ai o ar A args s r0 M0) (F0 m 0 ls [])
  rw [f_does] at hF
  refine lv_iload_n hx hb dX9_does_0 rfl (lv_at hl 1 rfl) ?_
  by_cases c1 : a1 = 98
  · have hF := if_t hF c1
    refine lv_tableIn (tgt := 117) (off := 116) hx hb dX9_does_1 (by rw [c1]; decide) (by rw [c1]; decide) (by rw [c1]; rfl) (by decide) ?_
    refine lv_aload_n hx hb dX9_does_117 rfl (lv_at hl 0 rfl) ?_
    refine lv_iload_n hx hb dX9_does_118 rfl (lv_at hl 2 rfl) ?_
    obtain ⟨r2, M3, hz4, hF⟩ := ob_some hF
    refine k_binds hC hI hz4 (Nat.le_of_ble_eq_true rfl) (Nat.le_of_ble_eq_true rfl) hl.1 (Nat.le_of_ble_eq_true rfl) dX9_does_119 (fun H locs hI => ?_)
    exact md_iret hC hI hr hF dX9_does_122
  have hF := if_f hF c1
  by_cases c5 : a1 = 99
  · have hF := if_t hF c5
    refine lv_tableIn (tgt := 151) (off := 150) hx hb dX9_does_1 (by rw [c5]; decide) (by rw [c5]; decide) (by rw [c5]; rfl) (by decide) ?_
    refine lv_aload_n hx hb dX9_does_151 rfl (lv_at hl 0 rfl) ?_
    refine lv_iload_n hx hb dX9_does_152 rfl (lv_at hl 2 rfl) ?_
    obtain ⟨r6, M7, hz8, hF⟩ := ob_some hF
    refine k_passes hC hI hz8 (Nat.le_of_ble_eq_true rfl) (Nat.le_of_ble_eq_true rfl) hl.1 (Nat.le_of_ble_eq_true rfl) dX9_does_153 (fun H locs hI => ?_)
    exact md_iret hC hI hr hF dX9_does_156
  have hF := if_f hF c5
  by_cases c9 : a1 = 100
  · have hF := if_t hF c9
    refine lv_tableIn (tgt := 151) (off := 150) hx hb dX9_does_1 (by rw [c9]; decide) (by rw [c9]; decide) (by rw [c9]; rfl) (by decide) ?_
    refine lv_aload_n hx hb dX9_does_151 rfl (lv_at hl 0 rfl) ?_
    refine lv_iload_n hx hb dX9_does_152 rfl (lv_at hl 2 rfl) ?_
    obtain ⟨r10, M11, hz12, hF⟩ := ob_some hF
    refine k_passes hC hI hz12 (Nat.le_of_ble_eq_true rfl) (Nat.le_of_ble_eq_true rfl) hl.1 (Nat.le_of_ble_eq_true rfl) dX9_does_153 (fun H locs hI => ?_)
    exact md_iret hC hI hr hF dX9_does_156
  have hF := if_f hF c9
  by_cases c13 : a1 = 101
  · have hF := if_t hF c13
    refine lv_tableIn (tgt := 151) (off := 150) hx hb dX9_does_1 (by rw [c13]; decide) (by rw [c13]; decide) (by rw [c13]; rfl) (by decide) ?_
    refine lv_aload_n hx hb dX9_does_151 rfl (lv_at hl 0 rfl) ?_
    refine lv_iload_n hx hb dX9_does_152 rfl (lv_at hl 2 rfl) ?_
    obtain ⟨r14, M15, hz16, hF⟩ := ob_some hF
    refine k_passes hC hI hz16 (Nat.le_of_ble_eq_true rfl) (Nat.le_of_ble_eq_true rfl) hl.1 (Nat.le_of_ble_eq_true rfl) dX9_does_153 (fun H locs hI => ?_)
    exact md_iret hC hI hr hF dX9_does_156
  have hF := if_f hF c13
  by_cases c17 : a1 = 102
  · have hF := if_t hF c17
    refine lv_tableIn (tgt := 151) (off := 150) hx hb dX9_does_1 (by rw [c17]; decide) (by rw [c17]; decide) (by rw [c17]; rfl) (by decide) ?_
    refine lv_aload_n hx hb dX9_does_151 rfl (lv_at hl 0 rfl) ?_
    refine lv_iload_n hx hb dX9_does_152 rfl (lv_at hl 2 rfl) ?_
    obtain ⟨r18, M19, hz20, hF⟩ := ob_some hF
    refine k_passes hC hI hz20 (Nat.le_of_ble_eq_true rfl) (Nat.le_of_ble_eq_true rfl) hl.1 (Nat.le_of_ble_eq_true rfl) dX9_does_153 (fun H locs hI => ?_)
    exact md_iret hC hI hr hF dX9_does_156
  have hF := if_f hF c17
  by_cases c21 : a1 = 103
  · have hF := if_t hF c21
    refine lv_tableIn (tgt := 151) (off := 150) hx hb dX9_does_1 (by rw [c21]; decide) (by rw [c21]; decide) (by rw [c21]; rfl) (by decide) ?_
    refine lv_aload_n hx hb dX9_does_151 rfl (lv_at hl 0 rfl) ?_
    refine lv_iload_n hx hb dX9_does_152 rfl (lv_at hl 2 rfl) ?_
    obtain ⟨r22, M23, hz24, hF⟩ := ob_some hF
    refine k_passes hC hI hz24 (Nat.le_of_ble_eq_true rfl) (Nat.le_of_ble_eq_true rfl) hl.1 (Nat.le_of_ble_eq_true rfl) dX9_does_153 (fun H locs hI => ?_)
    exact md_iret hC hI hr hF dX9_does_156
  have hF := if_f hF c21
  by_cases c25 : a1 = 104
  · have hF := if_t hF c25
    refine lv_tableIn (tgt := 151) (off := 150) hx hb dX9_does_1 (by rw [c25]; decide) (by rw [c25]; decide) (by rw [c25]; rfl) (by decide) ?_
    refine lv_aload_n hx hb dX9_does_151 rfl (lv_at hl 0 rfl) ?_
    refine lv_iload_n hx hb dX9_does_152 rfl (lv_at hl 2 rfl) ?_
    obtain ⟨r26, M27, hz28, hF⟩ := ob_some hF
    refine k_passes hC hI hz28 (Nat.le_of_ble_eq_true rfl) (Nat.le_of_ble_eq_true rfl) hl.1 (Nat.le_of_ble_eq_true rfl) dX9_does_153 (fun H locs hI => ?_)
    exact md_iret hC hI hr hF dX9_does_156
  have hF := if_f hF c25
  by_cases c29 : a1 = 105
  · have hF := if_t hF c29
    refine lv_tableIn (tgt := 151) (off := 150) hx hb dX9_does_1 (by rw [c29]; decide) (by rw [c29]; decide) (by rw [c29]; rfl) (by decide) ?_
    refine lv_aload_n hx hb dX9_does_151 rfl (lv_at hl 0 rfl) ?_
    refine lv_iload_n hx hb dX9_does_152 rfl (lv_at hl 2 rfl) ?_
    obtain ⟨r30, M31, hz32, hF⟩ := ob_some hF
    refine k_passes hC hI hz32 (Nat.le_of_ble_eq_true rfl) (Nat.le_of_ble_eq_true rfl) hl.1 (Nat.le_of_ble_eq_true rfl) dX9_does_153 (fun H locs hI => ?_)
    exact md_iret hC hI hr hF dX9_does_156
  have hF := if_f hF c29
  by_cases c33 : a1 = 106
  · have hF := if_t hF c33
    refine lv_tableIn (tgt := 151) (off := 150) hx hb dX9_does_1 (by rw [c33]; decide) (by rw [c33]; decide) (by rw [c33]; rfl) (by decide) ?_
    refine lv_aload_n hx hb dX9_does_151 rfl (lv_at hl 0 rfl) ?_
    refine lv_iload_n hx hb dX9_does_152 rfl (lv_at hl 2 rfl) ?_
    obtain ⟨r34, M35, hz36, hF⟩ := ob_some hF
    refine k_passes hC hI hz36 (Nat.le_of_ble_eq_true rfl) (Nat.le_of_ble_eq_true rfl) hl.1 (Nat.le_of_ble_eq_true rfl) dX9_does_153 (fun H locs hI => ?_)
    exact md_iret hC hI hr hF dX9_does_156
  have hF := if_f hF c33
  by_cases c37 : a1 = 107
  · have hF := if_t hF c37
    refine lv_tableIn (tgt := 151) (off := 150) hx hb dX9_does_1 (by rw [c37]; decide) (by rw [c37]; decide) (by rw [c37]; rfl) (by decide) ?_
    refine lv_aload_n hx hb dX9_does_151 rfl (lv_at hl 0 rfl) ?_
    refine lv_iload_n hx hb dX9_does_152 rfl (lv_at hl 2 rfl) ?_
    obtain ⟨r38, M39, hz40, hF⟩ := ob_some hF
    refine k_passes hC hI hz40 (Nat.le_of_ble_eq_true rfl) (Nat.le_of_ble_eq_true rfl) hl.1 (Nat.le_of_ble_eq_true rfl) dX9_does_153 (fun H locs hI => ?_)
    exact md_iret hC hI hr hF dX9_does_156
  have hF := if_f hF c37
  by_cases c41 : a1 = 108
  · have hF := if_t hF c41
    refine lv_tableIn (tgt := 151) (off := 150) hx hb dX9_does_1 (by rw [c41]; decide) (by rw [c41]; decide) (by rw [c41]; rfl) (by decide) ?_
    refine lv_aload_n hx hb dX9_does_151 rfl (lv_at hl 0 rfl) ?_
    refine lv_iload_n hx hb dX9_does_152 rfl (lv_at hl 2 rfl) ?_
    obtain ⟨r42, M43, hz44, hF⟩ := ob_some hF
    refine k_passes hC hI hz44 (Nat.le_of_ble_eq_true rfl) (Nat.le_of_ble_eq_true rfl) hl.1 (Nat.le_of_ble_eq_true rfl) dX9_does_153 (fun H locs hI => ?_)
    exact md_iret hC hI hr hF dX9_does_156
  have hF := if_f hF c41
  by_cases c45 : a1 = 109
  · have hF := if_t hF c45
    refine lv_tableIn (tgt := 151) (off := 150) hx hb dX9_does_1 (by rw [c45]; decide) (by rw [c45]; decide) (by rw [c45]; rfl) (by decide) ?_
    refine lv_aload_n hx hb dX9_does_151 rfl (lv_at hl 0 rfl) ?_
    refine lv_iload_n hx hb dX9_does_152 rfl (lv_at hl 2 rfl) ?_
    obtain ⟨r46, M47, hz48, hF⟩ := ob_some hF
    refine k_passes hC hI hz48 (Nat.le_of_ble_eq_true rfl) (Nat.le_of_ble_eq_true rfl) hl.1 (Nat.le_of_ble_eq_true rfl) dX9_does_153 (fun H locs hI => ?_)
    exact md_iret hC hI hr hF dX9_does_156
  have hF := if_f hF c45
  by_cases c49 : a1 = 110
  · have hF := if_t hF c49
    refine lv_tableIn (tgt := 151) (off := 150) hx hb dX9_does_1 (by rw [c49]; decide) (by rw [c49]; decide) (by rw [c49]; rfl) (by decide) ?_
    refine lv_aload_n hx hb dX9_does_151 rfl (lv_at hl 0 rfl) ?_
    refine lv_iload_n hx hb dX9_does_152 rfl (lv_at hl 2 rfl) ?_
    obtain ⟨r50, M51, hz52, hF⟩ := ob_some hF
    refine k_passes hC hI hz52 (Nat.le_of_ble_eq_true rfl) (Nat.le_of_ble_eq_true rfl) hl.1 (Nat.le_of_ble_eq_true rfl) dX9_does_153 (fun H locs hI => ?_)
    exact md_iret hC hI hr hF dX9_does_156
  have hF := if_f hF c49
  by_cases c53 : a1 = 111
  · have hF := if_t hF c53
    refine lv_tableIn (tgt := 151) (off := 150) hx hb dX9_does_1 (by rw [c53]; decide) (by rw [c53]; decide) (by rw [c53]; rfl) (by decide) ?_
    refine lv_aload_n hx hb dX9_does_151 rfl (lv_at hl 0 rfl) ?_
    refine lv_iload_n hx hb dX9_does_152 rfl (lv_at hl 2 rfl) ?_
    obtain ⟨r54, M55, hz56, hF⟩ := ob_some hF
    refine k_passes hC hI hz56 (Nat.le_of_ble_eq_true rfl) (Nat.le_of_ble_eq_true rfl) hl.1 (Nat.le_of_ble_eq_true rfl) dX9_does_153 (fun H locs hI => ?_)
    exact md_iret hC hI hr hF dX9_does_156
  have hF := if_f hF c53
  by_cases c57 : a1 = 112
  · have hF := if_t hF c57
    refine lv_tableIn (tgt := 129) (off := 128) hx hb dX9_does_1 (by rw [c57]; decide) (by rw [c57]; decide) (by rw [c57]; rfl) (by decide) ?_
    refine lv_aload_n hx hb dX9_does_129 rfl (lv_at hl 0 rfl) ?_
    refine lv_iload_n hx hb dX9_does_130 rfl (lv_at hl 2 rfl) ?_
    refine lv_iload_n hx hb dX9_does_131 rfl (lv_at hl 3 rfl) ?_
    obtain ⟨r58, M59, hz60, hF⟩ := ob_some hF
    refine k_plants hC hI hz60 (Nat.le_of_ble_eq_true rfl) (Nat.le_of_ble_eq_true rfl) hl.1 (Nat.le_of_ble_eq_true rfl) dX9_does_132 (fun H locs hI => ?_)
    exact md_iret hC hI hr hF dX9_does_135
  have hF := if_f hF c57
  by_cases c61 : a1 = 113
  · have hF := if_t hF c61
    refine lv_tableIn (tgt := 151) (off := 150) hx hb dX9_does_1 (by rw [c61]; decide) (by rw [c61]; decide) (by rw [c61]; rfl) (by decide) ?_
    refine lv_aload_n hx hb dX9_does_151 rfl (lv_at hl 0 rfl) ?_
    refine lv_iload_n hx hb dX9_does_152 rfl (lv_at hl 2 rfl) ?_
    obtain ⟨r62, M63, hz64, hF⟩ := ob_some hF
    refine k_passes hC hI hz64 (Nat.le_of_ble_eq_true rfl) (Nat.le_of_ble_eq_true rfl) hl.1 (Nat.le_of_ble_eq_true rfl) dX9_does_153 (fun H locs hI => ?_)
    exact md_iret hC hI hr hF dX9_does_156
  have hF := if_f hF c61
  by_cases c65 : a1 = 114
  · have hF := if_t hF c65
    refine lv_tableIn (tgt := 145) (off := 144) hx hb dX9_does_1 (by rw [c65]; decide) (by rw [c65]; decide) (by rw [c65]; rfl) (by decide) ?_
    refine lv_aload_n hx hb dX9_does_145 rfl (lv_at hl 0 rfl) ?_
    refine lv_iload_n hx hb dX9_does_146 rfl (lv_at hl 2 rfl) ?_
    obtain ⟨r66, M67, hz68, hF⟩ := ob_some hF
    refine k_rains hC hI hz68 (Nat.le_of_ble_eq_true rfl) (Nat.le_of_ble_eq_true rfl) hl.1 (Nat.le_of_ble_eq_true rfl) dX9_does_147 (fun H locs hI => ?_)
    exact md_iret hC hI hr hF dX9_does_150
  have hF := if_f hF c65
  by_cases c69 : a1 = 115
  · have hF := if_t hF c69
    refine lv_tableIn (tgt := 111) (off := 110) hx hb dX9_does_1 (by rw [c69]; decide) (by rw [c69]; decide) (by rw [c69]; rfl) (by decide) ?_
    refine lv_aload_n hx hb dX9_does_111 rfl (lv_at hl 0 rfl) ?_
    refine lv_iload_n hx hb dX9_does_112 rfl (lv_at hl 2 rfl) ?_
    obtain ⟨r70, M71, hz72, hF⟩ := ob_some hF
    refine k_sweeps hC hI hz72 (Nat.le_of_ble_eq_true rfl) (Nat.le_of_ble_eq_true rfl) hl.1 (Nat.le_of_ble_eq_true rfl) dX9_does_113 (fun H locs hI => ?_)
    exact md_iret hC hI hr hF dX9_does_116
  have hF := if_f hF c69
  by_cases c73 : a1 = 116
  · have hF := if_t hF c73
    refine lv_tableIn (tgt := 123) (off := 122) hx hb dX9_does_1 (by rw [c73]; decide) (by rw [c73]; decide) (by rw [c73]; rfl) (by decide) ?_
    refine lv_aload_n hx hb dX9_does_123 rfl (lv_at hl 0 rfl) ?_
    refine lv_iload_n hx hb dX9_does_124 rfl (lv_at hl 2 rfl) ?_
    obtain ⟨r74, M75, hz76, hF⟩ := ob_some hF
    refine k_setsTrap hC hI hz76 (Nat.le_of_ble_eq_true rfl) (Nat.le_of_ble_eq_true rfl) hl.1 (Nat.le_of_ble_eq_true rfl) dX9_does_125 (fun H locs hI => ?_)
    exact md_iret hC hI hr hF dX9_does_128
  have hF := if_f hF c73
  by_cases c77 : a1 = 117
  · have hF := if_t hF c77
    refine lv_tableIn (tgt := 151) (off := 150) hx hb dX9_does_1 (by rw [c77]; decide) (by rw [c77]; decide) (by rw [c77]; rfl) (by decide) ?_
    refine lv_aload_n hx hb dX9_does_151 rfl (lv_at hl 0 rfl) ?_
    refine lv_iload_n hx hb dX9_does_152 rfl (lv_at hl 2 rfl) ?_
    obtain ⟨r78, M79, hz80, hF⟩ := ob_some hF
    refine k_passes hC hI hz80 (Nat.le_of_ble_eq_true rfl) (Nat.le_of_ble_eq_true rfl) hl.1 (Nat.le_of_ble_eq_true rfl) dX9_does_153 (fun H locs hI => ?_)
    exact md_iret hC hI hr hF dX9_does_156
  have hF := if_f hF c77
  by_cases c81 : a1 = 118
  · have hF := if_t hF c81
    refine lv_tableIn (tgt := 136) (off := 135) hx hb dX9_does_1 (by rw [c81]; decide) (by rw [c81]; decide) (by rw [c81]; rfl) (by decide) ?_
    refine lv_aload_n hx hb dX9_does_136 rfl (lv_at hl 0 rfl) ?_
    refine lv_iload_n hx hb dX9_does_137 rfl (lv_at hl 2 rfl) ?_
    refine lv_iload_n hx hb dX9_does_138 rfl (lv_at hl 3 rfl) ?_
    refine lv_iload hx hb dX9_does_139 (lv_at hl 4 rfl) ?_
    obtain ⟨r82, M83, hz84, hF⟩ := ob_some hF
    refine k_visits hC hI hz84 (Nat.le_of_ble_eq_true rfl) (Nat.le_of_ble_eq_true rfl) hl.1 (Nat.le_of_ble_eq_true rfl) dX9_does_141 (fun H locs hI => ?_)
    exact md_iret hC hI hr hF dX9_does_144
  have hF := if_f hF c81
  by_cases c85 : a1 = 119
  · have hF := if_t hF c85
    refine lv_tableIn (tgt := 104) (off := 103) hx hb dX9_does_1 (by rw [c85]; decide) (by rw [c85]; decide) (by rw [c85]; rfl) (by decide) ?_
    refine lv_aload_n hx hb dX9_does_104 rfl (lv_at hl 0 rfl) ?_
    refine lv_iload_n hx hb dX9_does_105 rfl (lv_at hl 2 rfl) ?_
    refine lv_iload_n hx hb dX9_does_106 rfl (lv_at hl 3 rfl) ?_
    obtain ⟨r86, M87, hz88, hF⟩ := ob_some hF
    refine k_walks hC hI hz88 (Nat.le_of_ble_eq_true rfl) (Nat.le_of_ble_eq_true rfl) hl.1 (Nat.le_of_ble_eq_true rfl) dX9_does_107 (fun H locs hI => ?_)
    exact md_iret hC hI hr hF dX9_does_110
  have hF := if_f hF c85
  refine lv_tableOut (tgt := 151) hx hb dX9_does_1 (sw_out 98 22 (by decide) (by decide) (fun k hk => ?_)) (by decide) ?_
  · match k, hk with
    | 0, _ => exact fun h => c1 (h.trans (by decide))
    | 1, _ => exact fun h => c5 (h.trans (by decide))
    | 2, _ => exact fun h => c9 (h.trans (by decide))
    | 3, _ => exact fun h => c13 (h.trans (by decide))
    | 4, _ => exact fun h => c17 (h.trans (by decide))
    | 5, _ => exact fun h => c21 (h.trans (by decide))
    | 6, _ => exact fun h => c25 (h.trans (by decide))
    | 7, _ => exact fun h => c29 (h.trans (by decide))
    | 8, _ => exact fun h => c33 (h.trans (by decide))
    | 9, _ => exact fun h => c37 (h.trans (by decide))
    | 10, _ => exact fun h => c41 (h.trans (by decide))
    | 11, _ => exact fun h => c45 (h.trans (by decide))
    | 12, _ => exact fun h => c49 (h.trans (by decide))
    | 13, _ => exact fun h => c53 (h.trans (by decide))
    | 14, _ => exact fun h => c57 (h.trans (by decide))
    | 15, _ => exact fun h => c61 (h.trans (by decide))
    | 16, _ => exact fun h => c65 (h.trans (by decide))
    | 17, _ => exact fun h => c69 (h.trans (by decide))
    | 18, _ => exact fun h => c73 (h.trans (by decide))
    | 19, _ => exact fun h => c77 (h.trans (by decide))
    | 20, _ => exact fun h => c81 (h.trans (by decide))
    | 21, _ => exact fun h => c85 (h.trans (by decide))
    | k + 22, hk => exact absurd hk (by omega)
  refine lv_aload_n hx hb dX9_does_151 rfl (lv_at hl 0 rfl) ?_
  refine lv_iload_n hx hb dX9_does_152 rfl (lv_at hl 2 rfl) ?_
  obtain ⟨r89, M90, hz91, hF⟩ := ob_some hF
  refine k_passes hC hI hz91 (Nat.le_of_ble_eq_true rfl) (Nat.le_of_ble_eq_true rfl) hl.1 (Nat.le_of_ble_eq_true rfl) dX9_does_153 (fun H locs hI => ?_)
  exact md_iret hC hI hr hF dX9_does_156
theorem k_does {p : Program} {l : Launch} {e : Env} {R : Room} {s : State} {m : MethodId} {args : Array Value} {below : List Frame} {meth : Method} {c : Code} {H : Heap} {locs : List Loc} {cells slots : Nat} {Q : State → Prop} {pc : Nat} {ls : Array Slot} {rest : List Value} {G : va_G} {ai : Nat → ClassId} {A : Nat → Prop} {cc : ByteArray} {nL f L kc ks o : Nat} {ar : Nat → Nat} {M M1 : MS} {r1 : Int32} {a1 : Int32} {a2 : Int32} {a3 : Int32} {a4 : Int32} (hC : mo_C p R s m args meth c G ai A RX9 cc nL f L kc ks) (hI : mo_I G A s.heap (md_W ai o ar M) H locs) (hz : f_does M a1 a2 a3 a4 = some (r1, M1)) (hf : 5 + 1 ≤ f) (hL : 8 + (5 + 11) + 116 ≤ L) (hsz : ls.size = nL) (hW : (rest.map fun v => v.category).sum ≤ 8) (hdg : decode cc pc = .ok (.invokevirtual 220, 3)) (kk : ∀ (H1 : Heap) (locs1 : List Loc), mo_I G A s.heap (md_W ai o ar M1) H1 locs1 → W p l e R s m args below meth c H1 locs1 cells slots Q (F0 m (pc + 3) ls (.int r1 :: rest))) (hc0 : cells ≤ kc := by first | exact Nat.zero_le _ | assumption) (hs0 : slots ≤ ks := by first | exact Nat.zero_le _ | assumption) : W p l e R s m args below meth c H locs cells slots Q (F0 m pc ls (.int a4 :: .int a3 :: .int a2 :: .int a1 :: .ref o :: rest)) := by
  have hI : mo_I G A s.heap (md_W ai o ar M ++ []) H locs := by rw [List.append_nil]; exact hI
  refine gw_cVi (As := [.int a1, .int a2, .int a3, .int a4]) (mc := 0) (ms := 0) (fs := md_F ar M) hC 4 hI (w_does l G ai o ar M a1 a2 a3 a4 r1 M1 hz) 0 0 rfl rfl q2317 q2319 qs110 q142 q2320 rfl rfl (by decide +kernel) rfl hf hL hc0 hs0 hsz rfl hW hdg (fun r u H1 locs1 hp hI1 => ?_)
  obtain ⟨rfl, rfl⟩ := hp
  rw [List.append_nil] at hI1
  exact kk H1 locs1 hI1
def f_order (M : MS) : Option (Int32 × MS) := ob (f_sign M) (fun r1 M2 => lj (fun (M4 : MS) (t6 : Int32) => gd (gb t6) (lt (rup M4 0 (upd (M4 0) 20 t6)) (fun M9 => lj (fun (M10 : MS) (t12 : Int32) (t13 : Int32) => lt (rup M10 0 (upd (M10 0) 19 (t12 + t13))) (fun M15 => lj (fun (M16 : MS) (t18 : Int32) => ob (f_number M16 t18) (fun r20 M21 => lj (fun (M23 : MS) (x2_24 : Int32) => lj (fun (M26 : MS) (x3_27 : Int32) (x2_28 : Int32) => if (M26 0 20) = 0 then (if (M26 0 21) = 0 then (some (0, M26)) else (ob (f_does M26 r1 r20 x2_28 x3_27) (fun r32 M33 => some (0, M33)))) else (some (0, M26))) (fun j151_28 => if r1 = 118 then (ob (f_mark M23 58) (fun r36 M37 => ob (f_number M37 2) (fun r39 M40 => ob (f_mark M40 62) (fun r42 M43 => ob (f_number M43 2) (fun r45 M46 => j151_28 M46 r45 r39))))) else (j151_28 M23 0 x2_24))) (fun j121_24 => lj (fun (M48 : MS) => ob (f_letter M48) (fun r50 M51 => j121_24 M51 r50)) (fun j116_48 => if r1 = 119 then (j116_48 M21) else (if r1 = 112 then (j116_48 M21) else (j121_24 M21 0)))))) (fun j99_18 => if r1 = 100 then (j99_18 M15 2) else (j99_18 M15 1)))) (fun j83_13 => if (M9 0 20) = 0 then (j83_13 M9 (M9 0 19) 1) else (j83_13 M9 (M9 0 19) 0))))) (fun j63_6 => lj (fun (M57 : MS) => j63_6 M57 0) (fun j62_57 => if r1 = 119 then (j62_57 M2) else (if r1 = 115 then (j62_57 M2) else (if r1 = 98 then (j62_57 M2) else (if r1 = 116 then (j62_57 M2) else (if r1 = 112 then (j62_57 M2) else (if r1 = 118 then (j62_57 M2) else (if r1 = 114 then (j62_57 M2) else (if r1 = 100 then (j62_57 M2) else (j63_6 M2 1)))))))))))
set_option maxHeartbeats 4000000 in
theorem w_order (l : Launch) (G : va_G) (ai : Nat → ClassId) (o : Nat) (ar : Nat → Nat) (M : MS) (r0 : Int32) (M0 : MS) (hF : f_order M = some (r0, M0)) : md_Mv l G ai o ar yX9_order cX9_order 6 ({ frames := 6, cells := 0, slots := 0, locals := 140 } : Room) [.ref o] M M0 := by
  refine mo_body (Qc := fun A => va_Qv (fun (M2 : MS) => M2 = M0) (gw_E G ai (md_W ai o ar) A) A) (by decide) (Nat.le_of_ble_eq_true rfl) ?_
  intro p e s m args below meth c A ls hC hr hI hl _
  have hx := hC.1
  have hb := hC.2.1
  have hl : lv_has ls 6 [(0, .ref o)] := hl
  show W p l e _ s m args below meth c s.heap [] 0 0 (md_Qv below G ai o ar A args s M0) (F0 m 0 ls [])
  rw [f_order] at hF
  refine lv_aload_n hx hb dX9_order_0 rfl (lv_at hl 0 rfl) ?_
  obtain ⟨r1, M2, hz3, hF⟩ := ob_some hF
  refine k_sign hC hI hz3 (Nat.le_of_ble_eq_true rfl) (Nat.le_of_ble_eq_true rfl) hl.1 (Nat.le_of_ble_eq_true rfl) dX9_order_1 (fun H locs hI => ?_)
  refine mo_ist (lv' := [(1, .int r1), (0, .ref o)]) hx hb rfl dX9_order_4 rfl hl (by decide) rfl (fun ls hl => ?_)
  refine lv_iconst (v := 0) hx hb dX9_order_5 (by decide) ?_
  refine mo_ist (lv' := [(2, .int 0), (1, .int r1), (0, .ref o)]) hx hb rfl dX9_order_6 rfl hl (by decide) rfl (fun ls hl => ?_)
  refine lv_iconst (v := 0) hx hb dX9_order_7 (by decide) ?_
  refine mo_ist (lv' := [(3, .int 0), (2, .int 0), (1, .int r1), (0, .ref o)]) hx hb rfl dX9_order_8 rfl hl (by decide) rfl (fun ls hl => ?_)
  refine lv_aload_n hx hb dX9_order_9 rfl (lv_at hl 3 rfl) ?_
  refine lv_iload_n hx hb dX9_order_10 rfl (lv_at hl 2 rfl) ?_
  refine lv_bipush (v := 119) hx hb dX9_order_11 (by decide) ?_
  obtain ⟨j63_6, hj63_6, hF⟩ := lj_some hF
  have J63 : ∀ (M4 : MS) (t6 : Int32) (H : Heap) (locs : List Loc) (ls : Array Slot), j63_6 M4 t6 = some (r0, M0) → mo_I G A s.heap (md_W ai o ar M4) H locs → lv_has ls 6 [(3, .int 0), (2, .int 0), (1, .int r1), (0, .ref o)] → W p l e ({ frames := 6, cells := 0, slots := 0, locals := 140 } : Room) s m args below meth c H locs 0 0 (md_Qv below G ai o ar A args s M0) (F0 m 63 ls [.int t6, .ref o]) := by
    intro M4 t6 H locs ls hF hI hl
    rw [hj63_6] at hF
    obtain ⟨hg8, hF⟩ := gd_some hF
    obtain ⟨M9, hM9, hF⟩ := lt_some hF
    refine md_p20 hC hI (gb_or hg8) hM9 dX9_order_63 (fun H locs hI => ?_)
    refine lv_aload_n hx hb dX9_order_66 rfl (lv_at hl 3 rfl) ?_
    refine lv_dup hx hb dX9_order_67 rfl ?_
    refine md_g19 hC hI dX9_order_68 ?_
    refine lv_aload_n hx hb dX9_order_71 rfl (lv_at hl 3 rfl) ?_
    refine md_g20 hC hI dX9_order_72 ?_
    obtain ⟨j83_13, hj83_13, hF⟩ := lj_some hF
    have J83 : ∀ (M10 : MS) (t12 : Int32) (t13 : Int32) (H : Heap) (locs : List Loc) (ls : Array Slot), j83_13 M10 t12 t13 = some (r0, M0) → mo_I G A s.heap (md_W ai o ar M10) H locs → lv_has ls 6 [(3, .int 0), (2, .int 0), (1, .int r1), (0, .ref o)] → W p l e ({ frames := 6, cells := 0, slots := 0, locals := 140 } : Room) s m args below meth c H locs 0 0 (md_Qv below G ai o ar A args s M0) (F0 m 83 ls [.int t13, .int t12, .ref o]) := by
      intro M10 t12 t13 H locs ls hF hI hl
      rw [hj83_13] at hF
      refine lv_iadd hx hb dX9_order_83 ?_
      obtain ⟨M15, hM15, hF⟩ := lt_some hF
      refine md_p19 hC hI hM15 dX9_order_84 (fun H locs hI => ?_)
      refine lv_aload_n hx hb dX9_order_87 rfl (lv_at hl 3 rfl) ?_
      refine lv_iload_n hx hb dX9_order_88 rfl (lv_at hl 2 rfl) ?_
      refine lv_bipush (v := 100) hx hb dX9_order_89 (by decide) ?_
      obtain ⟨j99_18, hj99_18, hF⟩ := lj_some hF
      have J99 : ∀ (M16 : MS) (t18 : Int32) (H : Heap) (locs : List Loc) (ls : Array Slot), j99_18 M16 t18 = some (r0, M0) → mo_I G A s.heap (md_W ai o ar M16) H locs → lv_has ls 6 [(3, .int 0), (2, .int 0), (1, .int r1), (0, .ref o)] → W p l e ({ frames := 6, cells := 0, slots := 0, locals := 140 } : Room) s m args below meth c H locs 0 0 (md_Qv below G ai o ar A args s M0) (F0 m 99 ls [.int t18, .ref o]) := by
        intro M16 t18 H locs ls hF hI hl
        rw [hj99_18] at hF
        obtain ⟨r20, M21, hz22, hF⟩ := ob_some hF
        refine k_number hC hI hz22 (Nat.le_of_ble_eq_true rfl) (Nat.le_of_ble_eq_true rfl) hl.1 (Nat.le_of_ble_eq_true rfl) dX9_order_99 (fun H locs hI => ?_)
        refine mo_ist4 (lv' := [(4, .int r20), (3, .int 0), (2, .int 0), (1, .int r1), (0, .ref o)]) hx hb rfl dX9_order_102 hl (by decide) rfl (fun ls hl => ?_)
        refine lv_iload_n hx hb dX9_order_104 rfl (lv_at hl 3 rfl) ?_
        refine lv_bipush (v := 119) hx hb dX9_order_105 (by decide) ?_
        obtain ⟨j121_24, hj121_24, hF⟩ := lj_some hF
        have J121 : ∀ (M23 : MS) (x2_24 : Int32) (H : Heap) (locs : List Loc) (ls : Array Slot), j121_24 M23 x2_24 = some (r0, M0) → mo_I G A s.heap (md_W ai o ar M23) H locs → lv_has ls 6 [(4, .int r20), (3, .int 0), (2, .int x2_24), (1, .int r1), (0, .ref o)] → W p l e ({ frames := 6, cells := 0, slots := 0, locals := 140 } : Room) s m args below meth c H locs 0 0 (md_Qv below G ai o ar A args s M0) (F0 m 121 ls []) := by
          intro M23 x2_24 H locs ls hF hI hl
          rw [hj121_24] at hF
          refine lv_iload_n hx hb dX9_order_121 rfl (lv_at hl 3 rfl) ?_
          refine lv_bipush (v := 118) hx hb dX9_order_122 (by decide) ?_
          obtain ⟨j151_28, hj151_28, hF⟩ := lj_some hF
          have J151 : ∀ (M26 : MS) (x3_27 : Int32) (x2_28 : Int32) (H : Heap) (locs : List Loc) (ls : Array Slot), j151_28 M26 x3_27 x2_28 = some (r0, M0) → mo_I G A s.heap (md_W ai o ar M26) H locs → lv_has ls 6 [(4, .int r20), (3, .int x3_27), (2, .int x2_28), (1, .int r1), (0, .ref o)] → W p l e ({ frames := 6, cells := 0, slots := 0, locals := 140 } : Room) s m args below meth c H locs 0 0 (md_Qv below G ai o ar A args s M0) (F0 m 151 ls []) := by
            intro M26 x3_27 x2_28 H locs ls hF hI hl
            rw [hj151_28] at hF
            refine lv_aload_n hx hb dX9_order_151 rfl (lv_at hl 4 rfl) ?_
            refine md_g20 hC hI dX9_order_152 ?_
            refine lv_if_ne (tgt := 165) hx hb dX9_order_155 (by decide) (fun c30 => ?_) (fun c30 => ?_)
            · have hF := if_f hF c30
              exact md_vret hC hI hr hF dX9_order_165
            · have hF := if_t hF c30
              refine lv_aload_n hx hb dX9_order_158 rfl (lv_at hl 4 rfl) ?_
              refine md_g21 hC hI dX9_order_159 ?_
              refine lv_if_ne (tgt := 166) hx hb dX9_order_162 (by decide) (fun c31 => ?_) (fun c31 => ?_)
              · have hF := if_f hF c31
                refine lv_aload_n hx hb dX9_order_166 rfl (lv_at hl 4 rfl) ?_
                refine lv_iload_n hx hb dX9_order_167 rfl (lv_at hl 3 rfl) ?_
                refine lv_iload hx hb dX9_order_168 (lv_at hl 0 rfl) ?_
                refine lv_iload_n hx hb dX9_order_170 rfl (lv_at hl 2 rfl) ?_
                refine lv_iload_n hx hb dX9_order_171 rfl (lv_at hl 1 rfl) ?_
                obtain ⟨r32, M33, hz34, hF⟩ := ob_some hF
                refine k_does hC hI hz34 (Nat.le_of_ble_eq_true rfl) (Nat.le_of_ble_eq_true rfl) hl.1 (Nat.le_of_ble_eq_true rfl) dX9_order_172 (fun H locs hI => ?_)
                refine mo_ist4 (lv' := [(5, .int r32), (4, .int r20), (3, .int x3_27), (2, .int x2_28), (1, .int r1), (0, .ref o)]) hx hb rfl dX9_order_175 hl (by decide) rfl (fun ls hl => ?_)
                exact md_vret hC hI hr hF dX9_order_177
              · have hF := if_t hF c31
                exact md_vret hC hI hr hF dX9_order_165
          refine lv_icmp_ne (tgt := 151) hx hb dX9_order_124 (by decide) (fun c35 => ?_) (fun c35 => ?_)
          · have hF := if_f hF c35
            exact J151 _ _ _ _ _ _ hF hI (lv_sub hl [0, 1, 2, 3, 4] rfl)
          · have hF := if_t hF c35
            refine lv_aload_n hx hb dX9_order_127 rfl (lv_at hl 4 rfl) ?_
            refine lv_bipush (v := 58) hx hb dX9_order_128 (by decide) ?_
            obtain ⟨r36, M37, hz38, hF⟩ := ob_some hF
            refine k_mark hC hI hz38 (Nat.le_of_ble_eq_true rfl) (Nat.le_of_ble_eq_true rfl) hl.1 (Nat.le_of_ble_eq_true rfl) dX9_order_130 (fun H locs hI => ?_)
            refine lv_aload_n hx hb dX9_order_133 rfl (lv_at hl 4 rfl) ?_
            refine lv_iconst (v := 2) hx hb dX9_order_134 (by decide) ?_
            obtain ⟨r39, M40, hz41, hF⟩ := ob_some hF
            refine k_number hC hI hz41 (Nat.le_of_ble_eq_true rfl) (Nat.le_of_ble_eq_true rfl) hl.1 (Nat.le_of_ble_eq_true rfl) dX9_order_135 (fun H locs hI => ?_)
            refine mo_ist (lv' := [(2, .int r39), (4, .int r20), (3, .int 0), (1, .int r1), (0, .ref o)]) hx hb rfl dX9_order_138 rfl hl (by decide) rfl (fun ls hl => ?_)
            refine lv_aload_n hx hb dX9_order_139 rfl (lv_at hl 4 rfl) ?_
            refine lv_bipush (v := 62) hx hb dX9_order_140 (by decide) ?_
            obtain ⟨r42, M43, hz44, hF⟩ := ob_some hF
            refine k_mark hC hI hz44 (Nat.le_of_ble_eq_true rfl) (Nat.le_of_ble_eq_true rfl) hl.1 (Nat.le_of_ble_eq_true rfl) dX9_order_142 (fun H locs hI => ?_)
            refine lv_aload_n hx hb dX9_order_145 rfl (lv_at hl 4 rfl) ?_
            refine lv_iconst (v := 2) hx hb dX9_order_146 (by decide) ?_
            obtain ⟨r45, M46, hz47, hF⟩ := ob_some hF
            refine k_number hC hI hz47 (Nat.le_of_ble_eq_true rfl) (Nat.le_of_ble_eq_true rfl) hl.1 (Nat.le_of_ble_eq_true rfl) dX9_order_147 (fun H locs hI => ?_)
            refine mo_ist (lv' := [(3, .int r45), (2, .int r39), (4, .int r20), (1, .int r1), (0, .ref o)]) hx hb rfl dX9_order_150 rfl hl (by decide) rfl (fun ls hl => ?_)
            exact J151 _ _ _ _ _ _ hF hI (lv_sub hl [2, 0, 1, 3, 4] rfl)
        obtain ⟨j116_48, hj116_48, hF⟩ := lj_some hF
        have J116 : ∀ (M48 : MS) (H : Heap) (locs : List Loc) (ls : Array Slot), j116_48 M48 = some (r0, M0) → mo_I G A s.heap (md_W ai o ar M48) H locs → lv_has ls 6 [(4, .int r20), (3, .int 0), (1, .int r1), (0, .ref o)] → W p l e ({ frames := 6, cells := 0, slots := 0, locals := 140 } : Room) s m args below meth c H locs 0 0 (md_Qv below G ai o ar A args s M0) (F0 m 116 ls []) := by
          intro M48 H locs ls hF hI hl
          rw [hj116_48] at hF
          refine lv_aload_n hx hb dX9_order_116 rfl (lv_at hl 3 rfl) ?_
          obtain ⟨r50, M51, hz52, hF⟩ := ob_some hF
          refine k_letter hC hI hz52 (Nat.le_of_ble_eq_true rfl) (Nat.le_of_ble_eq_true rfl) hl.1 (Nat.le_of_ble_eq_true rfl) dX9_order_117 (fun H locs hI => ?_)
          refine mo_ist (lv' := [(2, .int r50), (4, .int r20), (3, .int 0), (1, .int r1), (0, .ref o)]) hx hb rfl dX9_order_120 rfl hl (by decide) rfl (fun ls hl => ?_)
          exact J121 _ _ _ _ _ hF hI (lv_sub hl [1, 2, 0, 3, 4] rfl)
        refine lv_icmp_eq (tgt := 116) hx hb dX9_order_107 (by decide) (fun c53 => ?_) (fun c53 => ?_)
        · have hF := if_t hF c53
          exact J116 _ _ _ _ hF hI (lv_sub hl [0, 1, 3, 4] rfl)
        · have hF := if_f hF c53
          refine lv_iload_n hx hb dX9_order_110 rfl (lv_at hl 3 rfl) ?_
          refine lv_bipush (v := 112) hx hb dX9_order_111 (by decide) ?_
          refine lv_icmp_ne (tgt := 121) hx hb dX9_order_113 (by decide) (fun c54 => ?_) (fun c54 => ?_)
          · have hF := if_f hF c54
            exact J121 _ _ _ _ _ hF hI (lv_sub hl [0, 1, 2, 3, 4] rfl)
          · have hF := if_t hF c54
            exact J116 _ _ _ _ hF hI (lv_sub hl [0, 1, 3, 4] rfl)
      refine lv_icmp_ne (tgt := 98) hx hb dX9_order_91 (by decide) (fun c55 => ?_) (fun c55 => ?_)
      · have hF := if_f hF c55
        refine lv_iconst (v := 1) hx hb dX9_order_98 (by decide) ?_
        exact J99 _ _ _ _ _ hF hI (lv_sub hl [0, 1, 2, 3] rfl)
      · have hF := if_t hF c55
        refine lv_iconst (v := 2) hx hb dX9_order_94 (by decide) ?_
        refine lv_goto (tgt := 99) hx hb dX9_order_95 (by decide) ?_
        exact J99 _ _ _ _ _ hF hI (lv_sub hl [0, 1, 2, 3] rfl)
    refine lv_if_eq (tgt := 82) hx hb dX9_order_75 (by decide) (fun c56 => ?_) (fun c56 => ?_)
    · have hF := if_t hF c56
      refine lv_iconst (v := 1) hx hb dX9_order_82 (by decide) ?_
      exact J83 _ _ _ _ _ _ hF hI (lv_sub hl [0, 1, 2, 3] rfl)
    · have hF := if_f hF c56
      refine lv_iconst (v := 0) hx hb dX9_order_78 (by decide) ?_
      refine lv_goto (tgt := 83) hx hb dX9_order_79 (by decide) ?_
      exact J83 _ _ _ _ _ _ hF hI (lv_sub hl [0, 1, 2, 3] rfl)
  obtain ⟨j62_57, hj62_57, hF⟩ := lj_some hF
  have J62 : ∀ (M57 : MS) (H : Heap) (locs : List Loc) (ls : Array Slot), j62_57 M57 = some (r0, M0) → mo_I G A s.heap (md_W ai o ar M57) H locs → lv_has ls 6 [(3, .int 0), (2, .int 0), (1, .int r1), (0, .ref o)] → W p l e ({ frames := 6, cells := 0, slots := 0, locals := 140 } : Room) s m args below meth c H locs 0 0 (md_Qv below G ai o ar A args s M0) (F0 m 62 ls [.ref o]) := by
    intro M57 H locs ls hF hI hl
    rw [hj62_57] at hF
    refine lv_iconst (v := 0) hx hb dX9_order_62 (by decide) ?_
    exact J63 _ _ _ _ _ hF hI (lv_sub hl [0, 1, 2, 3] rfl)
  refine lv_icmp_eq (tgt := 62) hx hb dX9_order_13 (by decide) (fun c59 => ?_) (fun c59 => ?_)
  · have hF := if_t hF c59
    exact J62 _ _ _ _ hF hI (lv_sub hl [0, 1, 2, 3] rfl)
  · have hF := if_f hF c59
    refine lv_iload_n hx hb dX9_order_16 rfl (lv_at hl 2 rfl) ?_
    refine lv_bipush (v := 115) hx hb dX9_order_17 (by decide) ?_
    refine lv_icmp_eq (tgt := 62) hx hb dX9_order_19 (by decide) (fun c60 => ?_) (fun c60 => ?_)
    · have hF := if_t hF c60
      exact J62 _ _ _ _ hF hI (lv_sub hl [0, 1, 2, 3] rfl)
    · have hF := if_f hF c60
      refine lv_iload_n hx hb dX9_order_22 rfl (lv_at hl 2 rfl) ?_
      refine lv_bipush (v := 98) hx hb dX9_order_23 (by decide) ?_
      refine lv_icmp_eq (tgt := 62) hx hb dX9_order_25 (by decide) (fun c61 => ?_) (fun c61 => ?_)
      · have hF := if_t hF c61
        exact J62 _ _ _ _ hF hI (lv_sub hl [0, 1, 2, 3] rfl)
      · have hF := if_f hF c61
        refine lv_iload_n hx hb dX9_order_28 rfl (lv_at hl 2 rfl) ?_
        refine lv_bipush (v := 116) hx hb dX9_order_29 (by decide) ?_
        refine lv_icmp_eq (tgt := 62) hx hb dX9_order_31 (by decide) (fun c62 => ?_) (fun c62 => ?_)
        · have hF := if_t hF c62
          exact J62 _ _ _ _ hF hI (lv_sub hl [0, 1, 2, 3] rfl)
        · have hF := if_f hF c62
          refine lv_iload_n hx hb dX9_order_34 rfl (lv_at hl 2 rfl) ?_
          refine lv_bipush (v := 112) hx hb dX9_order_35 (by decide) ?_
          refine lv_icmp_eq (tgt := 62) hx hb dX9_order_37 (by decide) (fun c63 => ?_) (fun c63 => ?_)
          · have hF := if_t hF c63
            exact J62 _ _ _ _ hF hI (lv_sub hl [0, 1, 2, 3] rfl)
          · have hF := if_f hF c63
            refine lv_iload_n hx hb dX9_order_40 rfl (lv_at hl 2 rfl) ?_
            refine lv_bipush (v := 118) hx hb dX9_order_41 (by decide) ?_
            refine lv_icmp_eq (tgt := 62) hx hb dX9_order_43 (by decide) (fun c64 => ?_) (fun c64 => ?_)
            · have hF := if_t hF c64
              exact J62 _ _ _ _ hF hI (lv_sub hl [0, 1, 2, 3] rfl)
            · have hF := if_f hF c64
              refine lv_iload_n hx hb dX9_order_46 rfl (lv_at hl 2 rfl) ?_
              refine lv_bipush (v := 114) hx hb dX9_order_47 (by decide) ?_
              refine lv_icmp_eq (tgt := 62) hx hb dX9_order_49 (by decide) (fun c65 => ?_) (fun c65 => ?_)
              · have hF := if_t hF c65
                exact J62 _ _ _ _ hF hI (lv_sub hl [0, 1, 2, 3] rfl)
              · have hF := if_f hF c65
                refine lv_iload_n hx hb dX9_order_52 rfl (lv_at hl 2 rfl) ?_
                refine lv_bipush (v := 100) hx hb dX9_order_53 (by decide) ?_
                refine lv_icmp_eq (tgt := 62) hx hb dX9_order_55 (by decide) (fun c66 => ?_) (fun c66 => ?_)
                · have hF := if_t hF c66
                  exact J62 _ _ _ _ hF hI (lv_sub hl [0, 1, 2, 3] rfl)
                · have hF := if_f hF c66
                  refine lv_iconst (v := 1) hx hb dX9_order_58 (by decide) ?_
                  refine lv_goto (tgt := 63) hx hb dX9_order_59 (by decide) ?_
                  exact J63 _ _ _ _ _ hF hI (lv_sub hl [0, 1, 2, 3] rfl)
theorem k_order {p : Program} {l : Launch} {e : Env} {R : Room} {s : State} {m : MethodId} {args : Array Value} {below : List Frame} {meth : Method} {c : Code} {H : Heap} {locs : List Loc} {cells slots : Nat} {Q : State → Prop} {pc : Nat} {ls : Array Slot} {rest : List Value} {G : va_G} {ai : Nat → ClassId} {A : Nat → Prop} {cc : ByteArray} {nL f L kc ks o : Nat} {ar : Nat → Nat} {M M1 : MS} {r1 : Int32} (hC : mo_C p R s m args meth c G ai A RX9 cc nL f L kc ks) (hI : mo_I G A s.heap (md_W ai o ar M) H locs) (hz : f_order M = some (r1, M1)) (hf : 6 + 1 ≤ f) (hL : 8 + (6 + 11) + 140 ≤ L) (hsz : ls.size = nL) (hW : (rest.map fun v => v.category).sum ≤ 8) (hdg : decode cc pc = .ok (.invokevirtual 224, 3)) (kk : ∀ (H1 : Heap) (locs1 : List Loc), mo_I G A s.heap (md_W ai o ar M1) H1 locs1 → W p l e R s m args below meth c H1 locs1 cells slots Q (F0 m (pc + 3) ls (rest))) (hc0 : cells ≤ kc := by first | exact Nat.zero_le _ | assumption) (hs0 : slots ≤ ks := by first | exact Nat.zero_le _ | assumption) : W p l e R s m args below meth c H locs cells slots Q (F0 m pc ls (.ref o :: rest)) := by
  have hI : mo_I G A s.heap (md_W ai o ar M ++ []) H locs := by rw [List.append_nil]; exact hI
  refine gw_cVv (As := []) (mc := 0) (ms := 0) (fs := md_F ar M) hC 0 hI (w_order l G ai o ar M r1 M1 hz) 0 0 rfl rfl q2297 q2299 qs105 q142 q2300 rfl rfl (by decide +kernel) rfl hf hL hc0 hs0 hsz rfl hW hdg (fun u H1 locs1 hp hI1 => ?_)
  obtain rfl := hp
  rw [List.append_nil] at hI1
  exact kk H1 locs1 hI1
def f_orders_L16 (kont : MS → Int32 → Option (Int32 × MS)) : Nat → MS → Int32 → Option (Int32 × MS)
  | 0, _, _ => none
  | n + 1, M, x1 => if (M 0 20) = 0 then (if (M 0 0) = 0 then (if (M 0 17) ≤ (M 0 19) then (kont M x1) else (ob (f_mark M 59) (fun r9 M10 => lj (fun (M12 : MS) => lt (x1 + 1) (fun x1_14 => f_orders_L16 kont n M12 x1_14)) (fun j58_12 => if (M10 0 20) = 0 then (ob (f_order M10) (fun r16 M17 => j58_12 M17)) else (j58_12 M10))))) else (kont M x1)) else (kont M x1)
def f_orders (M : MS) : Option (Int32 × MS) := lt (rup M 0 (upd (M 0) 19 0)) (fun M1 => lt (rup M1 0 (upd (M1 0) 20 0)) (fun M2 => ob (f_order M2) (fun r3 M4 => f_orders_L16 (fun M19 x1_20 => some (x1_20, M19)) 2000 M4 1)))
set_option maxHeartbeats 4000000 in
theorem w_orders_L16 {p : Program} {l : Launch} {e : Env} {R : Room} {s : State} {m : MethodId} {args : Array Value} {below : List Frame} {meth : Method} {c : Code} {G : va_G} {ai : Nat → ClassId} {A : Nat → Prop} {o : Nat} {ar : Nat → Nat} {r0 : Int32} {M0 : MS} (hC : mo_C p R s m args meth c G ai A RX9 cX9_orders 2 7 165 0 0) (hr : meth.sig.returnType = (some .int)) (kont : MS → Int32 → Option (Int32 × MS)) (K : ∀ (M : MS) (x1 : Int32) (H : Heap) (locs : List Loc) (ls : Array Slot), kont M x1 = some (r0, M0) → mo_I G A s.heap (md_W ai o ar M) H locs → lv_has ls 2 [(1, .int x1)] → W p l e R s m args below meth c H locs 0 0 (md_Q below G ai o ar A args s r0 M0) (F0 m 64 ls [])) :
    ∀ (n : Nat) (M : MS) (x1 : Int32) (H : Heap) (locs : List Loc) (ls : Array Slot), f_orders_L16 kont n M x1 = some (r0, M0) → mo_I G A s.heap (md_W ai o ar M) H locs → lv_has ls 2 [(1, .int x1), (0, .ref o)] → W p l e R s m args below meth c H locs 0 0 (md_Q below G ai o ar A args s r0 M0) (F0 m 16 ls []) := by
  have hx := hC.1
  have hb := hC.2.1
  intro n
  induction n with
  | zero =>
    intro M x1 H locs ls hF
    have h0 : (none : Option (Int32 × MS)) = some (r0, M0) := hF
    cases h0
  | succ n ih =>
    intro M x1 H locs ls hF hI hl
    rw [f_orders_L16] at hF
    refine lv_aload_n hx hb dX9_orders_16 rfl (lv_at hl 1 rfl) ?_
    refine md_g20 hC hI dX9_orders_17 ?_
    refine lv_if_ne (tgt := 64) hx hb dX9_orders_20 (by decide) (fun c6 => ?_) (fun c6 => ?_)
    · have hF := if_f hF c6
      exact K _ _ _ _ _ hF hI (lv_sub hl [0] rfl)
    · have hF := if_t hF c6
      refine lv_aload_n hx hb dX9_orders_23 rfl (lv_at hl 1 rfl) ?_
      refine md_g0 hC hI dX9_orders_24 ?_
      refine lv_if_ne (tgt := 64) hx hb dX9_orders_27 (by decide) (fun c7 => ?_) (fun c7 => ?_)
      · have hF := if_f hF c7
        exact K _ _ _ _ _ hF hI (lv_sub hl [0] rfl)
      · have hF := if_t hF c7
        refine lv_aload_n hx hb dX9_orders_30 rfl (lv_at hl 1 rfl) ?_
        refine md_g19 hC hI dX9_orders_31 ?_
        refine lv_aload_n hx hb dX9_orders_34 rfl (lv_at hl 1 rfl) ?_
        refine md_g17 hC hI dX9_orders_35 ?_
        refine lv_icmp_ge (tgt := 64) hx hb dX9_orders_38 (by decide) (fun c8 => ?_) (fun c8 => ?_)
        · have hF := if_t hF c8
          exact K _ _ _ _ _ hF hI (lv_sub hl [0] rfl)
        · have hF := if_f hF c8
          refine lv_aload_n hx hb dX9_orders_41 rfl (lv_at hl 1 rfl) ?_
          refine lv_bipush (v := 59) hx hb dX9_orders_42 (by decide) ?_
          obtain ⟨r9, M10, hz11, hF⟩ := ob_some hF
          refine k_mark hC hI hz11 (Nat.le_of_ble_eq_true rfl) (Nat.le_of_ble_eq_true rfl) hl.1 (Nat.le_of_ble_eq_true rfl) dX9_orders_44 (fun H locs hI => ?_)
          refine lv_aload_n hx hb dX9_orders_47 rfl (lv_at hl 1 rfl) ?_
          refine md_g20 hC hI dX9_orders_48 ?_
          obtain ⟨j58_12, hj58_12, hF⟩ := lj_some hF
          have J58 : ∀ (M12 : MS) (H : Heap) (locs : List Loc) (ls : Array Slot), j58_12 M12 = some (r0, M0) → mo_I G A s.heap (md_W ai o ar M12) H locs → lv_has ls 2 [(1, .int x1), (0, .ref o)] → W p l e R s m args below meth c H locs 0 0 (md_Q below G ai o ar A args s r0 M0) (F0 m 58 ls []) := by
            intro M12 H locs ls hF hI hl
            rw [hj58_12] at hF
            obtain ⟨x1_14, hx1_14, hF⟩ := lt_some hF
            refine mo_inc (k := 0) (lv' := [(1, .int x1_14), (0, .ref o)]) hx hb hx1_14 (by decide) dX9_orders_58 hl rfl (by decide) rfl (fun ls hl => ?_)
            refine lv_goto (tgt := 16) hx hb dX9_orders_61 (by decide) ?_
            exact ih _ _ _ _ _ hF hI (lv_sub hl [0, 1] rfl)
          refine lv_if_ne (tgt := 58) hx hb dX9_orders_51 (by decide) (fun c15 => ?_) (fun c15 => ?_)
          · have hF := if_f hF c15
            exact J58 _ _ _ _ hF hI (lv_sub hl [0, 1] rfl)
          · have hF := if_t hF c15
            refine lv_aload_n hx hb dX9_orders_54 rfl (lv_at hl 1 rfl) ?_
            obtain ⟨r16, M17, hz18, hF⟩ := ob_some hF
            refine k_order hC hI hz18 (Nat.le_of_ble_eq_true rfl) (Nat.le_of_ble_eq_true rfl) hl.1 (Nat.le_of_ble_eq_true rfl) dX9_orders_55 (fun H locs hI => ?_)
            exact J58 _ _ _ _ hF hI (lv_sub hl [0, 1] rfl)
set_option maxHeartbeats 4000000 in
theorem w_orders (l : Launch) (G : va_G) (ai : Nat → ClassId) (o : Nat) (ar : Nat → Nat) (M : MS) (r0 : Int32) (M0 : MS) (hF : f_orders M = some (r0, M0)) : md_M l G ai o ar yX9_orders cX9_orders 2 (some .int) ({ frames := 7, cells := 0, slots := 0, locals := 165 } : Room) [.ref o] M r0 M0 := by
  refine mo_body (Qc := fun A => va_Qi (fun (r' : Int32) (M2 : MS) => r' = r0 ∧ M2 = M0) (gw_E G ai (md_W ai o ar) A) A) (by decide) (Nat.le_of_ble_eq_true rfl) ?_
  intro p e s m args below meth c A ls hC hr hI hl _
  have hx := hC.1
  have hb := hC.2.1
  have hl : lv_has ls 2 [(0, .ref o)] := hl
  show W p l e _ s m args below meth c s.heap [] 0 0 (md_Q below G ai o ar A args s r0 M0) (F0 m 0 ls [])
  rw [f_orders] at hF
  refine lv_aload_n hx hb dX9_orders_0 rfl (lv_at hl 0 rfl) ?_
  refine lv_iconst (v := 0) hx hb dX9_orders_1 (by decide) ?_
  obtain ⟨M1, hM1, hF⟩ := lt_some hF
  refine md_p19 hC hI hM1 dX9_orders_2 (fun H locs hI => ?_)
  refine lv_aload_n hx hb dX9_orders_5 rfl (lv_at hl 0 rfl) ?_
  refine lv_iconst (v := 0) hx hb dX9_orders_6 (by decide) ?_
  obtain ⟨M2, hM2, hF⟩ := lt_some hF
  refine md_p20 hC hI (by decide) hM2 dX9_orders_7 (fun H locs hI => ?_)
  refine lv_iconst (v := 1) hx hb dX9_orders_10 (by decide) ?_
  refine mo_ist (lv' := [(1, .int 1), (0, .ref o)]) hx hb rfl dX9_orders_11 rfl hl (by decide) rfl (fun ls hl => ?_)
  refine lv_aload_n hx hb dX9_orders_12 rfl (lv_at hl 1 rfl) ?_
  obtain ⟨r3, M4, hz5, hF⟩ := ob_some hF
  refine k_order hC hI hz5 (Nat.le_of_ble_eq_true rfl) (Nat.le_of_ble_eq_true rfl) hl.1 (Nat.le_of_ble_eq_true rfl) dX9_orders_13 (fun H locs hI => ?_)
  refine w_orders_L16 hC hr _ (fun M19 x1_20 H locs ls hF hI hl => ?_) 2000 _ _ _ _ _ hF hI (lv_sub hl [0, 1] rfl)
  refine lv_iload_n hx hb dX9_orders_64 rfl (lv_at hl 0 rfl) ?_
  exact md_iret hC hI hr hF dX9_orders_65
theorem k_orders {p : Program} {l : Launch} {e : Env} {R : Room} {s : State} {m : MethodId} {args : Array Value} {below : List Frame} {meth : Method} {c : Code} {H : Heap} {locs : List Loc} {cells slots : Nat} {Q : State → Prop} {pc : Nat} {ls : Array Slot} {rest : List Value} {G : va_G} {ai : Nat → ClassId} {A : Nat → Prop} {cc : ByteArray} {nL f L kc ks o : Nat} {ar : Nat → Nat} {M M1 : MS} {r1 : Int32} (hC : mo_C p R s m args meth c G ai A RX9 cc nL f L kc ks) (hI : mo_I G A s.heap (md_W ai o ar M) H locs) (hz : f_orders M = some (r1, M1)) (hf : 7 + 1 ≤ f) (hL : 8 + (2 + 11) + 165 ≤ L) (hsz : ls.size = nL) (hW : (rest.map fun v => v.category).sum ≤ 8) (hdg : decode cc pc = .ok (.invokevirtual 227, 3)) (kk : ∀ (H1 : Heap) (locs1 : List Loc), mo_I G A s.heap (md_W ai o ar M1) H1 locs1 → W p l e R s m args below meth c H1 locs1 cells slots Q (F0 m (pc + 3) ls (.int r1 :: rest))) (hc0 : cells ≤ kc := by first | exact Nat.zero_le _ | assumption) (hs0 : slots ≤ ks := by first | exact Nat.zero_le _ | assumption) : W p l e R s m args below meth c H locs cells slots Q (F0 m pc ls (.ref o :: rest)) := by
  have hI : mo_I G A s.heap (md_W ai o ar M ++ []) H locs := by rw [List.append_nil]; exact hI
  refine gw_cVi (As := []) (mc := 0) (ms := 0) (fs := md_F ar M) hC 0 hI (w_orders l G ai o ar M r1 M1 hz) 0 0 rfl rfl q2293 q2295 qs104 q142 q2296 rfl rfl (by decide +kernel) rfl hf hL hc0 hs0 hsz rfl hW hdg (fun r u H1 locs1 hp hI1 => ?_)
  obtain ⟨rfl, rfl⟩ := hp
  rw [List.append_nil] at hI1
  exact kk H1 locs1 hI1
def f_script_L89 (a1 : Int32) (kont : MS → Option (Int32 × MS)) : Nat → MS → Int32 → Option (Int32 × MS)
  | 0, _, _ => none
  | n + 1, M, x2 => if x2 < 0 then (kont M) else (gd (gi x2 6) (gd (gi (x2 + 2) 6) (lt (rup M 6 (upd (M 6) (x2 + 2).toNatClampNeg (M 6 x2.toNatClampNeg))) (fun M29 => lt (x2 + (-1)) (fun x2_30 => f_script_L89 a1 kont n M29 x2_30)))))
def f_script (M : MS) : Option (Int32 × MS) := ob (f_begins M) (fun r1 M2 => lt (rup M2 0 (upd (M2 0) 21 0)) (fun M4 => ob (f_orders M4) (fun r5 M6 => if (M6 0 20) = 0 then (lt (rup M6 0 (upd (M6 0) 21 1)) (fun M9 => ob (f_orders M9) (fun r10 M11 => lt (rup M11 0 (upd (M11 0) 17 0)) (fun M13 => lj (fun (M14 : MS) => ob (f_ends M14 r10) (fun r16 M17 => some (r16, M17))) (fun j146_14 => if (M13 0 0) = 0 then (j146_14 M13) else (lj (fun (M20 : MS) (t22 : Int32) => lt (rup M20 0 (upd (M20 0) 2 t22)) (fun M24 => lt (((2 * (M24 0 2)) - 1)) (fun x2_25 => f_script_L89 r10 (fun M31 => lt (rup M31 6 (upd (M31 6) (0 : Int32).toNatClampNeg 12)) (fun M32 => lt (rup M32 6 (upd (M32 6) (1 : Int32).toNatClampNeg (r10 - 1))) (fun M33 => lt (rup M33 0 (upd (M33 0) 2 ((M33 0 2) + 1))) (fun M34 => lt (rup M34 0 (upd (M34 0) 0 (-3))) (fun M35 => j146_14 M35))))) 2000 M24 x2_25))) (fun j77_22 => if (M13 0 0) = (-3) then (j77_22 M13 (M13 0 2)) else (j77_22 M13 0)))))))) else (lt (rup M6 0 (upd (M6 0) 4 (M6 0 19))) (fun M37 => lt (rup M37 0 (upd (M37 0) 17 0)) (fun M38 => some ((-2), M38)))))))
set_option maxHeartbeats 4000000 in
theorem w_script_L89 {p : Program} {l : Launch} {e : Env} {R : Room} {s : State} {m : MethodId} {args : Array Value} {below : List Frame} {meth : Method} {c : Code} {G : va_G} {ai : Nat → ClassId} {A : Nat → Prop} {o : Nat} {ar : Nat → Nat} {r0 : Int32} {M0 : MS} (hC : mo_C p R s m args meth c G ai A RX9 cX9_script 3 8 186 0 0) (hr : meth.sig.returnType = (some .int)) (a1 : Int32) (kont : MS → Option (Int32 × MS)) (K : ∀ (M : MS) (H : Heap) (locs : List Loc) (ls : Array Slot), kont M = some (r0, M0) → mo_I G A s.heap (md_W ai o ar M) H locs → lv_has ls 3 [(1, .int a1), (0, .ref o)] → W p l e R s m args below meth c H locs 0 0 (md_Q below G ai o ar A args s r0 M0) (F0 m 113 ls [])) :
    ∀ (n : Nat) (M : MS) (x2 : Int32) (H : Heap) (locs : List Loc) (ls : Array Slot), f_script_L89 a1 kont n M x2 = some (r0, M0) → mo_I G A s.heap (md_W ai o ar M) H locs → lv_has ls 3 [(2, .int x2), (1, .int a1), (0, .ref o)] → W p l e R s m args below meth c H locs 0 0 (md_Q below G ai o ar A args s r0 M0) (F0 m 89 ls []) := by
  have hx := hC.1
  have hb := hC.2.1
  intro n
  induction n with
  | zero =>
    intro M x2 H locs ls hF
    have h0 : (none : Option (Int32 × MS)) = some (r0, M0) := hF
    cases h0
  | succ n ih =>
    intro M x2 H locs ls hF hI hl
    rw [f_script_L89] at hF
    refine lv_iload_n hx hb dX9_script_89 rfl (lv_at hl 0 rfl) ?_
    refine lv_if_lt (tgt := 113) hx hb dX9_script_90 (by decide) (fun c26 => ?_) (fun c26 => ?_)
    · have hF := if_t hF c26
      exact K _ _ _ _ hF hI (lv_sub hl [1, 2] rfl)
    · have hF := if_f hF c26
      refine lv_aload_n hx hb dX9_script_93 rfl (lv_at hl 2 rfl) ?_
      refine md_g11 hC hI dX9_script_94 ?_
      refine lv_iload_n hx hb dX9_script_97 rfl (lv_at hl 0 rfl) ?_
      refine lv_iconst (v := 2) hx hb dX9_script_98 (by decide) ?_
      refine lv_iadd hx hb dX9_script_99 ?_
      refine lv_aload_n hx hb dX9_script_100 rfl (lv_at hl 2 rfl) ?_
      refine md_g11 hC hI dX9_script_101 ?_
      refine lv_iload_n hx hb dX9_script_104 rfl (lv_at hl 0 rfl) ?_
      obtain ⟨hg27, hF⟩ := gd_some hF
      refine md_l6 hC hI hg27 dX9_script_105 ?_
      obtain ⟨hg28, hF⟩ := gd_some hF
      obtain ⟨M29, hM29, hF⟩ := lt_some hF
      refine md_s6 hC hI hg28 hM29 dX9_script_106 (fun H locs hI => ?_)
      obtain ⟨x2_30, hx2_30, hF⟩ := lt_some hF
      refine mo_inc (k := 0) (lv' := [(2, .int x2_30), (1, .int a1), (0, .ref o)]) hx hb hx2_30 (by decide) dX9_script_107 hl rfl (by decide) rfl (fun ls hl => ?_)
      refine lv_goto (tgt := 89) hx hb dX9_script_110 (by decide) ?_
      exact ih _ _ _ _ _ hF hI (lv_sub hl [0, 1, 2] rfl)
set_option maxHeartbeats 4000000 in
theorem w_script (l : Launch) (G : va_G) (ai : Nat → ClassId) (o : Nat) (ar : Nat → Nat) (M : MS) (r0 : Int32) (M0 : MS) (hF : f_script M = some (r0, M0)) : md_M l G ai o ar yX9_script cX9_script 3 (some .int) ({ frames := 8, cells := 0, slots := 0, locals := 186 } : Room) [.ref o] M r0 M0 := by
  refine mo_body (Qc := fun A => va_Qi (fun (r' : Int32) (M2 : MS) => r' = r0 ∧ M2 = M0) (gw_E G ai (md_W ai o ar) A) A) (by decide) (Nat.le_of_ble_eq_true rfl) ?_
  intro p e s m args below meth c A ls hC hr hI hl _
  have hx := hC.1
  have hb := hC.2.1
  have hl : lv_has ls 3 [(0, .ref o)] := hl
  show W p l e _ s m args below meth c s.heap [] 0 0 (md_Q below G ai o ar A args s r0 M0) (F0 m 0 ls [])
  rw [f_script] at hF
  refine lv_aload_n hx hb dX9_script_0 rfl (lv_at hl 0 rfl) ?_
  obtain ⟨r1, M2, hz3, hF⟩ := ob_some hF
  refine k_begins hC hI hz3 (Nat.le_of_ble_eq_true rfl) (Nat.le_of_ble_eq_true rfl) hl.1 (Nat.le_of_ble_eq_true rfl) dX9_script_1 (fun H locs hI => ?_)
  refine lv_aload_n hx hb dX9_script_4 rfl (lv_at hl 0 rfl) ?_
  refine lv_iconst (v := 0) hx hb dX9_script_5 (by decide) ?_
  obtain ⟨M4, hM4, hF⟩ := lt_some hF
  refine md_p21 hC hI (by decide) hM4 dX9_script_6 (fun H locs hI => ?_)
  refine lv_aload_n hx hb dX9_script_9 rfl (lv_at hl 0 rfl) ?_
  obtain ⟨r5, M6, hz7, hF⟩ := ob_some hF
  refine k_orders hC hI hz7 (Nat.le_of_ble_eq_true rfl) (Nat.le_of_ble_eq_true rfl) hl.1 (Nat.le_of_ble_eq_true rfl) dX9_script_10 (fun H locs hI => ?_)
  refine mo_ist (lv' := [(1, .int r5), (0, .ref o)]) hx hb rfl dX9_script_13 rfl hl (by decide) rfl (fun ls hl => ?_)
  refine lv_aload_n hx hb dX9_script_14 rfl (lv_at hl 1 rfl) ?_
  refine md_g20 hC hI dX9_script_15 ?_
  refine lv_if_eq (tgt := 37) hx hb dX9_script_18 (by decide) (fun c8 => ?_) (fun c8 => ?_)
  · have hF := if_t hF c8
    refine lv_aload_n hx hb dX9_script_37 rfl (lv_at hl 1 rfl) ?_
    refine lv_iconst (v := 1) hx hb dX9_script_38 (by decide) ?_
    obtain ⟨M9, hM9, hF⟩ := lt_some hF
    refine md_p21 hC hI (by decide) hM9 dX9_script_39 (fun H locs hI => ?_)
    refine lv_aload_n hx hb dX9_script_42 rfl (lv_at hl 1 rfl) ?_
    obtain ⟨r10, M11, hz12, hF⟩ := ob_some hF
    refine k_orders hC hI hz12 (Nat.le_of_ble_eq_true rfl) (Nat.le_of_ble_eq_true rfl) hl.1 (Nat.le_of_ble_eq_true rfl) dX9_script_43 (fun H locs hI => ?_)
    refine mo_ist (lv' := [(1, .int r10), (0, .ref o)]) hx hb rfl dX9_script_46 rfl hl (by decide) rfl (fun ls hl => ?_)
    refine lv_aload_n hx hb dX9_script_47 rfl (lv_at hl 1 rfl) ?_
    refine lv_iconst (v := 0) hx hb dX9_script_48 (by decide) ?_
    obtain ⟨M13, hM13, hF⟩ := lt_some hF
    refine md_p17 hC hI hM13 dX9_script_49 (fun H locs hI => ?_)
    refine lv_aload_n hx hb dX9_script_52 rfl (lv_at hl 1 rfl) ?_
    refine md_g0 hC hI dX9_script_53 ?_
    obtain ⟨j146_14, hj146_14, hF⟩ := lj_some hF
    have J146 : ∀ (M14 : MS) (H : Heap) (locs : List Loc) (ls : Array Slot), j146_14 M14 = some (r0, M0) → mo_I G A s.heap (md_W ai o ar M14) H locs → lv_has ls 3 [(1, .int r10), (0, .ref o)] → W p l e ({ frames := 8, cells := 0, slots := 0, locals := 186 } : Room) s m args below meth c H locs 0 0 (md_Q below G ai o ar A args s r0 M0) (F0 m 146 ls []) := by
      intro M14 H locs ls hF hI hl
      rw [hj146_14] at hF
      refine lv_aload_n hx hb dX9_script_146 rfl (lv_at hl 1 rfl) ?_
      refine lv_iload_n hx hb dX9_script_147 rfl (lv_at hl 0 rfl) ?_
      obtain ⟨r16, M17, hz18, hF⟩ := ob_some hF
      refine k_ends hC hI hz18 (Nat.le_of_ble_eq_true rfl) (Nat.le_of_ble_eq_true rfl) hl.1 (Nat.le_of_ble_eq_true rfl) dX9_script_148 (fun H locs hI => ?_)
      exact md_iret hC hI hr hF dX9_script_151
    refine lv_if_eq (tgt := 146) hx hb dX9_script_56 (by decide) (fun c19 => ?_) (fun c19 => ?_)
    · have hF := if_t hF c19
      exact J146 _ _ _ _ hF hI (lv_sub hl [0, 1] rfl)
    · have hF := if_f hF c19
      refine lv_aload_n hx hb dX9_script_59 rfl (lv_at hl 1 rfl) ?_
      refine lv_aload_n hx hb dX9_script_60 rfl (lv_at hl 1 rfl) ?_
      refine md_g0 hC hI dX9_script_61 ?_
      refine lv_bipush (v := (-3)) hx hb dX9_script_64 (by decide) ?_
      obtain ⟨j77_22, hj77_22, hF⟩ := lj_some hF
      have J77 : ∀ (M20 : MS) (t22 : Int32) (H : Heap) (locs : List Loc) (ls : Array Slot), j77_22 M20 t22 = some (r0, M0) → mo_I G A s.heap (md_W ai o ar M20) H locs → lv_has ls 3 [(1, .int r10), (0, .ref o)] → W p l e ({ frames := 8, cells := 0, slots := 0, locals := 186 } : Room) s m args below meth c H locs 0 0 (md_Q below G ai o ar A args s r0 M0) (F0 m 77 ls [.int t22, .ref o]) := by
        intro M20 t22 H locs ls hF hI hl
        rw [hj77_22] at hF
        obtain ⟨M24, hM24, hF⟩ := lt_some hF
        refine md_p2 hC hI hM24 dX9_script_77 (fun H locs hI => ?_)
        refine lv_iconst (v := 2) hx hb dX9_script_80 (by decide) ?_
        refine lv_aload_n hx hb dX9_script_81 rfl (lv_at hl 1 rfl) ?_
        refine md_g2 hC hI dX9_script_82 ?_
        refine lv_imul hx hb dX9_script_85 ?_
        refine lv_iconst (v := 1) hx hb dX9_script_86 (by decide) ?_
        refine lv_isub hx hb dX9_script_87 ?_
        obtain ⟨x2_25, hx2_25, hF⟩ := lt_some hF
        refine mo_ist (lv' := [(2, .int x2_25), (1, .int r10), (0, .ref o)]) hx hb hx2_25 dX9_script_88 rfl hl (by decide) rfl (fun ls hl => ?_)
        refine w_script_L89 hC hr r10 _ (fun M31 H locs ls hF hI hl => ?_) 2000 _ _ _ _ _ hF hI (lv_sub hl [0, 1, 2] rfl)
        refine lv_aload_n hx hb dX9_script_113 rfl (lv_at hl 1 rfl) ?_
        refine md_g11 hC hI dX9_script_114 ?_
        refine lv_iconst (v := 0) hx hb dX9_script_117 (by decide) ?_
        refine lv_bipush (v := 12) hx hb dX9_script_118 (by decide) ?_
        obtain ⟨M32, hM32, hF⟩ := lt_some hF
        refine md_s6 hC hI (by decide) hM32 dX9_script_120 (fun H locs hI => ?_)
        refine lv_aload_n hx hb dX9_script_121 rfl (lv_at hl 1 rfl) ?_
        refine md_g11 hC hI dX9_script_122 ?_
        refine lv_iconst (v := 1) hx hb dX9_script_125 (by decide) ?_
        refine lv_iload_n hx hb dX9_script_126 rfl (lv_at hl 0 rfl) ?_
        refine lv_iconst (v := 1) hx hb dX9_script_127 (by decide) ?_
        refine lv_isub hx hb dX9_script_128 ?_
        obtain ⟨M33, hM33, hF⟩ := lt_some hF
        refine md_s6 hC hI (by decide) hM33 dX9_script_129 (fun H locs hI => ?_)
        refine lv_aload_n hx hb dX9_script_130 rfl (lv_at hl 1 rfl) ?_
        refine lv_dup hx hb dX9_script_131 rfl ?_
        refine md_g2 hC hI dX9_script_132 ?_
        refine lv_iconst (v := 1) hx hb dX9_script_135 (by decide) ?_
        refine lv_iadd hx hb dX9_script_136 ?_
        obtain ⟨M34, hM34, hF⟩ := lt_some hF
        refine md_p2 hC hI hM34 dX9_script_137 (fun H locs hI => ?_)
        refine lv_aload_n hx hb dX9_script_140 rfl (lv_at hl 1 rfl) ?_
        refine lv_bipush (v := (-3)) hx hb dX9_script_141 (by decide) ?_
        obtain ⟨M35, hM35, hF⟩ := lt_some hF
        refine md_p0 hC hI hM35 dX9_script_143 (fun H locs hI => ?_)
        exact J146 _ _ _ _ hF hI (lv_sub hl [0, 1] rfl)
      refine lv_icmp_ne (tgt := 76) hx hb dX9_script_66 (by decide) (fun c36 => ?_) (fun c36 => ?_)
      · have hF := if_f hF c36
        refine lv_iconst (v := 0) hx hb dX9_script_76 (by decide) ?_
        exact J77 _ _ _ _ _ hF hI (lv_sub hl [0, 1] rfl)
      · have hF := if_t hF c36
        refine lv_aload_n hx hb dX9_script_69 rfl (lv_at hl 1 rfl) ?_
        refine md_g2 hC hI dX9_script_70 ?_
        refine lv_goto (tgt := 77) hx hb dX9_script_73 (by decide) ?_
        exact J77 _ _ _ _ _ hF hI (lv_sub hl [0, 1] rfl)
  · have hF := if_f hF c8
    refine lv_aload_n hx hb dX9_script_21 rfl (lv_at hl 1 rfl) ?_
    refine lv_aload_n hx hb dX9_script_22 rfl (lv_at hl 1 rfl) ?_
    refine md_g19 hC hI dX9_script_23 ?_
    obtain ⟨M37, hM37, hF⟩ := lt_some hF
    refine md_p4 hC hI hM37 dX9_script_26 (fun H locs hI => ?_)
    refine lv_aload_n hx hb dX9_script_29 rfl (lv_at hl 1 rfl) ?_
    refine lv_iconst (v := 0) hx hb dX9_script_30 (by decide) ?_
    obtain ⟨M38, hM38, hF⟩ := lt_some hF
    refine md_p17 hC hI hM38 dX9_script_31 (fun H locs hI => ?_)
    refine lv_bipush (v := (-2)) hx hb dX9_script_34 (by decide) ?_
    exact md_iret hC hI hr hF dX9_script_36
def f_fault (M : MS) : Option (Int32 × MS) := if (M 0 4) = (-1) then (some ((-4), M)) else (some ((M 0 4), M))
set_option maxHeartbeats 4000000 in
theorem w_fault (l : Launch) (G : va_G) (ai : Nat → ClassId) (o : Nat) (ar : Nat → Nat) (M : MS) (r0 : Int32) (M0 : MS) (hF : f_fault M = some (r0, M0)) : md_M l G ai o ar yX9_fault cX9_fault 1 (some .int) ({ frames := 0, cells := 0, slots := 0, locals := 0 } : Room) [.ref o] M r0 M0 := by
  refine mo_body (Qc := fun A => va_Qi (fun (r' : Int32) (M2 : MS) => r' = r0 ∧ M2 = M0) (gw_E G ai (md_W ai o ar) A) A) (by decide) (Nat.le_of_ble_eq_true rfl) ?_
  intro p e s m args below meth c A ls hC hr hI hl _
  have hx := hC.1
  have hb := hC.2.1
  have hl : lv_has ls 1 [(0, .ref o)] := hl
  show W p l e _ s m args below meth c s.heap [] 0 0 (md_Q below G ai o ar A args s r0 M0) (F0 m 0 ls [])
  rw [f_fault] at hF
  refine lv_aload_n hx hb dX9_fault_0 rfl (lv_at hl 0 rfl) ?_
  refine md_g4 hC hI dX9_fault_1 ?_
  refine lv_iconst (v := (-1)) hx hb dX9_fault_4 (by decide) ?_
  refine lv_icmp_ne (tgt := 13) hx hb dX9_fault_5 (by decide) (fun c1 => ?_) (fun c1 => ?_)
  · have hF := if_f hF c1
    refine lv_aload_n hx hb dX9_fault_13 rfl (lv_at hl 0 rfl) ?_
    refine md_g4 hC hI dX9_fault_14 ?_
    exact md_iret hC hI hr hF dX9_fault_17
  · have hF := if_t hF c1
    refine lv_bipush (v := (-4)) hx hb dX9_fault_8 (by decide) ?_
    refine lv_goto (tgt := 17) hx hb dX9_fault_10 (by decide) ?_
    exact md_iret hC hI hr hF dX9_fault_17
def f_reason (M : MS) (a1 : Int32) (a2 : Int32) : Option (Int32 × MS) := if 0 ≤ a1 then (if a1 < (M 0 3) then (if a2 = 0 then (gd (gi (2 * a1) 6) (some ((M 7 (2 * a1).toNatClampNeg), M))) else (gd (gi ((2 * a1) + 1) 6) (some ((M 7 ((2 * a1) + 1).toNatClampNeg), M)))) else (some ((-4), M))) else (some ((-2), M))
set_option maxHeartbeats 4000000 in
theorem w_reason (l : Launch) (G : va_G) (ai : Nat → ClassId) (o : Nat) (ar : Nat → Nat) (M : MS) (a1 : Int32) (a2 : Int32) (r0 : Int32) (M0 : MS) (hF : f_reason M a1 a2 = some (r0, M0)) : md_M l G ai o ar yX9_reason cX9_reason 3 (some .int) ({ frames := 0, cells := 0, slots := 0, locals := 0 } : Room) [.ref o, .int a1, .int a2] M r0 M0 := by
  refine mo_body (Qc := fun A => va_Qi (fun (r' : Int32) (M2 : MS) => r' = r0 ∧ M2 = M0) (gw_E G ai (md_W ai o ar) A) A) (by decide) (Nat.le_of_ble_eq_true rfl) ?_
  intro p e s m args below meth c A ls hC hr hI hl _
  have hx := hC.1
  have hb := hC.2.1
  have hl : lv_has ls 3 [(0, .ref o), (1, .int a1), (2, .int a2)] := hl
  show W p l e _ s m args below meth c s.heap [] 0 0 (md_Q below G ai o ar A args s r0 M0) (F0 m 0 ls [])
  rw [f_reason] at hF
  refine lv_iload_n hx hb dX9_reason_0 rfl (lv_at hl 1 rfl) ?_
  refine lv_if_ge (tgt := 7) hx hb dX9_reason_1 (by decide) (fun c1 => ?_) (fun c1 => ?_)
  · have hF := if_t hF c1
    refine lv_iload_n hx hb dX9_reason_7 rfl (lv_at hl 1 rfl) ?_
    refine lv_aload_n hx hb dX9_reason_8 rfl (lv_at hl 0 rfl) ?_
    refine md_g3 hC hI dX9_reason_9 ?_
    refine lv_icmp_lt (tgt := 20) hx hb dX9_reason_12 (by decide) (fun c2 => ?_) (fun c2 => ?_)
    · have hF := if_t hF c2
      refine lv_iload_n hx hb dX9_reason_20 rfl (lv_at hl 2 rfl) ?_
      refine lv_if_eq (tgt := 37) hx hb dX9_reason_21 (by decide) (fun c3 => ?_) (fun c3 => ?_)
      · have hF := if_t hF c3
        refine lv_aload_n hx hb dX9_reason_37 rfl (lv_at hl 0 rfl) ?_
        refine md_g12 hC hI dX9_reason_38 ?_
        refine lv_iconst (v := 2) hx hb dX9_reason_41 (by decide) ?_
        refine lv_iload_n hx hb dX9_reason_42 rfl (lv_at hl 1 rfl) ?_
        refine lv_imul hx hb dX9_reason_43 ?_
        obtain ⟨hg4, hF⟩ := gd_some hF
        refine md_l7 hC hI hg4 dX9_reason_44 ?_
        exact md_iret hC hI hr hF dX9_reason_45
      · have hF := if_f hF c3
        refine lv_aload_n hx hb dX9_reason_24 rfl (lv_at hl 0 rfl) ?_
        refine md_g12 hC hI dX9_reason_25 ?_
        refine lv_iconst (v := 2) hx hb dX9_reason_28 (by decide) ?_
        refine lv_iload_n hx hb dX9_reason_29 rfl (lv_at hl 1 rfl) ?_
        refine lv_imul hx hb dX9_reason_30 ?_
        refine lv_iconst (v := 1) hx hb dX9_reason_31 (by decide) ?_
        refine lv_iadd hx hb dX9_reason_32 ?_
        obtain ⟨hg5, hF⟩ := gd_some hF
        refine md_l7 hC hI hg5 dX9_reason_33 ?_
        refine lv_goto (tgt := 45) hx hb dX9_reason_34 (by decide) ?_
        exact md_iret hC hI hr hF dX9_reason_45
    · have hF := if_f hF c2
      refine lv_bipush (v := (-4)) hx hb dX9_reason_15 (by decide) ?_
      refine lv_goto (tgt := 45) hx hb dX9_reason_17 (by decide) ?_
      exact md_iret hC hI hr hF dX9_reason_45
  · have hF := if_f hF c1
    refine lv_bipush (v := (-2)) hx hb dX9_reason_4 (by decide) ?_
    exact md_iret hC hI hr hF dX9_reason_6
def f_squareOf (M : MS) (a1 : Int32) (a2 : Int32) : Option (Int32 × MS) := if (p_isSquare a1) = 0 then (some ((-1), M)) else (if a2 = 0 then (gd (gi (12 + a1) 216) (some ((M 1 (12 + a1).toNatClampNeg), M))) else if a2 = 1 then (gd (gi (42 + a1) 216) (some ((M 1 (42 + a1).toNatClampNeg), M))) else if a2 = 2 then (gd (gi (72 + a1) 216) (some ((M 1 (72 + a1).toNatClampNeg), M))) else if a2 = 3 then (gd (gi (102 + a1) 216) (some ((M 1 (102 + a1).toNatClampNeg), M))) else if a2 = 4 then (ob (f_mayTread M a1) (fun r11 M12 => if r11 = 0 then (some (0, M12)) else (some (1, M12)))) else if a2 = 5 then (gd (gi (132 + a1) 216) (some ((M 1 (132 + a1).toNatClampNeg), M))) else if a2 = 6 then (ob (f_gardenersOn M a1) (fun r18 M19 => some (r18, M19))) else if a2 = 7 then (ob (f_molesOn M a1) (fun r22 M23 => some (r22, M23))) else (some ((-2), M)))
set_option maxHeartbeats 4000000 in
theorem w_squareOf (l : Launch) (G : va_G) (ai : Nat → ClassId) (o : Nat) (ar : Nat → Nat) (M : MS) (a1 : Int32) (a2 : Int32) (r0 : Int32) (M0 : MS) (hF : f_squareOf M a1 a2 = some (r0, M0)) : md_M l G ai o ar yX9_squareOf cX9_squareOf 3 (some .int) ({ frames := 2, cells := 0, slots := 0, locals := 44 } : Room) [.ref o, .int a1, .int a2] M r0 M0 := by
  refine mo_body (Qc := fun A => va_Qi (fun (r' : Int32) (M2 : MS) => r' = r0 ∧ M2 = M0) (gw_E G ai (md_W ai o ar) A) A) (by decide) (Nat.le_of_ble_eq_true rfl) ?_
  intro p e s m args below meth c A ls hC hr hI hl _
  have hx := hC.1
  have hb := hC.2.1
  have hl : lv_has ls 3 [(0, .ref o), (1, .int a1), (2, .int a2)] := hl
  show W p l e _ s m args below meth c s.heap [] 0 0 (md_Q below G ai o ar A args s r0 M0) (F0 m 0 ls [])
  rw [f_squareOf] at hF
  refine lv_iload_n hx hb dX9_squareOf_0 rfl (lv_at hl 1 rfl) ?_
  refine k_isSquare (mo_CN hC) (Nat.le_of_ble_eq_true rfl) (Nat.le_of_ble_eq_true rfl) hl.1 (Nat.le_of_ble_eq_true rfl) dX9_squareOf_1 ?_
  refine lv_if_ne (tgt := 9) hx hb dX9_squareOf_4 (by decide) (fun c1 => ?_) (fun c1 => ?_)
  · have hF := if_f hF c1
    refine lv_iload_n hx hb dX9_squareOf_9 rfl (lv_at hl 2 rfl) ?_
    by_cases c2 : a2 = 0
    · have hF := if_t hF c2
      refine lv_tableIn (tgt := 56) (off := 46) hx hb dX9_squareOf_10 (by rw [c2]; decide) (by rw [c2]; decide) (by rw [c2]; rfl) (by decide) ?_
      refine lv_aload_n hx hb dX9_squareOf_56 rfl (lv_at hl 0 rfl) ?_
      refine md_g6 hC hI dX9_squareOf_57 ?_
      refine lv_bipush (v := 12) hx hb dX9_squareOf_60 (by decide) ?_
      refine lv_iload_n hx hb dX9_squareOf_62 rfl (lv_at hl 1 rfl) ?_
      refine lv_iadd hx hb dX9_squareOf_63 ?_
      obtain ⟨hg3, hF⟩ := gd_some hF
      refine md_l1 hC hI hg3 dX9_squareOf_64 ?_
      exact md_iret hC hI hr hF dX9_squareOf_65
    have hF := if_f hF c2
    by_cases c4 : a2 = 1
    · have hF := if_t hF c4
      refine lv_tableIn (tgt := 66) (off := 56) hx hb dX9_squareOf_10 (by rw [c4]; decide) (by rw [c4]; decide) (by rw [c4]; rfl) (by decide) ?_
      refine lv_aload_n hx hb dX9_squareOf_66 rfl (lv_at hl 0 rfl) ?_
      refine md_g6 hC hI dX9_squareOf_67 ?_
      refine lv_bipush (v := 42) hx hb dX9_squareOf_70 (by decide) ?_
      refine lv_iload_n hx hb dX9_squareOf_72 rfl (lv_at hl 1 rfl) ?_
      refine lv_iadd hx hb dX9_squareOf_73 ?_
      obtain ⟨hg5, hF⟩ := gd_some hF
      refine md_l1 hC hI hg5 dX9_squareOf_74 ?_
      exact md_iret hC hI hr hF dX9_squareOf_75
    have hF := if_f hF c4
    by_cases c6 : a2 = 2
    · have hF := if_t hF c6
      refine lv_tableIn (tgt := 76) (off := 66) hx hb dX9_squareOf_10 (by rw [c6]; decide) (by rw [c6]; decide) (by rw [c6]; rfl) (by decide) ?_
      refine lv_aload_n hx hb dX9_squareOf_76 rfl (lv_at hl 0 rfl) ?_
      refine md_g6 hC hI dX9_squareOf_77 ?_
      refine lv_bipush (v := 72) hx hb dX9_squareOf_80 (by decide) ?_
      refine lv_iload_n hx hb dX9_squareOf_82 rfl (lv_at hl 1 rfl) ?_
      refine lv_iadd hx hb dX9_squareOf_83 ?_
      obtain ⟨hg7, hF⟩ := gd_some hF
      refine md_l1 hC hI hg7 dX9_squareOf_84 ?_
      exact md_iret hC hI hr hF dX9_squareOf_85
    have hF := if_f hF c6
    by_cases c8 : a2 = 3
    · have hF := if_t hF c8
      refine lv_tableIn (tgt := 86) (off := 76) hx hb dX9_squareOf_10 (by rw [c8]; decide) (by rw [c8]; decide) (by rw [c8]; rfl) (by decide) ?_
      refine lv_aload_n hx hb dX9_squareOf_86 rfl (lv_at hl 0 rfl) ?_
      refine md_g6 hC hI dX9_squareOf_87 ?_
      refine lv_bipush (v := 102) hx hb dX9_squareOf_90 (by decide) ?_
      refine lv_iload_n hx hb dX9_squareOf_92 rfl (lv_at hl 1 rfl) ?_
      refine lv_iadd hx hb dX9_squareOf_93 ?_
      obtain ⟨hg9, hF⟩ := gd_some hF
      refine md_l1 hC hI hg9 dX9_squareOf_94 ?_
      exact md_iret hC hI hr hF dX9_squareOf_95
    have hF := if_f hF c8
    by_cases c10 : a2 = 4
    · have hF := if_t hF c10
      refine lv_tableIn (tgt := 96) (off := 86) hx hb dX9_squareOf_10 (by rw [c10]; decide) (by rw [c10]; decide) (by rw [c10]; rfl) (by decide) ?_
      refine lv_aload_n hx hb dX9_squareOf_96 rfl (lv_at hl 0 rfl) ?_
      refine lv_iload_n hx hb dX9_squareOf_97 rfl (lv_at hl 1 rfl) ?_
      obtain ⟨r11, M12, hz13, hF⟩ := ob_some hF
      refine k_mayTread hC hI hz13 (Nat.le_of_ble_eq_true rfl) (Nat.le_of_ble_eq_true rfl) hl.1 (Nat.le_of_ble_eq_true rfl) dX9_squareOf_98 (fun H locs hI => ?_)
      refine lv_if_eq (tgt := 108) hx hb dX9_squareOf_101 (by decide) (fun c14 => ?_) (fun c14 => ?_)
      · have hF := if_t hF c14
        refine lv_iconst (v := 0) hx hb dX9_squareOf_108 (by decide) ?_
        exact md_iret hC hI hr hF dX9_squareOf_109
      · have hF := if_f hF c14
        refine lv_iconst (v := 1) hx hb dX9_squareOf_104 (by decide) ?_
        refine lv_goto (tgt := 109) hx hb dX9_squareOf_105 (by decide) ?_
        exact md_iret hC hI hr hF dX9_squareOf_109
    have hF := if_f hF c10
    by_cases c15 : a2 = 5
    · have hF := if_t hF c15
      refine lv_tableIn (tgt := 110) (off := 100) hx hb dX9_squareOf_10 (by rw [c15]; decide) (by rw [c15]; decide) (by rw [c15]; rfl) (by decide) ?_
      refine lv_aload_n hx hb dX9_squareOf_110 rfl (lv_at hl 0 rfl) ?_
      refine md_g6 hC hI dX9_squareOf_111 ?_
      refine lv_sipush (v := 132) hx hb dX9_squareOf_114 (by decide) ?_
      refine lv_iload_n hx hb dX9_squareOf_117 rfl (lv_at hl 1 rfl) ?_
      refine lv_iadd hx hb dX9_squareOf_118 ?_
      obtain ⟨hg16, hF⟩ := gd_some hF
      refine md_l1 hC hI hg16 dX9_squareOf_119 ?_
      exact md_iret hC hI hr hF dX9_squareOf_120
    have hF := if_f hF c15
    by_cases c17 : a2 = 6
    · have hF := if_t hF c17
      refine lv_tableIn (tgt := 121) (off := 111) hx hb dX9_squareOf_10 (by rw [c17]; decide) (by rw [c17]; decide) (by rw [c17]; rfl) (by decide) ?_
      refine lv_aload_n hx hb dX9_squareOf_121 rfl (lv_at hl 0 rfl) ?_
      refine lv_iload_n hx hb dX9_squareOf_122 rfl (lv_at hl 1 rfl) ?_
      obtain ⟨r18, M19, hz20, hF⟩ := ob_some hF
      refine k_gardenersOn hC hI hz20 (Nat.le_of_ble_eq_true rfl) (Nat.le_of_ble_eq_true rfl) hl.1 (Nat.le_of_ble_eq_true rfl) dX9_squareOf_123 (fun H locs hI => ?_)
      exact md_iret hC hI hr hF dX9_squareOf_126
    have hF := if_f hF c17
    by_cases c21 : a2 = 7
    · have hF := if_t hF c21
      refine lv_tableIn (tgt := 127) (off := 117) hx hb dX9_squareOf_10 (by rw [c21]; decide) (by rw [c21]; decide) (by rw [c21]; rfl) (by decide) ?_
      refine lv_aload_n hx hb dX9_squareOf_127 rfl (lv_at hl 0 rfl) ?_
      refine lv_iload_n hx hb dX9_squareOf_128 rfl (lv_at hl 1 rfl) ?_
      obtain ⟨r22, M23, hz24, hF⟩ := ob_some hF
      refine k_molesOn hC hI hz24 (Nat.le_of_ble_eq_true rfl) (Nat.le_of_ble_eq_true rfl) hl.1 (Nat.le_of_ble_eq_true rfl) dX9_squareOf_129 (fun H locs hI => ?_)
      exact md_iret hC hI hr hF dX9_squareOf_132
    have hF := if_f hF c21
    refine lv_tableOut (tgt := 133) hx hb dX9_squareOf_10 (sw_out 0 8 (by decide) (by decide) (fun k hk => ?_)) (by decide) ?_
    · match k, hk with
      | 0, _ => exact fun h => c2 (h.trans (by decide))
      | 1, _ => exact fun h => c4 (h.trans (by decide))
      | 2, _ => exact fun h => c6 (h.trans (by decide))
      | 3, _ => exact fun h => c8 (h.trans (by decide))
      | 4, _ => exact fun h => c10 (h.trans (by decide))
      | 5, _ => exact fun h => c15 (h.trans (by decide))
      | 6, _ => exact fun h => c17 (h.trans (by decide))
      | 7, _ => exact fun h => c21 (h.trans (by decide))
      | k + 8, hk => exact absurd hk (by omega)
    refine lv_bipush (v := (-2)) hx hb dX9_squareOf_133 (by decide) ?_
    exact md_iret hC hI hr hF dX9_squareOf_135
  · have hF := if_t hF c1
    refine lv_iconst (v := (-1)) hx hb dX9_squareOf_7 (by decide) ?_
    exact md_iret hC hI hr hF dX9_squareOf_8
def f_gardenerOf (M : MS) (a1 : Int32) (a2 : Int32) : Option (Int32 × MS) := ob (f_isGardener M a1) (fun r1 M2 => if r1 = 0 then (some ((-1), M2)) else (if (p_isIn a2 0 4) = 0 then (some ((-2), M2)) else (gd (gi (p_gardAt a1 a2) 216) (some ((M2 1 (p_gardAt a1 a2).toNatClampNeg), M2)))))
set_option maxHeartbeats 4000000 in
theorem w_gardenerOf (l : Launch) (G : va_G) (ai : Nat → ClassId) (o : Nat) (ar : Nat → Nat) (M : MS) (a1 : Int32) (a2 : Int32) (r0 : Int32) (M0 : MS) (hF : f_gardenerOf M a1 a2 = some (r0, M0)) : md_M l G ai o ar yX9_gardenerOf cX9_gardenerOf 3 (some .int) ({ frames := 2, cells := 0, slots := 0, locals := 43 } : Room) [.ref o, .int a1, .int a2] M r0 M0 := by
  refine mo_body (Qc := fun A => va_Qi (fun (r' : Int32) (M2 : MS) => r' = r0 ∧ M2 = M0) (gw_E G ai (md_W ai o ar) A) A) (by decide) (Nat.le_of_ble_eq_true rfl) ?_
  intro p e s m args below meth c A ls hC hr hI hl _
  have hx := hC.1
  have hb := hC.2.1
  have hl : lv_has ls 3 [(0, .ref o), (1, .int a1), (2, .int a2)] := hl
  show W p l e _ s m args below meth c s.heap [] 0 0 (md_Q below G ai o ar A args s r0 M0) (F0 m 0 ls [])
  rw [f_gardenerOf] at hF
  refine lv_aload_n hx hb dX9_gardenerOf_0 rfl (lv_at hl 0 rfl) ?_
  refine lv_iload_n hx hb dX9_gardenerOf_1 rfl (lv_at hl 1 rfl) ?_
  obtain ⟨r1, M2, hz3, hF⟩ := ob_some hF
  refine k_isGardener hC hI hz3 (Nat.le_of_ble_eq_true rfl) (Nat.le_of_ble_eq_true rfl) hl.1 (Nat.le_of_ble_eq_true rfl) dX9_gardenerOf_2 (fun H locs hI => ?_)
  refine lv_if_ne (tgt := 10) hx hb dX9_gardenerOf_5 (by decide) (fun c4 => ?_) (fun c4 => ?_)
  · have hF := if_f hF c4
    refine lv_iload_n hx hb dX9_gardenerOf_10 rfl (lv_at hl 2 rfl) ?_
    refine lv_iconst (v := 0) hx hb dX9_gardenerOf_11 (by decide) ?_
    refine lv_iconst (v := 4) hx hb dX9_gardenerOf_12 (by decide) ?_
    refine k_isIn (mo_CN hC) (Nat.le_of_ble_eq_true rfl) (Nat.le_of_ble_eq_true rfl) hl.1 (Nat.le_of_ble_eq_true rfl) dX9_gardenerOf_13 ?_
    refine lv_if_eq (tgt := 32) hx hb dX9_gardenerOf_16 (by decide) (fun c5 => ?_) (fun c5 => ?_)
    · have hF := if_t hF c5
      refine lv_bipush (v := (-2)) hx hb dX9_gardenerOf_32 (by decide) ?_
      exact md_iret hC hI hr hF dX9_gardenerOf_34
    · have hF := if_f hF c5
      refine lv_aload_n hx hb dX9_gardenerOf_19 rfl (lv_at hl 0 rfl) ?_
      refine md_g6 hC hI dX9_gardenerOf_20 ?_
      refine lv_iload_n hx hb dX9_gardenerOf_23 rfl (lv_at hl 1 rfl) ?_
      refine lv_iload_n hx hb dX9_gardenerOf_24 rfl (lv_at hl 2 rfl) ?_
      refine k_gardAt (mo_CN hC) (Nat.le_of_ble_eq_true rfl) (Nat.le_of_ble_eq_true rfl) hl.1 (Nat.le_of_ble_eq_true rfl) dX9_gardenerOf_25 ?_
      obtain ⟨hg6, hF⟩ := gd_some hF
      refine md_l1 hC hI hg6 dX9_gardenerOf_28 ?_
      refine lv_goto (tgt := 34) hx hb dX9_gardenerOf_29 (by decide) ?_
      exact md_iret hC hI hr hF dX9_gardenerOf_34
  · have hF := if_t hF c4
    refine lv_iconst (v := (-1)) hx hb dX9_gardenerOf_8 (by decide) ?_
    exact md_iret hC hI hr hF dX9_gardenerOf_9
def f_moleOf (M : MS) (a1 : Int32) (a2 : Int32) : Option (Int32 × MS) := if (p_isIn a1 0 ((M 1 (3 : Int32).toNatClampNeg) - 1)) = 0 then (some ((-1), M)) else (if (p_isIn a2 0 2) = 0 then (some ((-2), M)) else (gd (gi (p_moleAt a1 a2) 216) (some ((M 1 (p_moleAt a1 a2).toNatClampNeg), M))))
set_option maxHeartbeats 4000000 in
theorem w_moleOf (l : Launch) (G : va_G) (ai : Nat → ClassId) (o : Nat) (ar : Nat → Nat) (M : MS) (a1 : Int32) (a2 : Int32) (r0 : Int32) (M0 : MS) (hF : f_moleOf M a1 a2 = some (r0, M0)) : md_M l G ai o ar yX9_moleOf cX9_moleOf 3 (some .int) ({ frames := 1, cells := 0, slots := 0, locals := 22 } : Room) [.ref o, .int a1, .int a2] M r0 M0 := by
  refine mo_body (Qc := fun A => va_Qi (fun (r' : Int32) (M2 : MS) => r' = r0 ∧ M2 = M0) (gw_E G ai (md_W ai o ar) A) A) (by decide) (Nat.le_of_ble_eq_true rfl) ?_
  intro p e s m args below meth c A ls hC hr hI hl _
  have hx := hC.1
  have hb := hC.2.1
  have hl : lv_has ls 3 [(0, .ref o), (1, .int a1), (2, .int a2)] := hl
  show W p l e _ s m args below meth c s.heap [] 0 0 (md_Q below G ai o ar A args s r0 M0) (F0 m 0 ls [])
  rw [f_moleOf] at hF
  refine lv_iload_n hx hb dX9_moleOf_0 rfl (lv_at hl 1 rfl) ?_
  refine lv_iconst (v := 0) hx hb dX9_moleOf_1 (by decide) ?_
  refine lv_aload_n hx hb dX9_moleOf_2 rfl (lv_at hl 0 rfl) ?_
  refine md_g6 hC hI dX9_moleOf_3 ?_
  refine lv_iconst (v := 3) hx hb dX9_moleOf_6 (by decide) ?_
  refine md_l1 hC hI (by decide) dX9_moleOf_7 ?_
  refine lv_iconst (v := 1) hx hb dX9_moleOf_8 (by decide) ?_
  refine lv_isub hx hb dX9_moleOf_9 ?_
  refine k_isIn (mo_CN hC) (Nat.le_of_ble_eq_true rfl) (Nat.le_of_ble_eq_true rfl) hl.1 (Nat.le_of_ble_eq_true rfl) dX9_moleOf_10 ?_
  refine lv_if_ne (tgt := 18) hx hb dX9_moleOf_13 (by decide) (fun c1 => ?_) (fun c1 => ?_)
  · have hF := if_f hF c1
    refine lv_iload_n hx hb dX9_moleOf_18 rfl (lv_at hl 2 rfl) ?_
    refine lv_iconst (v := 0) hx hb dX9_moleOf_19 (by decide) ?_
    refine lv_iconst (v := 2) hx hb dX9_moleOf_20 (by decide) ?_
    refine k_isIn (mo_CN hC) (Nat.le_of_ble_eq_true rfl) (Nat.le_of_ble_eq_true rfl) hl.1 (Nat.le_of_ble_eq_true rfl) dX9_moleOf_21 ?_
    refine lv_if_eq (tgt := 40) hx hb dX9_moleOf_24 (by decide) (fun c2 => ?_) (fun c2 => ?_)
    · have hF := if_t hF c2
      refine lv_bipush (v := (-2)) hx hb dX9_moleOf_40 (by decide) ?_
      exact md_iret hC hI hr hF dX9_moleOf_42
    · have hF := if_f hF c2
      refine lv_aload_n hx hb dX9_moleOf_27 rfl (lv_at hl 0 rfl) ?_
      refine md_g6 hC hI dX9_moleOf_28 ?_
      refine lv_iload_n hx hb dX9_moleOf_31 rfl (lv_at hl 1 rfl) ?_
      refine lv_iload_n hx hb dX9_moleOf_32 rfl (lv_at hl 2 rfl) ?_
      refine k_moleAt (mo_CN hC) (Nat.le_of_ble_eq_true rfl) (Nat.le_of_ble_eq_true rfl) hl.1 (Nat.le_of_ble_eq_true rfl) dX9_moleOf_33 ?_
      obtain ⟨hg3, hF⟩ := gd_some hF
      refine md_l1 hC hI hg3 dX9_moleOf_36 ?_
      refine lv_goto (tgt := 42) hx hb dX9_moleOf_37 (by decide) ?_
      exact md_iret hC hI hr hF dX9_moleOf_42
  · have hF := if_t hF c1
    refine lv_iconst (v := (-1)) hx hb dX9_moleOf_16 (by decide) ?_
    exact md_iret hC hI hr hF dX9_moleOf_17
def f_pairs (M : MS) (a1 : Int32) : Option (Int32 × MS) := if (p_isIn a1 0 4) = 0 then (some ((-1), M)) else (gd (gi (191 + a1) 216) (some ((M 1 (191 + a1).toNatClampNeg), M)))
set_option maxHeartbeats 4000000 in
theorem w_pairs (l : Launch) (G : va_G) (ai : Nat → ClassId) (o : Nat) (ar : Nat → Nat) (M : MS) (a1 : Int32) (r0 : Int32) (M0 : MS) (hF : f_pairs M a1 = some (r0, M0)) : md_M l G ai o ar yX9_pairs cX9_pairs 2 (some .int) ({ frames := 1, cells := 0, slots := 0, locals := 22 } : Room) [.ref o, .int a1] M r0 M0 := by
  refine mo_body (Qc := fun A => va_Qi (fun (r' : Int32) (M2 : MS) => r' = r0 ∧ M2 = M0) (gw_E G ai (md_W ai o ar) A) A) (by decide) (Nat.le_of_ble_eq_true rfl) ?_
  intro p e s m args below meth c A ls hC hr hI hl _
  have hx := hC.1
  have hb := hC.2.1
  have hl : lv_has ls 2 [(0, .ref o), (1, .int a1)] := hl
  show W p l e _ s m args below meth c s.heap [] 0 0 (md_Q below G ai o ar A args s r0 M0) (F0 m 0 ls [])
  rw [f_pairs] at hF
  refine lv_iload_n hx hb dX9_pairs_0 rfl (lv_at hl 1 rfl) ?_
  refine lv_iconst (v := 0) hx hb dX9_pairs_1 (by decide) ?_
  refine lv_iconst (v := 4) hx hb dX9_pairs_2 (by decide) ?_
  refine k_isIn (mo_CN hC) (Nat.le_of_ble_eq_true rfl) (Nat.le_of_ble_eq_true rfl) hl.1 (Nat.le_of_ble_eq_true rfl) dX9_pairs_3 ?_
  refine lv_if_eq (tgt := 22) hx hb dX9_pairs_6 (by decide) (fun c1 => ?_) (fun c1 => ?_)
  · have hF := if_t hF c1
    refine lv_iconst (v := (-1)) hx hb dX9_pairs_22 (by decide) ?_
    exact md_iret hC hI hr hF dX9_pairs_23
  · have hF := if_f hF c1
    refine lv_aload_n hx hb dX9_pairs_9 rfl (lv_at hl 0 rfl) ?_
    refine md_g6 hC hI dX9_pairs_10 ?_
    refine lv_sipush (v := 191) hx hb dX9_pairs_13 (by decide) ?_
    refine lv_iload_n hx hb dX9_pairs_16 rfl (lv_at hl 1 rfl) ?_
    refine lv_iadd hx hb dX9_pairs_17 ?_
    obtain ⟨hg2, hF⟩ := gd_some hF
    refine md_l1 hC hI hg2 dX9_pairs_18 ?_
    refine lv_goto (tgt := 23) hx hb dX9_pairs_19 (by decide) ?_
    exact md_iret hC hI hr hF dX9_pairs_23
def f_steps (M : MS) (a1 : Int32) (a2 : Int32) : Option (Int32 × MS) := if (p_isSquare a1) = 0 then (some ((-1), M)) else (if (p_isSquare a2) = 0 then (some ((-1), M)) else (ob (f_measures M a2) (fun r3 M4 => gd (gi a1 30) (if 0 ≤ (M4 8 a1.toNatClampNeg) then (gd (gi a1 30) (some ((M4 8 a1.toNatClampNeg), M4))) else (some ((-4), M4))))))
set_option maxHeartbeats 4000000 in
theorem w_steps (l : Launch) (G : va_G) (ai : Nat → ClassId) (o : Nat) (ar : Nat → Nat) (M : MS) (a1 : Int32) (a2 : Int32) (r0 : Int32) (M0 : MS) (hF : f_steps M a1 a2 = some (r0, M0)) : md_M l G ai o ar yX9_steps cX9_steps 3 (some .int) ({ frames := 3, cells := 0, slots := 0, locals := 69 } : Room) [.ref o, .int a1, .int a2] M r0 M0 := by
  refine mo_body (Qc := fun A => va_Qi (fun (r' : Int32) (M2 : MS) => r' = r0 ∧ M2 = M0) (gw_E G ai (md_W ai o ar) A) A) (by decide) (Nat.le_of_ble_eq_true rfl) ?_
  intro p e s m args below meth c A ls hC hr hI hl _
  have hx := hC.1
  have hb := hC.2.1
  have hl : lv_has ls 3 [(0, .ref o), (1, .int a1), (2, .int a2)] := hl
  show W p l e _ s m args below meth c s.heap [] 0 0 (md_Q below G ai o ar A args s r0 M0) (F0 m 0 ls [])
  rw [f_steps] at hF
  refine lv_iload_n hx hb dX9_steps_0 rfl (lv_at hl 1 rfl) ?_
  refine k_isSquare (mo_CN hC) (Nat.le_of_ble_eq_true rfl) (Nat.le_of_ble_eq_true rfl) hl.1 (Nat.le_of_ble_eq_true rfl) dX9_steps_1 ?_
  refine lv_if_eq (tgt := 14) hx hb dX9_steps_4 (by decide) (fun c1 => ?_) (fun c1 => ?_)
  · have hF := if_t hF c1
    refine lv_iconst (v := (-1)) hx hb dX9_steps_14 (by decide) ?_
    exact md_iret hC hI hr hF dX9_steps_15
  · have hF := if_f hF c1
    refine lv_iload_n hx hb dX9_steps_7 rfl (lv_at hl 2 rfl) ?_
    refine k_isSquare (mo_CN hC) (Nat.le_of_ble_eq_true rfl) (Nat.le_of_ble_eq_true rfl) hl.1 (Nat.le_of_ble_eq_true rfl) dX9_steps_8 ?_
    refine lv_if_ne (tgt := 16) hx hb dX9_steps_11 (by decide) (fun c2 => ?_) (fun c2 => ?_)
    · have hF := if_f hF c2
      refine lv_aload_n hx hb dX9_steps_16 rfl (lv_at hl 0 rfl) ?_
      refine lv_iload_n hx hb dX9_steps_17 rfl (lv_at hl 2 rfl) ?_
      obtain ⟨r3, M4, hz5, hF⟩ := ob_some hF
      refine k_measures hC hI hz5 (Nat.le_of_ble_eq_true rfl) (Nat.le_of_ble_eq_true rfl) hl.1 (Nat.le_of_ble_eq_true rfl) dX9_steps_18 (fun H locs hI => ?_)
      refine lv_aload_n hx hb dX9_steps_21 rfl (lv_at hl 0 rfl) ?_
      refine md_g13 hC hI dX9_steps_22 ?_
      refine lv_iload_n hx hb dX9_steps_25 rfl (lv_at hl 1 rfl) ?_
      obtain ⟨hg6, hF⟩ := gd_some hF
      refine md_l8 hC hI hg6 dX9_steps_26 ?_
      refine lv_if_ge (tgt := 35) hx hb dX9_steps_27 (by decide) (fun c7 => ?_) (fun c7 => ?_)
      · have hF := if_t hF c7
        refine lv_aload_n hx hb dX9_steps_35 rfl (lv_at hl 0 rfl) ?_
        refine md_g13 hC hI dX9_steps_36 ?_
        refine lv_iload_n hx hb dX9_steps_39 rfl (lv_at hl 1 rfl) ?_
        obtain ⟨hg8, hF⟩ := gd_some hF
        refine md_l8 hC hI hg8 dX9_steps_40 ?_
        exact md_iret hC hI hr hF dX9_steps_41
      · have hF := if_f hF c7
        refine lv_bipush (v := (-4)) hx hb dX9_steps_30 (by decide) ?_
        refine lv_goto (tgt := 41) hx hb dX9_steps_32 (by decide) ?_
        exact md_iret hC hI hr hF dX9_steps_41
    · have hF := if_t hF c2
      refine lv_iconst (v := (-1)) hx hb dX9_steps_14 (by decide) ?_
      exact md_iret hC hI hr hF dX9_steps_15
theorem k_steps {p : Program} {l : Launch} {e : Env} {R : Room} {s : State} {m : MethodId} {args : Array Value} {below : List Frame} {meth : Method} {c : Code} {H : Heap} {locs : List Loc} {cells slots : Nat} {Q : State → Prop} {pc : Nat} {ls : Array Slot} {rest : List Value} {G : va_G} {ai : Nat → ClassId} {A : Nat → Prop} {cc : ByteArray} {nL f L kc ks o : Nat} {ar : Nat → Nat} {M M1 : MS} {r1 : Int32} {a1 : Int32} {a2 : Int32} (hC : mo_C p R s m args meth c G ai A RX9 cc nL f L kc ks) (hI : mo_I G A s.heap (md_W ai o ar M) H locs) (hz : f_steps M a1 a2 = some (r1, M1)) (hf : 3 + 1 ≤ f) (hL : 8 + (3 + 11) + 69 ≤ L) (hsz : ls.size = nL) (hW : (rest.map fun v => v.category).sum ≤ 8) (hdg : decode cc pc = .ok (.invokevirtual 230, 3)) (kk : ∀ (H1 : Heap) (locs1 : List Loc), mo_I G A s.heap (md_W ai o ar M1) H1 locs1 → W p l e R s m args below meth c H1 locs1 cells slots Q (F0 m (pc + 3) ls (.int r1 :: rest))) (hc0 : cells ≤ kc := by first | exact Nat.zero_le _ | assumption) (hs0 : slots ≤ ks := by first | exact Nat.zero_le _ | assumption) : W p l e R s m args below meth c H locs cells slots Q (F0 m pc ls (.int a2 :: .int a1 :: .ref o :: rest)) := by
  have hI : mo_I G A s.heap (md_W ai o ar M ++ []) H locs := by rw [List.append_nil]; exact hI
  refine gw_cVi (As := [.int a1, .int a2]) (mc := 0) (ms := 0) (fs := md_F ar M) hC 2 hI (w_steps l G ai o ar M a1 a2 r1 M1 hz) 0 0 rfl rfl q2353 q2346 q2347 q142 q2348 rfl rfl (by decide +kernel) rfl hf hL hc0 hs0 hsz rfl hW hdg (fun r u H1 locs1 hp hI1 => ?_)
  obtain ⟨rfl, rfl⟩ := hp
  rw [List.append_nil] at hI1
  exact kk H1 locs1 hI1
def f_stepsAgain (M : MS) (a1 : Int32) (a2 : Int32) : Option (Int32 × MS) := ob (f_steps M a1 a2) (fun r1 M2 => some (r1, M2))
set_option maxHeartbeats 4000000 in
theorem w_stepsAgain (l : Launch) (G : va_G) (ai : Nat → ClassId) (o : Nat) (ar : Nat → Nat) (M : MS) (a1 : Int32) (a2 : Int32) (r0 : Int32) (M0 : MS) (hF : f_stepsAgain M a1 a2 = some (r0, M0)) : md_M l G ai o ar yX9_stepsAgain cX9_stepsAgain 3 (some .int) ({ frames := 4, cells := 0, slots := 0, locals := 91 } : Room) [.ref o, .int a1, .int a2] M r0 M0 := by
  refine mo_body (Qc := fun A => va_Qi (fun (r' : Int32) (M2 : MS) => r' = r0 ∧ M2 = M0) (gw_E G ai (md_W ai o ar) A) A) (by decide) (Nat.le_of_ble_eq_true rfl) ?_
  intro p e s m args below meth c A ls hC hr hI hl _
  have hx := hC.1
  have hb := hC.2.1
  have hl : lv_has ls 3 [(0, .ref o), (1, .int a1), (2, .int a2)] := hl
  show W p l e _ s m args below meth c s.heap [] 0 0 (md_Q below G ai o ar A args s r0 M0) (F0 m 0 ls [])
  rw [f_stepsAgain] at hF
  refine lv_aload_n hx hb dX9_stepsAgain_0 rfl (lv_at hl 0 rfl) ?_
  refine lv_iload_n hx hb dX9_stepsAgain_1 rfl (lv_at hl 1 rfl) ?_
  refine lv_iload_n hx hb dX9_stepsAgain_2 rfl (lv_at hl 2 rfl) ?_
  obtain ⟨r1, M2, hz3, hF⟩ := ob_some hF
  refine k_steps hC hI hz3 (Nat.le_of_ble_eq_true rfl) (Nat.le_of_ble_eq_true rfl) hl.1 (Nat.le_of_ble_eq_true rfl) dX9_stepsAgain_3 (fun H locs hI => ?_)
  exact md_iret hC hI hr hF dX9_stepsAgain_6
def f_wayAt_L35 (a3 : Int32) (kont : MS → Int32 → Option (Int32 × MS)) : Nat → MS → Int32 → Int32 → Option (Int32 × MS)
  | 0, _, _, _ => none
  | n + 1, M, x6, x5 => if a3 ≤ x6 then (kont M x5) else (ob (f_next M x5) (fun r7 M8 => lt (x6 + 1) (fun x6_10 => f_wayAt_L35 a3 kont n M8 x6_10 r7)))
def f_wayAt (M : MS) (a1 : Int32) (a2 : Int32) (a3 : Int32) : Option (Int32 × MS) := ob (f_steps M a1 a2) (fun r1 M2 => if 0 ≤ r1 then (if (p_isIn a3 0 r1) = 0 then (some ((-4), M2)) else (f_wayAt_L35 a3 (fun M11 x5_12 => some (x5_12, M11)) 2000 M2 0 a1)) else (some (r1, M2)))
set_option maxHeartbeats 4000000 in
theorem w_wayAt_L35 {p : Program} {l : Launch} {e : Env} {R : Room} {s : State} {m : MethodId} {args : Array Value} {below : List Frame} {meth : Method} {c : Code} {G : va_G} {ai : Nat → ClassId} {A : Nat → Prop} {o : Nat} {ar : Nat → Nat} {r0 : Int32} {M0 : MS} (hC : mo_C p R s m args meth c G ai A RX9 cX9_wayAt 7 4 91 0 0) (hr : meth.sig.returnType = (some .int)) (a3 : Int32) (kont : MS → Int32 → Option (Int32 × MS)) (K : ∀ (M : MS) (x5 : Int32) (H : Heap) (locs : List Loc) (ls : Array Slot), kont M x5 = some (r0, M0) → mo_I G A s.heap (md_W ai o ar M) H locs → lv_has ls 7 [(5, .int x5)] → W p l e R s m args below meth c H locs 0 0 (md_Q below G ai o ar A args s r0 M0) (F0 m 55 ls [])) :
    ∀ (n : Nat) (M : MS) (x6 : Int32) (x5 : Int32) (H : Heap) (locs : List Loc) (ls : Array Slot), f_wayAt_L35 a3 kont n M x6 x5 = some (r0, M0) → mo_I G A s.heap (md_W ai o ar M) H locs → lv_has ls 7 [(6, .int x6), (5, .int x5), (0, .ref o), (3, .int a3)] → W p l e R s m args below meth c H locs 0 0 (md_Q below G ai o ar A args s r0 M0) (F0 m 35 ls []) := by
  have hx := hC.1
  have hb := hC.2.1
  intro n
  induction n with
  | zero =>
    intro M x6 x5 H locs ls hF
    have h0 : (none : Option (Int32 × MS)) = some (r0, M0) := hF
    cases h0
  | succ n ih =>
    intro M x6 x5 H locs ls hF hI hl
    rw [f_wayAt_L35] at hF
    refine lv_iload hx hb dX9_wayAt_35 (lv_at hl 0 rfl) ?_
    refine lv_iload_n hx hb dX9_wayAt_37 rfl (lv_at hl 3 rfl) ?_
    refine lv_icmp_ge (tgt := 55) hx hb dX9_wayAt_38 (by decide) (fun c6 => ?_) (fun c6 => ?_)
    · have hF := if_t hF c6
      exact K _ _ _ _ _ hF hI (lv_sub hl [1] rfl)
    · have hF := if_f hF c6
      refine lv_aload_n hx hb dX9_wayAt_41 rfl (lv_at hl 2 rfl) ?_
      refine lv_iload hx hb dX9_wayAt_42 (lv_at hl 1 rfl) ?_
      obtain ⟨r7, M8, hz9, hF⟩ := ob_some hF
      refine k_next hC hI hz9 (Nat.le_of_ble_eq_true rfl) (Nat.le_of_ble_eq_true rfl) hl.1 (Nat.le_of_ble_eq_true rfl) dX9_wayAt_44 (fun H locs hI => ?_)
      refine mo_ist4 (lv' := [(5, .int r7), (6, .int x6), (0, .ref o), (3, .int a3)]) hx hb rfl dX9_wayAt_47 hl (by decide) rfl (fun ls hl => ?_)
      obtain ⟨x6_10, hx6_10, hF⟩ := lt_some hF
      refine mo_inc (k := 1) (lv' := [(6, .int x6_10), (5, .int r7), (0, .ref o), (3, .int a3)]) hx hb hx6_10 (by decide) dX9_wayAt_49 hl rfl (by decide) rfl (fun ls hl => ?_)
      refine lv_goto (tgt := 35) hx hb dX9_wayAt_52 (by decide) ?_
      exact ih _ _ _ _ _ _ hF hI (lv_sub hl [0, 1, 2, 3] rfl)
set_option maxHeartbeats 4000000 in
theorem w_wayAt (l : Launch) (G : va_G) (ai : Nat → ClassId) (o : Nat) (ar : Nat → Nat) (M : MS) (a1 : Int32) (a2 : Int32) (a3 : Int32) (r0 : Int32) (M0 : MS) (hF : f_wayAt M a1 a2 a3 = some (r0, M0)) : md_M l G ai o ar yX9_wayAt cX9_wayAt 7 (some .int) ({ frames := 4, cells := 0, slots := 0, locals := 91 } : Room) [.ref o, .int a1, .int a2, .int a3] M r0 M0 := by
  refine mo_body (Qc := fun A => va_Qi (fun (r' : Int32) (M2 : MS) => r' = r0 ∧ M2 = M0) (gw_E G ai (md_W ai o ar) A) A) (by decide) (Nat.le_of_ble_eq_true rfl) ?_
  intro p e s m args below meth c A ls hC hr hI hl _
  have hx := hC.1
  have hb := hC.2.1
  have hl : lv_has ls 7 [(0, .ref o), (1, .int a1), (2, .int a2), (3, .int a3)] := hl
  show W p l e _ s m args below meth c s.heap [] 0 0 (md_Q below G ai o ar A args s r0 M0) (F0 m 0 ls [])
  rw [f_wayAt] at hF
  refine lv_aload_n hx hb dX9_wayAt_0 rfl (lv_at hl 0 rfl) ?_
  refine lv_iload_n hx hb dX9_wayAt_1 rfl (lv_at hl 1 rfl) ?_
  refine lv_iload_n hx hb dX9_wayAt_2 rfl (lv_at hl 2 rfl) ?_
  obtain ⟨r1, M2, hz3, hF⟩ := ob_some hF
  refine k_steps hC hI hz3 (Nat.le_of_ble_eq_true rfl) (Nat.le_of_ble_eq_true rfl) hl.1 (Nat.le_of_ble_eq_true rfl) dX9_wayAt_3 (fun H locs hI => ?_)
  refine mo_ist4 (lv' := [(4, .int r1), (0, .ref o), (1, .int a1), (2, .int a2), (3, .int a3)]) hx hb rfl dX9_wayAt_6 hl (by decide) rfl (fun ls hl => ?_)
  refine lv_iload hx hb dX9_wayAt_8 (lv_at hl 0 rfl) ?_
  refine lv_if_ge (tgt := 16) hx hb dX9_wayAt_10 (by decide) (fun c4 => ?_) (fun c4 => ?_)
  · have hF := if_t hF c4
    refine lv_iload_n hx hb dX9_wayAt_16 rfl (lv_at hl 4 rfl) ?_
    refine lv_iconst (v := 0) hx hb dX9_wayAt_17 (by decide) ?_
    refine lv_iload hx hb dX9_wayAt_18 (lv_at hl 0 rfl) ?_
    refine k_isIn (mo_CN hC) (Nat.le_of_ble_eq_true rfl) (Nat.le_of_ble_eq_true rfl) hl.1 (Nat.le_of_ble_eq_true rfl) dX9_wayAt_20 ?_
    refine lv_if_ne (tgt := 29) hx hb dX9_wayAt_23 (by decide) (fun c5 => ?_) (fun c5 => ?_)
    · have hF := if_f hF c5
      refine lv_iload_n hx hb dX9_wayAt_29 rfl (lv_at hl 2 rfl) ?_
      refine mo_ist4 (lv' := [(5, .int a1), (4, .int r1), (0, .ref o), (1, .int a1), (2, .int a2), (3, .int a3)]) hx hb rfl dX9_wayAt_30 hl (by decide) rfl (fun ls hl => ?_)
      refine lv_iconst (v := 0) hx hb dX9_wayAt_32 (by decide) ?_
      refine mo_ist4 (lv' := [(6, .int 0), (5, .int a1), (4, .int r1), (0, .ref o), (1, .int a1), (2, .int a2), (3, .int a3)]) hx hb rfl dX9_wayAt_33 hl (by decide) rfl (fun ls hl => ?_)
      refine w_wayAt_L35 hC hr a3 _ (fun M11 x5_12 H locs ls hF hI hl => ?_) 2000 _ _ _ _ _ _ hF hI (lv_sub hl [0, 1, 3, 6] rfl)
      refine lv_iload hx hb dX9_wayAt_55 (lv_at hl 0 rfl) ?_
      exact md_iret hC hI hr hF dX9_wayAt_57
    · have hF := if_t hF c5
      refine lv_bipush (v := (-4)) hx hb dX9_wayAt_26 (by decide) ?_
      exact md_iret hC hI hr hF dX9_wayAt_28
  · have hF := if_f hF c4
    refine lv_iload hx hb dX9_wayAt_13 (lv_at hl 0 rfl) ?_
    exact md_iret hC hI hr hF dX9_wayAt_15
def f_walked (M : MS) (a1 : Int32) (a2 : Int32) : Option (Int32 × MS) := if (p_isIn a1 0 ((M 1 (11 : Int32).toNatClampNeg) - 1)) = 0 then (some ((-4), M)) else (if (p_isIn a2 0 3) = 0 then (some ((-2), M)) else (gd (gi ((196 + (4 * a1)) + a2) 216) (some ((M 1 ((196 + (4 * a1)) + a2).toNatClampNeg), M))))
set_option maxHeartbeats 4000000 in
theorem w_walked (l : Launch) (G : va_G) (ai : Nat → ClassId) (o : Nat) (ar : Nat → Nat) (M : MS) (a1 : Int32) (a2 : Int32) (r0 : Int32) (M0 : MS) (hF : f_walked M a1 a2 = some (r0, M0)) : md_M l G ai o ar yX9_walked cX9_walked 3 (some .int) ({ frames := 1, cells := 0, slots := 0, locals := 22 } : Room) [.ref o, .int a1, .int a2] M r0 M0 := by
  refine mo_body (Qc := fun A => va_Qi (fun (r' : Int32) (M2 : MS) => r' = r0 ∧ M2 = M0) (gw_E G ai (md_W ai o ar) A) A) (by decide) (Nat.le_of_ble_eq_true rfl) ?_
  intro p e s m args below meth c A ls hC hr hI hl _
  have hx := hC.1
  have hb := hC.2.1
  have hl : lv_has ls 3 [(0, .ref o), (1, .int a1), (2, .int a2)] := hl
  show W p l e _ s m args below meth c s.heap [] 0 0 (md_Q below G ai o ar A args s r0 M0) (F0 m 0 ls [])
  rw [f_walked] at hF
  refine lv_iload_n hx hb dX9_walked_0 rfl (lv_at hl 1 rfl) ?_
  refine lv_iconst (v := 0) hx hb dX9_walked_1 (by decide) ?_
  refine lv_aload_n hx hb dX9_walked_2 rfl (lv_at hl 0 rfl) ?_
  refine md_g6 hC hI dX9_walked_3 ?_
  refine lv_bipush (v := 11) hx hb dX9_walked_6 (by decide) ?_
  refine md_l1 hC hI (by decide) dX9_walked_8 ?_
  refine lv_iconst (v := 1) hx hb dX9_walked_9 (by decide) ?_
  refine lv_isub hx hb dX9_walked_10 ?_
  refine k_isIn (mo_CN hC) (Nat.le_of_ble_eq_true rfl) (Nat.le_of_ble_eq_true rfl) hl.1 (Nat.le_of_ble_eq_true rfl) dX9_walked_11 ?_
  refine lv_if_ne (tgt := 20) hx hb dX9_walked_14 (by decide) (fun c1 => ?_) (fun c1 => ?_)
  · have hF := if_f hF c1
    refine lv_iload_n hx hb dX9_walked_20 rfl (lv_at hl 2 rfl) ?_
    refine lv_iconst (v := 0) hx hb dX9_walked_21 (by decide) ?_
    refine lv_iconst (v := 3) hx hb dX9_walked_22 (by decide) ?_
    refine k_isIn (mo_CN hC) (Nat.le_of_ble_eq_true rfl) (Nat.le_of_ble_eq_true rfl) hl.1 (Nat.le_of_ble_eq_true rfl) dX9_walked_23 ?_
    refine lv_if_eq (tgt := 46) hx hb dX9_walked_26 (by decide) (fun c2 => ?_) (fun c2 => ?_)
    · have hF := if_t hF c2
      refine lv_bipush (v := (-2)) hx hb dX9_walked_46 (by decide) ?_
      exact md_iret hC hI hr hF dX9_walked_48
    · have hF := if_f hF c2
      refine lv_aload_n hx hb dX9_walked_29 rfl (lv_at hl 0 rfl) ?_
      refine md_g6 hC hI dX9_walked_30 ?_
      refine lv_sipush (v := 196) hx hb dX9_walked_33 (by decide) ?_
      refine lv_iconst (v := 4) hx hb dX9_walked_36 (by decide) ?_
      refine lv_iload_n hx hb dX9_walked_37 rfl (lv_at hl 1 rfl) ?_
      refine lv_imul hx hb dX9_walked_38 ?_
      refine lv_iadd hx hb dX9_walked_39 ?_
      refine lv_iload_n hx hb dX9_walked_40 rfl (lv_at hl 2 rfl) ?_
      refine lv_iadd hx hb dX9_walked_41 ?_
      obtain ⟨hg3, hF⟩ := gd_some hF
      refine md_l1 hC hI hg3 dX9_walked_42 ?_
      refine lv_goto (tgt := 48) hx hb dX9_walked_43 (by decide) ?_
      exact md_iret hC hI hr hF dX9_walked_48
  · have hF := if_t hF c1
    refine lv_bipush (v := (-4)) hx hb dX9_walked_17 (by decide) ?_
    exact md_iret hC hI hr hF dX9_walked_19
def f_young_L4 (kont : MS → Int32 → Option (Int32 × MS)) : Nat → MS → Int32 → Int32 → Option (Int32 × MS)
  | 0, _, _, _ => none
  | n + 1, M, x2, x1 => if 30 ≤ x2 then (kont M x1) else (ob (f_mayTread M x2) (fun r2 M3 => lj (fun (M5 : MS) (t7 : Int32) (t8 : Int32) => lt ((t7 ||| t8)) (fun x1_10 => lt (x2 + 1) (fun x2_11 => f_young_L4 kont n M5 x2_11 x1_10))) (fun j26_8 => if r2 = 0 then (j26_8 M3 x1 (1 <<< (x2 &&& 31))) else (j26_8 M3 x1 0))))
def f_young (M : MS) : Option (Int32 × MS) := f_young_L4 (fun M13 x1_14 => some (x1_14, M13)) 2000 M 0 0
set_option maxHeartbeats 4000000 in
theorem w_young_L4 {p : Program} {l : Launch} {e : Env} {R : Room} {s : State} {m : MethodId} {args : Array Value} {below : List Frame} {meth : Method} {c : Code} {G : va_G} {ai : Nat → ClassId} {A : Nat → Prop} {o : Nat} {ar : Nat → Nat} {r0 : Int32} {M0 : MS} (hC : mo_C p R s m args meth c G ai A RX9 cX9_young 3 2 43 0 0) (hr : meth.sig.returnType = (some .int)) (kont : MS → Int32 → Option (Int32 × MS)) (K : ∀ (M : MS) (x1 : Int32) (H : Heap) (locs : List Loc) (ls : Array Slot), kont M x1 = some (r0, M0) → mo_I G A s.heap (md_W ai o ar M) H locs → lv_has ls 3 [(1, .int x1)] → W p l e R s m args below meth c H locs 0 0 (md_Q below G ai o ar A args s r0 M0) (F0 m 34 ls [])) :
    ∀ (n : Nat) (M : MS) (x2 : Int32) (x1 : Int32) (H : Heap) (locs : List Loc) (ls : Array Slot), f_young_L4 kont n M x2 x1 = some (r0, M0) → mo_I G A s.heap (md_W ai o ar M) H locs → lv_has ls 3 [(2, .int x2), (1, .int x1), (0, .ref o)] → W p l e R s m args below meth c H locs 0 0 (md_Q below G ai o ar A args s r0 M0) (F0 m 4 ls []) := by
  have hx := hC.1
  have hb := hC.2.1
  intro n
  induction n with
  | zero =>
    intro M x2 x1 H locs ls hF
    have h0 : (none : Option (Int32 × MS)) = some (r0, M0) := hF
    cases h0
  | succ n ih =>
    intro M x2 x1 H locs ls hF hI hl
    rw [f_young_L4] at hF
    refine lv_iload_n hx hb dX9_young_4 rfl (lv_at hl 0 rfl) ?_
    refine lv_bipush (v := 30) hx hb dX9_young_5 (by decide) ?_
    refine lv_icmp_ge (tgt := 34) hx hb dX9_young_7 (by decide) (fun c1 => ?_) (fun c1 => ?_)
    · have hF := if_t hF c1
      exact K _ _ _ _ _ hF hI (lv_sub hl [1] rfl)
    · have hF := if_f hF c1
      refine lv_iload_n hx hb dX9_young_10 rfl (lv_at hl 1 rfl) ?_
      refine lv_aload_n hx hb dX9_young_11 rfl (lv_at hl 2 rfl) ?_
      refine lv_iload_n hx hb dX9_young_12 rfl (lv_at hl 0 rfl) ?_
      obtain ⟨r2, M3, hz4, hF⟩ := ob_some hF
      refine k_mayTread hC hI hz4 (Nat.le_of_ble_eq_true rfl) (Nat.le_of_ble_eq_true rfl) hl.1 (Nat.le_of_ble_eq_true rfl) dX9_young_13 (fun H locs hI => ?_)
      obtain ⟨j26_8, hj26_8, hF⟩ := lj_some hF
      have J26 : ∀ (M5 : MS) (t7 : Int32) (t8 : Int32) (H : Heap) (locs : List Loc) (ls : Array Slot), j26_8 M5 t7 t8 = some (r0, M0) → mo_I G A s.heap (md_W ai o ar M5) H locs → lv_has ls 3 [(2, .int x2), (0, .ref o)] → W p l e R s m args below meth c H locs 0 0 (md_Q below G ai o ar A args s r0 M0) (F0 m 26 ls [.int t8, .int t7]) := by
        intro M5 t7 t8 H locs ls hF hI hl
        rw [hj26_8] at hF
        refine lv_ior hx hb dX9_young_26 ?_
        obtain ⟨x1_10, hx1_10, hF⟩ := lt_some hF
        refine mo_ist (lv' := [(1, .int x1_10), (2, .int x2), (0, .ref o)]) hx hb hx1_10 dX9_young_27 rfl hl (by decide) rfl (fun ls hl => ?_)
        obtain ⟨x2_11, hx2_11, hF⟩ := lt_some hF
        refine mo_inc (k := 1) (lv' := [(2, .int x2_11), (1, .int x1_10), (0, .ref o)]) hx hb hx2_11 (by decide) dX9_young_28 hl rfl (by decide) rfl (fun ls hl => ?_)
        refine lv_goto (tgt := 4) hx hb dX9_young_31 (by decide) ?_
        exact ih _ _ _ _ _ _ hF hI (lv_sub hl [0, 1, 2] rfl)
      refine lv_if_eq (tgt := 23) hx hb dX9_young_16 (by decide) (fun c12 => ?_) (fun c12 => ?_)
      · have hF := if_t hF c12
        refine lv_iconst (v := 1) hx hb dX9_young_23 (by decide) ?_
        refine lv_iload_n hx hb dX9_young_24 rfl (lv_at hl 0 rfl) ?_
        refine lv_ishl hx hb dX9_young_25 ?_
        exact J26 _ _ _ _ _ _ hF hI (lv_sub hl [0, 2] rfl)
      · have hF := if_f hF c12
        refine lv_iconst (v := 0) hx hb dX9_young_19 (by decide) ?_
        refine lv_goto (tgt := 26) hx hb dX9_young_20 (by decide) ?_
        exact J26 _ _ _ _ _ _ hF hI (lv_sub hl [0, 2] rfl)
set_option maxHeartbeats 4000000 in
theorem w_young (l : Launch) (G : va_G) (ai : Nat → ClassId) (o : Nat) (ar : Nat → Nat) (M : MS) (r0 : Int32) (M0 : MS) (hF : f_young M = some (r0, M0)) : md_M l G ai o ar yX9_young cX9_young 3 (some .int) ({ frames := 2, cells := 0, slots := 0, locals := 43 } : Room) [.ref o] M r0 M0 := by
  refine mo_body (Qc := fun A => va_Qi (fun (r' : Int32) (M2 : MS) => r' = r0 ∧ M2 = M0) (gw_E G ai (md_W ai o ar) A) A) (by decide) (Nat.le_of_ble_eq_true rfl) ?_
  intro p e s m args below meth c A ls hC hr hI hl _
  have hx := hC.1
  have hb := hC.2.1
  have hl : lv_has ls 3 [(0, .ref o)] := hl
  show W p l e _ s m args below meth c s.heap [] 0 0 (md_Q below G ai o ar A args s r0 M0) (F0 m 0 ls [])
  rw [f_young] at hF
  refine lv_iconst (v := 0) hx hb dX9_young_0 (by decide) ?_
  refine mo_ist (lv' := [(1, .int 0), (0, .ref o)]) hx hb rfl dX9_young_1 rfl hl (by decide) rfl (fun ls hl => ?_)
  refine lv_iconst (v := 0) hx hb dX9_young_2 (by decide) ?_
  refine mo_ist (lv' := [(2, .int 0), (1, .int 0), (0, .ref o)]) hx hb rfl dX9_young_3 rfl hl (by decide) rfl (fun ls hl => ?_)
  refine w_young_L4 hC hr _ (fun M13 x1_14 H locs ls hF hI hl => ?_) 2000 _ _ _ _ _ _ hF hI (lv_sub hl [0, 1, 2] rfl)
  refine lv_iload_n hx hb dX9_young_34 rfl (lv_at hl 0 rfl) ?_
  exact md_iret hC hI hr hF dX9_young_35
def f_oldIn_L24 (a1 : Int32) (kont : MS → Int32 → Option (Int32 × MS)) : Nat → MS → Int32 → Int32 → Option (Int32 × MS)
  | 0, _, _, _ => none
  | n + 1, M, x3, x2 => if 40 ≤ x2 then (kont M x2) else (gd (gi (42 + a1) 216) (if 6 ≤ (M 1 (42 + a1).toNatClampNeg) then (kont M x2) else (ob (f_bell M) (fun r8 M9 => lt ((x3 + r8)) (fun x3_11 => lt (x2 + 1) (fun x2_12 => f_oldIn_L24 a1 kont n M9 x3_11 x2_12))))))
def f_oldIn (M : MS) (a1 : Int32) : Option (Int32 × MS) := if (p_isSquare a1) = 0 then (some ((-1), M)) else (ob (f_lays_3_1 M) (fun r2 M3 => f_oldIn_L24 a1 (fun M13 x2_14 => gd (gi (42 + a1) 216) (lj (fun (M16 : MS) (t18 : Int32) => ob (f_lays_1_3 M16) (fun r20 M21 => if t18 = 0 then (some ((-4), M21)) else (some (x2_14, M21)))) (fun j76_18 => if (M13 1 (42 + a1).toNatClampNeg) < 6 then (j76_18 M13 0) else (j76_18 M13 1)))) 2000 M3 0 0))
set_option maxHeartbeats 4000000 in
theorem w_oldIn_L24 {p : Program} {l : Launch} {e : Env} {R : Room} {s : State} {m : MethodId} {args : Array Value} {below : List Frame} {meth : Method} {c : Code} {G : va_G} {ai : Nat → ClassId} {A : Nat → Prop} {o : Nat} {ar : Nat → Nat} {r0 : Int32} {M0 : MS} (hC : mo_C p R s m args meth c G ai A RX9 cX9_oldIn 5 4 93 0 0) (hr : meth.sig.returnType = (some .int)) (a1 : Int32) (kont : MS → Int32 → Option (Int32 × MS)) (K : ∀ (M : MS) (x2 : Int32) (H : Heap) (locs : List Loc) (ls : Array Slot), kont M x2 = some (r0, M0) → mo_I G A s.heap (md_W ai o ar M) H locs → lv_has ls 5 [(2, .int x2), (0, .ref o), (1, .int a1)] → W p l e R s m args below meth c H locs 0 0 (md_Q below G ai o ar A args s r0 M0) (F0 m 57 ls [])) :
    ∀ (n : Nat) (M : MS) (x3 : Int32) (x2 : Int32) (H : Heap) (locs : List Loc) (ls : Array Slot), f_oldIn_L24 a1 kont n M x3 x2 = some (r0, M0) → mo_I G A s.heap (md_W ai o ar M) H locs → lv_has ls 5 [(3, .int x3), (2, .int x2), (0, .ref o), (1, .int a1)] → W p l e R s m args below meth c H locs 0 0 (md_Q below G ai o ar A args s r0 M0) (F0 m 24 ls []) := by
  have hx := hC.1
  have hb := hC.2.1
  intro n
  induction n with
  | zero =>
    intro M x3 x2 H locs ls hF
    have h0 : (none : Option (Int32 × MS)) = some (r0, M0) := hF
    cases h0
  | succ n ih =>
    intro M x3 x2 H locs ls hF hI hl
    rw [f_oldIn_L24] at hF
    refine lv_iload_n hx hb dX9_oldIn_24 rfl (lv_at hl 1 rfl) ?_
    refine lv_bipush (v := 40) hx hb dX9_oldIn_25 (by decide) ?_
    refine lv_icmp_ge (tgt := 57) hx hb dX9_oldIn_27 (by decide) (fun c5 => ?_) (fun c5 => ?_)
    · have hF := if_t hF c5
      exact K _ _ _ _ _ hF hI (lv_sub hl [1, 2, 3] rfl)
    · have hF := if_f hF c5
      refine lv_aload_n hx hb dX9_oldIn_30 rfl (lv_at hl 2 rfl) ?_
      refine md_g6 hC hI dX9_oldIn_31 ?_
      refine lv_bipush (v := 42) hx hb dX9_oldIn_34 (by decide) ?_
      refine lv_iload_n hx hb dX9_oldIn_36 rfl (lv_at hl 3 rfl) ?_
      refine lv_iadd hx hb dX9_oldIn_37 ?_
      obtain ⟨hg6, hF⟩ := gd_some hF
      refine md_l1 hC hI hg6 dX9_oldIn_38 ?_
      refine lv_bipush (v := 6) hx hb dX9_oldIn_39 (by decide) ?_
      refine lv_icmp_ge (tgt := 57) hx hb dX9_oldIn_41 (by decide) (fun c7 => ?_) (fun c7 => ?_)
      · have hF := if_t hF c7
        exact K _ _ _ _ _ hF hI (lv_sub hl [1, 2, 3] rfl)
      · have hF := if_f hF c7
        refine lv_iload_n hx hb dX9_oldIn_44 rfl (lv_at hl 0 rfl) ?_
        refine lv_aload_n hx hb dX9_oldIn_45 rfl (lv_at hl 2 rfl) ?_
        obtain ⟨r8, M9, hz10, hF⟩ := ob_some hF
        refine k_bell hC hI hz10 (Nat.le_of_ble_eq_true rfl) (Nat.le_of_ble_eq_true rfl) hl.1 (Nat.le_of_ble_eq_true rfl) dX9_oldIn_46 (fun H locs hI => ?_)
        refine lv_iadd hx hb dX9_oldIn_49 ?_
        obtain ⟨x3_11, hx3_11, hF⟩ := lt_some hF
        refine mo_ist (lv' := [(3, .int x3_11), (2, .int x2), (0, .ref o), (1, .int a1)]) hx hb hx3_11 dX9_oldIn_50 rfl hl (by decide) rfl (fun ls hl => ?_)
        obtain ⟨x2_12, hx2_12, hF⟩ := lt_some hF
        refine mo_inc (k := 1) (lv' := [(2, .int x2_12), (3, .int x3_11), (0, .ref o), (1, .int a1)]) hx hb hx2_12 (by decide) dX9_oldIn_51 hl rfl (by decide) rfl (fun ls hl => ?_)
        refine lv_goto (tgt := 24) hx hb dX9_oldIn_54 (by decide) ?_
        exact ih _ _ _ _ _ _ hF hI (lv_sub hl [1, 0, 2, 3] rfl)
set_option maxHeartbeats 4000000 in
theorem w_oldIn (l : Launch) (G : va_G) (ai : Nat → ClassId) (o : Nat) (ar : Nat → Nat) (M : MS) (a1 : Int32) (r0 : Int32) (M0 : MS) (hF : f_oldIn M a1 = some (r0, M0)) : md_M l G ai o ar yX9_oldIn cX9_oldIn 5 (some .int) ({ frames := 4, cells := 0, slots := 0, locals := 93 } : Room) [.ref o, .int a1] M r0 M0 := by
  refine mo_body (Qc := fun A => va_Qi (fun (r' : Int32) (M2 : MS) => r' = r0 ∧ M2 = M0) (gw_E G ai (md_W ai o ar) A) A) (by decide) (Nat.le_of_ble_eq_true rfl) ?_
  intro p e s m args below meth c A ls hC hr hI hl _
  have hx := hC.1
  have hb := hC.2.1
  have hl : lv_has ls 5 [(0, .ref o), (1, .int a1)] := hl
  show W p l e _ s m args below meth c s.heap [] 0 0 (md_Q below G ai o ar A args s r0 M0) (F0 m 0 ls [])
  rw [f_oldIn] at hF
  refine lv_iload_n hx hb dX9_oldIn_0 rfl (lv_at hl 1 rfl) ?_
  refine k_isSquare (mo_CN hC) (Nat.le_of_ble_eq_true rfl) (Nat.le_of_ble_eq_true rfl) hl.1 (Nat.le_of_ble_eq_true rfl) dX9_oldIn_1 ?_
  refine lv_if_ne (tgt := 9) hx hb dX9_oldIn_4 (by decide) (fun c1 => ?_) (fun c1 => ?_)
  · have hF := if_f hF c1
    refine lv_aload_n hx hb dX9_oldIn_9 rfl (lv_at hl 0 rfl) ?_
    refine md_g8 hC hI dX9_oldIn_10 ?_
    refine lv_aload_n hx hb dX9_oldIn_13 rfl (lv_at hl 0 rfl) ?_
    refine md_g6 hC hI dX9_oldIn_14 ?_
    obtain ⟨r2, M3, hz4, hF⟩ := ob_some hF
    refine k_lays_3_1 hC hI hz4 (Nat.le_of_ble_eq_true rfl) (Nat.le_of_ble_eq_true rfl) hl.1 (Nat.le_of_ble_eq_true rfl) dX9_oldIn_17 (fun H locs hI => ?_)
    refine lv_iconst (v := 0) hx hb dX9_oldIn_20 (by decide) ?_
    refine mo_ist (lv' := [(2, .int 0), (0, .ref o), (1, .int a1)]) hx hb rfl dX9_oldIn_21 rfl hl (by decide) rfl (fun ls hl => ?_)
    refine lv_iconst (v := 0) hx hb dX9_oldIn_22 (by decide) ?_
    refine mo_ist (lv' := [(3, .int 0), (2, .int 0), (0, .ref o), (1, .int a1)]) hx hb rfl dX9_oldIn_23 rfl hl (by decide) rfl (fun ls hl => ?_)
    refine w_oldIn_L24 hC hr a1 _ (fun M13 x2_14 H locs ls hF hI hl => ?_) 2000 _ _ _ _ _ _ hF hI (lv_sub hl [0, 1, 2, 3] rfl)
    refine lv_aload_n hx hb dX9_oldIn_57 rfl (lv_at hl 1 rfl) ?_
    refine md_g6 hC hI dX9_oldIn_58 ?_
    refine lv_bipush (v := 42) hx hb dX9_oldIn_61 (by decide) ?_
    refine lv_iload_n hx hb dX9_oldIn_63 rfl (lv_at hl 2 rfl) ?_
    refine lv_iadd hx hb dX9_oldIn_64 ?_
    obtain ⟨hg15, hF⟩ := gd_some hF
    refine md_l1 hC hI hg15 dX9_oldIn_65 ?_
    refine lv_bipush (v := 6) hx hb dX9_oldIn_66 (by decide) ?_
    obtain ⟨j76_18, hj76_18, hF⟩ := lj_some hF
    have J76 : ∀ (M16 : MS) (t18 : Int32) (H : Heap) (locs : List Loc) (ls : Array Slot), j76_18 M16 t18 = some (r0, M0) → mo_I G A s.heap (md_W ai o ar M16) H locs → lv_has ls 5 [(2, .int x2_14), (0, .ref o)] → W p l e ({ frames := 4, cells := 0, slots := 0, locals := 93 } : Room) s m args below meth c H locs 0 0 (md_Q below G ai o ar A args s r0 M0) (F0 m 76 ls [.int t18]) := by
      intro M16 t18 H locs ls hF hI hl
      rw [hj76_18] at hF
      refine mo_ist4 (lv' := [(4, .int t18), (2, .int x2_14), (0, .ref o)]) hx hb rfl dX9_oldIn_76 hl (by decide) rfl (fun ls hl => ?_)
      refine lv_aload_n hx hb dX9_oldIn_78 rfl (lv_at hl 2 rfl) ?_
      refine md_g6 hC hI dX9_oldIn_79 ?_
      refine lv_aload_n hx hb dX9_oldIn_82 rfl (lv_at hl 2 rfl) ?_
      refine md_g8 hC hI dX9_oldIn_83 ?_
      obtain ⟨r20, M21, hz22, hF⟩ := ob_some hF
      refine k_lays_1_3 hC hI hz22 (Nat.le_of_ble_eq_true rfl) (Nat.le_of_ble_eq_true rfl) hl.1 (Nat.le_of_ble_eq_true rfl) dX9_oldIn_86 (fun H locs hI => ?_)
      refine lv_iload hx hb dX9_oldIn_89 (lv_at hl 0 rfl) ?_
      refine lv_if_eq (tgt := 98) hx hb dX9_oldIn_91 (by decide) (fun c23 => ?_) (fun c23 => ?_)
      · have hF := if_t hF c23
        refine lv_bipush (v := (-4)) hx hb dX9_oldIn_98 (by decide) ?_
        exact md_iret hC hI hr hF dX9_oldIn_100
      · have hF := if_f hF c23
        refine lv_iload_n hx hb dX9_oldIn_94 rfl (lv_at hl 1 rfl) ?_
        refine lv_goto (tgt := 100) hx hb dX9_oldIn_95 (by decide) ?_
        exact md_iret hC hI hr hF dX9_oldIn_100
    refine lv_icmp_lt (tgt := 75) hx hb dX9_oldIn_68 (by decide) (fun c24 => ?_) (fun c24 => ?_)
    · have hF := if_t hF c24
      refine lv_iconst (v := 0) hx hb dX9_oldIn_75 (by decide) ?_
      exact J76 _ _ _ _ _ hF hI (lv_sub hl [0, 1] rfl)
    · have hF := if_f hF c24
      refine lv_iconst (v := 1) hx hb dX9_oldIn_71 (by decide) ?_
      refine lv_goto (tgt := 76) hx hb dX9_oldIn_72 (by decide) ?_
      exact J76 _ _ _ _ _ hF hI (lv_sub hl [0, 1] rfl)
  · have hF := if_t hF c1
    refine lv_iconst (v := (-1)) hx hb dX9_oldIn_7 (by decide) ?_
    exact md_iret hC hI hr hF dX9_oldIn_8
def f_mossIn_L38 (a1 : Int32) (a2 : Int32) (kont : MS → Option (Int32 × MS)) : Nat → MS → Int32 → Int32 → Option (Int32 × MS)
  | 0, _, _, _ => none
  | n + 1, M, x4, x3 => if a2 ≤ x4 then (kont M) else (ob (f_bell M) (fun r7 M8 => lt ((x3 + r7)) (fun x3_10 => lt (x4 + 1) (fun x4_11 => f_mossIn_L38 a1 a2 kont n M8 x4_11 x3_10))))
def f_mossIn (M : MS) (a1 : Int32) (a2 : Int32) : Option (Int32 × MS) := if (p_isSquare a1) = 0 then (some ((-1), M)) else (if (p_isIn a2 0 40) = 0 then (some ((-2), M)) else (ob (f_lays_3_1 M) (fun r3 M4 => f_mossIn_L38 a1 a2 (fun M12 => gd (gi (42 + a1) 216) (lt ((M12 1 (42 + a1).toNatClampNeg)) (fun x4_14 => ob (f_lays_1_3 M12) (fun r15 M16 => some (x4_14, M16))))) 2000 M4 0 0)))
set_option maxHeartbeats 4000000 in
theorem w_mossIn_L38 {p : Program} {l : Launch} {e : Env} {R : Room} {s : State} {m : MethodId} {args : Array Value} {below : List Frame} {meth : Method} {c : Code} {G : va_G} {ai : Nat → ClassId} {A : Nat → Prop} {o : Nat} {ar : Nat → Nat} {r0 : Int32} {M0 : MS} (hC : mo_C p R s m args meth c G ai A RX9 cX9_mossIn 5 4 93 0 0) (hr : meth.sig.returnType = (some .int)) (a1 : Int32) (a2 : Int32) (kont : MS → Option (Int32 × MS)) (K : ∀ (M : MS) (H : Heap) (locs : List Loc) (ls : Array Slot), kont M = some (r0, M0) → mo_I G A s.heap (md_W ai o ar M) H locs → lv_has ls 5 [(0, .ref o), (1, .int a1)] → W p l e R s m args below meth c H locs 0 0 (md_Q below G ai o ar A args s r0 M0) (F0 m 57 ls [])) :
    ∀ (n : Nat) (M : MS) (x4 : Int32) (x3 : Int32) (H : Heap) (locs : List Loc) (ls : Array Slot), f_mossIn_L38 a1 a2 kont n M x4 x3 = some (r0, M0) → mo_I G A s.heap (md_W ai o ar M) H locs → lv_has ls 5 [(4, .int x4), (3, .int x3), (0, .ref o), (1, .int a1), (2, .int a2)] → W p l e R s m args below meth c H locs 0 0 (md_Q below G ai o ar A args s r0 M0) (F0 m 38 ls []) := by
  have hx := hC.1
  have hb := hC.2.1
  intro n
  induction n with
  | zero =>
    intro M x4 x3 H locs ls hF
    have h0 : (none : Option (Int32 × MS)) = some (r0, M0) := hF
    cases h0
  | succ n ih =>
    intro M x4 x3 H locs ls hF hI hl
    rw [f_mossIn_L38] at hF
    refine lv_iload hx hb dX9_mossIn_38 (lv_at hl 0 rfl) ?_
    refine lv_iload_n hx hb dX9_mossIn_40 rfl (lv_at hl 4 rfl) ?_
    refine lv_icmp_ge (tgt := 57) hx hb dX9_mossIn_41 (by decide) (fun c6 => ?_) (fun c6 => ?_)
    · have hF := if_t hF c6
      exact K _ _ _ _ hF hI (lv_sub hl [2, 3] rfl)
    · have hF := if_f hF c6
      refine lv_iload_n hx hb dX9_mossIn_44 rfl (lv_at hl 1 rfl) ?_
      refine lv_aload_n hx hb dX9_mossIn_45 rfl (lv_at hl 2 rfl) ?_
      obtain ⟨r7, M8, hz9, hF⟩ := ob_some hF
      refine k_bell hC hI hz9 (Nat.le_of_ble_eq_true rfl) (Nat.le_of_ble_eq_true rfl) hl.1 (Nat.le_of_ble_eq_true rfl) dX9_mossIn_46 (fun H locs hI => ?_)
      refine lv_iadd hx hb dX9_mossIn_49 ?_
      obtain ⟨x3_10, hx3_10, hF⟩ := lt_some hF
      refine mo_ist (lv' := [(3, .int x3_10), (4, .int x4), (0, .ref o), (1, .int a1), (2, .int a2)]) hx hb hx3_10 dX9_mossIn_50 rfl hl (by decide) rfl (fun ls hl => ?_)
      obtain ⟨x4_11, hx4_11, hF⟩ := lt_some hF
      refine mo_inc (k := 1) (lv' := [(4, .int x4_11), (3, .int x3_10), (0, .ref o), (1, .int a1), (2, .int a2)]) hx hb hx4_11 (by decide) dX9_mossIn_51 hl rfl (by decide) rfl (fun ls hl => ?_)
      refine lv_goto (tgt := 38) hx hb dX9_mossIn_54 (by decide) ?_
      exact ih _ _ _ _ _ _ hF hI (lv_sub hl [0, 1, 2, 3, 4] rfl)
set_option maxHeartbeats 4000000 in
theorem w_mossIn (l : Launch) (G : va_G) (ai : Nat → ClassId) (o : Nat) (ar : Nat → Nat) (M : MS) (a1 : Int32) (a2 : Int32) (r0 : Int32) (M0 : MS) (hF : f_mossIn M a1 a2 = some (r0, M0)) : md_M l G ai o ar yX9_mossIn cX9_mossIn 5 (some .int) ({ frames := 4, cells := 0, slots := 0, locals := 93 } : Room) [.ref o, .int a1, .int a2] M r0 M0 := by
  refine mo_body (Qc := fun A => va_Qi (fun (r' : Int32) (M2 : MS) => r' = r0 ∧ M2 = M0) (gw_E G ai (md_W ai o ar) A) A) (by decide) (Nat.le_of_ble_eq_true rfl) ?_
  intro p e s m args below meth c A ls hC hr hI hl _
  have hx := hC.1
  have hb := hC.2.1
  have hl : lv_has ls 5 [(0, .ref o), (1, .int a1), (2, .int a2)] := hl
  show W p l e _ s m args below meth c s.heap [] 0 0 (md_Q below G ai o ar A args s r0 M0) (F0 m 0 ls [])
  rw [f_mossIn] at hF
  refine lv_iload_n hx hb dX9_mossIn_0 rfl (lv_at hl 1 rfl) ?_
  refine k_isSquare (mo_CN hC) (Nat.le_of_ble_eq_true rfl) (Nat.le_of_ble_eq_true rfl) hl.1 (Nat.le_of_ble_eq_true rfl) dX9_mossIn_1 ?_
  refine lv_if_ne (tgt := 9) hx hb dX9_mossIn_4 (by decide) (fun c1 => ?_) (fun c1 => ?_)
  · have hF := if_f hF c1
    refine lv_iload_n hx hb dX9_mossIn_9 rfl (lv_at hl 2 rfl) ?_
    refine lv_iconst (v := 0) hx hb dX9_mossIn_10 (by decide) ?_
    refine lv_bipush (v := 40) hx hb dX9_mossIn_11 (by decide) ?_
    refine k_isIn (mo_CN hC) (Nat.le_of_ble_eq_true rfl) (Nat.le_of_ble_eq_true rfl) hl.1 (Nat.le_of_ble_eq_true rfl) dX9_mossIn_13 ?_
    refine lv_if_ne (tgt := 22) hx hb dX9_mossIn_16 (by decide) (fun c2 => ?_) (fun c2 => ?_)
    · have hF := if_f hF c2
      refine lv_aload_n hx hb dX9_mossIn_22 rfl (lv_at hl 0 rfl) ?_
      refine md_g8 hC hI dX9_mossIn_23 ?_
      refine lv_aload_n hx hb dX9_mossIn_26 rfl (lv_at hl 0 rfl) ?_
      refine md_g6 hC hI dX9_mossIn_27 ?_
      obtain ⟨r3, M4, hz5, hF⟩ := ob_some hF
      refine k_lays_3_1 hC hI hz5 (Nat.le_of_ble_eq_true rfl) (Nat.le_of_ble_eq_true rfl) hl.1 (Nat.le_of_ble_eq_true rfl) dX9_mossIn_30 (fun H locs hI => ?_)
      refine lv_iconst (v := 0) hx hb dX9_mossIn_33 (by decide) ?_
      refine mo_ist (lv' := [(3, .int 0), (0, .ref o), (1, .int a1), (2, .int a2)]) hx hb rfl dX9_mossIn_34 rfl hl (by decide) rfl (fun ls hl => ?_)
      refine lv_iconst (v := 0) hx hb dX9_mossIn_35 (by decide) ?_
      refine mo_ist4 (lv' := [(4, .int 0), (3, .int 0), (0, .ref o), (1, .int a1), (2, .int a2)]) hx hb rfl dX9_mossIn_36 hl (by decide) rfl (fun ls hl => ?_)
      refine w_mossIn_L38 hC hr a1 a2 _ (fun M12 H locs ls hF hI hl => ?_) 2000 _ _ _ _ _ _ hF hI (lv_sub hl [0, 1, 2, 3, 4] rfl)
      refine lv_aload_n hx hb dX9_mossIn_57 rfl (lv_at hl 0 rfl) ?_
      refine md_g6 hC hI dX9_mossIn_58 ?_
      refine lv_bipush (v := 42) hx hb dX9_mossIn_61 (by decide) ?_
      refine lv_iload_n hx hb dX9_mossIn_63 rfl (lv_at hl 1 rfl) ?_
      refine lv_iadd hx hb dX9_mossIn_64 ?_
      obtain ⟨hg13, hF⟩ := gd_some hF
      refine md_l1 hC hI hg13 dX9_mossIn_65 ?_
      obtain ⟨x4_14, hx4_14, hF⟩ := lt_some hF
      refine mo_ist4 (lv' := [(4, .int x4_14), (0, .ref o), (1, .int a1)]) hx hb hx4_14 dX9_mossIn_66 hl (by decide) rfl (fun ls hl => ?_)
      refine lv_aload_n hx hb dX9_mossIn_68 rfl (lv_at hl 1 rfl) ?_
      refine md_g6 hC hI dX9_mossIn_69 ?_
      refine lv_aload_n hx hb dX9_mossIn_72 rfl (lv_at hl 1 rfl) ?_
      refine md_g8 hC hI dX9_mossIn_73 ?_
      obtain ⟨r15, M16, hz17, hF⟩ := ob_some hF
      refine k_lays_1_3 hC hI hz17 (Nat.le_of_ble_eq_true rfl) (Nat.le_of_ble_eq_true rfl) hl.1 (Nat.le_of_ble_eq_true rfl) dX9_mossIn_76 (fun H locs hI => ?_)
      refine lv_iload hx hb dX9_mossIn_79 (lv_at hl 0 rfl) ?_
      exact md_iret hC hI hr hF dX9_mossIn_81
    · have hF := if_t hF c2
      refine lv_bipush (v := (-2)) hx hb dX9_mossIn_19 (by decide) ?_
      exact md_iret hC hI hr hF dX9_mossIn_21
  · have hF := if_t hF c1
    refine lv_iconst (v := (-1)) hx hb dX9_mossIn_7 (by decide) ?_
    exact md_iret hC hI hr hF dX9_mossIn_8
def f_sumOf_L4 (a1 : Int32) (kont : MS → Int32 → Option (Int32 × MS)) : Nat → MS → Int32 → Int32 → Option (Int32 × MS)
  | 0, _, _, _ => none
  | n + 1, M, x3, x2 => if 30 ≤ x3 then (kont M x2) else (gd (gi (a1 + x3) 216) (lt ((x2 + (M 1 (a1 + x3).toNatClampNeg))) (fun x2_3 => lt (x3 + 1) (fun x3_4 => f_sumOf_L4 a1 kont n M x3_4 x2_3))))
def f_sumOf (M : MS) (a1 : Int32) : Option (Int32 × MS) := f_sumOf_L4 a1 (fun M5 x2_6 => some (x2_6, M5)) 2000 M 0 0
set_option maxHeartbeats 4000000 in
theorem w_sumOf_L4 {p : Program} {l : Launch} {e : Env} {R : Room} {s : State} {m : MethodId} {args : Array Value} {below : List Frame} {meth : Method} {c : Code} {G : va_G} {ai : Nat → ClassId} {A : Nat → Prop} {o : Nat} {ar : Nat → Nat} {r0 : Int32} {M0 : MS} (hC : mo_C p R s m args meth c G ai A RX9 cX9_sumOf 4 0 0 0 0) (hr : meth.sig.returnType = (some .int)) (a1 : Int32) (kont : MS → Int32 → Option (Int32 × MS)) (K : ∀ (M : MS) (x2 : Int32) (H : Heap) (locs : List Loc) (ls : Array Slot), kont M x2 = some (r0, M0) → mo_I G A s.heap (md_W ai o ar M) H locs → lv_has ls 4 [(2, .int x2)] → W p l e R s m args below meth c H locs 0 0 (md_Q below G ai o ar A args s r0 M0) (F0 m 27 ls [])) :
    ∀ (n : Nat) (M : MS) (x3 : Int32) (x2 : Int32) (H : Heap) (locs : List Loc) (ls : Array Slot), f_sumOf_L4 a1 kont n M x3 x2 = some (r0, M0) → mo_I G A s.heap (md_W ai o ar M) H locs → lv_has ls 4 [(3, .int x3), (2, .int x2), (0, .ref o), (1, .int a1)] → W p l e R s m args below meth c H locs 0 0 (md_Q below G ai o ar A args s r0 M0) (F0 m 4 ls []) := by
  have hx := hC.1
  have hb := hC.2.1
  intro n
  induction n with
  | zero =>
    intro M x3 x2 H locs ls hF
    have h0 : (none : Option (Int32 × MS)) = some (r0, M0) := hF
    cases h0
  | succ n ih =>
    intro M x3 x2 H locs ls hF hI hl
    rw [f_sumOf_L4] at hF
    refine lv_iload_n hx hb dX9_sumOf_4 rfl (lv_at hl 0 rfl) ?_
    refine lv_bipush (v := 30) hx hb dX9_sumOf_5 (by decide) ?_
    refine lv_icmp_ge (tgt := 27) hx hb dX9_sumOf_7 (by decide) (fun c1 => ?_) (fun c1 => ?_)
    · have hF := if_t hF c1
      exact K _ _ _ _ _ hF hI (lv_sub hl [1] rfl)
    · have hF := if_f hF c1
      refine lv_iload_n hx hb dX9_sumOf_10 rfl (lv_at hl 1 rfl) ?_
      refine lv_aload_n hx hb dX9_sumOf_11 rfl (lv_at hl 2 rfl) ?_
      refine md_g6 hC hI dX9_sumOf_12 ?_
      refine lv_iload_n hx hb dX9_sumOf_15 rfl (lv_at hl 3 rfl) ?_
      refine lv_iload_n hx hb dX9_sumOf_16 rfl (lv_at hl 0 rfl) ?_
      refine lv_iadd hx hb dX9_sumOf_17 ?_
      obtain ⟨hg2, hF⟩ := gd_some hF
      refine md_l1 hC hI hg2 dX9_sumOf_18 ?_
      refine lv_iadd hx hb dX9_sumOf_19 ?_
      obtain ⟨x2_3, hx2_3, hF⟩ := lt_some hF
      refine mo_ist (lv' := [(2, .int x2_3), (3, .int x3), (0, .ref o), (1, .int a1)]) hx hb hx2_3 dX9_sumOf_20 rfl hl (by decide) rfl (fun ls hl => ?_)
      obtain ⟨x3_4, hx3_4, hF⟩ := lt_some hF
      refine mo_inc (k := 1) (lv' := [(3, .int x3_4), (2, .int x2_3), (0, .ref o), (1, .int a1)]) hx hb hx3_4 (by decide) dX9_sumOf_21 hl rfl (by decide) rfl (fun ls hl => ?_)
      refine lv_goto (tgt := 4) hx hb dX9_sumOf_24 (by decide) ?_
      exact ih _ _ _ _ _ _ hF hI (lv_sub hl [0, 1, 2, 3] rfl)
set_option maxHeartbeats 4000000 in
theorem w_sumOf (l : Launch) (G : va_G) (ai : Nat → ClassId) (o : Nat) (ar : Nat → Nat) (M : MS) (a1 : Int32) (r0 : Int32) (M0 : MS) (hF : f_sumOf M a1 = some (r0, M0)) : md_M l G ai o ar yX9_sumOf cX9_sumOf 4 (some .int) ({ frames := 0, cells := 0, slots := 0, locals := 0 } : Room) [.ref o, .int a1] M r0 M0 := by
  refine mo_body (Qc := fun A => va_Qi (fun (r' : Int32) (M2 : MS) => r' = r0 ∧ M2 = M0) (gw_E G ai (md_W ai o ar) A) A) (by decide) (Nat.le_of_ble_eq_true rfl) ?_
  intro p e s m args below meth c A ls hC hr hI hl _
  have hx := hC.1
  have hb := hC.2.1
  have hl : lv_has ls 4 [(0, .ref o), (1, .int a1)] := hl
  show W p l e _ s m args below meth c s.heap [] 0 0 (md_Q below G ai o ar A args s r0 M0) (F0 m 0 ls [])
  rw [f_sumOf] at hF
  refine lv_iconst (v := 0) hx hb dX9_sumOf_0 (by decide) ?_
  refine mo_ist (lv' := [(2, .int 0), (0, .ref o), (1, .int a1)]) hx hb rfl dX9_sumOf_1 rfl hl (by decide) rfl (fun ls hl => ?_)
  refine lv_iconst (v := 0) hx hb dX9_sumOf_2 (by decide) ?_
  refine mo_ist (lv' := [(3, .int 0), (2, .int 0), (0, .ref o), (1, .int a1)]) hx hb rfl dX9_sumOf_3 rfl hl (by decide) rfl (fun ls hl => ?_)
  refine w_sumOf_L4 hC hr a1 _ (fun M5 x2_6 H locs ls hF hI hl => ?_) 2000 _ _ _ _ _ _ hF hI (lv_sub hl [0, 1, 2, 3] rfl)
  refine lv_iload_n hx hb dX9_sumOf_27 rfl (lv_at hl 0 rfl) ?_
  exact md_iret hC hI hr hF dX9_sumOf_28
theorem k_sumOf {p : Program} {l : Launch} {e : Env} {R : Room} {s : State} {m : MethodId} {args : Array Value} {below : List Frame} {meth : Method} {c : Code} {H : Heap} {locs : List Loc} {cells slots : Nat} {Q : State → Prop} {pc : Nat} {ls : Array Slot} {rest : List Value} {G : va_G} {ai : Nat → ClassId} {A : Nat → Prop} {cc : ByteArray} {nL f L kc ks o : Nat} {ar : Nat → Nat} {M M1 : MS} {r1 : Int32} {a1 : Int32} (hC : mo_C p R s m args meth c G ai A RX9 cc nL f L kc ks) (hI : mo_I G A s.heap (md_W ai o ar M) H locs) (hz : f_sumOf M a1 = some (r1, M1)) (hf : 0 + 1 ≤ f) (hL : 8 + (4 + 11) + 0 ≤ L) (hsz : ls.size = nL) (hW : (rest.map fun v => v.category).sum ≤ 8) (hdg : decode cc pc = .ok (.invokevirtual 233, 3)) (kk : ∀ (H1 : Heap) (locs1 : List Loc), mo_I G A s.heap (md_W ai o ar M1) H1 locs1 → W p l e R s m args below meth c H1 locs1 cells slots Q (F0 m (pc + 3) ls (.int r1 :: rest))) (hc0 : cells ≤ kc := by first | exact Nat.zero_le _ | assumption) (hs0 : slots ≤ ks := by first | exact Nat.zero_le _ | assumption) : W p l e R s m args below meth c H locs cells slots Q (F0 m pc ls (.int a1 :: .ref o :: rest)) := by
  have hI : mo_I G A s.heap (md_W ai o ar M ++ []) H locs := by rw [List.append_nil]; exact hI
  refine gw_cVi (As := [.int a1]) (mc := 0) (ms := 0) (fs := md_F ar M) hC 1 hI (w_sumOf l G ai o ar M a1 r1 M1 hz) 0 0 rfl rfl q2382 q2384 qs111 q142 q2385 rfl rfl (by decide +kernel) rfl hf hL hc0 hs0 hsz rfl hW hdg (fun r u H1 locs1 hp hI1 => ?_)
  obtain ⟨rfl, rfl⟩ := hp
  rw [List.append_nil] at hI1
  exact kk H1 locs1 hI1
def f_worst_L4 (kont : MS → Int32 → Option (Int32 × MS)) : Nat → MS → Int32 → Int32 → Option (Int32 × MS)
  | 0, _, _, _ => none
  | n + 1, M, x2, x1 => if 30 ≤ x2 then (kont M x1) else (gd (gi (72 + x2) 216) (gd (gi (72 + x1) 216) (lj (fun (M4 : MS) (t6 : Int32) => lt (x2 + 1) (fun x2_8 => f_worst_L4 kont n M4 x2_8 t6)) (fun j36_6 => if (M 1 (72 + x2).toNatClampNeg) ≤ (M 1 (72 + x1).toNatClampNeg) then (j36_6 M x1) else (j36_6 M x2)))))
def f_worst (M : MS) : Option (Int32 × MS) := f_worst_L4 (fun M10 x1_11 => gd (gi (72 + x1_11) 216) (if (M10 1 (72 + x1_11).toNatClampNeg) = 0 then (some ((-4), M10)) else (some (x1_11, M10)))) 2000 M 1 0
set_option maxHeartbeats 4000000 in
theorem w_worst_L4 {p : Program} {l : Launch} {e : Env} {R : Room} {s : State} {m : MethodId} {args : Array Value} {below : List Frame} {meth : Method} {c : Code} {G : va_G} {ai : Nat → ClassId} {A : Nat → Prop} {o : Nat} {ar : Nat → Nat} {r0 : Int32} {M0 : MS} (hC : mo_C p R s m args meth c G ai A RX9 cX9_worst 3 0 0 0 0) (hr : meth.sig.returnType = (some .int)) (kont : MS → Int32 → Option (Int32 × MS)) (K : ∀ (M : MS) (x1 : Int32) (H : Heap) (locs : List Loc) (ls : Array Slot), kont M x1 = some (r0, M0) → mo_I G A s.heap (md_W ai o ar M) H locs → lv_has ls 3 [(1, .int x1), (0, .ref o)] → W p l e R s m args below meth c H locs 0 0 (md_Q below G ai o ar A args s r0 M0) (F0 m 43 ls [])) :
    ∀ (n : Nat) (M : MS) (x2 : Int32) (x1 : Int32) (H : Heap) (locs : List Loc) (ls : Array Slot), f_worst_L4 kont n M x2 x1 = some (r0, M0) → mo_I G A s.heap (md_W ai o ar M) H locs → lv_has ls 3 [(2, .int x2), (1, .int x1), (0, .ref o)] → W p l e R s m args below meth c H locs 0 0 (md_Q below G ai o ar A args s r0 M0) (F0 m 4 ls []) := by
  have hx := hC.1
  have hb := hC.2.1
  intro n
  induction n with
  | zero =>
    intro M x2 x1 H locs ls hF
    have h0 : (none : Option (Int32 × MS)) = some (r0, M0) := hF
    cases h0
  | succ n ih =>
    intro M x2 x1 H locs ls hF hI hl
    rw [f_worst_L4] at hF
    refine lv_iload_n hx hb dX9_worst_4 rfl (lv_at hl 0 rfl) ?_
    refine lv_bipush (v := 30) hx hb dX9_worst_5 (by decide) ?_
    refine lv_icmp_ge (tgt := 43) hx hb dX9_worst_7 (by decide) (fun c1 => ?_) (fun c1 => ?_)
    · have hF := if_t hF c1
      exact K _ _ _ _ _ hF hI (lv_sub hl [1, 2] rfl)
    · have hF := if_f hF c1
      refine lv_aload_n hx hb dX9_worst_10 rfl (lv_at hl 2 rfl) ?_
      refine md_g6 hC hI dX9_worst_11 ?_
      refine lv_bipush (v := 72) hx hb dX9_worst_14 (by decide) ?_
      refine lv_iload_n hx hb dX9_worst_16 rfl (lv_at hl 0 rfl) ?_
      refine lv_iadd hx hb dX9_worst_17 ?_
      obtain ⟨hg2, hF⟩ := gd_some hF
      refine md_l1 hC hI hg2 dX9_worst_18 ?_
      refine lv_aload_n hx hb dX9_worst_19 rfl (lv_at hl 2 rfl) ?_
      refine md_g6 hC hI dX9_worst_20 ?_
      refine lv_bipush (v := 72) hx hb dX9_worst_23 (by decide) ?_
      refine lv_iload_n hx hb dX9_worst_25 rfl (lv_at hl 1 rfl) ?_
      refine lv_iadd hx hb dX9_worst_26 ?_
      obtain ⟨hg3, hF⟩ := gd_some hF
      refine md_l1 hC hI hg3 dX9_worst_27 ?_
      obtain ⟨j36_6, hj36_6, hF⟩ := lj_some hF
      have J36 : ∀ (M4 : MS) (t6 : Int32) (H : Heap) (locs : List Loc) (ls : Array Slot), j36_6 M4 t6 = some (r0, M0) → mo_I G A s.heap (md_W ai o ar M4) H locs → lv_has ls 3 [(2, .int x2), (0, .ref o)] → W p l e R s m args below meth c H locs 0 0 (md_Q below G ai o ar A args s r0 M0) (F0 m 36 ls [.int t6]) := by
        intro M4 t6 H locs ls hF hI hl
        rw [hj36_6] at hF
        refine mo_ist (lv' := [(1, .int t6), (2, .int x2), (0, .ref o)]) hx hb rfl dX9_worst_36 rfl hl (by decide) rfl (fun ls hl => ?_)
        obtain ⟨x2_8, hx2_8, hF⟩ := lt_some hF
        refine mo_inc (k := 1) (lv' := [(2, .int x2_8), (1, .int t6), (0, .ref o)]) hx hb hx2_8 (by decide) dX9_worst_37 hl rfl (by decide) rfl (fun ls hl => ?_)
        refine lv_goto (tgt := 4) hx hb dX9_worst_40 (by decide) ?_
        exact ih _ _ _ _ _ _ hF hI (lv_sub hl [0, 1, 2] rfl)
      refine lv_icmp_le (tgt := 35) hx hb dX9_worst_28 (by decide) (fun c9 => ?_) (fun c9 => ?_)
      · have hF := if_t hF c9
        refine lv_iload_n hx hb dX9_worst_35 rfl (lv_at hl 1 rfl) ?_
        exact J36 _ _ _ _ _ hF hI (lv_sub hl [0, 2] rfl)
      · have hF := if_f hF c9
        refine lv_iload_n hx hb dX9_worst_31 rfl (lv_at hl 0 rfl) ?_
        refine lv_goto (tgt := 36) hx hb dX9_worst_32 (by decide) ?_
        exact J36 _ _ _ _ _ hF hI (lv_sub hl [0, 2] rfl)
set_option maxHeartbeats 4000000 in
theorem w_worst (l : Launch) (G : va_G) (ai : Nat → ClassId) (o : Nat) (ar : Nat → Nat) (M : MS) (r0 : Int32) (M0 : MS) (hF : f_worst M = some (r0, M0)) : md_M l G ai o ar yX9_worst cX9_worst 3 (some .int) ({ frames := 0, cells := 0, slots := 0, locals := 0 } : Room) [.ref o] M r0 M0 := by
  refine mo_body (Qc := fun A => va_Qi (fun (r' : Int32) (M2 : MS) => r' = r0 ∧ M2 = M0) (gw_E G ai (md_W ai o ar) A) A) (by decide) (Nat.le_of_ble_eq_true rfl) ?_
  intro p e s m args below meth c A ls hC hr hI hl _
  have hx := hC.1
  have hb := hC.2.1
  have hl : lv_has ls 3 [(0, .ref o)] := hl
  show W p l e _ s m args below meth c s.heap [] 0 0 (md_Q below G ai o ar A args s r0 M0) (F0 m 0 ls [])
  rw [f_worst] at hF
  refine lv_iconst (v := 0) hx hb dX9_worst_0 (by decide) ?_
  refine mo_ist (lv' := [(1, .int 0), (0, .ref o)]) hx hb rfl dX9_worst_1 rfl hl (by decide) rfl (fun ls hl => ?_)
  refine lv_iconst (v := 1) hx hb dX9_worst_2 (by decide) ?_
  refine mo_ist (lv' := [(2, .int 1), (1, .int 0), (0, .ref o)]) hx hb rfl dX9_worst_3 rfl hl (by decide) rfl (fun ls hl => ?_)
  refine w_worst_L4 hC hr _ (fun M10 x1_11 H locs ls hF hI hl => ?_) 2000 _ _ _ _ _ _ hF hI (lv_sub hl [0, 1, 2] rfl)
  refine lv_aload_n hx hb dX9_worst_43 rfl (lv_at hl 1 rfl) ?_
  refine md_g6 hC hI dX9_worst_44 ?_
  refine lv_bipush (v := 72) hx hb dX9_worst_47 (by decide) ?_
  refine lv_iload_n hx hb dX9_worst_49 rfl (lv_at hl 0 rfl) ?_
  refine lv_iadd hx hb dX9_worst_50 ?_
  obtain ⟨hg12, hF⟩ := gd_some hF
  refine md_l1 hC hI hg12 dX9_worst_51 ?_
  refine lv_if_ne (tgt := 60) hx hb dX9_worst_52 (by decide) (fun c13 => ?_) (fun c13 => ?_)
  · have hF := if_f hF c13
    refine lv_iload_n hx hb dX9_worst_60 rfl (lv_at hl 0 rfl) ?_
    exact md_iret hC hI hr hF dX9_worst_61
  · have hF := if_t hF c13
    refine lv_bipush (v := (-4)) hx hb dX9_worst_55 (by decide) ?_
    refine lv_goto (tgt := 61) hx hb dX9_worst_57 (by decide) ?_
    exact md_iret hC hI hr hF dX9_worst_61
def f_moss (M : MS) (a1 : Int32) : Option (Int32 × MS) := if a1 = 0 then (ob (f_sumOf M 42) (fun r2 M3 => some (r2, M3))) else (some (((300 + (M 1 (5 : Int32).toNatClampNeg)) - (M 1 (6 : Int32).toNatClampNeg)), M))
set_option maxHeartbeats 4000000 in
theorem w_moss (l : Launch) (G : va_G) (ai : Nat → ClassId) (o : Nat) (ar : Nat → Nat) (M : MS) (a1 : Int32) (r0 : Int32) (M0 : MS) (hF : f_moss M a1 = some (r0, M0)) : md_M l G ai o ar yX9_moss cX9_moss 2 (some .int) ({ frames := 1, cells := 0, slots := 0, locals := 23 } : Room) [.ref o, .int a1] M r0 M0 := by
  refine mo_body (Qc := fun A => va_Qi (fun (r' : Int32) (M2 : MS) => r' = r0 ∧ M2 = M0) (gw_E G ai (md_W ai o ar) A) A) (by decide) (Nat.le_of_ble_eq_true rfl) ?_
  intro p e s m args below meth c A ls hC hr hI hl _
  have hx := hC.1
  have hb := hC.2.1
  have hl : lv_has ls 2 [(0, .ref o), (1, .int a1)] := hl
  show W p l e _ s m args below meth c s.heap [] 0 0 (md_Q below G ai o ar A args s r0 M0) (F0 m 0 ls [])
  rw [f_moss] at hF
  refine lv_iload_n hx hb dX9_moss_0 rfl (lv_at hl 1 rfl) ?_
  refine lv_if_eq (tgt := 25) hx hb dX9_moss_1 (by decide) (fun c1 => ?_) (fun c1 => ?_)
  · have hF := if_t hF c1
    refine lv_aload_n hx hb dX9_moss_25 rfl (lv_at hl 0 rfl) ?_
    refine lv_bipush (v := 42) hx hb dX9_moss_26 (by decide) ?_
    obtain ⟨r2, M3, hz4, hF⟩ := ob_some hF
    refine k_sumOf hC hI hz4 (Nat.le_of_ble_eq_true rfl) (Nat.le_of_ble_eq_true rfl) hl.1 (Nat.le_of_ble_eq_true rfl) dX9_moss_28 (fun H locs hI => ?_)
    exact md_iret hC hI hr hF dX9_moss_31
  · have hF := if_f hF c1
    refine lv_sipush (v := 300) hx hb dX9_moss_4 (by decide) ?_
    refine lv_aload_n hx hb dX9_moss_7 rfl (lv_at hl 0 rfl) ?_
    refine md_g6 hC hI dX9_moss_8 ?_
    refine lv_iconst (v := 5) hx hb dX9_moss_11 (by decide) ?_
    refine md_l1 hC hI (by decide) dX9_moss_12 ?_
    refine lv_iadd hx hb dX9_moss_13 ?_
    refine lv_aload_n hx hb dX9_moss_14 rfl (lv_at hl 0 rfl) ?_
    refine md_g6 hC hI dX9_moss_15 ?_
    refine lv_bipush (v := 6) hx hb dX9_moss_18 (by decide) ?_
    refine md_l1 hC hI (by decide) dX9_moss_20 ?_
    refine lv_isub hx hb dX9_moss_21 ?_
    refine lv_goto (tgt := 31) hx hb dX9_moss_22 (by decide) ?_
    exact md_iret hC hI hr hF dX9_moss_31
def f_writes (M : MS) (a1 : Int32) : Option (Int32 × MS) := gd (gi (M 0 18) 12) (lt (rup M 11 (upd (M 11) (M 0 18).toNatClampNeg a1)) (fun M2 => lt (rup M2 0 (upd (M2 0) 18 ((M2 0 18) + 1))) (fun M3 => some (0, M3))))
set_option maxHeartbeats 4000000 in
theorem w_writes (l : Launch) (G : va_G) (ai : Nat → ClassId) (o : Nat) (ar : Nat → Nat) (M : MS) (a1 : Int32) (r0 : Int32) (M0 : MS) (hF : f_writes M a1 = some (r0, M0)) : md_Mv l G ai o ar yX9_writes cX9_writes 2 ({ frames := 0, cells := 0, slots := 0, locals := 0 } : Room) [.ref o, .int a1] M M0 := by
  refine mo_body (Qc := fun A => va_Qv (fun (M2 : MS) => M2 = M0) (gw_E G ai (md_W ai o ar) A) A) (by decide) (Nat.le_of_ble_eq_true rfl) ?_
  intro p e s m args below meth c A ls hC hr hI hl _
  have hx := hC.1
  have hb := hC.2.1
  have hl : lv_has ls 2 [(0, .ref o), (1, .int a1)] := hl
  show W p l e _ s m args below meth c s.heap [] 0 0 (md_Qv below G ai o ar A args s M0) (F0 m 0 ls [])
  rw [f_writes] at hF
  refine lv_aload_n hx hb dX9_writes_0 rfl (lv_at hl 0 rfl) ?_
  refine md_g16 hC hI dX9_writes_1 ?_
  refine lv_aload_n hx hb dX9_writes_4 rfl (lv_at hl 0 rfl) ?_
  refine md_g18 hC hI dX9_writes_5 ?_
  refine lv_iload_n hx hb dX9_writes_8 rfl (lv_at hl 1 rfl) ?_
  obtain ⟨hg1, hF⟩ := gd_some hF
  obtain ⟨M2, hM2, hF⟩ := lt_some hF
  refine md_s11 hC hI hg1 hM2 dX9_writes_9 (fun H locs hI => ?_)
  refine lv_aload_n hx hb dX9_writes_10 rfl (lv_at hl 0 rfl) ?_
  refine lv_dup hx hb dX9_writes_11 rfl ?_
  refine md_g18 hC hI dX9_writes_12 ?_
  refine lv_iconst (v := 1) hx hb dX9_writes_15 (by decide) ?_
  refine lv_iadd hx hb dX9_writes_16 ?_
  obtain ⟨M3, hM3, hF⟩ := lt_some hF
  refine md_p18 hC hI hM3 dX9_writes_17 (fun H locs hI => ?_)
  exact md_vret hC hI hr hF dX9_writes_20
theorem k_writes {p : Program} {l : Launch} {e : Env} {R : Room} {s : State} {m : MethodId} {args : Array Value} {below : List Frame} {meth : Method} {c : Code} {H : Heap} {locs : List Loc} {cells slots : Nat} {Q : State → Prop} {pc : Nat} {ls : Array Slot} {rest : List Value} {G : va_G} {ai : Nat → ClassId} {A : Nat → Prop} {cc : ByteArray} {nL f L kc ks o : Nat} {ar : Nat → Nat} {M M1 : MS} {r1 : Int32} {a1 : Int32} (hC : mo_C p R s m args meth c G ai A RX9 cc nL f L kc ks) (hI : mo_I G A s.heap (md_W ai o ar M) H locs) (hz : f_writes M a1 = some (r1, M1)) (hf : 0 + 1 ≤ f) (hL : 8 + (2 + 11) + 0 ≤ L) (hsz : ls.size = nL) (hW : (rest.map fun v => v.category).sum ≤ 8) (hdg : decode cc pc = .ok (.invokevirtual 239, 3)) (kk : ∀ (H1 : Heap) (locs1 : List Loc), mo_I G A s.heap (md_W ai o ar M1) H1 locs1 → W p l e R s m args below meth c H1 locs1 cells slots Q (F0 m (pc + 3) ls (rest))) (hc0 : cells ≤ kc := by first | exact Nat.zero_le _ | assumption) (hs0 : slots ≤ ks := by first | exact Nat.zero_le _ | assumption) : W p l e R s m args below meth c H locs cells slots Q (F0 m pc ls (.int a1 :: .ref o :: rest)) := by
  have hI : mo_I G A s.heap (md_W ai o ar M ++ []) H locs := by rw [List.append_nil]; exact hI
  refine gw_cVv (As := [.int a1]) (mc := 0) (ms := 0) (fs := md_F ar M) hC 1 hI (w_writes l G ai o ar M a1 r1 M1 hz) 0 0 rfl rfl q2390 q2392 qs112 q142 q2393 rfl rfl (by decide +kernel) rfl hf hL hc0 hs0 hsz rfl hW hdg (fun u H1 locs1 hp hI1 => ?_)
  obtain rfl := hp
  rw [List.append_nil] at hI1
  exact kk H1 locs1 hI1
def f_describe_L21 (a1 : Int32) (kont : MS → Option (Int32 × MS)) : Nat → MS → Int32 → Option (Int32 × MS)
  | 0, _, _ => none
  | n + 1, M, x2 => if (6 * (a1 + 1)) ≤ x2 then (kont M) else (ob (f_isStone M x2) (fun r5 M6 => lj (fun (M8 : MS) (t10 : Int32) => ob (f_writes M8 t10) (fun r12 M13 => ob (f_gardenersOn M13 x2) (fun r15 M16 => lj (fun (M18 : MS) => lt (x2 + 1) (fun x2_20 => f_describe_L21 a1 kont n M18 x2_20)) (fun j100_18 => if r15 = 0 then (j100_18 M16) else (ob (f_writes M16 42) (fun r22 M23 => j100_18 M23)))))) (fun j83_10 => if r5 = 0 then (gd (gi (42 + x2) 216) (if (M6 1 (42 + x2).toNatClampNeg) = 0 then (j83_10 M6 46) else (gd (gi (42 + x2) 216) (if 6 ≤ (M6 1 (42 + x2).toNatClampNeg) then (j83_10 M6 111) else (j83_10 M6 121))))) else (j83_10 M6 35))))
def f_describe (M : MS) (a1 : Int32) : Option (Int32 × MS) := if (p_isIn a1 0 4) = 0 then (some ((-1), M)) else (lt (rup M 0 (upd (M 0) 18 0)) (fun M2 => lt ((6 * a1)) (fun x2_3 => f_describe_L21 a1 (fun M30 => some ((M30 0 18), M30)) 2000 M2 x2_3)))
set_option maxHeartbeats 4000000 in
theorem w_describe_L21 {p : Program} {l : Launch} {e : Env} {R : Room} {s : State} {m : MethodId} {args : Array Value} {below : List Frame} {meth : Method} {c : Code} {G : va_G} {ai : Nat → ClassId} {A : Nat → Prop} {o : Nat} {ar : Nat → Nat} {r0 : Int32} {M0 : MS} (hC : mo_C p R s m args meth c G ai A RX9 cX9_describe 3 2 44 0 0) (hr : meth.sig.returnType = (some .int)) (a1 : Int32) (kont : MS → Option (Int32 × MS)) (K : ∀ (M : MS) (H : Heap) (locs : List Loc) (ls : Array Slot), kont M = some (r0, M0) → mo_I G A s.heap (md_W ai o ar M) H locs → lv_has ls 3 [(0, .ref o)] → W p l e R s m args below meth c H locs 0 0 (md_Q below G ai o ar A args s r0 M0) (F0 m 106 ls [])) :
    ∀ (n : Nat) (M : MS) (x2 : Int32) (H : Heap) (locs : List Loc) (ls : Array Slot), f_describe_L21 a1 kont n M x2 = some (r0, M0) → mo_I G A s.heap (md_W ai o ar M) H locs → lv_has ls 3 [(2, .int x2), (0, .ref o), (1, .int a1)] → W p l e R s m args below meth c H locs 0 0 (md_Q below G ai o ar A args s r0 M0) (F0 m 21 ls []) := by
  have hx := hC.1
  have hb := hC.2.1
  intro n
  induction n with
  | zero =>
    intro M x2 H locs ls hF
    have h0 : (none : Option (Int32 × MS)) = some (r0, M0) := hF
    cases h0
  | succ n ih =>
    intro M x2 H locs ls hF hI hl
    rw [f_describe_L21] at hF
    refine lv_iload_n hx hb dX9_describe_21 rfl (lv_at hl 0 rfl) ?_
    refine lv_bipush (v := 6) hx hb dX9_describe_22 (by decide) ?_
    refine lv_iload_n hx hb dX9_describe_24 rfl (lv_at hl 2 rfl) ?_
    refine lv_iconst (v := 1) hx hb dX9_describe_25 (by decide) ?_
    refine lv_iadd hx hb dX9_describe_26 ?_
    refine lv_imul hx hb dX9_describe_27 ?_
    refine lv_icmp_ge (tgt := 106) hx hb dX9_describe_28 (by decide) (fun c4 => ?_) (fun c4 => ?_)
    · have hF := if_t hF c4
      exact K _ _ _ _ hF hI (lv_sub hl [1] rfl)
    · have hF := if_f hF c4
      refine lv_aload_n hx hb dX9_describe_31 rfl (lv_at hl 1 rfl) ?_
      refine lv_aload_n hx hb dX9_describe_32 rfl (lv_at hl 1 rfl) ?_
      refine lv_iload_n hx hb dX9_describe_33 rfl (lv_at hl 0 rfl) ?_
      obtain ⟨r5, M6, hz7, hF⟩ := ob_some hF
      refine k_isStone hC hI hz7 (Nat.le_of_ble_eq_true rfl) (Nat.le_of_ble_eq_true rfl) hl.1 (Nat.le_of_ble_eq_true rfl) dX9_describe_34 (fun H locs hI => ?_)
      obtain ⟨j83_10, hj83_10, hF⟩ := lj_some hF
      have J83 : ∀ (M8 : MS) (t10 : Int32) (H : Heap) (locs : List Loc) (ls : Array Slot), j83_10 M8 t10 = some (r0, M0) → mo_I G A s.heap (md_W ai o ar M8) H locs → lv_has ls 3 [(2, .int x2), (0, .ref o), (1, .int a1)] → W p l e R s m args below meth c H locs 0 0 (md_Q below G ai o ar A args s r0 M0) (F0 m 83 ls [.int t10, .ref o]) := by
        intro M8 t10 H locs ls hF hI hl
        rw [hj83_10] at hF
        obtain ⟨r12, M13, hz14, hF⟩ := ob_some hF
        refine k_writes hC hI hz14 (Nat.le_of_ble_eq_true rfl) (Nat.le_of_ble_eq_true rfl) hl.1 (Nat.le_of_ble_eq_true rfl) dX9_describe_83 (fun H locs hI => ?_)
        refine lv_aload_n hx hb dX9_describe_86 rfl (lv_at hl 1 rfl) ?_
        refine lv_iload_n hx hb dX9_describe_87 rfl (lv_at hl 0 rfl) ?_
        obtain ⟨r15, M16, hz17, hF⟩ := ob_some hF
        refine k_gardenersOn hC hI hz17 (Nat.le_of_ble_eq_true rfl) (Nat.le_of_ble_eq_true rfl) hl.1 (Nat.le_of_ble_eq_true rfl) dX9_describe_88 (fun H locs hI => ?_)
        obtain ⟨j100_18, hj100_18, hF⟩ := lj_some hF
        have J100 : ∀ (M18 : MS) (H : Heap) (locs : List Loc) (ls : Array Slot), j100_18 M18 = some (r0, M0) → mo_I G A s.heap (md_W ai o ar M18) H locs → lv_has ls 3 [(2, .int x2), (0, .ref o), (1, .int a1)] → W p l e R s m args below meth c H locs 0 0 (md_Q below G ai o ar A args s r0 M0) (F0 m 100 ls []) := by
          intro M18 H locs ls hF hI hl
          rw [hj100_18] at hF
          obtain ⟨x2_20, hx2_20, hF⟩ := lt_some hF
          refine mo_inc (k := 0) (lv' := [(2, .int x2_20), (0, .ref o), (1, .int a1)]) hx hb hx2_20 (by decide) dX9_describe_100 hl rfl (by decide) rfl (fun ls hl => ?_)
          refine lv_goto (tgt := 21) hx hb dX9_describe_103 (by decide) ?_
          exact ih _ _ _ _ _ hF hI (lv_sub hl [0, 1, 2] rfl)
        refine lv_if_eq (tgt := 100) hx hb dX9_describe_91 (by decide) (fun c21 => ?_) (fun c21 => ?_)
        · have hF := if_t hF c21
          exact J100 _ _ _ _ hF hI (lv_sub hl [0, 1, 2] rfl)
        · have hF := if_f hF c21
          refine lv_aload_n hx hb dX9_describe_94 rfl (lv_at hl 1 rfl) ?_
          refine lv_bipush (v := 42) hx hb dX9_describe_95 (by decide) ?_
          obtain ⟨r22, M23, hz24, hF⟩ := ob_some hF
          refine k_writes hC hI hz24 (Nat.le_of_ble_eq_true rfl) (Nat.le_of_ble_eq_true rfl) hl.1 (Nat.le_of_ble_eq_true rfl) dX9_describe_97 (fun H locs hI => ?_)
          exact J100 _ _ _ _ hF hI (lv_sub hl [0, 1, 2] rfl)
      refine lv_if_eq (tgt := 45) hx hb dX9_describe_37 (by decide) (fun c25 => ?_) (fun c25 => ?_)
      · have hF := if_t hF c25
        refine lv_aload_n hx hb dX9_describe_45 rfl (lv_at hl 1 rfl) ?_
        refine md_g6 hC hI dX9_describe_46 ?_
        refine lv_bipush (v := 42) hx hb dX9_describe_49 (by decide) ?_
        refine lv_iload_n hx hb dX9_describe_51 rfl (lv_at hl 0 rfl) ?_
        refine lv_iadd hx hb dX9_describe_52 ?_
        obtain ⟨hg26, hF⟩ := gd_some hF
        refine md_l1 hC hI hg26 dX9_describe_53 ?_
        refine lv_if_ne (tgt := 62) hx hb dX9_describe_54 (by decide) (fun c27 => ?_) (fun c27 => ?_)
        · have hF := if_f hF c27
          refine lv_aload_n hx hb dX9_describe_62 rfl (lv_at hl 1 rfl) ?_
          refine md_g6 hC hI dX9_describe_63 ?_
          refine lv_bipush (v := 42) hx hb dX9_describe_66 (by decide) ?_
          refine lv_iload_n hx hb dX9_describe_68 rfl (lv_at hl 0 rfl) ?_
          refine lv_iadd hx hb dX9_describe_69 ?_
          obtain ⟨hg28, hF⟩ := gd_some hF
          refine md_l1 hC hI hg28 dX9_describe_70 ?_
          refine lv_bipush (v := 6) hx hb dX9_describe_71 (by decide) ?_
          refine lv_icmp_ge (tgt := 81) hx hb dX9_describe_73 (by decide) (fun c29 => ?_) (fun c29 => ?_)
          · have hF := if_t hF c29
            refine lv_bipush (v := 111) hx hb dX9_describe_81 (by decide) ?_
            exact J83 _ _ _ _ _ hF hI (lv_sub hl [0, 1, 2] rfl)
          · have hF := if_f hF c29
            refine lv_bipush (v := 121) hx hb dX9_describe_76 (by decide) ?_
            refine lv_goto (tgt := 83) hx hb dX9_describe_78 (by decide) ?_
            exact J83 _ _ _ _ _ hF hI (lv_sub hl [0, 1, 2] rfl)
        · have hF := if_t hF c27
          refine lv_bipush (v := 46) hx hb dX9_describe_57 (by decide) ?_
          refine lv_goto (tgt := 83) hx hb dX9_describe_59 (by decide) ?_
          exact J83 _ _ _ _ _ hF hI (lv_sub hl [0, 1, 2] rfl)
      · have hF := if_f hF c25
        refine lv_bipush (v := 35) hx hb dX9_describe_40 (by decide) ?_
        refine lv_goto (tgt := 83) hx hb dX9_describe_42 (by decide) ?_
        exact J83 _ _ _ _ _ hF hI (lv_sub hl [0, 1, 2] rfl)
set_option maxHeartbeats 4000000 in
theorem w_describe (l : Launch) (G : va_G) (ai : Nat → ClassId) (o : Nat) (ar : Nat → Nat) (M : MS) (a1 : Int32) (r0 : Int32) (M0 : MS) (hF : f_describe M a1 = some (r0, M0)) : md_M l G ai o ar yX9_describe cX9_describe 3 (some .int) ({ frames := 2, cells := 0, slots := 0, locals := 44 } : Room) [.ref o, .int a1] M r0 M0 := by
  refine mo_body (Qc := fun A => va_Qi (fun (r' : Int32) (M2 : MS) => r' = r0 ∧ M2 = M0) (gw_E G ai (md_W ai o ar) A) A) (by decide) (Nat.le_of_ble_eq_true rfl) ?_
  intro p e s m args below meth c A ls hC hr hI hl _
  have hx := hC.1
  have hb := hC.2.1
  have hl : lv_has ls 3 [(0, .ref o), (1, .int a1)] := hl
  show W p l e _ s m args below meth c s.heap [] 0 0 (md_Q below G ai o ar A args s r0 M0) (F0 m 0 ls [])
  rw [f_describe] at hF
  refine lv_iload_n hx hb dX9_describe_0 rfl (lv_at hl 1 rfl) ?_
  refine lv_iconst (v := 0) hx hb dX9_describe_1 (by decide) ?_
  refine lv_iconst (v := 4) hx hb dX9_describe_2 (by decide) ?_
  refine k_isIn (mo_CN hC) (Nat.le_of_ble_eq_true rfl) (Nat.le_of_ble_eq_true rfl) hl.1 (Nat.le_of_ble_eq_true rfl) dX9_describe_3 ?_
  refine lv_if_ne (tgt := 11) hx hb dX9_describe_6 (by decide) (fun c1 => ?_) (fun c1 => ?_)
  · have hF := if_f hF c1
    refine lv_aload_n hx hb dX9_describe_11 rfl (lv_at hl 0 rfl) ?_
    refine lv_iconst (v := 0) hx hb dX9_describe_12 (by decide) ?_
    obtain ⟨M2, hM2, hF⟩ := lt_some hF
    refine md_p18 hC hI hM2 dX9_describe_13 (fun H locs hI => ?_)
    refine lv_bipush (v := 6) hx hb dX9_describe_16 (by decide) ?_
    refine lv_iload_n hx hb dX9_describe_18 rfl (lv_at hl 1 rfl) ?_
    refine lv_imul hx hb dX9_describe_19 ?_
    obtain ⟨x2_3, hx2_3, hF⟩ := lt_some hF
    refine mo_ist (lv' := [(2, .int x2_3), (0, .ref o), (1, .int a1)]) hx hb hx2_3 dX9_describe_20 rfl hl (by decide) rfl (fun ls hl => ?_)
    refine w_describe_L21 hC hr a1 _ (fun M30 H locs ls hF hI hl => ?_) 2000 _ _ _ _ _ hF hI (lv_sub hl [0, 1, 2] rfl)
    refine lv_aload_n hx hb dX9_describe_106 rfl (lv_at hl 0 rfl) ?_
    refine md_g18 hC hI dX9_describe_107 ?_
    exact md_iret hC hI hr hF dX9_describe_110
  · have hF := if_t hF c1
    refine lv_iconst (v := (-1)) hx hb dX9_describe_9 (by decide) ?_
    exact md_iret hC hI hr hF dX9_describe_10
def f_written (M : MS) (a1 : Int32) : Option (Int32 × MS) := if (p_isIn a1 0 ((M 0 18) - 1)) = 0 then (some ((-1), M)) else (gd (gi a1 12) (some ((M 11 a1.toNatClampNeg), M)))
set_option maxHeartbeats 4000000 in
theorem w_written (l : Launch) (G : va_G) (ai : Nat → ClassId) (o : Nat) (ar : Nat → Nat) (M : MS) (a1 : Int32) (r0 : Int32) (M0 : MS) (hF : f_written M a1 = some (r0, M0)) : md_M l G ai o ar yX9_written cX9_written 2 (some .int) ({ frames := 1, cells := 0, slots := 0, locals := 22 } : Room) [.ref o, .int a1] M r0 M0 := by
  refine mo_body (Qc := fun A => va_Qi (fun (r' : Int32) (M2 : MS) => r' = r0 ∧ M2 = M0) (gw_E G ai (md_W ai o ar) A) A) (by decide) (Nat.le_of_ble_eq_true rfl) ?_
  intro p e s m args below meth c A ls hC hr hI hl _
  have hx := hC.1
  have hb := hC.2.1
  have hl : lv_has ls 2 [(0, .ref o), (1, .int a1)] := hl
  show W p l e _ s m args below meth c s.heap [] 0 0 (md_Q below G ai o ar A args s r0 M0) (F0 m 0 ls [])
  rw [f_written] at hF
  refine lv_iload_n hx hb dX9_written_0 rfl (lv_at hl 1 rfl) ?_
  refine lv_iconst (v := 0) hx hb dX9_written_1 (by decide) ?_
  refine lv_aload_n hx hb dX9_written_2 rfl (lv_at hl 0 rfl) ?_
  refine md_g18 hC hI dX9_written_3 ?_
  refine lv_iconst (v := 1) hx hb dX9_written_6 (by decide) ?_
  refine lv_isub hx hb dX9_written_7 ?_
  refine k_isIn (mo_CN hC) (Nat.le_of_ble_eq_true rfl) (Nat.le_of_ble_eq_true rfl) hl.1 (Nat.le_of_ble_eq_true rfl) dX9_written_8 ?_
  refine lv_if_eq (tgt := 23) hx hb dX9_written_11 (by decide) (fun c1 => ?_) (fun c1 => ?_)
  · have hF := if_t hF c1
    refine lv_iconst (v := (-1)) hx hb dX9_written_23 (by decide) ?_
    exact md_iret hC hI hr hF dX9_written_24
  · have hF := if_f hF c1
    refine lv_aload_n hx hb dX9_written_14 rfl (lv_at hl 0 rfl) ?_
    refine md_g16 hC hI dX9_written_15 ?_
    refine lv_iload_n hx hb dX9_written_18 rfl (lv_at hl 1 rfl) ?_
    obtain ⟨hg2, hF⟩ := gd_some hF
    refine md_l11 hC hI hg2 dX9_written_19 ?_
    refine lv_goto (tgt := 24) hx hb dX9_written_20 (by decide) ?_
    exact md_iret hC hI hr hF dX9_written_24
def f_caught_L4 (kont : MS → Int32 → Option (Int32 × MS)) : Nat → MS → Int32 → Int32 → Option (Int32 × MS)
  | 0, _, _, _ => none
  | n + 1, M, x2, x1 => if (M 1 (3 : Int32).toNatClampNeg) ≤ x2 then (kont M x1) else (gd (gi (p_moleAt x2 1) 216) (lt ((x1 + (M 1 (p_moleAt x2 1).toNatClampNeg))) (fun x1_3 => lt (x2 + 1) (fun x2_4 => f_caught_L4 kont n M x2_4 x1_3))))
def f_caught (M : MS) : Option (Int32 × MS) := f_caught_L4 (fun M5 x1_6 => some (x1_6, M5)) 2000 M 0 0
set_option maxHeartbeats 4000000 in
theorem w_caught_L4 {p : Program} {l : Launch} {e : Env} {R : Room} {s : State} {m : MethodId} {args : Array Value} {below : List Frame} {meth : Method} {c : Code} {G : va_G} {ai : Nat → ClassId} {A : Nat → Prop} {o : Nat} {ar : Nat → Nat} {r0 : Int32} {M0 : MS} (hC : mo_C p R s m args meth c G ai A RX9 cX9_caught 3 1 21 0 0) (hr : meth.sig.returnType = (some .int)) (kont : MS → Int32 → Option (Int32 × MS)) (K : ∀ (M : MS) (x1 : Int32) (H : Heap) (locs : List Loc) (ls : Array Slot), kont M x1 = some (r0, M0) → mo_I G A s.heap (md_W ai o ar M) H locs → lv_has ls 3 [(1, .int x1)] → W p l e R s m args below meth c H locs 0 0 (md_Q below G ai o ar A args s r0 M0) (F0 m 33 ls [])) :
    ∀ (n : Nat) (M : MS) (x2 : Int32) (x1 : Int32) (H : Heap) (locs : List Loc) (ls : Array Slot), f_caught_L4 kont n M x2 x1 = some (r0, M0) → mo_I G A s.heap (md_W ai o ar M) H locs → lv_has ls 3 [(2, .int x2), (1, .int x1), (0, .ref o)] → W p l e R s m args below meth c H locs 0 0 (md_Q below G ai o ar A args s r0 M0) (F0 m 4 ls []) := by
  have hx := hC.1
  have hb := hC.2.1
  intro n
  induction n with
  | zero =>
    intro M x2 x1 H locs ls hF
    have h0 : (none : Option (Int32 × MS)) = some (r0, M0) := hF
    cases h0
  | succ n ih =>
    intro M x2 x1 H locs ls hF hI hl
    rw [f_caught_L4] at hF
    refine lv_iload_n hx hb dX9_caught_4 rfl (lv_at hl 0 rfl) ?_
    refine lv_aload_n hx hb dX9_caught_5 rfl (lv_at hl 2 rfl) ?_
    refine md_g6 hC hI dX9_caught_6 ?_
    refine lv_iconst (v := 3) hx hb dX9_caught_9 (by decide) ?_
    refine md_l1 hC hI (by decide) dX9_caught_10 ?_
    refine lv_icmp_ge (tgt := 33) hx hb dX9_caught_11 (by decide) (fun c1 => ?_) (fun c1 => ?_)
    · have hF := if_t hF c1
      exact K _ _ _ _ _ hF hI (lv_sub hl [1] rfl)
    · have hF := if_f hF c1
      refine lv_iload_n hx hb dX9_caught_14 rfl (lv_at hl 1 rfl) ?_
      refine lv_aload_n hx hb dX9_caught_15 rfl (lv_at hl 2 rfl) ?_
      refine md_g6 hC hI dX9_caught_16 ?_
      refine lv_iload_n hx hb dX9_caught_19 rfl (lv_at hl 0 rfl) ?_
      refine lv_iconst (v := 1) hx hb dX9_caught_20 (by decide) ?_
      refine k_moleAt (mo_CN hC) (Nat.le_of_ble_eq_true rfl) (Nat.le_of_ble_eq_true rfl) hl.1 (Nat.le_of_ble_eq_true rfl) dX9_caught_21 ?_
      obtain ⟨hg2, hF⟩ := gd_some hF
      refine md_l1 hC hI hg2 dX9_caught_24 ?_
      refine lv_iadd hx hb dX9_caught_25 ?_
      obtain ⟨x1_3, hx1_3, hF⟩ := lt_some hF
      refine mo_ist (lv' := [(1, .int x1_3), (2, .int x2), (0, .ref o)]) hx hb hx1_3 dX9_caught_26 rfl hl (by decide) rfl (fun ls hl => ?_)
      obtain ⟨x2_4, hx2_4, hF⟩ := lt_some hF
      refine mo_inc (k := 1) (lv' := [(2, .int x2_4), (1, .int x1_3), (0, .ref o)]) hx hb hx2_4 (by decide) dX9_caught_27 hl rfl (by decide) rfl (fun ls hl => ?_)
      refine lv_goto (tgt := 4) hx hb dX9_caught_30 (by decide) ?_
      exact ih _ _ _ _ _ _ hF hI (lv_sub hl [0, 1, 2] rfl)
set_option maxHeartbeats 4000000 in
theorem w_caught (l : Launch) (G : va_G) (ai : Nat → ClassId) (o : Nat) (ar : Nat → Nat) (M : MS) (r0 : Int32) (M0 : MS) (hF : f_caught M = some (r0, M0)) : md_M l G ai o ar yX9_caught cX9_caught 3 (some .int) ({ frames := 1, cells := 0, slots := 0, locals := 21 } : Room) [.ref o] M r0 M0 := by
  refine mo_body (Qc := fun A => va_Qi (fun (r' : Int32) (M2 : MS) => r' = r0 ∧ M2 = M0) (gw_E G ai (md_W ai o ar) A) A) (by decide) (Nat.le_of_ble_eq_true rfl) ?_
  intro p e s m args below meth c A ls hC hr hI hl _
  have hx := hC.1
  have hb := hC.2.1
  have hl : lv_has ls 3 [(0, .ref o)] := hl
  show W p l e _ s m args below meth c s.heap [] 0 0 (md_Q below G ai o ar A args s r0 M0) (F0 m 0 ls [])
  rw [f_caught] at hF
  refine lv_iconst (v := 0) hx hb dX9_caught_0 (by decide) ?_
  refine mo_ist (lv' := [(1, .int 0), (0, .ref o)]) hx hb rfl dX9_caught_1 rfl hl (by decide) rfl (fun ls hl => ?_)
  refine lv_iconst (v := 0) hx hb dX9_caught_2 (by decide) ?_
  refine mo_ist (lv' := [(2, .int 0), (1, .int 0), (0, .ref o)]) hx hb rfl dX9_caught_3 rfl hl (by decide) rfl (fun ls hl => ?_)
  refine w_caught_L4 hC hr _ (fun M5 x1_6 H locs ls hF hI hl => ?_) 2000 _ _ _ _ _ _ hF hI (lv_sub hl [0, 1, 2] rfl)
  refine lv_iload_n hx hb dX9_caught_33 rfl (lv_at hl 0 rfl) ?_
  exact md_iret hC hI hr hF dX9_caught_34
theorem k_caught {p : Program} {l : Launch} {e : Env} {R : Room} {s : State} {m : MethodId} {args : Array Value} {below : List Frame} {meth : Method} {c : Code} {H : Heap} {locs : List Loc} {cells slots : Nat} {Q : State → Prop} {pc : Nat} {ls : Array Slot} {rest : List Value} {G : va_G} {ai : Nat → ClassId} {A : Nat → Prop} {cc : ByteArray} {nL f L kc ks o : Nat} {ar : Nat → Nat} {M M1 : MS} {r1 : Int32} (hC : mo_C p R s m args meth c G ai A RX9 cc nL f L kc ks) (hI : mo_I G A s.heap (md_W ai o ar M) H locs) (hz : f_caught M = some (r1, M1)) (hf : 1 + 1 ≤ f) (hL : 8 + (3 + 11) + 21 ≤ L) (hsz : ls.size = nL) (hW : (rest.map fun v => v.category).sum ≤ 8) (hdg : decode cc pc = .ok (.invokevirtual 242, 3)) (kk : ∀ (H1 : Heap) (locs1 : List Loc), mo_I G A s.heap (md_W ai o ar M1) H1 locs1 → W p l e R s m args below meth c H1 locs1 cells slots Q (F0 m (pc + 3) ls (.int r1 :: rest))) (hc0 : cells ≤ kc := by first | exact Nat.zero_le _ | assumption) (hs0 : slots ≤ ks := by first | exact Nat.zero_le _ | assumption) : W p l e R s m args below meth c H locs cells slots Q (F0 m pc ls (.ref o :: rest)) := by
  have hI : mo_I G A s.heap (md_W ai o ar M ++ []) H locs := by rw [List.append_nil]; exact hI
  refine gw_cVi (As := []) (mc := 0) (ms := 0) (fs := md_F ar M) hC 0 hI (w_caught l G ai o ar M r1 M1 hz) 0 0 rfl rfl q2410 q2412 qs113 q142 q2413 rfl rfl (by decide +kernel) rfl hf hL hc0 hs0 hsz rfl hW hdg (fun r u H1 locs1 hp hI1 => ?_)
  obtain ⟨rfl, rfl⟩ := hp
  rw [List.append_nil] at hI1
  exact kk H1 locs1 hI1
def f_account (M : MS) (a1 : Int32) : Option (Int32 × MS) := if a1 = 0 then (gd (gi a1 216) (some ((M 1 a1.toNatClampNeg), M))) else if a1 = 1 then (gd (gi a1 216) (some ((M 1 a1.toNatClampNeg), M))) else if a1 = 2 then (gd (gi a1 216) (some ((M 1 a1.toNatClampNeg), M))) else if a1 = 3 then (ob (f_caught M) (fun r8 M9 => some (((M 1 (3 : Int32).toNatClampNeg) - r8), M9))) else if a1 = 4 then (ob (f_caught M) (fun r12 M13 => some (r12, M13))) else if a1 = 5 then (some ((M 1 (4 : Int32).toNatClampNeg), M)) else if a1 = 6 then (ob (f_sumOf M 132) (fun r17 M18 => some (r17, M18))) else if a1 = 7 then (ob (f_sumOf M 102) (fun r21 M22 => some (r21, M22))) else if a1 = 8 then (ob (f_sumOf M 72) (fun r25 M26 => some (r25, M26))) else if a1 = 9 then (some ((M 1 (7 : Int32).toNatClampNeg), M)) else if a1 = 10 then (gd (gi ((5 + a1) - 10) 216) (some ((M 1 ((5 + a1) - 10).toNatClampNeg), M))) else if a1 = 11 then (gd (gi ((5 + a1) - 10) 216) (some ((M 1 ((5 + a1) - 10).toNatClampNeg), M))) else if a1 = 12 then (gd (gi ((8 + a1) - 12) 216) (some ((M 1 ((8 + a1) - 12).toNatClampNeg), M))) else if a1 = 13 then (gd (gi ((8 + a1) - 12) 216) (some ((M 1 ((8 + a1) - 12).toNatClampNeg), M))) else if a1 = 14 then (gd (gi ((8 + a1) - 12) 216) (some ((M 1 ((8 + a1) - 12).toNatClampNeg), M))) else if a1 = 15 then (some ((M 0 17), M)) else if a1 = 16 then (some ((M 0 1), M)) else (some ((-2), M))
set_option maxHeartbeats 4000000 in
theorem w_account (l : Launch) (G : va_G) (ai : Nat → ClassId) (o : Nat) (ar : Nat → Nat) (M : MS) (a1 : Int32) (r0 : Int32) (M0 : MS) (hF : f_account M a1 = some (r0, M0)) : md_M l G ai o ar yX9_account cX9_account 2 (some .int) ({ frames := 2, cells := 0, slots := 0, locals := 43 } : Room) [.ref o, .int a1] M r0 M0 := by
  refine mo_body (Qc := fun A => va_Qi (fun (r' : Int32) (M2 : MS) => r' = r0 ∧ M2 = M0) (gw_E G ai (md_W ai o ar) A) A) (by decide) (Nat.le_of_ble_eq_true rfl) ?_
  intro p e s m args below meth c A ls hC hr hI hl _
  have hx := hC.1
  have hb := hC.2.1
  have hl : lv_has ls 2 [(0, .ref o), (1, .int a1)] := hl
  show W p l e _ s m args below meth c s.heap [] 0 0 (md_Q below G ai o ar A args s r0 M0) (F0 m 0 ls [])
  rw [f_account] at hF
  refine lv_iload_n hx hb dX9_account_0 rfl (lv_at hl 1 rfl) ?_
  by_cases c1 : a1 = 0
  · have hF := if_t hF c1
    refine lv_tableIn (tgt := 84) (off := 83) hx hb dX9_account_1 (by rw [c1]; decide) (by rw [c1]; decide) (by rw [c1]; rfl) (by decide) ?_
    refine lv_aload_n hx hb dX9_account_84 rfl (lv_at hl 0 rfl) ?_
    refine md_g6 hC hI dX9_account_85 ?_
    refine lv_iload_n hx hb dX9_account_88 rfl (lv_at hl 1 rfl) ?_
    obtain ⟨hg2, hF⟩ := gd_some hF
    refine md_l1 hC hI hg2 dX9_account_89 ?_
    exact md_iret hC hI hr hF dX9_account_90
  have hF := if_f hF c1
  by_cases c3 : a1 = 1
  · have hF := if_t hF c3
    refine lv_tableIn (tgt := 84) (off := 83) hx hb dX9_account_1 (by rw [c3]; decide) (by rw [c3]; decide) (by rw [c3]; rfl) (by decide) ?_
    refine lv_aload_n hx hb dX9_account_84 rfl (lv_at hl 0 rfl) ?_
    refine md_g6 hC hI dX9_account_85 ?_
    refine lv_iload_n hx hb dX9_account_88 rfl (lv_at hl 1 rfl) ?_
    obtain ⟨hg4, hF⟩ := gd_some hF
    refine md_l1 hC hI hg4 dX9_account_89 ?_
    exact md_iret hC hI hr hF dX9_account_90
  have hF := if_f hF c3
  by_cases c5 : a1 = 2
  · have hF := if_t hF c5
    refine lv_tableIn (tgt := 84) (off := 83) hx hb dX9_account_1 (by rw [c5]; decide) (by rw [c5]; decide) (by rw [c5]; rfl) (by decide) ?_
    refine lv_aload_n hx hb dX9_account_84 rfl (lv_at hl 0 rfl) ?_
    refine md_g6 hC hI dX9_account_85 ?_
    refine lv_iload_n hx hb dX9_account_88 rfl (lv_at hl 1 rfl) ?_
    obtain ⟨hg6, hF⟩ := gd_some hF
    refine md_l1 hC hI hg6 dX9_account_89 ?_
    exact md_iret hC hI hr hF dX9_account_90
  have hF := if_f hF c5
  by_cases c7 : a1 = 3
  · have hF := if_t hF c7
    refine lv_tableIn (tgt := 91) (off := 90) hx hb dX9_account_1 (by rw [c7]; decide) (by rw [c7]; decide) (by rw [c7]; rfl) (by decide) ?_
    refine lv_aload_n hx hb dX9_account_91 rfl (lv_at hl 0 rfl) ?_
    refine md_g6 hC hI dX9_account_92 ?_
    refine lv_iconst (v := 3) hx hb dX9_account_95 (by decide) ?_
    refine md_l1 hC hI (by decide) dX9_account_96 ?_
    refine lv_aload_n hx hb dX9_account_97 rfl (lv_at hl 0 rfl) ?_
    obtain ⟨r8, M9, hz10, hF⟩ := ob_some hF
    refine k_caught hC hI hz10 (Nat.le_of_ble_eq_true rfl) (Nat.le_of_ble_eq_true rfl) hl.1 (Nat.le_of_ble_eq_true rfl) dX9_account_98 (fun H locs hI => ?_)
    refine lv_isub hx hb dX9_account_101 ?_
    exact md_iret hC hI hr hF dX9_account_102
  have hF := if_f hF c7
  by_cases c11 : a1 = 4
  · have hF := if_t hF c11
    refine lv_tableIn (tgt := 103) (off := 102) hx hb dX9_account_1 (by rw [c11]; decide) (by rw [c11]; decide) (by rw [c11]; rfl) (by decide) ?_
    refine lv_aload_n hx hb dX9_account_103 rfl (lv_at hl 0 rfl) ?_
    obtain ⟨r12, M13, hz14, hF⟩ := ob_some hF
    refine k_caught hC hI hz14 (Nat.le_of_ble_eq_true rfl) (Nat.le_of_ble_eq_true rfl) hl.1 (Nat.le_of_ble_eq_true rfl) dX9_account_104 (fun H locs hI => ?_)
    exact md_iret hC hI hr hF dX9_account_107
  have hF := if_f hF c11
  by_cases c15 : a1 = 5
  · have hF := if_t hF c15
    refine lv_tableIn (tgt := 108) (off := 107) hx hb dX9_account_1 (by rw [c15]; decide) (by rw [c15]; decide) (by rw [c15]; rfl) (by decide) ?_
    refine lv_aload_n hx hb dX9_account_108 rfl (lv_at hl 0 rfl) ?_
    refine md_g6 hC hI dX9_account_109 ?_
    refine lv_iconst (v := 4) hx hb dX9_account_112 (by decide) ?_
    refine md_l1 hC hI (by decide) dX9_account_113 ?_
    exact md_iret hC hI hr hF dX9_account_114
  have hF := if_f hF c15
  by_cases c16 : a1 = 6
  · have hF := if_t hF c16
    refine lv_tableIn (tgt := 115) (off := 114) hx hb dX9_account_1 (by rw [c16]; decide) (by rw [c16]; decide) (by rw [c16]; rfl) (by decide) ?_
    refine lv_aload_n hx hb dX9_account_115 rfl (lv_at hl 0 rfl) ?_
    refine lv_sipush (v := 132) hx hb dX9_account_116 (by decide) ?_
    obtain ⟨r17, M18, hz19, hF⟩ := ob_some hF
    refine k_sumOf hC hI hz19 (Nat.le_of_ble_eq_true rfl) (Nat.le_of_ble_eq_true rfl) hl.1 (Nat.le_of_ble_eq_true rfl) dX9_account_119 (fun H locs hI => ?_)
    exact md_iret hC hI hr hF dX9_account_122
  have hF := if_f hF c16
  by_cases c20 : a1 = 7
  · have hF := if_t hF c20
    refine lv_tableIn (tgt := 123) (off := 122) hx hb dX9_account_1 (by rw [c20]; decide) (by rw [c20]; decide) (by rw [c20]; rfl) (by decide) ?_
    refine lv_aload_n hx hb dX9_account_123 rfl (lv_at hl 0 rfl) ?_
    refine lv_bipush (v := 102) hx hb dX9_account_124 (by decide) ?_
    obtain ⟨r21, M22, hz23, hF⟩ := ob_some hF
    refine k_sumOf hC hI hz23 (Nat.le_of_ble_eq_true rfl) (Nat.le_of_ble_eq_true rfl) hl.1 (Nat.le_of_ble_eq_true rfl) dX9_account_126 (fun H locs hI => ?_)
    exact md_iret hC hI hr hF dX9_account_129
  have hF := if_f hF c20
  by_cases c24 : a1 = 8
  · have hF := if_t hF c24
    refine lv_tableIn (tgt := 130) (off := 129) hx hb dX9_account_1 (by rw [c24]; decide) (by rw [c24]; decide) (by rw [c24]; rfl) (by decide) ?_
    refine lv_aload_n hx hb dX9_account_130 rfl (lv_at hl 0 rfl) ?_
    refine lv_bipush (v := 72) hx hb dX9_account_131 (by decide) ?_
    obtain ⟨r25, M26, hz27, hF⟩ := ob_some hF
    refine k_sumOf hC hI hz27 (Nat.le_of_ble_eq_true rfl) (Nat.le_of_ble_eq_true rfl) hl.1 (Nat.le_of_ble_eq_true rfl) dX9_account_133 (fun H locs hI => ?_)
    exact md_iret hC hI hr hF dX9_account_136
  have hF := if_f hF c24
  by_cases c28 : a1 = 9
  · have hF := if_t hF c28
    refine lv_tableIn (tgt := 137) (off := 136) hx hb dX9_account_1 (by rw [c28]; decide) (by rw [c28]; decide) (by rw [c28]; rfl) (by decide) ?_
    refine lv_aload_n hx hb dX9_account_137 rfl (lv_at hl 0 rfl) ?_
    refine md_g6 hC hI dX9_account_138 ?_
    refine lv_bipush (v := 7) hx hb dX9_account_141 (by decide) ?_
    refine md_l1 hC hI (by decide) dX9_account_143 ?_
    exact md_iret hC hI hr hF dX9_account_144
  have hF := if_f hF c28
  by_cases c29 : a1 = 10
  · have hF := if_t hF c29
    refine lv_tableIn (tgt := 145) (off := 144) hx hb dX9_account_1 (by rw [c29]; decide) (by rw [c29]; decide) (by rw [c29]; rfl) (by decide) ?_
    refine lv_aload_n hx hb dX9_account_145 rfl (lv_at hl 0 rfl) ?_
    refine md_g6 hC hI dX9_account_146 ?_
    refine lv_iconst (v := 5) hx hb dX9_account_149 (by decide) ?_
    refine lv_iload_n hx hb dX9_account_150 rfl (lv_at hl 1 rfl) ?_
    refine lv_iadd hx hb dX9_account_151 ?_
    refine lv_bipush (v := 10) hx hb dX9_account_152 (by decide) ?_
    refine lv_isub hx hb dX9_account_154 ?_
    obtain ⟨hg30, hF⟩ := gd_some hF
    refine md_l1 hC hI hg30 dX9_account_155 ?_
    exact md_iret hC hI hr hF dX9_account_156
  have hF := if_f hF c29
  by_cases c31 : a1 = 11
  · have hF := if_t hF c31
    refine lv_tableIn (tgt := 145) (off := 144) hx hb dX9_account_1 (by rw [c31]; decide) (by rw [c31]; decide) (by rw [c31]; rfl) (by decide) ?_
    refine lv_aload_n hx hb dX9_account_145 rfl (lv_at hl 0 rfl) ?_
    refine md_g6 hC hI dX9_account_146 ?_
    refine lv_iconst (v := 5) hx hb dX9_account_149 (by decide) ?_
    refine lv_iload_n hx hb dX9_account_150 rfl (lv_at hl 1 rfl) ?_
    refine lv_iadd hx hb dX9_account_151 ?_
    refine lv_bipush (v := 10) hx hb dX9_account_152 (by decide) ?_
    refine lv_isub hx hb dX9_account_154 ?_
    obtain ⟨hg32, hF⟩ := gd_some hF
    refine md_l1 hC hI hg32 dX9_account_155 ?_
    exact md_iret hC hI hr hF dX9_account_156
  have hF := if_f hF c31
  by_cases c33 : a1 = 12
  · have hF := if_t hF c33
    refine lv_tableIn (tgt := 157) (off := 156) hx hb dX9_account_1 (by rw [c33]; decide) (by rw [c33]; decide) (by rw [c33]; rfl) (by decide) ?_
    refine lv_aload_n hx hb dX9_account_157 rfl (lv_at hl 0 rfl) ?_
    refine md_g6 hC hI dX9_account_158 ?_
    refine lv_bipush (v := 8) hx hb dX9_account_161 (by decide) ?_
    refine lv_iload_n hx hb dX9_account_163 rfl (lv_at hl 1 rfl) ?_
    refine lv_iadd hx hb dX9_account_164 ?_
    refine lv_bipush (v := 12) hx hb dX9_account_165 (by decide) ?_
    refine lv_isub hx hb dX9_account_167 ?_
    obtain ⟨hg34, hF⟩ := gd_some hF
    refine md_l1 hC hI hg34 dX9_account_168 ?_
    exact md_iret hC hI hr hF dX9_account_169
  have hF := if_f hF c33
  by_cases c35 : a1 = 13
  · have hF := if_t hF c35
    refine lv_tableIn (tgt := 157) (off := 156) hx hb dX9_account_1 (by rw [c35]; decide) (by rw [c35]; decide) (by rw [c35]; rfl) (by decide) ?_
    refine lv_aload_n hx hb dX9_account_157 rfl (lv_at hl 0 rfl) ?_
    refine md_g6 hC hI dX9_account_158 ?_
    refine lv_bipush (v := 8) hx hb dX9_account_161 (by decide) ?_
    refine lv_iload_n hx hb dX9_account_163 rfl (lv_at hl 1 rfl) ?_
    refine lv_iadd hx hb dX9_account_164 ?_
    refine lv_bipush (v := 12) hx hb dX9_account_165 (by decide) ?_
    refine lv_isub hx hb dX9_account_167 ?_
    obtain ⟨hg36, hF⟩ := gd_some hF
    refine md_l1 hC hI hg36 dX9_account_168 ?_
    exact md_iret hC hI hr hF dX9_account_169
  have hF := if_f hF c35
  by_cases c37 : a1 = 14
  · have hF := if_t hF c37
    refine lv_tableIn (tgt := 157) (off := 156) hx hb dX9_account_1 (by rw [c37]; decide) (by rw [c37]; decide) (by rw [c37]; rfl) (by decide) ?_
    refine lv_aload_n hx hb dX9_account_157 rfl (lv_at hl 0 rfl) ?_
    refine md_g6 hC hI dX9_account_158 ?_
    refine lv_bipush (v := 8) hx hb dX9_account_161 (by decide) ?_
    refine lv_iload_n hx hb dX9_account_163 rfl (lv_at hl 1 rfl) ?_
    refine lv_iadd hx hb dX9_account_164 ?_
    refine lv_bipush (v := 12) hx hb dX9_account_165 (by decide) ?_
    refine lv_isub hx hb dX9_account_167 ?_
    obtain ⟨hg38, hF⟩ := gd_some hF
    refine md_l1 hC hI hg38 dX9_account_168 ?_
    exact md_iret hC hI hr hF dX9_account_169
  have hF := if_f hF c37
  by_cases c39 : a1 = 15
  · have hF := if_t hF c39
    refine lv_tableIn (tgt := 170) (off := 169) hx hb dX9_account_1 (by rw [c39]; decide) (by rw [c39]; decide) (by rw [c39]; rfl) (by decide) ?_
    refine lv_aload_n hx hb dX9_account_170 rfl (lv_at hl 0 rfl) ?_
    refine md_g17 hC hI dX9_account_171 ?_
    exact md_iret hC hI hr hF dX9_account_174
  have hF := if_f hF c39
  by_cases c40 : a1 = 16
  · have hF := if_t hF c40
    refine lv_tableIn (tgt := 175) (off := 174) hx hb dX9_account_1 (by rw [c40]; decide) (by rw [c40]; decide) (by rw [c40]; rfl) (by decide) ?_
    refine lv_aload_n hx hb dX9_account_175 rfl (lv_at hl 0 rfl) ?_
    refine md_g1 hC hI dX9_account_176 ?_
    exact md_iret hC hI hr hF dX9_account_179
  have hF := if_f hF c40
  refine lv_tableOut (tgt := 180) hx hb dX9_account_1 (sw_out 0 17 (by decide) (by decide) (fun k hk => ?_)) (by decide) ?_
  · match k, hk with
    | 0, _ => exact fun h => c1 (h.trans (by decide))
    | 1, _ => exact fun h => c3 (h.trans (by decide))
    | 2, _ => exact fun h => c5 (h.trans (by decide))
    | 3, _ => exact fun h => c7 (h.trans (by decide))
    | 4, _ => exact fun h => c11 (h.trans (by decide))
    | 5, _ => exact fun h => c15 (h.trans (by decide))
    | 6, _ => exact fun h => c16 (h.trans (by decide))
    | 7, _ => exact fun h => c20 (h.trans (by decide))
    | 8, _ => exact fun h => c24 (h.trans (by decide))
    | 9, _ => exact fun h => c28 (h.trans (by decide))
    | 10, _ => exact fun h => c29 (h.trans (by decide))
    | 11, _ => exact fun h => c31 (h.trans (by decide))
    | 12, _ => exact fun h => c33 (h.trans (by decide))
    | 13, _ => exact fun h => c35 (h.trans (by decide))
    | 14, _ => exact fun h => c37 (h.trans (by decide))
    | 15, _ => exact fun h => c39 (h.trans (by decide))
    | 16, _ => exact fun h => c40 (h.trans (by decide))
    | k + 17, hk => exact absurd hk (by omega)
  refine lv_bipush (v := (-2)) hx hb dX9_account_180 (by decide) ?_
  exact md_iret hC hI hr hF dX9_account_182
def f_undo_L22 (kont : MS → Option (Int32 × MS)) : Nat → MS → Int32 → Option (Int32 × MS)
  | 0, _, _ => none
  | n + 1, M, x1 => if 216 ≤ x1 then (kont M) else (gd (gi (((M 0 1) * 216) + x1) 1728) (gd (gi x1 216) (lt (rup M 1 (upd (M 1) x1.toNatClampNeg (M 5 (((M 0 1) * 216) + x1).toNatClampNeg))) (fun M6 => lt (x1 + 1) (fun x1_7 => f_undo_L22 kont n M6 x1_7)))))
def f_undo (M : MS) : Option (Int32 × MS) := if (M 0 1) = 0 then (some ((-4), M)) else (lt (rup M 0 (upd (M 0) 1 ((M 0 1) - 1))) (fun M2 => f_undo_L22 (fun M8 => some ((M8 0 1), M8)) 2000 M2 0))
set_option maxHeartbeats 4000000 in
theorem w_undo_L22 {p : Program} {l : Launch} {e : Env} {R : Room} {s : State} {m : MethodId} {args : Array Value} {below : List Frame} {meth : Method} {c : Code} {G : va_G} {ai : Nat → ClassId} {A : Nat → Prop} {o : Nat} {ar : Nat → Nat} {r0 : Int32} {M0 : MS} (hC : mo_C p R s m args meth c G ai A RX9 cX9_undo 2 0 0 0 0) (hr : meth.sig.returnType = (some .int)) (kont : MS → Option (Int32 × MS)) (K : ∀ (M : MS) (H : Heap) (locs : List Loc) (ls : Array Slot), kont M = some (r0, M0) → mo_I G A s.heap (md_W ai o ar M) H locs → lv_has ls 2 [(0, .ref o)] → W p l e R s m args below meth c H locs 0 0 (md_Q below G ai o ar A args s r0 M0) (F0 m 56 ls [])) :
    ∀ (n : Nat) (M : MS) (x1 : Int32) (H : Heap) (locs : List Loc) (ls : Array Slot), f_undo_L22 kont n M x1 = some (r0, M0) → mo_I G A s.heap (md_W ai o ar M) H locs → lv_has ls 2 [(1, .int x1), (0, .ref o)] → W p l e R s m args below meth c H locs 0 0 (md_Q below G ai o ar A args s r0 M0) (F0 m 22 ls []) := by
  have hx := hC.1
  have hb := hC.2.1
  intro n
  induction n with
  | zero =>
    intro M x1 H locs ls hF
    have h0 : (none : Option (Int32 × MS)) = some (r0, M0) := hF
    cases h0
  | succ n ih =>
    intro M x1 H locs ls hF hI hl
    rw [f_undo_L22] at hF
    refine lv_iload_n hx hb dX9_undo_22 rfl (lv_at hl 0 rfl) ?_
    refine lv_sipush (v := 216) hx hb dX9_undo_23 (by decide) ?_
    refine lv_icmp_ge (tgt := 56) hx hb dX9_undo_26 (by decide) (fun c3 => ?_) (fun c3 => ?_)
    · have hF := if_t hF c3
      exact K _ _ _ _ hF hI (lv_sub hl [1] rfl)
    · have hF := if_f hF c3
      refine lv_aload_n hx hb dX9_undo_29 rfl (lv_at hl 1 rfl) ?_
      refine md_g6 hC hI dX9_undo_30 ?_
      refine lv_iload_n hx hb dX9_undo_33 rfl (lv_at hl 0 rfl) ?_
      refine lv_aload_n hx hb dX9_undo_34 rfl (lv_at hl 1 rfl) ?_
      refine md_g10 hC hI dX9_undo_35 ?_
      refine lv_aload_n hx hb dX9_undo_38 rfl (lv_at hl 1 rfl) ?_
      refine md_g1 hC hI dX9_undo_39 ?_
      refine lv_sipush (v := 216) hx hb dX9_undo_42 (by decide) ?_
      refine lv_imul hx hb dX9_undo_45 ?_
      refine lv_iload_n hx hb dX9_undo_46 rfl (lv_at hl 0 rfl) ?_
      refine lv_iadd hx hb dX9_undo_47 ?_
      obtain ⟨hg4, hF⟩ := gd_some hF
      refine md_l5 hC hI hg4 dX9_undo_48 ?_
      obtain ⟨hg5, hF⟩ := gd_some hF
      obtain ⟨M6, hM6, hF⟩ := lt_some hF
      refine md_s1 hC hI hg5 hM6 dX9_undo_49 (fun H locs hI => ?_)
      obtain ⟨x1_7, hx1_7, hF⟩ := lt_some hF
      refine mo_inc (k := 0) (lv' := [(1, .int x1_7), (0, .ref o)]) hx hb hx1_7 (by decide) dX9_undo_50 hl rfl (by decide) rfl (fun ls hl => ?_)
      refine lv_goto (tgt := 22) hx hb dX9_undo_53 (by decide) ?_
      exact ih _ _ _ _ _ hF hI (lv_sub hl [0, 1] rfl)
set_option maxHeartbeats 4000000 in
theorem w_undo (l : Launch) (G : va_G) (ai : Nat → ClassId) (o : Nat) (ar : Nat → Nat) (M : MS) (r0 : Int32) (M0 : MS) (hF : f_undo M = some (r0, M0)) : md_M l G ai o ar yX9_undo cX9_undo 2 (some .int) ({ frames := 0, cells := 0, slots := 0, locals := 0 } : Room) [.ref o] M r0 M0 := by
  refine mo_body (Qc := fun A => va_Qi (fun (r' : Int32) (M2 : MS) => r' = r0 ∧ M2 = M0) (gw_E G ai (md_W ai o ar) A) A) (by decide) (Nat.le_of_ble_eq_true rfl) ?_
  intro p e s m args below meth c A ls hC hr hI hl _
  have hx := hC.1
  have hb := hC.2.1
  have hl : lv_has ls 2 [(0, .ref o)] := hl
  show W p l e _ s m args below meth c s.heap [] 0 0 (md_Q below G ai o ar A args s r0 M0) (F0 m 0 ls [])
  rw [f_undo] at hF
  refine lv_aload_n hx hb dX9_undo_0 rfl (lv_at hl 0 rfl) ?_
  refine md_g1 hC hI dX9_undo_1 ?_
  refine lv_if_ne (tgt := 10) hx hb dX9_undo_4 (by decide) (fun c1 => ?_) (fun c1 => ?_)
  · have hF := if_f hF c1
    refine lv_aload_n hx hb dX9_undo_10 rfl (lv_at hl 0 rfl) ?_
    refine lv_dup hx hb dX9_undo_11 rfl ?_
    refine md_g1 hC hI dX9_undo_12 ?_
    refine lv_iconst (v := 1) hx hb dX9_undo_15 (by decide) ?_
    refine lv_isub hx hb dX9_undo_16 ?_
    obtain ⟨M2, hM2, hF⟩ := lt_some hF
    refine md_p1 hC hI hM2 dX9_undo_17 (fun H locs hI => ?_)
    refine lv_iconst (v := 0) hx hb dX9_undo_20 (by decide) ?_
    refine mo_ist (lv' := [(1, .int 0), (0, .ref o)]) hx hb rfl dX9_undo_21 rfl hl (by decide) rfl (fun ls hl => ?_)
    refine w_undo_L22 hC hr _ (fun M8 H locs ls hF hI hl => ?_) 2000 _ _ _ _ _ hF hI (lv_sub hl [0, 1] rfl)
    refine lv_aload_n hx hb dX9_undo_56 rfl (lv_at hl 0 rfl) ?_
    refine md_g1 hC hI dX9_undo_57 ?_
    exact md_iret hC hI hr hF dX9_undo_60
  · have hF := if_t hF c1
    refine lv_bipush (v := (-4)) hx hb dX9_undo_7 (by decide) ?_
    exact md_iret hC hI hr hF dX9_undo_9
def f_save (M : MS) : Option (Int32 × MS) := ob (f_lays_4_1 M) (fun r1 M2 => lt (rup M2 0 (upd (M2 0) 5 1)) (fun M4 => some ((M4 1 (0 : Int32).toNatClampNeg), M4)))
set_option maxHeartbeats 4000000 in
theorem w_save (l : Launch) (G : va_G) (ai : Nat → ClassId) (o : Nat) (ar : Nat → Nat) (M : MS) (r0 : Int32) (M0 : MS) (hF : f_save M = some (r0, M0)) : md_M l G ai o ar yX9_save cX9_save 1 (some .int) ({ frames := 1, cells := 0, slots := 0, locals := 22 } : Room) [.ref o] M r0 M0 := by
  refine mo_body (Qc := fun A => va_Qi (fun (r' : Int32) (M2 : MS) => r' = r0 ∧ M2 = M0) (gw_E G ai (md_W ai o ar) A) A) (by decide) (Nat.le_of_ble_eq_true rfl) ?_
  intro p e s m args below meth c A ls hC hr hI hl _
  have hx := hC.1
  have hb := hC.2.1
  have hl : lv_has ls 1 [(0, .ref o)] := hl
  show W p l e _ s m args below meth c s.heap [] 0 0 (md_Q below G ai o ar A args s r0 M0) (F0 m 0 ls [])
  rw [f_save] at hF
  refine lv_aload_n hx hb dX9_save_0 rfl (lv_at hl 0 rfl) ?_
  refine md_g9 hC hI dX9_save_1 ?_
  refine lv_aload_n hx hb dX9_save_4 rfl (lv_at hl 0 rfl) ?_
  refine md_g6 hC hI dX9_save_5 ?_
  obtain ⟨r1, M2, hz3, hF⟩ := ob_some hF
  refine k_lays_4_1 hC hI hz3 (Nat.le_of_ble_eq_true rfl) (Nat.le_of_ble_eq_true rfl) hl.1 (Nat.le_of_ble_eq_true rfl) dX9_save_8 (fun H locs hI => ?_)
  refine lv_aload_n hx hb dX9_save_11 rfl (lv_at hl 0 rfl) ?_
  refine lv_iconst (v := 1) hx hb dX9_save_12 (by decide) ?_
  obtain ⟨M4, hM4, hF⟩ := lt_some hF
  refine md_p5 hC hI (by decide) hM4 dX9_save_13 (fun H locs hI => ?_)
  refine lv_aload_n hx hb dX9_save_16 rfl (lv_at hl 0 rfl) ?_
  refine md_g6 hC hI dX9_save_17 ?_
  refine lv_iconst (v := 0) hx hb dX9_save_20 (by decide) ?_
  refine md_l1 hC hI (by decide) dX9_save_21 ?_
  exact md_iret hC hI hr hF dX9_save_22
def f_restore (M : MS) : Option (Int32 × MS) := if (M 0 5) = 0 then (some ((-4), M)) else (ob (f_lays_1_4 M) (fun r2 M3 => lt (rup M3 0 (upd (M3 0) 1 0)) (fun M5 => some ((M5 1 (0 : Int32).toNatClampNeg), M5))))
set_option maxHeartbeats 4000000 in
theorem w_restore (l : Launch) (G : va_G) (ai : Nat → ClassId) (o : Nat) (ar : Nat → Nat) (M : MS) (r0 : Int32) (M0 : MS) (hF : f_restore M = some (r0, M0)) : md_M l G ai o ar yX9_restore cX9_restore 1 (some .int) ({ frames := 1, cells := 0, slots := 0, locals := 22 } : Room) [.ref o] M r0 M0 := by
  refine mo_body (Qc := fun A => va_Qi (fun (r' : Int32) (M2 : MS) => r' = r0 ∧ M2 = M0) (gw_E G ai (md_W ai o ar) A) A) (by decide) (Nat.le_of_ble_eq_true rfl) ?_
  intro p e s m args below meth c A ls hC hr hI hl _
  have hx := hC.1
  have hb := hC.2.1
  have hl : lv_has ls 1 [(0, .ref o)] := hl
  show W p l e _ s m args below meth c s.heap [] 0 0 (md_Q below G ai o ar A args s r0 M0) (F0 m 0 ls [])
  rw [f_restore] at hF
  refine lv_aload_n hx hb dX9_restore_0 rfl (lv_at hl 0 rfl) ?_
  refine md_g5 hC hI dX9_restore_1 ?_
  refine lv_if_ne (tgt := 10) hx hb dX9_restore_4 (by decide) (fun c1 => ?_) (fun c1 => ?_)
  · have hF := if_f hF c1
    refine lv_aload_n hx hb dX9_restore_10 rfl (lv_at hl 0 rfl) ?_
    refine md_g6 hC hI dX9_restore_11 ?_
    refine lv_aload_n hx hb dX9_restore_14 rfl (lv_at hl 0 rfl) ?_
    refine md_g9 hC hI dX9_restore_15 ?_
    obtain ⟨r2, M3, hz4, hF⟩ := ob_some hF
    refine k_lays_1_4 hC hI hz4 (Nat.le_of_ble_eq_true rfl) (Nat.le_of_ble_eq_true rfl) hl.1 (Nat.le_of_ble_eq_true rfl) dX9_restore_18 (fun H locs hI => ?_)
    refine lv_aload_n hx hb dX9_restore_21 rfl (lv_at hl 0 rfl) ?_
    refine lv_iconst (v := 0) hx hb dX9_restore_22 (by decide) ?_
    obtain ⟨M5, hM5, hF⟩ := lt_some hF
    refine md_p1 hC hI hM5 dX9_restore_23 (fun H locs hI => ?_)
    refine lv_aload_n hx hb dX9_restore_26 rfl (lv_at hl 0 rfl) ?_
    refine md_g6 hC hI dX9_restore_27 ?_
    refine lv_iconst (v := 0) hx hb dX9_restore_30 (by decide) ?_
    refine md_l1 hC hI (by decide) dX9_restore_31 ?_
    exact md_iret hC hI hr hF dX9_restore_32
  · have hF := if_t hF c1
    refine lv_bipush (v := (-4)) hx hb dX9_restore_7 (by decide) ?_
    exact md_iret hC hI hr hF dX9_restore_9

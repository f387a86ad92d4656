/-! printed by tools/gen_md.py -/
set_option maxRecDepth 100000
def f_addsGardener_L53 (a2 : Int32) (a1 : Int32) (kont : MS → Option (Int32 × MS)) : Nat → MS → Int32 → Option (Int32 × MS)
  | 0, _, _ => none
  | n + 1, M, x3 => if 5 ≤ x3 then (kont M) else (gd (gi (p_gardAt a2 x3) 216) (lt (rup M 1 (upd (M 1) (p_gardAt a2 x3).toNatClampNeg 0)) (fun M10 => lt (x3 + 1) (fun x3_11 => f_addsGardener_L53 a2 a1 kont n M10 x3_11))))
def f_addsGardener (M : MS) (a1 : Int32) : Option (Int32 × MS) := if (p_isSquare a1) = 0 then (ob (f_fail M (-1)) (fun r26 M27 => some (r26, M27))) else (if (M 1 (2 : Int32).toNatClampNeg) = 4 then (ob (f_refuses M 1 4) (fun r23 M24 => some (r23, M24))) else (ob (f_mayTread M a1) (fun r3 M4 => if r3 = 0 then (ob (f_refusesFoot M4 a1) (fun r20 M21 => some (r20, M21))) else (lt ((M4 1 (2 : Int32).toNatClampNeg)) (fun x2_7 => f_addsGardener_L53 x2_7 a1 (fun M12 => gd (gi (p_gardAt x2_7 0) 216) (lt (rup M12 1 (upd (M12 1) (p_gardAt x2_7 0).toNatClampNeg a1)) (fun M14 => gd (gi (p_gardAt x2_7 1) 216) (lt (rup M14 1 (upd (M14 1) (p_gardAt x2_7 1).toNatClampNeg 6)) (fun M16 => gd (gi (p_gardAt x2_7 2) 216) (lt (rup M16 1 (upd (M16 1) (p_gardAt x2_7 2).toNatClampNeg 12)) (fun M18 => lt (rup M18 1 (upd (M18 1) (2 : Int32).toNatClampNeg ((M18 1 (2 : Int32).toNatClampNeg) + 1))) (fun M19 => some (x2_7, M19))))))))) 2000 M4 0)))))
set_option maxHeartbeats 4000000 in
theorem w_addsGardener_L53 {p : Program} {l : Launch} {e : Env} {R : Room} {s : State} {m : MethodId} {args : Array Value} {below : List Frame} {meth : Method} {c : Code} {G : va_G} {ai : Nat → ClassId} {A : Nat → Prop} {o : Nat} {ar : Nat → Nat} {r0 : Int32} {M0 : MS} (hC : mo_C p R s m args meth c G ai A RX9 cX9_addsGardener 4 3 65 0 0) (hr : meth.sig.returnType = (some .int)) (a2 : Int32) (a1 : Int32) (kont : MS → Option (Int32 × MS)) (K : ∀ (M : MS) (H : Heap) (locs : List Loc) (ls : Array Slot), kont M = some (r0, M0) → mo_I G A s.heap (md_W ai o ar M) H locs → lv_has ls 4 [(2, .int a2), (0, .ref o), (1, .int a1)] → W p l e R s m args below meth c H locs 0 0 (md_Q below G ai o ar A args s r0 M0) (F0 m 75 ls [])) :
    ∀ (n : Nat) (M : MS) (x3 : Int32) (H : Heap) (locs : List Loc) (ls : Array Slot), f_addsGardener_L53 a2 a1 kont n M x3 = some (r0, M0) → mo_I G A s.heap (md_W ai o ar M) H locs → lv_has ls 4 [(3, .int x3), (2, .int a2), (0, .ref o), (1, .int a1)] → W p l e R s m args below meth c H locs 0 0 (md_Q below G ai o ar A args s r0 M0) (F0 m 53 ls []) := by
  have hx := hC.1
  have hb := hC.2.1
  intro n
  induction n with
  | zero =>
    intro M x3 H locs ls hF
    have h0 : (none : Option (Int32 × MS)) = some (r0, M0) := hF
    cases h0
  | succ n ih =>
    intro M x3 H locs ls hF hI hl
    rw [f_addsGardener_L53] at hF
    refine lv_iload_n hx hb dX9_addsGardener_53 rfl (lv_at hl 0 rfl) ?_
    refine lv_iconst (v := 5) hx hb dX9_addsGardener_54 (by decide) ?_
    refine lv_icmp_ge (tgt := 75) hx hb dX9_addsGardener_55 (by decide) (fun c8 => ?_) (fun c8 => ?_)
    · have hF := if_t hF c8
      exact K _ _ _ _ hF hI (lv_sub hl [1, 2, 3] rfl)
    · have hF := if_f hF c8
      refine lv_aload_n hx hb dX9_addsGardener_58 rfl (lv_at hl 2 rfl) ?_
      refine md_g6 hC hI dX9_addsGardener_59 ?_
      refine lv_iload_n hx hb dX9_addsGardener_62 rfl (lv_at hl 1 rfl) ?_
      refine lv_iload_n hx hb dX9_addsGardener_63 rfl (lv_at hl 0 rfl) ?_
      refine k_gardAt (mo_CN hC) (Nat.le_of_ble_eq_true rfl) (Nat.le_of_ble_eq_true rfl) hl.1 (Nat.le_of_ble_eq_true rfl) dX9_addsGardener_64 ?_
      refine lv_iconst (v := 0) hx hb dX9_addsGardener_67 (by decide) ?_
      obtain ⟨hg9, hF⟩ := gd_some hF
      obtain ⟨M10, hM10, hF⟩ := lt_some hF
      refine md_s1 hC hI hg9 hM10 dX9_addsGardener_68 (fun H locs hI => ?_)
      obtain ⟨x3_11, hx3_11, hF⟩ := lt_some hF
      refine mo_inc (k := 0) (lv' := [(3, .int x3_11), (2, .int a2), (0, .ref o), (1, .int a1)]) hx hb hx3_11 (by decide) dX9_addsGardener_69 hl rfl (by decide) rfl (fun ls hl => ?_)
      refine lv_goto (tgt := 53) hx hb dX9_addsGardener_72 (by decide) ?_
      exact ih _ _ _ _ _ hF hI (lv_sub hl [0, 1, 2, 3] rfl)
set_option maxHeartbeats 4000000 in
theorem w_addsGardener (l : Launch) (G : va_G) (ai : Nat → ClassId) (o : Nat) (ar : Nat → Nat) (M : MS) (a1 : Int32) (r0 : Int32) (M0 : MS) (hF : f_addsGardener M a1 = some (r0, M0)) : md_M l G ai o ar yX9_addsGardener cX9_addsGardener 4 (some .int) ({ frames := 3, cells := 0, slots := 0, locals := 65 } : Room) [.ref o, .int a1] M r0 M0 := by
  refine mo_body (Qc := fun A => va_Qi (fun (r' : Int32) (M2 : MS) => r' = r0 ∧ M2 = M0) (gw_E G ai (md_W ai o ar) A) A) (by decide) (Nat.le_of_ble_eq_true rfl) ?_
  intro p e s m args below meth c A ls hC hr hI hl _
  have hx := hC.1
  have hb := hC.2.1
  have hl : lv_has ls 4 [(0, .ref o), (1, .int a1)] := hl
  show W p l e _ s m args below meth c s.heap [] 0 0 (md_Q below G ai o ar A args s r0 M0) (F0 m 0 ls [])
  rw [f_addsGardener] at hF
  refine lv_iload_n hx hb dX9_addsGardener_0 rfl (lv_at hl 1 rfl) ?_
  refine k_isSquare (mo_CN hC) (Nat.le_of_ble_eq_true rfl) (Nat.le_of_ble_eq_true rfl) hl.1 (Nat.le_of_ble_eq_true rfl) dX9_addsGardener_1 ?_
  refine lv_if_ne (tgt := 13) hx hb dX9_addsGardener_4 (by decide) (fun c1 => ?_) (fun c1 => ?_)
  · have hF := if_f hF c1
    refine lv_aload_n hx hb dX9_addsGardener_13 rfl (lv_at hl 0 rfl) ?_
    refine md_g6 hC hI dX9_addsGardener_14 ?_
    refine lv_iconst (v := 2) hx hb dX9_addsGardener_17 (by decide) ?_
    refine md_l1 hC hI (by decide) dX9_addsGardener_18 ?_
    refine lv_iconst (v := 4) hx hb dX9_addsGardener_19 (by decide) ?_
    refine lv_icmp_ne (tgt := 30) hx hb dX9_addsGardener_20 (by decide) (fun c2 => ?_) (fun c2 => ?_)
    · have hF := if_f hF c2
      refine lv_aload_n hx hb dX9_addsGardener_30 rfl (lv_at hl 0 rfl) ?_
      refine lv_iload_n hx hb dX9_addsGardener_31 rfl (lv_at hl 1 rfl) ?_
      obtain ⟨r3, M4, hz5, hF⟩ := ob_some hF
      refine k_mayTread hC hI hz5 (Nat.le_of_ble_eq_true rfl) (Nat.le_of_ble_eq_true rfl) hl.1 (Nat.le_of_ble_eq_true rfl) dX9_addsGardener_32 (fun H locs hI => ?_)
      refine lv_if_ne (tgt := 44) hx hb dX9_addsGardener_35 (by decide) (fun c6 => ?_) (fun c6 => ?_)
      · have hF := if_f hF c6
        refine lv_aload_n hx hb dX9_addsGardener_44 rfl (lv_at hl 0 rfl) ?_
        refine md_g6 hC hI dX9_addsGardener_45 ?_
        refine lv_iconst (v := 2) hx hb dX9_addsGardener_48 (by decide) ?_
        refine md_l1 hC hI (by decide) dX9_addsGardener_49 ?_
        obtain ⟨x2_7, hx2_7, hF⟩ := lt_some hF
        refine mo_ist (lv' := [(2, .int x2_7), (0, .ref o), (1, .int a1)]) hx hb hx2_7 dX9_addsGardener_50 rfl hl (by decide) rfl (fun ls hl => ?_)
        refine lv_iconst (v := 0) hx hb dX9_addsGardener_51 (by decide) ?_
        refine mo_ist (lv' := [(3, .int 0), (2, .int x2_7), (0, .ref o), (1, .int a1)]) hx hb rfl dX9_addsGardener_52 rfl hl (by decide) rfl (fun ls hl => ?_)
        refine w_addsGardener_L53 hC hr x2_7 a1 _ (fun M12 H locs ls hF hI hl => ?_) 2000 _ _ _ _ _ hF hI (lv_sub hl [0, 1, 2, 3] rfl)
        refine lv_aload_n hx hb dX9_addsGardener_75 rfl (lv_at hl 1 rfl) ?_
        refine md_g6 hC hI dX9_addsGardener_76 ?_
        refine lv_iload_n hx hb dX9_addsGardener_79 rfl (lv_at hl 0 rfl) ?_
        refine lv_iconst (v := 0) hx hb dX9_addsGardener_80 (by decide) ?_
        refine k_gardAt (mo_CN hC) (Nat.le_of_ble_eq_true rfl) (Nat.le_of_ble_eq_true rfl) hl.1 (Nat.le_of_ble_eq_true rfl) dX9_addsGardener_81 ?_
        refine lv_iload_n hx hb dX9_addsGardener_84 rfl (lv_at hl 2 rfl) ?_
        obtain ⟨hg13, hF⟩ := gd_some hF
        obtain ⟨M14, hM14, hF⟩ := lt_some hF
        refine md_s1 hC hI hg13 hM14 dX9_addsGardener_85 (fun H locs hI => ?_)
        refine lv_aload_n hx hb dX9_addsGardener_86 rfl (lv_at hl 1 rfl) ?_
        refine md_g6 hC hI dX9_addsGardener_87 ?_
        refine lv_iload_n hx hb dX9_addsGardener_90 rfl (lv_at hl 0 rfl) ?_
        refine lv_iconst (v := 1) hx hb dX9_addsGardener_91 (by decide) ?_
        refine k_gardAt (mo_CN hC) (Nat.le_of_ble_eq_true rfl) (Nat.le_of_ble_eq_true rfl) hl.1 (Nat.le_of_ble_eq_true rfl) dX9_addsGardener_92 ?_
        refine lv_bipush (v := 6) hx hb dX9_addsGardener_95 (by decide) ?_
        obtain ⟨hg15, hF⟩ := gd_some hF
        obtain ⟨M16, hM16, hF⟩ := lt_some hF
        refine md_s1 hC hI hg15 hM16 dX9_addsGardener_97 (fun H locs hI => ?_)
        refine lv_aload_n hx hb dX9_addsGardener_98 rfl (lv_at hl 1 rfl) ?_
        refine md_g6 hC hI dX9_addsGardener_99 ?_
        refine lv_iload_n hx hb dX9_addsGardener_102 rfl (lv_at hl 0 rfl) ?_
        refine lv_iconst (v := 2) hx hb dX9_addsGardener_103 (by decide) ?_
        refine k_gardAt (mo_CN hC) (Nat.le_of_ble_eq_true rfl) (Nat.le_of_ble_eq_true rfl) hl.1 (Nat.le_of_ble_eq_true rfl) dX9_addsGardener_104 ?_
        refine lv_bipush (v := 12) hx hb dX9_addsGardener_107 (by decide) ?_
        obtain ⟨hg17, hF⟩ := gd_some hF
        obtain ⟨M18, hM18, hF⟩ := lt_some hF
        refine md_s1 hC hI hg17 hM18 dX9_addsGardener_109 (fun H locs hI => ?_)
        refine lv_aload_n hx hb dX9_addsGardener_110 rfl (lv_at hl 1 rfl) ?_
        refine md_g6 hC hI dX9_addsGardener_111 ?_
        refine lv_iconst (v := 2) hx hb dX9_addsGardener_114 (by decide) ?_
        refine lv_dup2_11 hx hb dX9_addsGardener_115 rfl rfl ?_
        refine md_l1 hC hI (by decide) dX9_addsGardener_116 ?_
        refine lv_iconst (v := 1) hx hb dX9_addsGardener_117 (by decide) ?_
        refine lv_iadd hx hb dX9_addsGardener_118 ?_
        obtain ⟨M19, hM19, hF⟩ := lt_some hF
        refine md_s1 hC hI (by decide) hM19 dX9_addsGardener_119 (fun H locs hI => ?_)
        refine lv_iload_n hx hb dX9_addsGardener_120 rfl (lv_at hl 0 rfl) ?_
        exact md_iret hC hI hr hF dX9_addsGardener_121
      · have hF := if_t hF c6
        refine lv_aload_n hx hb dX9_addsGardener_38 rfl (lv_at hl 0 rfl) ?_
        refine lv_iload_n hx hb dX9_addsGardener_39 rfl (lv_at hl 1 rfl) ?_
        obtain ⟨r20, M21, hz22, hF⟩ := ob_some hF
        refine k_refusesFoot hC hI hz22 (Nat.le_of_ble_eq_true rfl) (Nat.le_of_ble_eq_true rfl) hl.1 (Nat.le_of_ble_eq_true rfl) dX9_addsGardener_40 (fun H locs hI => ?_)
        exact md_iret hC hI hr hF dX9_addsGardener_43
    · have hF := if_t hF c2
      refine lv_aload_n hx hb dX9_addsGardener_23 rfl (lv_at hl 0 rfl) ?_
      refine lv_iconst (v := 1) hx hb dX9_addsGardener_24 (by decide) ?_
      refine lv_iconst (v := 4) hx hb dX9_addsGardener_25 (by decide) ?_
      obtain ⟨r23, M24, hz25, hF⟩ := ob_some hF
      refine k_refuses hC hI hz25 (Nat.le_of_ble_eq_true rfl) (Nat.le_of_ble_eq_true rfl) hl.1 (Nat.le_of_ble_eq_true rfl) dX9_addsGardener_26 (fun H locs hI => ?_)
      exact md_iret hC hI hr hF dX9_addsGardener_29
  · have hF := if_t hF c1
    refine lv_aload_n hx hb dX9_addsGardener_7 rfl (lv_at hl 0 rfl) ?_
    refine lv_iconst (v := (-1)) hx hb dX9_addsGardener_8 (by decide) ?_
    obtain ⟨r26, M27, hz28, hF⟩ := ob_some hF
    refine k_fail hC hI hz28 (Nat.le_of_ble_eq_true rfl) (Nat.le_of_ble_eq_true rfl) hl.1 (Nat.le_of_ble_eq_true rfl) dX9_addsGardener_9 (fun H locs hI => ?_)
    exact md_iret hC hI hr hF dX9_addsGardener_12
theorem k_addsGardener {p : Program} {l : Launch} {e : Env} {R : Room} {s : State} {m : MethodId} {args : Array Value} {below : List Frame} {meth : Method} {c : Code} {H : Heap} {locs : List Loc} {cells slots : Nat} {Q : State → Prop} {pc : Nat} {ls : Array Slot} {rest : List Value} {G : va_G} {ai : Nat → ClassId} {A : Nat → Prop} {cc : ByteArray} {nL f L kc ks o : Nat} {ar : Nat → Nat} {M M1 : MS} {r1 : Int32} {a1 : Int32} (hC : mo_C p R s m args meth c G ai A RX9 cc nL f L kc ks) (hI : mo_I G A s.heap (md_W ai o ar M) H locs) (hz : f_addsGardener M a1 = some (r1, M1)) (hf : 3 + 1 ≤ f) (hL : 8 + (4 + 11) + 65 ≤ L) (hsz : ls.size = nL) (hW : (rest.map fun v => v.category).sum ≤ 8) (hdg : decode cc pc = .ok (.invokevirtual 118, 3)) (kk : ∀ (H1 : Heap) (locs1 : List Loc), mo_I G A s.heap (md_W ai o ar M1) H1 locs1 → W p l e R s m args below meth c H1 locs1 cells slots Q (F0 m (pc + 3) ls (.int r1 :: rest))) (hc0 : cells ≤ kc := by first | exact Nat.zero_le _ | assumption) (hs0 : slots ≤ ks := by first | exact Nat.zero_le _ | assumption) : W p l e R s m args below meth c H locs cells slots Q (F0 m pc ls (.int a1 :: .ref o :: rest)) := by
  have hI : mo_I G A s.heap (md_W ai o ar M ++ []) H locs := by rw [List.append_nil]; exact hI
  refine gw_cVi (As := [.int a1]) (mc := 0) (ms := 0) (fs := md_F ar M) hC 1 hI (w_addsGardener l G ai o ar M a1 r1 M1 hz) 0 0 rfl rfl q2148 q2150 qs81 q142 q2151 rfl rfl (by decide +kernel) rfl hf hL hc0 hs0 hsz rfl hW hdg (fun r u H1 locs1 hp hI1 => ?_)
  obtain ⟨rfl, rfl⟩ := hp
  rw [List.append_nil] at hI1
  exact kk H1 locs1 hI1
def f_gardener (M : MS) (a1 : Int32) : Option (Int32 × MS) := ob (f_begins M) (fun r1 M2 => ob (f_addsGardener M2 a1) (fun r4 M5 => ob (f_ends M5 r4) (fun r7 M8 => some (r7, M8))))
set_option maxHeartbeats 4000000 in
theorem w_gardener (l : Launch) (G : va_G) (ai : Nat → ClassId) (o : Nat) (ar : Nat → Nat) (M : MS) (a1 : Int32) (r0 : Int32) (M0 : MS) (hF : f_gardener M a1 = some (r0, M0)) : md_M l G ai o ar yX9_gardener cX9_gardener 2 (some .int) ({ frames := 4, cells := 0, slots := 0, locals := 88 } : Room) [.ref o, .int a1] M r0 M0 := by
  refine mo_body (Qc := fun A => va_Qi (fun (r' : Int32) (M2 : MS) => r' = r0 ∧ M2 = M0) (gw_E G ai (md_W ai o ar) A) A) (by decide) (Nat.le_of_ble_eq_true rfl) ?_
  intro p e s m args below meth c A ls hC hr hI hl _
  have hx := hC.1
  have hb := hC.2.1
  have hl : lv_has ls 2 [(0, .ref o), (1, .int a1)] := hl
  show W p l e _ s m args below meth c s.heap [] 0 0 (md_Q below G ai o ar A args s r0 M0) (F0 m 0 ls [])
  rw [f_gardener] at hF
  refine lv_aload_n hx hb dX9_gardener_0 rfl (lv_at hl 0 rfl) ?_
  obtain ⟨r1, M2, hz3, hF⟩ := ob_some hF
  refine k_begins hC hI hz3 (Nat.le_of_ble_eq_true rfl) (Nat.le_of_ble_eq_true rfl) hl.1 (Nat.le_of_ble_eq_true rfl) dX9_gardener_1 (fun H locs hI => ?_)
  refine lv_aload_n hx hb dX9_gardener_4 rfl (lv_at hl 0 rfl) ?_
  refine lv_aload_n hx hb dX9_gardener_5 rfl (lv_at hl 0 rfl) ?_
  refine lv_iload_n hx hb dX9_gardener_6 rfl (lv_at hl 1 rfl) ?_
  obtain ⟨r4, M5, hz6, hF⟩ := ob_some hF
  refine k_addsGardener hC hI hz6 (Nat.le_of_ble_eq_true rfl) (Nat.le_of_ble_eq_true rfl) hl.1 (Nat.le_of_ble_eq_true rfl) dX9_gardener_7 (fun H locs hI => ?_)
  obtain ⟨r7, M8, hz9, hF⟩ := ob_some hF
  refine k_ends hC hI hz9 (Nat.le_of_ble_eq_true rfl) (Nat.le_of_ble_eq_true rfl) hl.1 (Nat.le_of_ble_eq_true rfl) dX9_gardener_10 (fun H locs hI => ?_)
  exact md_iret hC hI hr hF dX9_gardener_13
def f_hasTime (M : MS) (a1 : Int32) (a2 : Int32) : Option (Int32 × MS) := lt ((p_gardAt a1 1)) (fun x3_1 => gd (gi x3_1 216) (if a2 ≤ (M 1 x3_1.toNatClampNeg) then (gd (gi x3_1 216) (gd (gi x3_1 216) (lt (rup M 1 (upd (M 1) x3_1.toNatClampNeg ((M 1 x3_1.toNatClampNeg) - a2))) (fun M6 => some (1, M6))))) else (gd (gi x3_1 216) (ob (f_refuses M 4 (M 1 x3_1.toNatClampNeg)) (fun r8 M9 => some (0, M9))))))
set_option maxHeartbeats 4000000 in
theorem w_hasTime (l : Launch) (G : va_G) (ai : Nat → ClassId) (o : Nat) (ar : Nat → Nat) (M : MS) (a1 : Int32) (a2 : Int32) (r0 : Int32) (M0 : MS) (hF : f_hasTime M a1 a2 = some (r0, M0)) : md_M l G ai o ar yX9_hasTime cX9_hasTime 5 (some .boolean) ({ frames := 2, cells := 0, slots := 0, locals := 43 } : Room) [.ref o, .int a1, .int a2] M r0 M0 := by
  refine mo_body (Qc := fun A => va_Qi (fun (r' : Int32) (M2 : MS) => r' = r0 ∧ M2 = M0) (gw_E G ai (md_W ai o ar) A) A) (by decide) (Nat.le_of_ble_eq_true rfl) ?_
  intro p e s m args below meth c A ls hC hr hI hl _
  have hx := hC.1
  have hb := hC.2.1
  have hl : lv_has ls 5 [(0, .ref o), (1, .int a1), (2, .int a2)] := hl
  show W p l e _ s m args below meth c s.heap [] 0 0 (md_Q below G ai o ar A args s r0 M0) (F0 m 0 ls [])
  rw [f_hasTime] at hF
  refine lv_iload_n hx hb dX9_hasTime_0 rfl (lv_at hl 1 rfl) ?_
  refine lv_iconst (v := 1) hx hb dX9_hasTime_1 (by decide) ?_
  refine k_gardAt (mo_CN hC) (Nat.le_of_ble_eq_true rfl) (Nat.le_of_ble_eq_true rfl) hl.1 (Nat.le_of_ble_eq_true rfl) dX9_hasTime_2 ?_
  obtain ⟨x3_1, hx3_1, hF⟩ := lt_some hF
  refine mo_ist (lv' := [(3, .int x3_1), (0, .ref o), (1, .int a1), (2, .int a2)]) hx hb hx3_1 dX9_hasTime_5 rfl hl (by decide) rfl (fun ls hl => ?_)
  refine lv_aload_n hx hb dX9_hasTime_6 rfl (lv_at hl 1 rfl) ?_
  refine md_g6 hC hI dX9_hasTime_7 ?_
  refine lv_iload_n hx hb dX9_hasTime_10 rfl (lv_at hl 0 rfl) ?_
  obtain ⟨hg2, hF⟩ := gd_some hF
  refine md_l1 hC hI hg2 dX9_hasTime_11 ?_
  refine lv_iload_n hx hb dX9_hasTime_12 rfl (lv_at hl 3 rfl) ?_
  refine lv_icmp_ge (tgt := 31) hx hb dX9_hasTime_13 (by decide) (fun c3 => ?_) (fun c3 => ?_)
  · have hF := if_t hF c3
    refine lv_aload_n hx hb dX9_hasTime_31 rfl (lv_at hl 1 rfl) ?_
    refine md_g6 hC hI dX9_hasTime_32 ?_
    refine lv_iload_n hx hb dX9_hasTime_35 rfl (lv_at hl 0 rfl) ?_
    refine lv_dup2_11 hx hb dX9_hasTime_36 rfl rfl ?_
    obtain ⟨hg4, hF⟩ := gd_some hF
    refine md_l1 hC hI hg4 dX9_hasTime_37 ?_
    refine lv_iload_n hx hb dX9_hasTime_38 rfl (lv_at hl 3 rfl) ?_
    refine lv_isub hx hb dX9_hasTime_39 ?_
    obtain ⟨hg5, hF⟩ := gd_some hF
    obtain ⟨M6, hM6, hF⟩ := lt_some hF
    refine md_s1 hC hI hg5 hM6 dX9_hasTime_40 (fun H locs hI => ?_)
    refine lv_iconst (v := 1) hx hb dX9_hasTime_41 (by decide) ?_
    exact md_zret hC hI hr (by decide) hF dX9_hasTime_42
  · have hF := if_f hF c3
    refine lv_aload_n hx hb dX9_hasTime_16 rfl (lv_at hl 1 rfl) ?_
    refine lv_iconst (v := 4) hx hb dX9_hasTime_17 (by decide) ?_
    refine lv_aload_n hx hb dX9_hasTime_18 rfl (lv_at hl 1 rfl) ?_
    refine md_g6 hC hI dX9_hasTime_19 ?_
    refine lv_iload_n hx hb dX9_hasTime_22 rfl (lv_at hl 0 rfl) ?_
    obtain ⟨hg7, hF⟩ := gd_some hF
    refine md_l1 hC hI hg7 dX9_hasTime_23 ?_
    obtain ⟨r8, M9, hz10, hF⟩ := ob_some hF
    refine k_refuses hC hI hz10 (Nat.le_of_ble_eq_true rfl) (Nat.le_of_ble_eq_true rfl) hl.1 (Nat.le_of_ble_eq_true rfl) dX9_hasTime_24 (fun H locs hI => ?_)
    refine mo_ist4 (lv' := [(4, .int r8), (3, .int x3_1), (0, .ref o), (1, .int a1), (2, .int a2)]) hx hb rfl dX9_hasTime_27 hl (by decide) rfl (fun ls hl => ?_)
    refine lv_iconst (v := 0) hx hb dX9_hasTime_29 (by decide) ?_
    exact md_zret hC hI hr (by decide) hF dX9_hasTime_30
theorem k_hasTime {p : Program} {l : Launch} {e : Env} {R : Room} {s : State} {m : MethodId} {args : Array Value} {below : List Frame} {meth : Method} {c : Code} {H : Heap} {locs : List Loc} {cells slots : Nat} {Q : State → Prop} {pc : Nat} {ls : Array Slot} {rest : List Value} {G : va_G} {ai : Nat → ClassId} {A : Nat → Prop} {cc : ByteArray} {nL f L kc ks o : Nat} {ar : Nat → Nat} {M M1 : MS} {r1 : Int32} {a1 : Int32} {a2 : Int32} (hC : mo_C p R s m args meth c G ai A RX9 cc nL f L kc ks) (hI : mo_I G A s.heap (md_W ai o ar M) H locs) (hz : f_hasTime M a1 a2 = some (r1, M1)) (hf : 2 + 1 ≤ f) (hL : 8 + (5 + 11) + 43 ≤ L) (hsz : ls.size = nL) (hW : (rest.map fun v => v.category).sum ≤ 8) (hdg : decode cc pc = .ok (.invokevirtual 130, 3)) (kk : ∀ (H1 : Heap) (locs1 : List Loc), mo_I G A s.heap (md_W ai o ar M1) H1 locs1 → W p l e R s m args below meth c H1 locs1 cells slots Q (F0 m (pc + 3) ls (.int r1 :: rest))) (hc0 : cells ≤ kc := by first | exact Nat.zero_le _ | assumption) (hs0 : slots ≤ ks := by first | exact Nat.zero_le _ | assumption) : W p l e R s m args below meth c H locs cells slots Q (F0 m pc ls (.int a2 :: .int a1 :: .ref o :: rest)) := by
  have hI : mo_I G A s.heap (md_W ai o ar M ++ []) H locs := by rw [List.append_nil]; exact hI
  refine gw_cVi (As := [.int a1, .int a2]) (mc := 0) (ms := 0) (fs := md_F ar M) hC 2 hI (w_hasTime l G ai o ar M a1 a2 r1 M1 hz) 0 0 rfl rfl q2178 q2180 qs86 q142 q2181 rfl rfl (by decide +kernel) rfl hf hL hc0 hs0 hsz rfl hW hdg (fun r u H1 locs1 hp hI1 => ?_)
  obtain ⟨rfl, rfl⟩ := hp
  rw [List.append_nil] at hI1
  exact kk H1 locs1 hI1
def f_walks (M : MS) (a1 : Int32) (a2 : Int32) : Option (Int32 × MS) := ob (f_isGardener M a1) (fun r1 M2 => if r1 = 0 then (ob (f_fail M2 (-1)) (fun r34 M35 => some (r34, M35))) else (lt ((p_sideOf a2)) (fun x3_5 => lt ((p_gardAt a1 0)) (fun x4_6 => if 0 ≤ x3_5 then (gd (gi x4_6 216) (lt ((p_beside (M2 1 x4_6.toNatClampNeg) x3_5)) (fun x5_9 => if 0 ≤ x5_9 then (ob (f_mayTread M2 x5_9) (fun r11 M12 => if r11 = 0 then (ob (f_refusesFoot M12 x5_9) (fun r24 M25 => some (r24, M25))) else (ob (f_hasTime M12 a1 1) (fun r15 M16 => if r15 = 0 then (some ((-3), M16)) else (gd (gi x4_6 216) (lt (rup M16 1 (upd (M16 1) x4_6.toNatClampNeg x5_9)) (fun M20 => gd (gi (p_gardAt a1 4) 216) (gd (gi (p_gardAt a1 4) 216) (lt (rup M20 1 (upd (M20 1) (p_gardAt a1 4).toNatClampNeg ((M20 1 (p_gardAt a1 4).toNatClampNeg) + 1))) (fun M23 => some (x5_9, M23))))))))))) else (gd (gi x4_6 216) (ob (f_refuses M2 5 (M2 1 x4_6.toNatClampNeg)) (fun r28 M29 => some (r28, M29))))))) else (ob (f_fail M2 (-2)) (fun r31 M32 => some (r31, M32)))))))
set_option maxHeartbeats 4000000 in
theorem w_walks (l : Launch) (G : va_G) (ai : Nat → ClassId) (o : Nat) (ar : Nat → Nat) (M : MS) (a1 : Int32) (a2 : Int32) (r0 : Int32) (M0 : MS) (hF : f_walks M a1 a2 = some (r0, M0)) : md_M l G ai o ar yX9_walks cX9_walks 6 (some .int) ({ frames := 3, cells := 0, slots := 0, locals := 67 } : Room) [.ref o, .int a1, .int a2] M r0 M0 := by
  refine mo_body (Qc := fun A => va_Qi (fun (r' : Int32) (M2 : MS) => r' = r0 ∧ M2 = M0) (gw_E G ai (md_W ai o ar) A) A) (by decide) (Nat.le_of_ble_eq_true rfl) ?_
  intro p e s m args below meth c A ls hC hr hI hl _
  have hx := hC.1
  have hb := hC.2.1
  have hl : lv_has ls 6 [(0, .ref o), (1, .int a1), (2, .int a2)] := hl
  show W p l e _ s m args below meth c s.heap [] 0 0 (md_Q below G ai o ar A args s r0 M0) (F0 m 0 ls [])
  rw [f_walks] at hF
  refine lv_aload_n hx hb dX9_walks_0 rfl (lv_at hl 0 rfl) ?_
  refine lv_iload_n hx hb dX9_walks_1 rfl (lv_at hl 1 rfl) ?_
  obtain ⟨r1, M2, hz3, hF⟩ := ob_some hF
  refine k_isGardener hC hI hz3 (Nat.le_of_ble_eq_true rfl) (Nat.le_of_ble_eq_true rfl) hl.1 (Nat.le_of_ble_eq_true rfl) dX9_walks_2 (fun H locs hI => ?_)
  refine lv_if_ne (tgt := 14) hx hb dX9_walks_5 (by decide) (fun c4 => ?_) (fun c4 => ?_)
  · have hF := if_f hF c4
    refine lv_iload_n hx hb dX9_walks_14 rfl (lv_at hl 2 rfl) ?_
    refine k_sideOf (mo_CN hC) (Nat.le_of_ble_eq_true rfl) (Nat.le_of_ble_eq_true rfl) hl.1 (Nat.le_of_ble_eq_true rfl) dX9_walks_15 ?_
    obtain ⟨x3_5, hx3_5, hF⟩ := lt_some hF
    refine mo_ist (lv' := [(3, .int x3_5), (0, .ref o), (1, .int a1), (2, .int a2)]) hx hb hx3_5 dX9_walks_18 rfl hl (by decide) rfl (fun ls hl => ?_)
    refine lv_iload_n hx hb dX9_walks_19 rfl (lv_at hl 2 rfl) ?_
    refine lv_iconst (v := 0) hx hb dX9_walks_20 (by decide) ?_
    refine k_gardAt (mo_CN hC) (Nat.le_of_ble_eq_true rfl) (Nat.le_of_ble_eq_true rfl) hl.1 (Nat.le_of_ble_eq_true rfl) dX9_walks_21 ?_
    obtain ⟨x4_6, hx4_6, hF⟩ := lt_some hF
    refine mo_ist4 (lv' := [(4, .int x4_6), (3, .int x3_5), (0, .ref o), (1, .int a1), (2, .int a2)]) hx hb hx4_6 dX9_walks_24 hl (by decide) rfl (fun ls hl => ?_)
    refine lv_iload_n hx hb dX9_walks_26 rfl (lv_at hl 1 rfl) ?_
    refine lv_if_ge (tgt := 37) hx hb dX9_walks_27 (by decide) (fun c7 => ?_) (fun c7 => ?_)
    · have hF := if_t hF c7
      refine lv_aload_n hx hb dX9_walks_37 rfl (lv_at hl 2 rfl) ?_
      refine md_g6 hC hI dX9_walks_38 ?_
      refine lv_iload hx hb dX9_walks_41 (lv_at hl 0 rfl) ?_
      obtain ⟨hg8, hF⟩ := gd_some hF
      refine md_l1 hC hI hg8 dX9_walks_43 ?_
      refine lv_iload_n hx hb dX9_walks_44 rfl (lv_at hl 1 rfl) ?_
      refine k_beside (mo_CN hC) (Nat.le_of_ble_eq_true rfl) (Nat.le_of_ble_eq_true rfl) hl.1 (Nat.le_of_ble_eq_true rfl) dX9_walks_45 ?_
      obtain ⟨x5_9, hx5_9, hF⟩ := lt_some hF
      refine mo_ist4 (lv' := [(5, .int x5_9), (4, .int x4_6), (3, .int x3_5), (0, .ref o), (1, .int a1), (2, .int a2)]) hx hb hx5_9 dX9_walks_48 hl (by decide) rfl (fun ls hl => ?_)
      refine lv_iload hx hb dX9_walks_50 (lv_at hl 0 rfl) ?_
      refine lv_if_ge (tgt := 68) hx hb dX9_walks_52 (by decide) (fun c10 => ?_) (fun c10 => ?_)
      · have hF := if_t hF c10
        refine lv_aload_n hx hb dX9_walks_68 rfl (lv_at hl 3 rfl) ?_
        refine lv_iload hx hb dX9_walks_69 (lv_at hl 0 rfl) ?_
        obtain ⟨r11, M12, hz13, hF⟩ := ob_some hF
        refine k_mayTread hC hI hz13 (Nat.le_of_ble_eq_true rfl) (Nat.le_of_ble_eq_true rfl) hl.1 (Nat.le_of_ble_eq_true rfl) dX9_walks_71 (fun H locs hI => ?_)
        refine lv_if_ne (tgt := 84) hx hb dX9_walks_74 (by decide) (fun c14 => ?_) (fun c14 => ?_)
        · have hF := if_f hF c14
          refine lv_aload_n hx hb dX9_walks_84 rfl (lv_at hl 3 rfl) ?_
          refine lv_iload_n hx hb dX9_walks_85 rfl (lv_at hl 4 rfl) ?_
          refine lv_iconst (v := 1) hx hb dX9_walks_86 (by decide) ?_
          obtain ⟨r15, M16, hz17, hF⟩ := ob_some hF
          refine k_hasTime hC hI hz17 (Nat.le_of_ble_eq_true rfl) (Nat.le_of_ble_eq_true rfl) hl.1 (Nat.le_of_ble_eq_true rfl) dX9_walks_87 (fun H locs hI => ?_)
          refine lv_if_ne (tgt := 96) hx hb dX9_walks_90 (by decide) (fun c18 => ?_) (fun c18 => ?_)
          · have hF := if_f hF c18
            refine lv_aload_n hx hb dX9_walks_96 rfl (lv_at hl 3 rfl) ?_
            refine md_g6 hC hI dX9_walks_97 ?_
            refine lv_iload hx hb dX9_walks_100 (lv_at hl 1 rfl) ?_
            refine lv_iload hx hb dX9_walks_102 (lv_at hl 0 rfl) ?_
            obtain ⟨hg19, hF⟩ := gd_some hF
            obtain ⟨M20, hM20, hF⟩ := lt_some hF
            refine md_s1 hC hI hg19 hM20 dX9_walks_104 (fun H locs hI => ?_)
            refine lv_aload_n hx hb dX9_walks_105 rfl (lv_at hl 3 rfl) ?_
            refine md_g6 hC hI dX9_walks_106 ?_
            refine lv_iload_n hx hb dX9_walks_109 rfl (lv_at hl 4 rfl) ?_
            refine lv_iconst (v := 4) hx hb dX9_walks_110 (by decide) ?_
            refine k_gardAt (mo_CN hC) (Nat.le_of_ble_eq_true rfl) (Nat.le_of_ble_eq_true rfl) hl.1 (Nat.le_of_ble_eq_true rfl) dX9_walks_111 ?_
            refine lv_dup2_11 hx hb dX9_walks_114 rfl rfl ?_
            obtain ⟨hg21, hF⟩ := gd_some hF
            refine md_l1 hC hI hg21 dX9_walks_115 ?_
            refine lv_iconst (v := 1) hx hb dX9_walks_116 (by decide) ?_
            refine lv_iadd hx hb dX9_walks_117 ?_
            obtain ⟨hg22, hF⟩ := gd_some hF
            obtain ⟨M23, hM23, hF⟩ := lt_some hF
            refine md_s1 hC hI hg22 hM23 dX9_walks_118 (fun H locs hI => ?_)
            refine lv_iload hx hb dX9_walks_119 (lv_at hl 0 rfl) ?_
            exact md_iret hC hI hr hF dX9_walks_121
          · have hF := if_t hF c18
            refine lv_bipush (v := (-3)) hx hb dX9_walks_93 (by decide) ?_
            exact md_iret hC hI hr hF dX9_walks_95
        · have hF := if_t hF c14
          refine lv_aload_n hx hb dX9_walks_77 rfl (lv_at hl 3 rfl) ?_
          refine lv_iload hx hb dX9_walks_78 (lv_at hl 0 rfl) ?_
          obtain ⟨r24, M25, hz26, hF⟩ := ob_some hF
          refine k_refusesFoot hC hI hz26 (Nat.le_of_ble_eq_true rfl) (Nat.le_of_ble_eq_true rfl) hl.1 (Nat.le_of_ble_eq_true rfl) dX9_walks_80 (fun H locs hI => ?_)
          exact md_iret hC hI hr hF dX9_walks_83
      · have hF := if_f hF c10
        refine lv_aload_n hx hb dX9_walks_55 rfl (lv_at hl 3 rfl) ?_
        refine lv_iconst (v := 5) hx hb dX9_walks_56 (by decide) ?_
        refine lv_aload_n hx hb dX9_walks_57 rfl (lv_at hl 3 rfl) ?_
        refine md_g6 hC hI dX9_walks_58 ?_
        refine lv_iload hx hb dX9_walks_61 (lv_at hl 1 rfl) ?_
        obtain ⟨hg27, hF⟩ := gd_some hF
        refine md_l1 hC hI hg27 dX9_walks_63 ?_
        obtain ⟨r28, M29, hz30, hF⟩ := ob_some hF
        refine k_refuses hC hI hz30 (Nat.le_of_ble_eq_true rfl) (Nat.le_of_ble_eq_true rfl) hl.1 (Nat.le_of_ble_eq_true rfl) dX9_walks_64 (fun H locs hI => ?_)
        exact md_iret hC hI hr hF dX9_walks_67
    · have hF := if_f hF c7
      refine lv_aload_n hx hb dX9_walks_30 rfl (lv_at hl 2 rfl) ?_
      refine lv_bipush (v := (-2)) hx hb dX9_walks_31 (by decide) ?_
      obtain ⟨r31, M32, hz33, hF⟩ := ob_some hF
      refine k_fail hC hI hz33 (Nat.le_of_ble_eq_true rfl) (Nat.le_of_ble_eq_true rfl) hl.1 (Nat.le_of_ble_eq_true rfl) dX9_walks_33 (fun H locs hI => ?_)
      exact md_iret hC hI hr hF dX9_walks_36
  · have hF := if_t hF c4
    refine lv_aload_n hx hb dX9_walks_8 rfl (lv_at hl 0 rfl) ?_
    refine lv_iconst (v := (-1)) hx hb dX9_walks_9 (by decide) ?_
    obtain ⟨r34, M35, hz36, hF⟩ := ob_some hF
    refine k_fail hC hI hz36 (Nat.le_of_ble_eq_true rfl) (Nat.le_of_ble_eq_true rfl) hl.1 (Nat.le_of_ble_eq_true rfl) dX9_walks_10 (fun H locs hI => ?_)
    exact md_iret hC hI hr hF dX9_walks_13
theorem k_walks {p : Program} {l : Launch} {e : Env} {R : Room} {s : State} {m : MethodId} {args : Array Value} {below : List Frame} {meth : Method} {c : Code} {H : Heap} {locs : List Loc} {cells slots : Nat} {Q : State → Prop} {pc : Nat} {ls : Array Slot} {rest : List Value} {G : va_G} {ai : Nat → ClassId} {A : Nat → Prop} {cc : ByteArray} {nL f L kc ks o : Nat} {ar : Nat → Nat} {M M1 : MS} {r1 : Int32} {a1 : Int32} {a2 : Int32} (hC : mo_C p R s m args meth c G ai A RX9 cc nL f L kc ks) (hI : mo_I G A s.heap (md_W ai o ar M) H locs) (hz : f_walks M a1 a2 = some (r1, M1)) (hf : 3 + 1 ≤ f) (hL : 8 + (6 + 11) + 67 ≤ L) (hsz : ls.size = nL) (hW : (rest.map fun v => v.category).sum ≤ 8) (hdg : decode cc pc = .ok (.invokevirtual 134, 3)) (kk : ∀ (H1 : Heap) (locs1 : List Loc), mo_I G A s.heap (md_W ai o ar M1) H1 locs1 → W p l e R s m args below meth c H1 locs1 cells slots Q (F0 m (pc + 3) ls (.int r1 :: rest))) (hc0 : cells ≤ kc := by first | exact Nat.zero_le _ | assumption) (hs0 : slots ≤ ks := by first | exact Nat.zero_le _ | assumption) : W p l e R s m args below meth c H locs cells slots Q (F0 m pc ls (.int a2 :: .int a1 :: .ref o :: rest)) := by
  have hI : mo_I G A s.heap (md_W ai o ar M ++ []) H locs := by rw [List.append_nil]; exact hI
  refine gw_cVi (As := [.int a1, .int a2]) (mc := 0) (ms := 0) (fs := md_F ar M) hC 2 hI (w_walks l G ai o ar M a1 a2 r1 M1 hz) 0 0 rfl rfl q2164 q2166 qs84 q142 q2167 rfl rfl (by decide +kernel) rfl hf hL hc0 hs0 hsz rfl hW hdg (fun r u H1 locs1 hp hI1 => ?_)
  obtain ⟨rfl, rfl⟩ := hp
  rw [List.append_nil] at hI1
  exact kk H1 locs1 hI1
def f_walk (M : MS) (a1 : Int32) (a2 : Int32) : Option (Int32 × MS) := ob (f_begins M) (fun r1 M2 => ob (f_walks M2 a1 a2) (fun r4 M5 => ob (f_ends M5 r4) (fun r7 M8 => some (r7, M8))))
set_option maxHeartbeats 4000000 in
theorem w_walk (l : Launch) (G : va_G) (ai : Nat → ClassId) (o : Nat) (ar : Nat → Nat) (M : MS) (a1 : Int32) (a2 : Int32) (r0 : Int32) (M0 : MS) (hF : f_walk M a1 a2 = some (r0, M0)) : md_M l G ai o ar yX9_walk cX9_walk 3 (some .int) ({ frames := 4, cells := 0, slots := 0, locals := 92 } : Room) [.ref o, .int a1, .int a2] M r0 M0 := by
  refine mo_body (Qc := fun A => va_Qi (fun (r' : Int32) (M2 : MS) => r' = r0 ∧ M2 = M0) (gw_E G ai (md_W ai o ar) A) A) (by decide) (Nat.le_of_ble_eq_true rfl) ?_
  intro p e s m args below meth c A ls hC hr hI hl _
  have hx := hC.1
  have hb := hC.2.1
  have hl : lv_has ls 3 [(0, .ref o), (1, .int a1), (2, .int a2)] := hl
  show W p l e _ s m args below meth c s.heap [] 0 0 (md_Q below G ai o ar A args s r0 M0) (F0 m 0 ls [])
  rw [f_walk] at hF
  refine lv_aload_n hx hb dX9_walk_0 rfl (lv_at hl 0 rfl) ?_
  obtain ⟨r1, M2, hz3, hF⟩ := ob_some hF
  refine k_begins hC hI hz3 (Nat.le_of_ble_eq_true rfl) (Nat.le_of_ble_eq_true rfl) hl.1 (Nat.le_of_ble_eq_true rfl) dX9_walk_1 (fun H locs hI => ?_)
  refine lv_aload_n hx hb dX9_walk_4 rfl (lv_at hl 0 rfl) ?_
  refine lv_aload_n hx hb dX9_walk_5 rfl (lv_at hl 0 rfl) ?_
  refine lv_iload_n hx hb dX9_walk_6 rfl (lv_at hl 1 rfl) ?_
  refine lv_iload_n hx hb dX9_walk_7 rfl (lv_at hl 2 rfl) ?_
  obtain ⟨r4, M5, hz6, hF⟩ := ob_some hF
  refine k_walks hC hI hz6 (Nat.le_of_ble_eq_true rfl) (Nat.le_of_ble_eq_true rfl) hl.1 (Nat.le_of_ble_eq_true rfl) dX9_walk_8 (fun H locs hI => ?_)
  obtain ⟨r7, M8, hz9, hF⟩ := ob_some hF
  refine k_ends hC hI hz9 (Nat.le_of_ble_eq_true rfl) (Nat.le_of_ble_eq_true rfl) hl.1 (Nat.le_of_ble_eq_true rfl) dX9_walk_11 (fun H locs hI => ?_)
  exact md_iret hC hI hr hF dX9_walk_14
def f_sweeps (M : MS) (a1 : Int32) : Option (Int32 × MS) := ob (f_isGardener M a1) (fun r1 M2 => if r1 = 0 then (ob (f_fail M2 (-1)) (fun r34 M35 => some (r34, M35))) else (gd (gi (p_gardAt a1 0) 216) (lt ((M2 1 (p_gardAt a1 0).toNatClampNeg)) (fun x2_6 => gd (gi (72 + x2_6) 216) (lt ((M2 1 (72 + x2_6).toNatClampNeg)) (fun x3_8 => lt (((x3_8 + 2) / 3)) (fun x4_9 => lt ((p_gardAt a1 2)) (fun x5_10 => if x3_8 = 0 then (ob (f_refuses M2 6 x2_6) (fun r31 M32 => some (r31, M32))) else (ob (f_hasTime M2 a1 1) (fun r12 M13 => if r12 = 0 then (some ((-3), M13)) else (gd (gi x5_10 216) (if x4_9 ≤ (M13 1 x5_10.toNatClampNeg) then (gd (gi x5_10 216) (gd (gi x5_10 216) (lt (rup M13 1 (upd (M13 1) x5_10.toNatClampNeg ((M13 1 x5_10.toNatClampNeg) - x4_9))) (fun M20 => gd (gi (72 + x2_6) 216) (lt (rup M20 1 (upd (M20 1) (72 + x2_6).toNatClampNeg 0)) (fun M22 => gd (gi (p_gardAt a1 3) 216) (gd (gi (p_gardAt a1 3) 216) (lt (rup M22 1 (upd (M22 1) (p_gardAt a1 3).toNatClampNeg ((M22 1 (p_gardAt a1 3).toNatClampNeg) + x3_8))) (fun M25 => lt (rup M25 1 (upd (M25 1) (7 : Int32).toNatClampNeg ((M25 1 (7 : Int32).toNatClampNeg) + x3_8))) (fun M26 => some (x3_8, M26))))))))))) else (gd (gi x5_10 216) (ob (f_refuses M13 7 (x4_9 - (M13 1 x5_10.toNatClampNeg))) (fun r28 M29 => some (r28, M29))))))))))))))))
set_option maxHeartbeats 4000000 in
theorem w_sweeps (l : Launch) (G : va_G) (ai : Nat → ClassId) (o : Nat) (ar : Nat → Nat) (M : MS) (a1 : Int32) (r0 : Int32) (M0 : MS) (hF : f_sweeps M a1 = some (r0, M0)) : md_M l G ai o ar yX9_sweeps cX9_sweeps 6 (some .int) ({ frames := 3, cells := 0, slots := 0, locals := 67 } : Room) [.ref o, .int a1] M r0 M0 := by
  refine mo_body (Qc := fun A => va_Qi (fun (r' : Int32) (M2 : MS) => r' = r0 ∧ M2 = M0) (gw_E G ai (md_W ai o ar) A) A) (by decide) (Nat.le_of_ble_eq_true rfl) ?_
  intro p e s m args below meth c A ls hC hr hI hl _
  have hx := hC.1
  have hb := hC.2.1
  have hl : lv_has ls 6 [(0, .ref o), (1, .int a1)] := hl
  show W p l e _ s m args below meth c s.heap [] 0 0 (md_Q below G ai o ar A args s r0 M0) (F0 m 0 ls [])
  rw [f_sweeps] at hF
  refine lv_aload_n hx hb dX9_sweeps_0 rfl (lv_at hl 0 rfl) ?_
  refine lv_iload_n hx hb dX9_sweeps_1 rfl (lv_at hl 1 rfl) ?_
  obtain ⟨r1, M2, hz3, hF⟩ := ob_some hF
  refine k_isGardener hC hI hz3 (Nat.le_of_ble_eq_true rfl) (Nat.le_of_ble_eq_true rfl) hl.1 (Nat.le_of_ble_eq_true rfl) dX9_sweeps_2 (fun H locs hI => ?_)
  refine lv_if_ne (tgt := 14) hx hb dX9_sweeps_5 (by decide) (fun c4 => ?_) (fun c4 => ?_)
  · have hF := if_f hF c4
    refine lv_aload_n hx hb dX9_sweeps_14 rfl (lv_at hl 0 rfl) ?_
    refine md_g6 hC hI dX9_sweeps_15 ?_
    refine lv_iload_n hx hb dX9_sweeps_18 rfl (lv_at hl 1 rfl) ?_
    refine lv_iconst (v := 0) hx hb dX9_sweeps_19 (by decide) ?_
    refine k_gardAt (mo_CN hC) (Nat.le_of_ble_eq_true rfl) (Nat.le_of_ble_eq_true rfl) hl.1 (Nat.le_of_ble_eq_true rfl) dX9_sweeps_20 ?_
    obtain ⟨hg5, hF⟩ := gd_some hF
    refine md_l1 hC hI hg5 dX9_sweeps_23 ?_
    obtain ⟨x2_6, hx2_6, hF⟩ := lt_some hF
    refine mo_ist (lv' := [(2, .int x2_6), (0, .ref o), (1, .int a1)]) hx hb hx2_6 dX9_sweeps_24 rfl hl (by decide) rfl (fun ls hl => ?_)
    refine lv_aload_n hx hb dX9_sweeps_25 rfl (lv_at hl 1 rfl) ?_
    refine md_g6 hC hI dX9_sweeps_26 ?_
    refine lv_bipush (v := 72) hx hb dX9_sweeps_29 (by decide) ?_
    refine lv_iload_n hx hb dX9_sweeps_31 rfl (lv_at hl 0 rfl) ?_
    refine lv_iadd hx hb dX9_sweeps_32 ?_
    obtain ⟨hg7, hF⟩ := gd_some hF
    refine md_l1 hC hI hg7 dX9_sweeps_33 ?_
    obtain ⟨x3_8, hx3_8, hF⟩ := lt_some hF
    refine mo_ist (lv' := [(3, .int x3_8), (2, .int x2_6), (0, .ref o), (1, .int a1)]) hx hb hx3_8 dX9_sweeps_34 rfl hl (by decide) rfl (fun ls hl => ?_)
    refine lv_iload_n hx hb dX9_sweeps_35 rfl (lv_at hl 0 rfl) ?_
    refine lv_iconst (v := 2) hx hb dX9_sweeps_36 (by decide) ?_
    refine lv_iadd hx hb dX9_sweeps_37 ?_
    refine lv_iconst (v := 3) hx hb dX9_sweeps_38 (by decide) ?_
    refine lv_idiv hx hb dX9_sweeps_39 (by decide) ?_
    obtain ⟨x4_9, hx4_9, hF⟩ := lt_some hF
    refine mo_ist4 (lv' := [(4, .int x4_9), (3, .int x3_8), (2, .int x2_6), (0, .ref o), (1, .int a1)]) hx hb hx4_9 dX9_sweeps_40 hl (by decide) rfl (fun ls hl => ?_)
    refine lv_iload_n hx hb dX9_sweeps_42 rfl (lv_at hl 4 rfl) ?_
    refine lv_iconst (v := 2) hx hb dX9_sweeps_43 (by decide) ?_
    refine k_gardAt (mo_CN hC) (Nat.le_of_ble_eq_true rfl) (Nat.le_of_ble_eq_true rfl) hl.1 (Nat.le_of_ble_eq_true rfl) dX9_sweeps_44 ?_
    obtain ⟨x5_10, hx5_10, hF⟩ := lt_some hF
    refine mo_ist4 (lv' := [(5, .int x5_10), (4, .int x4_9), (3, .int x3_8), (2, .int x2_6), (0, .ref o), (1, .int a1)]) hx hb hx5_10 dX9_sweeps_47 hl (by decide) rfl (fun ls hl => ?_)
    refine lv_iload_n hx hb dX9_sweeps_49 rfl (lv_at hl 2 rfl) ?_
    refine lv_if_ne (tgt := 61) hx hb dX9_sweeps_50 (by decide) (fun c11 => ?_) (fun c11 => ?_)
    · have hF := if_f hF c11
      refine lv_aload_n hx hb dX9_sweeps_61 rfl (lv_at hl 4 rfl) ?_
      refine lv_iload_n hx hb dX9_sweeps_62 rfl (lv_at hl 5 rfl) ?_
      refine lv_iconst (v := 1) hx hb dX9_sweeps_63 (by decide) ?_
      obtain ⟨r12, M13, hz14, hF⟩ := ob_some hF
      refine k_hasTime hC hI hz14 (Nat.le_of_ble_eq_true rfl) (Nat.le_of_ble_eq_true rfl) hl.1 (Nat.le_of_ble_eq_true rfl) dX9_sweeps_64 (fun H locs hI => ?_)
      refine lv_if_ne (tgt := 73) hx hb dX9_sweeps_67 (by decide) (fun c15 => ?_) (fun c15 => ?_)
      · have hF := if_f hF c15
        refine lv_aload_n hx hb dX9_sweeps_73 rfl (lv_at hl 4 rfl) ?_
        refine md_g6 hC hI dX9_sweeps_74 ?_
        refine lv_iload hx hb dX9_sweeps_77 (lv_at hl 0 rfl) ?_
        obtain ⟨hg16, hF⟩ := gd_some hF
        refine md_l1 hC hI hg16 dX9_sweeps_79 ?_
        refine lv_iload hx hb dX9_sweeps_80 (lv_at hl 1 rfl) ?_
        refine lv_icmp_ge (tgt := 102) hx hb dX9_sweeps_82 (by decide) (fun c17 => ?_) (fun c17 => ?_)
        · have hF := if_t hF c17
          refine lv_aload_n hx hb dX9_sweeps_102 rfl (lv_at hl 4 rfl) ?_
          refine md_g6 hC hI dX9_sweeps_103 ?_
          refine lv_iload hx hb dX9_sweeps_106 (lv_at hl 0 rfl) ?_
          refine lv_dup2_11 hx hb dX9_sweeps_108 rfl rfl ?_
          obtain ⟨hg18, hF⟩ := gd_some hF
          refine md_l1 hC hI hg18 dX9_sweeps_109 ?_
          refine lv_iload hx hb dX9_sweeps_110 (lv_at hl 1 rfl) ?_
          refine lv_isub hx hb dX9_sweeps_112 ?_
          obtain ⟨hg19, hF⟩ := gd_some hF
          obtain ⟨M20, hM20, hF⟩ := lt_some hF
          refine md_s1 hC hI hg19 hM20 dX9_sweeps_113 (fun H locs hI => ?_)
          refine lv_aload_n hx hb dX9_sweeps_114 rfl (lv_at hl 4 rfl) ?_
          refine md_g6 hC hI dX9_sweeps_115 ?_
          refine lv_bipush (v := 72) hx hb dX9_sweeps_118 (by decide) ?_
          refine lv_iload_n hx hb dX9_sweeps_120 rfl (lv_at hl 3 rfl) ?_
          refine lv_iadd hx hb dX9_sweeps_121 ?_
          refine lv_iconst (v := 0) hx hb dX9_sweeps_122 (by decide) ?_
          obtain ⟨hg21, hF⟩ := gd_some hF
          obtain ⟨M22, hM22, hF⟩ := lt_some hF
          refine md_s1 hC hI hg21 hM22 dX9_sweeps_123 (fun H locs hI => ?_)
          refine lv_aload_n hx hb dX9_sweeps_124 rfl (lv_at hl 4 rfl) ?_
          refine md_g6 hC hI dX9_sweeps_125 ?_
          refine lv_iload_n hx hb dX9_sweeps_128 rfl (lv_at hl 5 rfl) ?_
          refine lv_iconst (v := 3) hx hb dX9_sweeps_129 (by decide) ?_
          refine k_gardAt (mo_CN hC) (Nat.le_of_ble_eq_true rfl) (Nat.le_of_ble_eq_true rfl) hl.1 (Nat.le_of_ble_eq_true rfl) dX9_sweeps_130 ?_
          refine lv_dup2_11 hx hb dX9_sweeps_133 rfl rfl ?_
          obtain ⟨hg23, hF⟩ := gd_some hF
          refine md_l1 hC hI hg23 dX9_sweeps_134 ?_
          refine lv_iload_n hx hb dX9_sweeps_135 rfl (lv_at hl 2 rfl) ?_
          refine lv_iadd hx hb dX9_sweeps_136 ?_
          obtain ⟨hg24, hF⟩ := gd_some hF
          obtain ⟨M25, hM25, hF⟩ := lt_some hF
          refine md_s1 hC hI hg24 hM25 dX9_sweeps_137 (fun H locs hI => ?_)
          refine lv_aload_n hx hb dX9_sweeps_138 rfl (lv_at hl 4 rfl) ?_
          refine md_g6 hC hI dX9_sweeps_139 ?_
          refine lv_bipush (v := 7) hx hb dX9_sweeps_142 (by decide) ?_
          refine lv_dup2_11 hx hb dX9_sweeps_144 rfl rfl ?_
          refine md_l1 hC hI (by decide) dX9_sweeps_145 ?_
          refine lv_iload_n hx hb dX9_sweeps_146 rfl (lv_at hl 2 rfl) ?_
          refine lv_iadd hx hb dX9_sweeps_147 ?_
          obtain ⟨M26, hM26, hF⟩ := lt_some hF
          refine md_s1 hC hI (by decide) hM26 dX9_sweeps_148 (fun H locs hI => ?_)
          refine lv_iload_n hx hb dX9_sweeps_149 rfl (lv_at hl 2 rfl) ?_
          exact md_iret hC hI hr hF dX9_sweeps_150
        · have hF := if_f hF c17
          refine lv_aload_n hx hb dX9_sweeps_85 rfl (lv_at hl 4 rfl) ?_
          refine lv_bipush (v := 7) hx hb dX9_sweeps_86 (by decide) ?_
          refine lv_iload hx hb dX9_sweeps_88 (lv_at hl 1 rfl) ?_
          refine lv_aload_n hx hb dX9_sweeps_90 rfl (lv_at hl 4 rfl) ?_
          refine md_g6 hC hI dX9_sweeps_91 ?_
          refine lv_iload hx hb dX9_sweeps_94 (lv_at hl 0 rfl) ?_
          obtain ⟨hg27, hF⟩ := gd_some hF
          refine md_l1 hC hI hg27 dX9_sweeps_96 ?_
          refine lv_isub hx hb dX9_sweeps_97 ?_
          obtain ⟨r28, M29, hz30, hF⟩ := ob_some hF
          refine k_refuses hC hI hz30 (Nat.le_of_ble_eq_true rfl) (Nat.le_of_ble_eq_true rfl) hl.1 (Nat.le_of_ble_eq_true rfl) dX9_sweeps_98 (fun H locs hI => ?_)
          exact md_iret hC hI hr hF dX9_sweeps_101
      · have hF := if_t hF c15
        refine lv_bipush (v := (-3)) hx hb dX9_sweeps_70 (by decide) ?_
        exact md_iret hC hI hr hF dX9_sweeps_72
    · have hF := if_t hF c11
      refine lv_aload_n hx hb dX9_sweeps_53 rfl (lv_at hl 4 rfl) ?_
      refine lv_bipush (v := 6) hx hb dX9_sweeps_54 (by decide) ?_
      refine lv_iload_n hx hb dX9_sweeps_56 rfl (lv_at hl 3 rfl) ?_
      obtain ⟨r31, M32, hz33, hF⟩ := ob_some hF
      refine k_refuses hC hI hz33 (Nat.le_of_ble_eq_true rfl) (Nat.le_of_ble_eq_true rfl) hl.1 (Nat.le_of_ble_eq_true rfl) dX9_sweeps_57 (fun H locs hI => ?_)
      exact md_iret hC hI hr hF dX9_sweeps_60
  · have hF := if_t hF c4
    refine lv_aload_n hx hb dX9_sweeps_8 rfl (lv_at hl 0 rfl) ?_
    refine lv_iconst (v := (-1)) hx hb dX9_sweeps_9 (by decide) ?_
    obtain ⟨r34, M35, hz36, hF⟩ := ob_some hF
    refine k_fail hC hI hz36 (Nat.le_of_ble_eq_true rfl) (Nat.le_of_ble_eq_true rfl) hl.1 (Nat.le_of_ble_eq_true rfl) dX9_sweeps_10 (fun H locs hI => ?_)
    exact md_iret hC hI hr hF dX9_sweeps_13
theorem k_sweeps {p : Program} {l : Launch} {e : Env} {R : Room} {s : State} {m : MethodId} {args : Array Value} {below : List Frame} {meth : Method} {c : Code} {H : Heap} {locs : List Loc} {cells slots : Nat} {Q : State → Prop} {pc : Nat} {ls : Array Slot} {rest : List Value} {G : va_G} {ai : Nat → ClassId} {A : Nat → Prop} {cc : ByteArray} {nL f L kc ks o : Nat} {ar : Nat → Nat} {M M1 : MS} {r1 : Int32} {a1 : Int32} (hC : mo_C p R s m args meth c G ai A RX9 cc nL f L kc ks) (hI : mo_I G A s.heap (md_W ai o ar M) H locs) (hz : f_sweeps M a1 = some (r1, M1)) (hf : 3 + 1 ≤ f) (hL : 8 + (6 + 11) + 67 ≤ L) (hsz : ls.size = nL) (hW : (rest.map fun v => v.category).sum ≤ 8) (hdg : decode cc pc = .ok (.invokevirtual 137, 3)) (kk : ∀ (H1 : Heap) (locs1 : List Loc), mo_I G A s.heap (md_W ai o ar M1) H1 locs1 → W p l e R s m args below meth c H1 locs1 cells slots Q (F0 m (pc + 3) ls (.int r1 :: rest))) (hc0 : cells ≤ kc := by first | exact Nat.zero_le _ | assumption) (hs0 : slots ≤ ks := by first | exact Nat.zero_le _ | assumption) : W p l e R s m args below meth c H locs cells slots Q (F0 m pc ls (.int a1 :: .ref o :: rest)) := by
  have hI : mo_I G A s.heap (md_W ai o ar M ++ []) H locs := by rw [List.append_nil]; exact hI
  refine gw_cVi (As := [.int a1]) (mc := 0) (ms := 0) (fs := md_F ar M) hC 1 hI (w_sweeps l G ai o ar M a1 r1 M1 hz) 0 0 rfl rfl q2186 q2188 qs87 q142 q2189 rfl rfl (by decide +kernel) rfl hf hL hc0 hs0 hsz rfl hW hdg (fun r u H1 locs1 hp hI1 => ?_)
  obtain ⟨rfl, rfl⟩ := hp
  rw [List.append_nil] at hI1
  exact kk H1 locs1 hI1
def f_sweep (M : MS) (a1 : Int32) : Option (Int32 × MS) := ob (f_begins M) (fun r1 M2 => ob (f_sweeps M2 a1) (fun r4 M5 => ob (f_ends M5 r4) (fun r7 M8 => some (r7, M8))))
set_option maxHeartbeats 4000000 in
theorem w_sweep (l : Launch) (G : va_G) (ai : Nat → ClassId) (o : Nat) (ar : Nat → Nat) (M : MS) (a1 : Int32) (r0 : Int32) (M0 : MS) (hF : f_sweep M a1 = some (r0, M0)) : md_M l G ai o ar yX9_sweep cX9_sweep 2 (some .int) ({ frames := 4, cells := 0, slots := 0, locals := 92 } : Room) [.ref o, .int a1] M r0 M0 := by
  refine mo_body (Qc := fun A => va_Qi (fun (r' : Int32) (M2 : MS) => r' = r0 ∧ M2 = M0) (gw_E G ai (md_W ai o ar) A) A) (by decide) (Nat.le_of_ble_eq_true rfl) ?_
  intro p e s m args below meth c A ls hC hr hI hl _
  have hx := hC.1
  have hb := hC.2.1
  have hl : lv_has ls 2 [(0, .ref o), (1, .int a1)] := hl
  show W p l e _ s m args below meth c s.heap [] 0 0 (md_Q below G ai o ar A args s r0 M0) (F0 m 0 ls [])
  rw [f_sweep] at hF
  refine lv_aload_n hx hb dX9_sweep_0 rfl (lv_at hl 0 rfl) ?_
  obtain ⟨r1, M2, hz3, hF⟩ := ob_some hF
  refine k_begins hC hI hz3 (Nat.le_of_ble_eq_true rfl) (Nat.le_of_ble_eq_true rfl) hl.1 (Nat.le_of_ble_eq_true rfl) dX9_sweep_1 (fun H locs hI => ?_)
  refine lv_aload_n hx hb dX9_sweep_4 rfl (lv_at hl 0 rfl) ?_
  refine lv_aload_n hx hb dX9_sweep_5 rfl (lv_at hl 0 rfl) ?_
  refine lv_iload_n hx hb dX9_sweep_6 rfl (lv_at hl 1 rfl) ?_
  obtain ⟨r4, M5, hz6, hF⟩ := ob_some hF
  refine k_sweeps hC hI hz6 (Nat.le_of_ble_eq_true rfl) (Nat.le_of_ble_eq_true rfl) hl.1 (Nat.le_of_ble_eq_true rfl) dX9_sweep_7 (fun H locs hI => ?_)
  obtain ⟨r7, M8, hz9, hF⟩ := ob_some hF
  refine k_ends hC hI hz9 (Nat.le_of_ble_eq_true rfl) (Nat.le_of_ble_eq_true rfl) hl.1 (Nat.le_of_ble_eq_true rfl) dX9_sweep_10 (fun H locs hI => ?_)
  exact md_iret hC hI hr hF dX9_sweep_13
def f_binds (M : MS) (a1 : Int32) : Option (Int32 × MS) := ob (f_isGardener M a1) (fun r1 M2 => if r1 = 0 then (ob (f_fail M2 (-1)) (fun r13 M14 => some (r13, M14))) else (ob (f_hasTime M2 a1 2) (fun r5 M6 => if r5 = 0 then (some ((-3), M6)) else (gd (gi (p_gardAt a1 2) 216) (lt ((M6 1 (p_gardAt a1 2).toNatClampNeg)) (fun x2_10 => gd (gi (p_gardAt a1 2) 216) (lt (rup M6 1 (upd (M6 1) (p_gardAt a1 2).toNatClampNeg 12)) (fun M12 => some (x2_10, M12)))))))))
set_option maxHeartbeats 4000000 in
theorem w_binds (l : Launch) (G : va_G) (ai : Nat → ClassId) (o : Nat) (ar : Nat → Nat) (M : MS) (a1 : Int32) (r0 : Int32) (M0 : MS) (hF : f_binds M a1 = some (r0, M0)) : md_M l G ai o ar yX9_binds cX9_binds 3 (some .int) ({ frames := 3, cells := 0, slots := 0, locals := 67 } : Room) [.ref o, .int a1] M r0 M0 := by
  refine mo_body (Qc := fun A => va_Qi (fun (r' : Int32) (M2 : MS) => r' = r0 ∧ M2 = M0) (gw_E G ai (md_W ai o ar) A) A) (by decide) (Nat.le_of_ble_eq_true rfl) ?_
  intro p e s m args below meth c A ls hC hr hI hl _
  have hx := hC.1
  have hb := hC.2.1
  have hl : lv_has ls 3 [(0, .ref o), (1, .int a1)] := hl
  show W p l e _ s m args below meth c s.heap [] 0 0 (md_Q below G ai o ar A args s r0 M0) (F0 m 0 ls [])
  rw [f_binds] at hF
  refine lv_aload_n hx hb dX9_binds_0 rfl (lv_at hl 0 rfl) ?_
  refine lv_iload_n hx hb dX9_binds_1 rfl (lv_at hl 1 rfl) ?_
  obtain ⟨r1, M2, hz3, hF⟩ := ob_some hF
  refine k_isGardener hC hI hz3 (Nat.le_of_ble_eq_true rfl) (Nat.le_of_ble_eq_true rfl) hl.1 (Nat.le_of_ble_eq_true rfl) dX9_binds_2 (fun H locs hI => ?_)
  refine lv_if_ne (tgt := 14) hx hb dX9_binds_5 (by decide) (fun c4 => ?_) (fun c4 => ?_)
  · have hF := if_f hF c4
    refine lv_aload_n hx hb dX9_binds_14 rfl (lv_at hl 0 rfl) ?_
    refine lv_iload_n hx hb dX9_binds_15 rfl (lv_at hl 1 rfl) ?_
    refine lv_iconst (v := 2) hx hb dX9_binds_16 (by decide) ?_
    obtain ⟨r5, M6, hz7, hF⟩ := ob_some hF
    refine k_hasTime hC hI hz7 (Nat.le_of_ble_eq_true rfl) (Nat.le_of_ble_eq_true rfl) hl.1 (Nat.le_of_ble_eq_true rfl) dX9_binds_17 (fun H locs hI => ?_)
    refine lv_if_ne (tgt := 26) hx hb dX9_binds_20 (by decide) (fun c8 => ?_) (fun c8 => ?_)
    · have hF := if_f hF c8
      refine lv_aload_n hx hb dX9_binds_26 rfl (lv_at hl 0 rfl) ?_
      refine md_g6 hC hI dX9_binds_27 ?_
      refine lv_iload_n hx hb dX9_binds_30 rfl (lv_at hl 1 rfl) ?_
      refine lv_iconst (v := 2) hx hb dX9_binds_31 (by decide) ?_
      refine k_gardAt (mo_CN hC) (Nat.le_of_ble_eq_true rfl) (Nat.le_of_ble_eq_true rfl) hl.1 (Nat.le_of_ble_eq_true rfl) dX9_binds_32 ?_
      obtain ⟨hg9, hF⟩ := gd_some hF
      refine md_l1 hC hI hg9 dX9_binds_35 ?_
      obtain ⟨x2_10, hx2_10, hF⟩ := lt_some hF
      refine mo_ist (lv' := [(2, .int x2_10), (0, .ref o), (1, .int a1)]) hx hb hx2_10 dX9_binds_36 rfl hl (by decide) rfl (fun ls hl => ?_)
      refine lv_aload_n hx hb dX9_binds_37 rfl (lv_at hl 1 rfl) ?_
      refine md_g6 hC hI dX9_binds_38 ?_
      refine lv_iload_n hx hb dX9_binds_41 rfl (lv_at hl 2 rfl) ?_
      refine lv_iconst (v := 2) hx hb dX9_binds_42 (by decide) ?_
      refine k_gardAt (mo_CN hC) (Nat.le_of_ble_eq_true rfl) (Nat.le_of_ble_eq_true rfl) hl.1 (Nat.le_of_ble_eq_true rfl) dX9_binds_43 ?_
      refine lv_bipush (v := 12) hx hb dX9_binds_46 (by decide) ?_
      obtain ⟨hg11, hF⟩ := gd_some hF
      obtain ⟨M12, hM12, hF⟩ := lt_some hF
      refine md_s1 hC hI hg11 hM12 dX9_binds_48 (fun H locs hI => ?_)
      refine lv_iload_n hx hb dX9_binds_49 rfl (lv_at hl 0 rfl) ?_
      exact md_iret hC hI hr hF dX9_binds_50
    · have hF := if_t hF c8
      refine lv_bipush (v := (-3)) hx hb dX9_binds_23 (by decide) ?_
      exact md_iret hC hI hr hF dX9_binds_25
  · have hF := if_t hF c4
    refine lv_aload_n hx hb dX9_binds_8 rfl (lv_at hl 0 rfl) ?_
    refine lv_iconst (v := (-1)) hx hb dX9_binds_9 (by decide) ?_
    obtain ⟨r13, M14, hz15, hF⟩ := ob_some hF
    refine k_fail hC hI hz15 (Nat.le_of_ble_eq_true rfl) (Nat.le_of_ble_eq_true rfl) hl.1 (Nat.le_of_ble_eq_true rfl) dX9_binds_10 (fun H locs hI => ?_)
    exact md_iret hC hI hr hF dX9_binds_13
theorem k_binds {p : Program} {l : Launch} {e : Env} {R : Room} {s : State} {m : MethodId} {args : Array Value} {below : List Frame} {meth : Method} {c : Code} {H : Heap} {locs : List Loc} {cells slots : Nat} {Q : State → Prop} {pc : Nat} {ls : Array Slot} {rest : List Value} {G : va_G} {ai : Nat → ClassId} {A : Nat → Prop} {cc : ByteArray} {nL f L kc ks o : Nat} {ar : Nat → Nat} {M M1 : MS} {r1 : Int32} {a1 : Int32} (hC : mo_C p R s m args meth c G ai A RX9 cc nL f L kc ks) (hI : mo_I G A s.heap (md_W ai o ar M) H locs) (hz : f_binds M a1 = some (r1, M1)) (hf : 3 + 1 ≤ f) (hL : 8 + (3 + 11) + 67 ≤ L) (hsz : ls.size = nL) (hW : (rest.map fun v => v.category).sum ≤ 8) (hdg : decode cc pc = .ok (.invokevirtual 140, 3)) (kk : ∀ (H1 : Heap) (locs1 : List Loc), mo_I G A s.heap (md_W ai o ar M1) H1 locs1 → W p l e R s m args below meth c H1 locs1 cells slots Q (F0 m (pc + 3) ls (.int r1 :: rest))) (hc0 : cells ≤ kc := by first | exact Nat.zero_le _ | assumption) (hs0 : slots ≤ ks := by first | exact Nat.zero_le _ | assumption) : W p l e R s m args below meth c H locs cells slots Q (F0 m pc ls (.int a1 :: .ref o :: rest)) := by
  have hI : mo_I G A s.heap (md_W ai o ar M ++ []) H locs := by rw [List.append_nil]; exact hI
  refine gw_cVi (As := [.int a1]) (mc := 0) (ms := 0) (fs := md_F ar M) hC 1 hI (w_binds l G ai o ar M a1 r1 M1 hz) 0 0 rfl rfl q2194 q2196 qs88 q142 q2197 rfl rfl (by decide +kernel) rfl hf hL hc0 hs0 hsz rfl hW hdg (fun r u H1 locs1 hp hI1 => ?_)
  obtain ⟨rfl, rfl⟩ := hp
  rw [List.append_nil] at hI1
  exact kk H1 locs1 hI1
def f_bind (M : MS) (a1 : Int32) : Option (Int32 × MS) := ob (f_begins M) (fun r1 M2 => ob (f_binds M2 a1) (fun r4 M5 => ob (f_ends M5 r4) (fun r7 M8 => some (r7, M8))))
set_option maxHeartbeats 4000000 in
theorem w_bind (l : Launch) (G : va_G) (ai : Nat → ClassId) (o : Nat) (ar : Nat → Nat) (M : MS) (a1 : Int32) (r0 : Int32) (M0 : MS) (hF : f_bind M a1 = some (r0, M0)) : md_M l G ai o ar yX9_bind cX9_bind 2 (some .int) ({ frames := 4, cells := 0, slots := 0, locals := 89 } : Room) [.ref o, .int a1] M r0 M0 := by
  refine mo_body (Qc := fun A => va_Qi (fun (r' : Int32) (M2 : MS) => r' = r0 ∧ M2 = M0) (gw_E G ai (md_W ai o ar) A) A) (by decide) (Nat.le_of_ble_eq_true rfl) ?_
  intro p e s m args below meth c A ls hC hr hI hl _
  have hx := hC.1
  have hb := hC.2.1
  have hl : lv_has ls 2 [(0, .ref o), (1, .int a1)] := hl
  show W p l e _ s m args below meth c s.heap [] 0 0 (md_Q below G ai o ar A args s r0 M0) (F0 m 0 ls [])
  rw [f_bind] at hF
  refine lv_aload_n hx hb dX9_bind_0 rfl (lv_at hl 0 rfl) ?_
  obtain ⟨r1, M2, hz3, hF⟩ := ob_some hF
  refine k_begins hC hI hz3 (Nat.le_of_ble_eq_true rfl) (Nat.le_of_ble_eq_true rfl) hl.1 (Nat.le_of_ble_eq_true rfl) dX9_bind_1 (fun H locs hI => ?_)
  refine lv_aload_n hx hb dX9_bind_4 rfl (lv_at hl 0 rfl) ?_
  refine lv_aload_n hx hb dX9_bind_5 rfl (lv_at hl 0 rfl) ?_
  refine lv_iload_n hx hb dX9_bind_6 rfl (lv_at hl 1 rfl) ?_
  obtain ⟨r4, M5, hz6, hF⟩ := ob_some hF
  refine k_binds hC hI hz6 (Nat.le_of_ble_eq_true rfl) (Nat.le_of_ble_eq_true rfl) hl.1 (Nat.le_of_ble_eq_true rfl) dX9_bind_7 (fun H locs hI => ?_)
  obtain ⟨r7, M8, hz9, hF⟩ := ob_some hF
  refine k_ends hC hI hz9 (Nat.le_of_ble_eq_true rfl) (Nat.le_of_ble_eq_true rfl) hl.1 (Nat.le_of_ble_eq_true rfl) dX9_bind_10 (fun H locs hI => ?_)
  exact md_iret hC hI hr hF dX9_bind_13
def f_setsTrap (M : MS) (a1 : Int32) : Option (Int32 × MS) := ob (f_isGardener M a1) (fun r1 M2 => if r1 = 0 then (ob (f_fail M2 (-1)) (fun r29 M30 => some (r29, M30))) else (gd (gi (p_gardAt a1 0) 216) (lt ((M2 1 (p_gardAt a1 0).toNatClampNeg)) (fun x2_6 => ob (f_isStone M2 x2_6) (fun r7 M8 => if r7 = 0 then (lj (fun (M11 : MS) => ob (f_refuses M11 9 x2_6) (fun r13 M14 => some (r13, M14))) (fun j63_11 => if (M8 1 (4 : Int32).toNatClampNeg) = 0 then (j63_11 M8) else (gd (gi (132 + x2_6) 216) (if (M8 1 (132 + x2_6).toNatClampNeg) = 1 then (j63_11 M8) else (ob (f_hasTime M8 a1 1) (fun r19 M20 => if r19 = 0 then (some ((-3), M20)) else (gd (gi (132 + x2_6) 216) (lt (rup M20 1 (upd (M20 1) (132 + x2_6).toNatClampNeg 1)) (fun M24 => lt (rup M24 1 (upd (M24 1) (4 : Int32).toNatClampNeg ((M24 1 (4 : Int32).toNatClampNeg) - 1))) (fun M25 => some ((M25 1 (4 : Int32).toNatClampNeg), M25))))))))))) else (ob (f_refuses M8 2 x2_6) (fun r26 M27 => some (r26, M27))))))))
set_option maxHeartbeats 4000000 in
theorem w_setsTrap (l : Launch) (G : va_G) (ai : Nat → ClassId) (o : Nat) (ar : Nat → Nat) (M : MS) (a1 : Int32) (r0 : Int32) (M0 : MS) (hF : f_setsTrap M a1 = some (r0, M0)) : md_M l G ai o ar yX9_setsTrap cX9_setsTrap 3 (some .int) ({ frames := 3, cells := 0, slots := 0, locals := 67 } : Room) [.ref o, .int a1] M r0 M0 := by
  refine mo_body (Qc := fun A => va_Qi (fun (r' : Int32) (M2 : MS) => r' = r0 ∧ M2 = M0) (gw_E G ai (md_W ai o ar) A) A) (by decide) (Nat.le_of_ble_eq_true rfl) ?_
  intro p e s m args below meth c A ls hC hr hI hl _
  have hx := hC.1
  have hb := hC.2.1
  have hl : lv_has ls 3 [(0, .ref o), (1, .int a1)] := hl
  show W p l e _ s m args below meth c s.heap [] 0 0 (md_Q below G ai o ar A args s r0 M0) (F0 m 0 ls [])
  rw [f_setsTrap] at hF
  refine lv_aload_n hx hb dX9_setsTrap_0 rfl (lv_at hl 0 rfl) ?_
  refine lv_iload_n hx hb dX9_setsTrap_1 rfl (lv_at hl 1 rfl) ?_
  obtain ⟨r1, M2, hz3, hF⟩ := ob_some hF
  refine k_isGardener hC hI hz3 (Nat.le_of_ble_eq_true rfl) (Nat.le_of_ble_eq_true rfl) hl.1 (Nat.le_of_ble_eq_true rfl) dX9_setsTrap_2 (fun H locs hI => ?_)
  refine lv_if_ne (tgt := 14) hx hb dX9_setsTrap_5 (by decide) (fun c4 => ?_) (fun c4 => ?_)
  · have hF := if_f hF c4
    refine lv_aload_n hx hb dX9_setsTrap_14 rfl (lv_at hl 0 rfl) ?_
    refine md_g6 hC hI dX9_setsTrap_15 ?_
    refine lv_iload_n hx hb dX9_setsTrap_18 rfl (lv_at hl 1 rfl) ?_
    refine lv_iconst (v := 0) hx hb dX9_setsTrap_19 (by decide) ?_
    refine k_gardAt (mo_CN hC) (Nat.le_of_ble_eq_true rfl) (Nat.le_of_ble_eq_true rfl) hl.1 (Nat.le_of_ble_eq_true rfl) dX9_setsTrap_20 ?_
    obtain ⟨hg5, hF⟩ := gd_some hF
    refine md_l1 hC hI hg5 dX9_setsTrap_23 ?_
    obtain ⟨x2_6, hx2_6, hF⟩ := lt_some hF
    refine mo_ist (lv' := [(2, .int x2_6), (0, .ref o), (1, .int a1)]) hx hb hx2_6 dX9_setsTrap_24 rfl hl (by decide) rfl (fun ls hl => ?_)
    refine lv_aload_n hx hb dX9_setsTrap_25 rfl (lv_at hl 1 rfl) ?_
    refine lv_iload_n hx hb dX9_setsTrap_26 rfl (lv_at hl 0 rfl) ?_
    obtain ⟨r7, M8, hz9, hF⟩ := ob_some hF
    refine k_isStone hC hI hz9 (Nat.le_of_ble_eq_true rfl) (Nat.le_of_ble_eq_true rfl) hl.1 (Nat.le_of_ble_eq_true rfl) dX9_setsTrap_27 (fun H locs hI => ?_)
    refine lv_if_eq (tgt := 40) hx hb dX9_setsTrap_30 (by decide) (fun c10 => ?_) (fun c10 => ?_)
    · have hF := if_t hF c10
      refine lv_aload_n hx hb dX9_setsTrap_40 rfl (lv_at hl 1 rfl) ?_
      refine md_g6 hC hI dX9_setsTrap_41 ?_
      refine lv_iconst (v := 4) hx hb dX9_setsTrap_44 (by decide) ?_
      refine md_l1 hC hI (by decide) dX9_setsTrap_45 ?_
      obtain ⟨j63_11, hj63_11, hF⟩ := lj_some hF
      have J63 : ∀ (M11 : MS) (H : Heap) (locs : List Loc) (ls : Array Slot), j63_11 M11 = some (r0, M0) → mo_I G A s.heap (md_W ai o ar M11) H locs → lv_has ls 3 [(2, .int x2_6), (0, .ref o)] → W p l e ({ frames := 3, cells := 0, slots := 0, locals := 67 } : Room) s m args below meth c H locs 0 0 (md_Q below G ai o ar A args s r0 M0) (F0 m 63 ls []) := by
        intro M11 H locs ls hF hI hl
        rw [hj63_11] at hF
        refine lv_aload_n hx hb dX9_setsTrap_63 rfl (lv_at hl 1 rfl) ?_
        refine lv_bipush (v := 9) hx hb dX9_setsTrap_64 (by decide) ?_
        refine lv_iload_n hx hb dX9_setsTrap_66 rfl (lv_at hl 0 rfl) ?_
        obtain ⟨r13, M14, hz15, hF⟩ := ob_some hF
        refine k_refuses hC hI hz15 (Nat.le_of_ble_eq_true rfl) (Nat.le_of_ble_eq_true rfl) hl.1 (Nat.le_of_ble_eq_true rfl) dX9_setsTrap_67 (fun H locs hI => ?_)
        exact md_iret hC hI hr hF dX9_setsTrap_70
      refine lv_if_eq (tgt := 63) hx hb dX9_setsTrap_46 (by decide) (fun c16 => ?_) (fun c16 => ?_)
      · have hF := if_t hF c16
        exact J63 _ _ _ _ hF hI (lv_sub hl [0, 1] rfl)
      · have hF := if_f hF c16
        refine lv_aload_n hx hb dX9_setsTrap_49 rfl (lv_at hl 1 rfl) ?_
        refine md_g6 hC hI dX9_setsTrap_50 ?_
        refine lv_sipush (v := 132) hx hb dX9_setsTrap_53 (by decide) ?_
        refine lv_iload_n hx hb dX9_setsTrap_56 rfl (lv_at hl 0 rfl) ?_
        refine lv_iadd hx hb dX9_setsTrap_57 ?_
        obtain ⟨hg17, hF⟩ := gd_some hF
        refine md_l1 hC hI hg17 dX9_setsTrap_58 ?_
        refine lv_iconst (v := 1) hx hb dX9_setsTrap_59 (by decide) ?_
        refine lv_icmp_ne (tgt := 71) hx hb dX9_setsTrap_60 (by decide) (fun c18 => ?_) (fun c18 => ?_)
        · have hF := if_f hF c18
          refine lv_aload_n hx hb dX9_setsTrap_71 rfl (lv_at hl 1 rfl) ?_
          refine lv_iload_n hx hb dX9_setsTrap_72 rfl (lv_at hl 2 rfl) ?_
          refine lv_iconst (v := 1) hx hb dX9_setsTrap_73 (by decide) ?_
          obtain ⟨r19, M20, hz21, hF⟩ := ob_some hF
          refine k_hasTime hC hI hz21 (Nat.le_of_ble_eq_true rfl) (Nat.le_of_ble_eq_true rfl) hl.1 (Nat.le_of_ble_eq_true rfl) dX9_setsTrap_74 (fun H locs hI => ?_)
          refine lv_if_ne (tgt := 83) hx hb dX9_setsTrap_77 (by decide) (fun c22 => ?_) (fun c22 => ?_)
          · have hF := if_f hF c22
            refine lv_aload_n hx hb dX9_setsTrap_83 rfl (lv_at hl 1 rfl) ?_
            refine md_g6 hC hI dX9_setsTrap_84 ?_
            refine lv_sipush (v := 132) hx hb dX9_setsTrap_87 (by decide) ?_
            refine lv_iload_n hx hb dX9_setsTrap_90 rfl (lv_at hl 0 rfl) ?_
            refine lv_iadd hx hb dX9_setsTrap_91 ?_
            refine lv_iconst (v := 1) hx hb dX9_setsTrap_92 (by decide) ?_
            obtain ⟨hg23, hF⟩ := gd_some hF
            obtain ⟨M24, hM24, hF⟩ := lt_some hF
            refine md_s1 hC hI hg23 hM24 dX9_setsTrap_93 (fun H locs hI => ?_)
            refine lv_aload_n hx hb dX9_setsTrap_94 rfl (lv_at hl 1 rfl) ?_
            refine md_g6 hC hI dX9_setsTrap_95 ?_
            refine lv_iconst (v := 4) hx hb dX9_setsTrap_98 (by decide) ?_
            refine lv_dup2_11 hx hb dX9_setsTrap_99 rfl rfl ?_
            refine md_l1 hC hI (by decide) dX9_setsTrap_100 ?_
            refine lv_iconst (v := 1) hx hb dX9_setsTrap_101 (by decide) ?_
            refine lv_isub hx hb dX9_setsTrap_102 ?_
            obtain ⟨M25, hM25, hF⟩ := lt_some hF
            refine md_s1 hC hI (by decide) hM25 dX9_setsTrap_103 (fun H locs hI => ?_)
            refine lv_aload_n hx hb dX9_setsTrap_104 rfl (lv_at hl 1 rfl) ?_
            refine md_g6 hC hI dX9_setsTrap_105 ?_
            refine lv_iconst (v := 4) hx hb dX9_setsTrap_108 (by decide) ?_
            refine md_l1 hC hI (by decide) dX9_setsTrap_109 ?_
            exact md_iret hC hI hr hF dX9_setsTrap_110
          · have hF := if_t hF c22
            refine lv_bipush (v := (-3)) hx hb dX9_setsTrap_80 (by decide) ?_
            exact md_iret hC hI hr hF dX9_setsTrap_82
        · have hF := if_t hF c18
          exact J63 _ _ _ _ hF hI (lv_sub hl [0, 1] rfl)
    · have hF := if_f hF c10
      refine lv_aload_n hx hb dX9_setsTrap_33 rfl (lv_at hl 1 rfl) ?_
      refine lv_iconst (v := 2) hx hb dX9_setsTrap_34 (by decide) ?_
      refine lv_iload_n hx hb dX9_setsTrap_35 rfl (lv_at hl 0 rfl) ?_
      obtain ⟨r26, M27, hz28, hF⟩ := ob_some hF
      refine k_refuses hC hI hz28 (Nat.le_of_ble_eq_true rfl) (Nat.le_of_ble_eq_true rfl) hl.1 (Nat.le_of_ble_eq_true rfl) dX9_setsTrap_36 (fun H locs hI => ?_)
      exact md_iret hC hI hr hF dX9_setsTrap_39
  · have hF := if_t hF c4
    refine lv_aload_n hx hb dX9_setsTrap_8 rfl (lv_at hl 0 rfl) ?_
    refine lv_iconst (v := (-1)) hx hb dX9_setsTrap_9 (by decide) ?_
    obtain ⟨r29, M30, hz31, hF⟩ := ob_some hF
    refine k_fail hC hI hz31 (Nat.le_of_ble_eq_true rfl) (Nat.le_of_ble_eq_true rfl) hl.1 (Nat.le_of_ble_eq_true rfl) dX9_setsTrap_10 (fun H locs hI => ?_)
    exact md_iret hC hI hr hF dX9_setsTrap_13
theorem k_setsTrap {p : Program} {l : Launch} {e : Env} {R : Room} {s : State} {m : MethodId} {args : Array Value} {below : List Frame} {meth : Method} {c : Code} {H : Heap} {locs : List Loc} {cells slots : Nat} {Q : State → Prop} {pc : Nat} {ls : Array Slot} {rest : List Value} {G : va_G} {ai : Nat → ClassId} {A : Nat → Prop} {cc : ByteArray} {nL f L kc ks o : Nat} {ar : Nat → Nat} {M M1 : MS} {r1 : Int32} {a1 : Int32} (hC : mo_C p R s m args meth c G ai A RX9 cc nL f L kc ks) (hI : mo_I G A s.heap (md_W ai o ar M) H locs) (hz : f_setsTrap M a1 = some (r1, M1)) (hf : 3 + 1 ≤ f) (hL : 8 + (3 + 11) + 67 ≤ L) (hsz : ls.size = nL) (hW : (rest.map fun v => v.category).sum ≤ 8) (hdg : decode cc pc = .ok (.invokevirtual 143, 3)) (kk : ∀ (H1 : Heap) (locs1 : List Loc), mo_I G A s.heap (md_W ai o ar M1) H1 locs1 → W p l e R s m args below meth c H1 locs1 cells slots Q (F0 m (pc + 3) ls (.int r1 :: rest))) (hc0 : cells ≤ kc := by first | exact Nat.zero_le _ | assumption) (hs0 : slots ≤ ks := by first | exact Nat.zero_le _ | assumption) : W p l e R s m args below meth c H locs cells slots Q (F0 m pc ls (.int a1 :: .ref o :: rest)) := by
  have hI : mo_I G A s.heap (md_W ai o ar M ++ []) H locs := by rw [List.append_nil]; exact hI
  refine gw_cVi (As := [.int a1]) (mc := 0) (ms := 0) (fs := md_F ar M) hC 1 hI (w_setsTrap l G ai o ar M a1 r1 M1 hz) 0 0 rfl rfl q2202 q2204 qs89 q142 q2205 rfl rfl (by decide +kernel) rfl hf hL hc0 hs0 hsz rfl hW hdg (fun r u H1 locs1 hp hI1 => ?_)
  obtain ⟨rfl, rfl⟩ := hp
  rw [List.append_nil] at hI1
  exact kk H1 locs1 hI1
def f_trap (M : MS) (a1 : Int32) : Option (Int32 × MS) := ob (f_begins M) (fun r1 M2 => ob (f_setsTrap M2 a1) (fun r4 M5 => ob (f_ends M5 r4) (fun r7 M8 => some (r7, M8))))
set_option maxHeartbeats 4000000 in
theorem w_trap (l : Launch) (G : va_G) (ai : Nat → ClassId) (o : Nat) (ar : Nat → Nat) (M : MS) (a1 : Int32) (r0 : Int32) (M0 : MS) (hF : f_trap M a1 = some (r0, M0)) : md_M l G ai o ar yX9_trap cX9_trap 2 (some .int) ({ frames := 4, cells := 0, slots := 0, locals := 89 } : Room) [.ref o, .int a1] M r0 M0 := by
  refine mo_body (Qc := fun A => va_Qi (fun (r' : Int32) (M2 : MS) => r' = r0 ∧ M2 = M0) (gw_E G ai (md_W ai o ar) A) A) (by decide) (Nat.le_of_ble_eq_true rfl) ?_
  intro p e s m args below meth c A ls hC hr hI hl _
  have hx := hC.1
  have hb := hC.2.1
  have hl : lv_has ls 2 [(0, .ref o), (1, .int a1)] := hl
  show W p l e _ s m args below meth c s.heap [] 0 0 (md_Q below G ai o ar A args s r0 M0) (F0 m 0 ls [])
  rw [f_trap] at hF
  refine lv_aload_n hx hb dX9_trap_0 rfl (lv_at hl 0 rfl) ?_
  obtain ⟨r1, M2, hz3, hF⟩ := ob_some hF
  refine k_begins hC hI hz3 (Nat.le_of_ble_eq_true rfl) (Nat.le_of_ble_eq_true rfl) hl.1 (Nat.le_of_ble_eq_true rfl) dX9_trap_1 (fun H locs hI => ?_)
  refine lv_aload_n hx hb dX9_trap_4 rfl (lv_at hl 0 rfl) ?_
  refine lv_aload_n hx hb dX9_trap_5 rfl (lv_at hl 0 rfl) ?_
  refine lv_iload_n hx hb dX9_trap_6 rfl (lv_at hl 1 rfl) ?_
  obtain ⟨r4, M5, hz6, hF⟩ := ob_some hF
  refine k_setsTrap hC hI hz6 (Nat.le_of_ble_eq_true rfl) (Nat.le_of_ble_eq_true rfl) hl.1 (Nat.le_of_ble_eq_true rfl) dX9_trap_7 (fun H locs hI => ?_)
  obtain ⟨r7, M8, hz9, hF⟩ := ob_some hF
  refine k_ends hC hI hz9 (Nat.le_of_ble_eq_true rfl) (Nat.le_of_ble_eq_true rfl) hl.1 (Nat.le_of_ble_eq_true rfl) dX9_trap_10 (fun H locs hI => ?_)
  exact md_iret hC hI hr hF dX9_trap_13
def f_plants (M : MS) (a1 : Int32) (a2 : Int32) : Option (Int32 × MS) := ob (f_isGardener M a1) (fun r1 M2 => if r1 = 0 then (ob (f_fail M2 (-1)) (fun r37 M38 => some (r37, M38))) else (lt ((p_sideOf a2)) (fun x3_5 => gd (gi (p_gardAt a1 0) 216) (lt ((M2 1 (p_gardAt a1 0).toNatClampNeg)) (fun x4_7 => if 0 ≤ x3_5 then (lt ((p_beside x4_7 x3_5)) (fun x5_9 => if 0 ≤ x5_9 then (ob (f_isStone M2 x5_9) (fun r11 M12 => if r11 = 0 then (gd (gi (42 + x5_9) 216) (if (M12 1 (42 + x5_9).toNatClampNeg) ≤ 0 then (ob (f_hasTime M12 a1 3) (fun r17 M18 => if r17 = 0 then (some ((-3), M18)) else (gd (gi (42 + x5_9) 216) (lt (rup M18 1 (upd (M18 1) (42 + x5_9).toNatClampNeg 1)) (fun M22 => lt (rup M22 1 (upd (M22 1) (5 : Int32).toNatClampNeg ((M22 1 (5 : Int32).toNatClampNeg) + 1))) (fun M23 => some (x5_9, M23))))))) else (gd (gi (42 + x5_9) 216) (ob (f_refuses M12 8 (M12 1 (42 + x5_9).toNatClampNeg)) (fun r25 M26 => some (r25, M26)))))) else (ob (f_refuses M12 2 x5_9) (fun r28 M29 => some (r28, M29))))) else (ob (f_refuses M2 5 x4_7) (fun r31 M32 => some (r31, M32))))) else (ob (f_fail M2 (-2)) (fun r34 M35 => some (r34, M35))))))))
set_option maxHeartbeats 4000000 in
theorem w_plants (l : Launch) (G : va_G) (ai : Nat → ClassId) (o : Nat) (ar : Nat → Nat) (M : MS) (a1 : Int32) (a2 : Int32) (r0 : Int32) (M0 : MS) (hF : f_plants M a1 a2 = some (r0, M0)) : md_M l G ai o ar yX9_plants cX9_plants 6 (some .int) ({ frames := 3, cells := 0, slots := 0, locals := 67 } : Room) [.ref o, .int a1, .int a2] M r0 M0 := by
  refine mo_body (Qc := fun A => va_Qi (fun (r' : Int32) (M2 : MS) => r' = r0 ∧ M2 = M0) (gw_E G ai (md_W ai o ar) A) A) (by decide) (Nat.le_of_ble_eq_true rfl) ?_
  intro p e s m args below meth c A ls hC hr hI hl _
  have hx := hC.1
  have hb := hC.2.1
  have hl : lv_has ls 6 [(0, .ref o), (1, .int a1), (2, .int a2)] := hl
  show W p l e _ s m args below meth c s.heap [] 0 0 (md_Q below G ai o ar A args s r0 M0) (F0 m 0 ls [])
  rw [f_plants] at hF
  refine lv_aload_n hx hb dX9_plants_0 rfl (lv_at hl 0 rfl) ?_
  refine lv_iload_n hx hb dX9_plants_1 rfl (lv_at hl 1 rfl) ?_
  obtain ⟨r1, M2, hz3, hF⟩ := ob_some hF
  refine k_isGardener hC hI hz3 (Nat.le_of_ble_eq_true rfl) (Nat.le_of_ble_eq_true rfl) hl.1 (Nat.le_of_ble_eq_true rfl) dX9_plants_2 (fun H locs hI => ?_)
  refine lv_if_ne (tgt := 14) hx hb dX9_plants_5 (by decide) (fun c4 => ?_) (fun c4 => ?_)
  · have hF := if_f hF c4
    refine lv_iload_n hx hb dX9_plants_14 rfl (lv_at hl 2 rfl) ?_
    refine k_sideOf (mo_CN hC) (Nat.le_of_ble_eq_true rfl) (Nat.le_of_ble_eq_true rfl) hl.1 (Nat.le_of_ble_eq_true rfl) dX9_plants_15 ?_
    obtain ⟨x3_5, hx3_5, hF⟩ := lt_some hF
    refine mo_ist (lv' := [(3, .int x3_5), (0, .ref o), (1, .int a1), (2, .int a2)]) hx hb hx3_5 dX9_plants_18 rfl hl (by decide) rfl (fun ls hl => ?_)
    refine lv_aload_n hx hb dX9_plants_19 rfl (lv_at hl 1 rfl) ?_
    refine md_g6 hC hI dX9_plants_20 ?_
    refine lv_iload_n hx hb dX9_plants_23 rfl (lv_at hl 2 rfl) ?_
    refine lv_iconst (v := 0) hx hb dX9_plants_24 (by decide) ?_
    refine k_gardAt (mo_CN hC) (Nat.le_of_ble_eq_true rfl) (Nat.le_of_ble_eq_true rfl) hl.1 (Nat.le_of_ble_eq_true rfl) dX9_plants_25 ?_
    obtain ⟨hg6, hF⟩ := gd_some hF
    refine md_l1 hC hI hg6 dX9_plants_28 ?_
    obtain ⟨x4_7, hx4_7, hF⟩ := lt_some hF
    refine mo_ist4 (lv' := [(4, .int x4_7), (3, .int x3_5), (0, .ref o), (1, .int a1), (2, .int a2)]) hx hb hx4_7 dX9_plants_29 hl (by decide) rfl (fun ls hl => ?_)
    refine lv_iload_n hx hb dX9_plants_31 rfl (lv_at hl 1 rfl) ?_
    refine lv_if_ge (tgt := 42) hx hb dX9_plants_32 (by decide) (fun c8 => ?_) (fun c8 => ?_)
    · have hF := if_t hF c8
      refine lv_iload hx hb dX9_plants_42 (lv_at hl 0 rfl) ?_
      refine lv_iload_n hx hb dX9_plants_44 rfl (lv_at hl 1 rfl) ?_
      refine k_beside (mo_CN hC) (Nat.le_of_ble_eq_true rfl) (Nat.le_of_ble_eq_true rfl) hl.1 (Nat.le_of_ble_eq_true rfl) dX9_plants_45 ?_
      obtain ⟨x5_9, hx5_9, hF⟩ := lt_some hF
      refine mo_ist4 (lv' := [(5, .int x5_9), (4, .int x4_7), (3, .int x3_5), (0, .ref o), (1, .int a1), (2, .int a2)]) hx hb hx5_9 dX9_plants_48 hl (by decide) rfl (fun ls hl => ?_)
      refine lv_iload hx hb dX9_plants_50 (lv_at hl 0 rfl) ?_
      refine lv_if_ge (tgt := 63) hx hb dX9_plants_52 (by decide) (fun c10 => ?_) (fun c10 => ?_)
      · have hF := if_t hF c10
        refine lv_aload_n hx hb dX9_plants_63 rfl (lv_at hl 3 rfl) ?_
        refine lv_iload hx hb dX9_plants_64 (lv_at hl 0 rfl) ?_
        obtain ⟨r11, M12, hz13, hF⟩ := ob_some hF
        refine k_isStone hC hI hz13 (Nat.le_of_ble_eq_true rfl) (Nat.le_of_ble_eq_true rfl) hl.1 (Nat.le_of_ble_eq_true rfl) dX9_plants_66 (fun H locs hI => ?_)
        refine lv_if_eq (tgt := 80) hx hb dX9_plants_69 (by decide) (fun c14 => ?_) (fun c14 => ?_)
        · have hF := if_t hF c14
          refine lv_aload_n hx hb dX9_plants_80 rfl (lv_at hl 3 rfl) ?_
          refine md_g6 hC hI dX9_plants_81 ?_
          refine lv_bipush (v := 42) hx hb dX9_plants_84 (by decide) ?_
          refine lv_iload hx hb dX9_plants_86 (lv_at hl 0 rfl) ?_
          refine lv_iadd hx hb dX9_plants_88 ?_
          obtain ⟨hg15, hF⟩ := gd_some hF
          refine md_l1 hC hI hg15 dX9_plants_89 ?_
          refine lv_if_le (tgt := 110) hx hb dX9_plants_90 (by decide) (fun c16 => ?_) (fun c16 => ?_)
          · have hF := if_t hF c16
            refine lv_aload_n hx hb dX9_plants_110 rfl (lv_at hl 3 rfl) ?_
            refine lv_iload_n hx hb dX9_plants_111 rfl (lv_at hl 4 rfl) ?_
            refine lv_iconst (v := 3) hx hb dX9_plants_112 (by decide) ?_
            obtain ⟨r17, M18, hz19, hF⟩ := ob_some hF
            refine k_hasTime hC hI hz19 (Nat.le_of_ble_eq_true rfl) (Nat.le_of_ble_eq_true rfl) hl.1 (Nat.le_of_ble_eq_true rfl) dX9_plants_113 (fun H locs hI => ?_)
            refine lv_if_ne (tgt := 122) hx hb dX9_plants_116 (by decide) (fun c20 => ?_) (fun c20 => ?_)
            · have hF := if_f hF c20
              refine lv_aload_n hx hb dX9_plants_122 rfl (lv_at hl 3 rfl) ?_
              refine md_g6 hC hI dX9_plants_123 ?_
              refine lv_bipush (v := 42) hx hb dX9_plants_126 (by decide) ?_
              refine lv_iload hx hb dX9_plants_128 (lv_at hl 0 rfl) ?_
              refine lv_iadd hx hb dX9_plants_130 ?_
              refine lv_iconst (v := 1) hx hb dX9_plants_131 (by decide) ?_
              obtain ⟨hg21, hF⟩ := gd_some hF
              obtain ⟨M22, hM22, hF⟩ := lt_some hF
              refine md_s1 hC hI hg21 hM22 dX9_plants_132 (fun H locs hI => ?_)
              refine lv_aload_n hx hb dX9_plants_133 rfl (lv_at hl 3 rfl) ?_
              refine md_g6 hC hI dX9_plants_134 ?_
              refine lv_iconst (v := 5) hx hb dX9_plants_137 (by decide) ?_
              refine lv_dup2_11 hx hb dX9_plants_138 rfl rfl ?_
              refine md_l1 hC hI (by decide) dX9_plants_139 ?_
              refine lv_iconst (v := 1) hx hb dX9_plants_140 (by decide) ?_
              refine lv_iadd hx hb dX9_plants_141 ?_
              obtain ⟨M23, hM23, hF⟩ := lt_some hF
              refine md_s1 hC hI (by decide) hM23 dX9_plants_142 (fun H locs hI => ?_)
              refine lv_iload hx hb dX9_plants_143 (lv_at hl 0 rfl) ?_
              exact md_iret hC hI hr hF dX9_plants_145
            · have hF := if_t hF c20
              refine lv_bipush (v := (-3)) hx hb dX9_plants_119 (by decide) ?_
              exact md_iret hC hI hr hF dX9_plants_121
          · have hF := if_f hF c16
            refine lv_aload_n hx hb dX9_plants_93 rfl (lv_at hl 3 rfl) ?_
            refine lv_bipush (v := 8) hx hb dX9_plants_94 (by decide) ?_
            refine lv_aload_n hx hb dX9_plants_96 rfl (lv_at hl 3 rfl) ?_
            refine md_g6 hC hI dX9_plants_97 ?_
            refine lv_bipush (v := 42) hx hb dX9_plants_100 (by decide) ?_
            refine lv_iload hx hb dX9_plants_102 (lv_at hl 0 rfl) ?_
            refine lv_iadd hx hb dX9_plants_104 ?_
            obtain ⟨hg24, hF⟩ := gd_some hF
            refine md_l1 hC hI hg24 dX9_plants_105 ?_
            obtain ⟨r25, M26, hz27, hF⟩ := ob_some hF
            refine k_refuses hC hI hz27 (Nat.le_of_ble_eq_true rfl) (Nat.le_of_ble_eq_true rfl) hl.1 (Nat.le_of_ble_eq_true rfl) dX9_plants_106 (fun H locs hI => ?_)
            exact md_iret hC hI hr hF dX9_plants_109
        · have hF := if_f hF c14
          refine lv_aload_n hx hb dX9_plants_72 rfl (lv_at hl 3 rfl) ?_
          refine lv_iconst (v := 2) hx hb dX9_plants_73 (by decide) ?_
          refine lv_iload hx hb dX9_plants_74 (lv_at hl 0 rfl) ?_
          obtain ⟨r28, M29, hz30, hF⟩ := ob_some hF
          refine k_refuses hC hI hz30 (Nat.le_of_ble_eq_true rfl) (Nat.le_of_ble_eq_true rfl) hl.1 (Nat.le_of_ble_eq_true rfl) dX9_plants_76 (fun H locs hI => ?_)
          exact md_iret hC hI hr hF dX9_plants_79
      · have hF := if_f hF c10
        refine lv_aload_n hx hb dX9_plants_55 rfl (lv_at hl 3 rfl) ?_
        refine lv_iconst (v := 5) hx hb dX9_plants_56 (by decide) ?_
        refine lv_iload hx hb dX9_plants_57 (lv_at hl 1 rfl) ?_
        obtain ⟨r31, M32, hz33, hF⟩ := ob_some hF
        refine k_refuses hC hI hz33 (Nat.le_of_ble_eq_true rfl) (Nat.le_of_ble_eq_true rfl) hl.1 (Nat.le_of_ble_eq_true rfl) dX9_plants_59 (fun H locs hI => ?_)
        exact md_iret hC hI hr hF dX9_plants_62
    · have hF := if_f hF c8
      refine lv_aload_n hx hb dX9_plants_35 rfl (lv_at hl 2 rfl) ?_
      refine lv_bipush (v := (-2)) hx hb dX9_plants_36 (by decide) ?_
      obtain ⟨r34, M35, hz36, hF⟩ := ob_some hF
      refine k_fail hC hI hz36 (Nat.le_of_ble_eq_true rfl) (Nat.le_of_ble_eq_true rfl) hl.1 (Nat.le_of_ble_eq_true rfl) dX9_plants_38 (fun H locs hI => ?_)
      exact md_iret hC hI hr hF dX9_plants_41
  · have hF := if_t hF c4
    refine lv_aload_n hx hb dX9_plants_8 rfl (lv_at hl 0 rfl) ?_
    refine lv_iconst (v := (-1)) hx hb dX9_plants_9 (by decide) ?_
    obtain ⟨r37, M38, hz39, hF⟩ := ob_some hF
    refine k_fail hC hI hz39 (Nat.le_of_ble_eq_true rfl) (Nat.le_of_ble_eq_true rfl) hl.1 (Nat.le_of_ble_eq_true rfl) dX9_plants_10 (fun H locs hI => ?_)
    exact md_iret hC hI hr hF dX9_plants_13
theorem k_plants {p : Program} {l : Launch} {e : Env} {R : Room} {s : State} {m : MethodId} {args : Array Value} {below : List Frame} {meth : Method} {c : Code} {H : Heap} {locs : List Loc} {cells slots : Nat} {Q : State → Prop} {pc : Nat} {ls : Array Slot} {rest : List Value} {G : va_G} {ai : Nat → ClassId} {A : Nat → Prop} {cc : ByteArray} {nL f L kc ks o : Nat} {ar : Nat → Nat} {M M1 : MS} {r1 : Int32} {a1 : Int32} {a2 : Int32} (hC : mo_C p R s m args meth c G ai A RX9 cc nL f L kc ks) (hI : mo_I G A s.heap (md_W ai o ar M) H locs) (hz : f_plants M a1 a2 = some (r1, M1)) (hf : 3 + 1 ≤ f) (hL : 8 + (6 + 11) + 67 ≤ L) (hsz : ls.size = nL) (hW : (rest.map fun v => v.category).sum ≤ 8) (hdg : decode cc pc = .ok (.invokevirtual 146, 3)) (kk : ∀ (H1 : Heap) (locs1 : List Loc), mo_I G A s.heap (md_W ai o ar M1) H1 locs1 → W p l e R s m args below meth c H1 locs1 cells slots Q (F0 m (pc + 3) ls (.int r1 :: rest))) (hc0 : cells ≤ kc := by first | exact Nat.zero_le _ | assumption) (hs0 : slots ≤ ks := by first | exact Nat.zero_le _ | assumption) : W p l e R s m args below meth c H locs cells slots Q (F0 m pc ls (.int a2 :: .int a1 :: .ref o :: rest)) := by
  have hI : mo_I G A s.heap (md_W ai o ar M ++ []) H locs := by rw [List.append_nil]; exact hI
  refine gw_cVi (As := [.int a1, .int a2]) (mc := 0) (ms := 0) (fs := md_F ar M) hC 2 hI (w_plants l G ai o ar M a1 a2 r1 M1 hz) 0 0 rfl rfl q2210 q2212 qs90 q142 q2213 rfl rfl (by decide +kernel) rfl hf hL hc0 hs0 hsz rfl hW hdg (fun r u H1 locs1 hp hI1 => ?_)
  obtain ⟨rfl, rfl⟩ := hp
  rw [List.append_nil] at hI1
  exact kk H1 locs1 hI1
def f_plant (M : MS) (a1 : Int32) (a2 : Int32) : Option (Int32 × MS) := ob (f_begins M) (fun r1 M2 => ob (f_plants M2 a1 a2) (fun r4 M5 => ob (f_ends M5 r4) (fun r7 M8 => some (r7, M8))))
set_option maxHeartbeats 4000000 in
theorem w_plant (l : Launch) (G : va_G) (ai : Nat → ClassId) (o : Nat) (ar : Nat → Nat) (M : MS) (a1 : Int32) (a2 : Int32) (r0 : Int32) (M0 : MS) (hF : f_plant M a1 a2 = some (r0, M0)) : md_M l G ai o ar yX9_plant cX9_plant 3 (some .int) ({ frames := 4, cells := 0, slots := 0, locals := 92 } : Room) [.ref o, .int a1, .int a2] M r0 M0 := by
  refine mo_body (Qc := fun A => va_Qi (fun (r' : Int32) (M2 : MS) => r' = r0 ∧ M2 = M0) (gw_E G ai (md_W ai o ar) A) A) (by decide) (Nat.le_of_ble_eq_true rfl) ?_
  intro p e s m args below meth c A ls hC hr hI hl _
  have hx := hC.1
  have hb := hC.2.1
  have hl : lv_has ls 3 [(0, .ref o), (1, .int a1), (2, .int a2)] := hl
  show W p l e _ s m args below meth c s.heap [] 0 0 (md_Q below G ai o ar A args s r0 M0) (F0 m 0 ls [])
  rw [f_plant] at hF
  refine lv_aload_n hx hb dX9_plant_0 rfl (lv_at hl 0 rfl) ?_
  obtain ⟨r1, M2, hz3, hF⟩ := ob_some hF
  refine k_begins hC hI hz3 (Nat.le_of_ble_eq_true rfl) (Nat.le_of_ble_eq_true rfl) hl.1 (Nat.le_of_ble_eq_true rfl) dX9_plant_1 (fun H locs hI => ?_)
  refine lv_aload_n hx hb dX9_plant_4 rfl (lv_at hl 0 rfl) ?_
  refine lv_aload_n hx hb dX9_plant_5 rfl (lv_at hl 0 rfl) ?_
  refine lv_iload_n hx hb dX9_plant_6 rfl (lv_at hl 1 rfl) ?_
  refine lv_iload_n hx hb dX9_plant_7 rfl (lv_at hl 2 rfl) ?_
  obtain ⟨r4, M5, hz6, hF⟩ := ob_some hF
  refine k_plants hC hI hz6 (Nat.le_of_ble_eq_true rfl) (Nat.le_of_ble_eq_true rfl) hl.1 (Nat.le_of_ble_eq_true rfl) dX9_plant_8 (fun H locs hI => ?_)
  obtain ⟨r7, M8, hz9, hF⟩ := ob_some hF
  refine k_ends hC hI hz9 (Nat.le_of_ble_eq_true rfl) (Nat.le_of_ble_eq_true rfl) hl.1 (Nat.le_of_ble_eq_true rfl) dX9_plant_11 (fun H locs hI => ?_)
  exact md_iret hC hI hr hF dX9_plant_14
def f_addsMole (M : MS) (a1 : Int32) : Option (Int32 × MS) := if (p_isSquare a1) = 0 then (ob (f_fail M (-1)) (fun r21 M22 => some (r21, M22))) else (if (M 1 (3 : Int32).toNatClampNeg) = 3 then (ob (f_refuses M 1 3) (fun r18 M19 => some (r18, M19))) else (ob (f_isStone M a1) (fun r3 M4 => if r3 = 0 then (lt ((M4 1 (3 : Int32).toNatClampNeg)) (fun x2_7 => gd (gi (p_moleAt x2_7 0) 216) (lt (rup M4 1 (upd (M4 1) (p_moleAt x2_7 0).toNatClampNeg a1)) (fun M9 => gd (gi (p_moleAt x2_7 1) 216) (lt (rup M9 1 (upd (M9 1) (p_moleAt x2_7 1).toNatClampNeg 0)) (fun M11 => gd (gi (p_moleAt x2_7 2) 216) (lt (rup M11 1 (upd (M11 1) (p_moleAt x2_7 2).toNatClampNeg 0)) (fun M13 => lt (rup M13 1 (upd (M13 1) (3 : Int32).toNatClampNeg ((M13 1 (3 : Int32).toNatClampNeg) + 1))) (fun M14 => some (x2_7, M14)))))))))) else (ob (f_refuses M4 2 a1) (fun r15 M16 => some (r15, M16))))))
set_option maxHeartbeats 4000000 in
theorem w_addsMole (l : Launch) (G : va_G) (ai : Nat → ClassId) (o : Nat) (ar : Nat → Nat) (M : MS) (a1 : Int32) (r0 : Int32) (M0 : MS) (hF : f_addsMole M a1 = some (r0, M0)) : md_M l G ai o ar yX9_addsMole cX9_addsMole 3 (some .int) ({ frames := 2, cells := 0, slots := 0, locals := 43 } : Room) [.ref o, .int a1] M r0 M0 := by
  refine mo_body (Qc := fun A => va_Qi (fun (r' : Int32) (M2 : MS) => r' = r0 ∧ M2 = M0) (gw_E G ai (md_W ai o ar) A) A) (by decide) (Nat.le_of_ble_eq_true rfl) ?_
  intro p e s m args below meth c A ls hC hr hI hl _
  have hx := hC.1
  have hb := hC.2.1
  have hl : lv_has ls 3 [(0, .ref o), (1, .int a1)] := hl
  show W p l e _ s m args below meth c s.heap [] 0 0 (md_Q below G ai o ar A args s r0 M0) (F0 m 0 ls [])
  rw [f_addsMole] at hF
  refine lv_iload_n hx hb dX9_addsMole_0 rfl (lv_at hl 1 rfl) ?_
  refine k_isSquare (mo_CN hC) (Nat.le_of_ble_eq_true rfl) (Nat.le_of_ble_eq_true rfl) hl.1 (Nat.le_of_ble_eq_true rfl) dX9_addsMole_1 ?_
  refine lv_if_ne (tgt := 13) hx hb dX9_addsMole_4 (by decide) (fun c1 => ?_) (fun c1 => ?_)
  · have hF := if_f hF c1
    refine lv_aload_n hx hb dX9_addsMole_13 rfl (lv_at hl 0 rfl) ?_
    refine md_g6 hC hI dX9_addsMole_14 ?_
    refine lv_iconst (v := 3) hx hb dX9_addsMole_17 (by decide) ?_
    refine md_l1 hC hI (by decide) dX9_addsMole_18 ?_
    refine lv_iconst (v := 3) hx hb dX9_addsMole_19 (by decide) ?_
    refine lv_icmp_ne (tgt := 30) hx hb dX9_addsMole_20 (by decide) (fun c2 => ?_) (fun c2 => ?_)
    · have hF := if_f hF c2
      refine lv_aload_n hx hb dX9_addsMole_30 rfl (lv_at hl 0 rfl) ?_
      refine lv_iload_n hx hb dX9_addsMole_31 rfl (lv_at hl 1 rfl) ?_
      obtain ⟨r3, M4, hz5, hF⟩ := ob_some hF
      refine k_isStone hC hI hz5 (Nat.le_of_ble_eq_true rfl) (Nat.le_of_ble_eq_true rfl) hl.1 (Nat.le_of_ble_eq_true rfl) dX9_addsMole_32 (fun H locs hI => ?_)
      refine lv_if_eq (tgt := 45) hx hb dX9_addsMole_35 (by decide) (fun c6 => ?_) (fun c6 => ?_)
      · have hF := if_t hF c6
        refine lv_aload_n hx hb dX9_addsMole_45 rfl (lv_at hl 0 rfl) ?_
        refine md_g6 hC hI dX9_addsMole_46 ?_
        refine lv_iconst (v := 3) hx hb dX9_addsMole_49 (by decide) ?_
        refine md_l1 hC hI (by decide) dX9_addsMole_50 ?_
        obtain ⟨x2_7, hx2_7, hF⟩ := lt_some hF
        refine mo_ist (lv' := [(2, .int x2_7), (0, .ref o), (1, .int a1)]) hx hb hx2_7 dX9_addsMole_51 rfl hl (by decide) rfl (fun ls hl => ?_)
        refine lv_aload_n hx hb dX9_addsMole_52 rfl (lv_at hl 1 rfl) ?_
        refine md_g6 hC hI dX9_addsMole_53 ?_
        refine lv_iload_n hx hb dX9_addsMole_56 rfl (lv_at hl 0 rfl) ?_
        refine lv_iconst (v := 0) hx hb dX9_addsMole_57 (by decide) ?_
        refine k_moleAt (mo_CN hC) (Nat.le_of_ble_eq_true rfl) (Nat.le_of_ble_eq_true rfl) hl.1 (Nat.le_of_ble_eq_true rfl) dX9_addsMole_58 ?_
        refine lv_iload_n hx hb dX9_addsMole_61 rfl (lv_at hl 2 rfl) ?_
        obtain ⟨hg8, hF⟩ := gd_some hF
        obtain ⟨M9, hM9, hF⟩ := lt_some hF
        refine md_s1 hC hI hg8 hM9 dX9_addsMole_62 (fun H locs hI => ?_)
        refine lv_aload_n hx hb dX9_addsMole_63 rfl (lv_at hl 1 rfl) ?_
        refine md_g6 hC hI dX9_addsMole_64 ?_
        refine lv_iload_n hx hb dX9_addsMole_67 rfl (lv_at hl 0 rfl) ?_
        refine lv_iconst (v := 1) hx hb dX9_addsMole_68 (by decide) ?_
        refine k_moleAt (mo_CN hC) (Nat.le_of_ble_eq_true rfl) (Nat.le_of_ble_eq_true rfl) hl.1 (Nat.le_of_ble_eq_true rfl) dX9_addsMole_69 ?_
        refine lv_iconst (v := 0) hx hb dX9_addsMole_72 (by decide) ?_
        obtain ⟨hg10, hF⟩ := gd_some hF
        obtain ⟨M11, hM11, hF⟩ := lt_some hF
        refine md_s1 hC hI hg10 hM11 dX9_addsMole_73 (fun H locs hI => ?_)
        refine lv_aload_n hx hb dX9_addsMole_74 rfl (lv_at hl 1 rfl) ?_
        refine md_g6 hC hI dX9_addsMole_75 ?_
        refine lv_iload_n hx hb dX9_addsMole_78 rfl (lv_at hl 0 rfl) ?_
        refine lv_iconst (v := 2) hx hb dX9_addsMole_79 (by decide) ?_
        refine k_moleAt (mo_CN hC) (Nat.le_of_ble_eq_true rfl) (Nat.le_of_ble_eq_true rfl) hl.1 (Nat.le_of_ble_eq_true rfl) dX9_addsMole_80 ?_
        refine lv_iconst (v := 0) hx hb dX9_addsMole_83 (by decide) ?_
        obtain ⟨hg12, hF⟩ := gd_some hF
        obtain ⟨M13, hM13, hF⟩ := lt_some hF
        refine md_s1 hC hI hg12 hM13 dX9_addsMole_84 (fun H locs hI => ?_)
        refine lv_aload_n hx hb dX9_addsMole_85 rfl (lv_at hl 1 rfl) ?_
        refine md_g6 hC hI dX9_addsMole_86 ?_
        refine lv_iconst (v := 3) hx hb dX9_addsMole_89 (by decide) ?_
        refine lv_dup2_11 hx hb dX9_addsMole_90 rfl rfl ?_
        refine md_l1 hC hI (by decide) dX9_addsMole_91 ?_
        refine lv_iconst (v := 1) hx hb dX9_addsMole_92 (by decide) ?_
        refine lv_iadd hx hb dX9_addsMole_93 ?_
        obtain ⟨M14, hM14, hF⟩ := lt_some hF
        refine md_s1 hC hI (by decide) hM14 dX9_addsMole_94 (fun H locs hI => ?_)
        refine lv_iload_n hx hb dX9_addsMole_95 rfl (lv_at hl 0 rfl) ?_
        exact md_iret hC hI hr hF dX9_addsMole_96
      · have hF := if_f hF c6
        refine lv_aload_n hx hb dX9_addsMole_38 rfl (lv_at hl 0 rfl) ?_
        refine lv_iconst (v := 2) hx hb dX9_addsMole_39 (by decide) ?_
        refine lv_iload_n hx hb dX9_addsMole_40 rfl (lv_at hl 1 rfl) ?_
        obtain ⟨r15, M16, hz17, hF⟩ := ob_some hF
        refine k_refuses hC hI hz17 (Nat.le_of_ble_eq_true rfl) (Nat.le_of_ble_eq_true rfl) hl.1 (Nat.le_of_ble_eq_true rfl) dX9_addsMole_41 (fun H locs hI => ?_)
        exact md_iret hC hI hr hF dX9_addsMole_44
    · have hF := if_t hF c2
      refine lv_aload_n hx hb dX9_addsMole_23 rfl (lv_at hl 0 rfl) ?_
      refine lv_iconst (v := 1) hx hb dX9_addsMole_24 (by decide) ?_
      refine lv_iconst (v := 3) hx hb dX9_addsMole_25 (by decide) ?_
      obtain ⟨r18, M19, hz20, hF⟩ := ob_some hF
      refine k_refuses hC hI hz20 (Nat.le_of_ble_eq_true rfl) (Nat.le_of_ble_eq_true rfl) hl.1 (Nat.le_of_ble_eq_true rfl) dX9_addsMole_26 (fun H locs hI => ?_)
      exact md_iret hC hI hr hF dX9_addsMole_29
  · have hF := if_t hF c1
    refine lv_aload_n hx hb dX9_addsMole_7 rfl (lv_at hl 0 rfl) ?_
    refine lv_iconst (v := (-1)) hx hb dX9_addsMole_8 (by decide) ?_
    obtain ⟨r21, M22, hz23, hF⟩ := ob_some hF
    refine k_fail hC hI hz23 (Nat.le_of_ble_eq_true rfl) (Nat.le_of_ble_eq_true rfl) hl.1 (Nat.le_of_ble_eq_true rfl) dX9_addsMole_9 (fun H locs hI => ?_)
    exact md_iret hC hI hr hF dX9_addsMole_12
theorem k_addsMole {p : Program} {l : Launch} {e : Env} {R : Room} {s : State} {m : MethodId} {args : Array Value} {below : List Frame} {meth : Method} {c : Code} {H : Heap} {locs : List Loc} {cells slots : Nat} {Q : State → Prop} {pc : Nat} {ls : Array Slot} {rest : List Value} {G : va_G} {ai : Nat → ClassId} {A : Nat → Prop} {cc : ByteArray} {nL f L kc ks o : Nat} {ar : Nat → Nat} {M M1 : MS} {r1 : Int32} {a1 : Int32} (hC : mo_C p R s m args meth c G ai A RX9 cc nL f L kc ks) (hI : mo_I G A s.heap (md_W ai o ar M) H locs) (hz : f_addsMole M a1 = some (r1, M1)) (hf : 2 + 1 ≤ f) (hL : 8 + (3 + 11) + 43 ≤ L) (hsz : ls.size = nL) (hW : (rest.map fun v => v.category).sum ≤ 8) (hdg : decode cc pc = .ok (.invokevirtual 149, 3)) (kk : ∀ (H1 : Heap) (locs1 : List Loc), mo_I G A s.heap (md_W ai o ar M1) H1 locs1 → W p l e R s m args below meth c H1 locs1 cells slots Q (F0 m (pc + 3) ls (.int r1 :: rest))) (hc0 : cells ≤ kc := by first | exact Nat.zero_le _ | assumption) (hs0 : slots ≤ ks := by first | exact Nat.zero_le _ | assumption) : W p l e R s m args below meth c H locs cells slots Q (F0 m pc ls (.int a1 :: .ref o :: rest)) := by
  have hI : mo_I G A s.heap (md_W ai o ar M ++ []) H locs := by rw [List.append_nil]; exact hI
  refine gw_cVi (As := [.int a1]) (mc := 0) (ms := 0) (fs := md_F ar M) hC 1 hI (w_addsMole l G ai o ar M a1 r1 M1 hz) 0 0 rfl rfl q2218 q2220 qs91 q142 q2221 rfl rfl (by decide +kernel) rfl hf hL hc0 hs0 hsz rfl hW hdg (fun r u H1 locs1 hp hI1 => ?_)
  obtain ⟨rfl, rfl⟩ := hp
  rw [List.append_nil] at hI1
  exact kk H1 locs1 hI1
def f_mole (M : MS) (a1 : Int32) : Option (Int32 × MS) := ob (f_begins M) (fun r1 M2 => ob (f_addsMole M2 a1) (fun r4 M5 => ob (f_ends M5 r4) (fun r7 M8 => some (r7, M8))))
set_option maxHeartbeats 4000000 in
theorem w_mole (l : Launch) (G : va_G) (ai : Nat → ClassId) (o : Nat) (ar : Nat → Nat) (M : MS) (a1 : Int32) (r0 : Int32) (M0 : MS) (hF : f_mole M a1 = some (r0, M0)) : md_M l G ai o ar yX9_mole cX9_mole 2 (some .int) ({ frames := 3, cells := 0, slots := 0, locals := 65 } : Room) [.ref o, .int a1] M r0 M0 := by
  refine mo_body (Qc := fun A => va_Qi (fun (r' : Int32) (M2 : MS) => r' = r0 ∧ M2 = M0) (gw_E G ai (md_W ai o ar) A) A) (by decide) (Nat.le_of_ble_eq_true rfl) ?_
  intro p e s m args below meth c A ls hC hr hI hl _
  have hx := hC.1
  have hb := hC.2.1
  have hl : lv_has ls 2 [(0, .ref o), (1, .int a1)] := hl
  show W p l e _ s m args below meth c s.heap [] 0 0 (md_Q below G ai o ar A args s r0 M0) (F0 m 0 ls [])
  rw [f_mole] at hF
  refine lv_aload_n hx hb dX9_mole_0 rfl (lv_at hl 0 rfl) ?_
  obtain ⟨r1, M2, hz3, hF⟩ := ob_some hF
  refine k_begins hC hI hz3 (Nat.le_of_ble_eq_true rfl) (Nat.le_of_ble_eq_true rfl) hl.1 (Nat.le_of_ble_eq_true rfl) dX9_mole_1 (fun H locs hI => ?_)
  refine lv_aload_n hx hb dX9_mole_4 rfl (lv_at hl 0 rfl) ?_
  refine lv_aload_n hx hb dX9_mole_5 rfl (lv_at hl 0 rfl) ?_
  refine lv_iload_n hx hb dX9_mole_6 rfl (lv_at hl 1 rfl) ?_
  obtain ⟨r4, M5, hz6, hF⟩ := ob_some hF
  refine k_addsMole hC hI hz6 (Nat.le_of_ble_eq_true rfl) (Nat.le_of_ble_eq_true rfl) hl.1 (Nat.le_of_ble_eq_true rfl) dX9_mole_7 (fun H locs hI => ?_)
  obtain ⟨r7, M8, hz9, hF⟩ := ob_some hF
  refine k_ends hC hI hz9 (Nat.le_of_ble_eq_true rfl) (Nat.le_of_ble_eq_true rfl) hl.1 (Nat.le_of_ble_eq_true rfl) dX9_mole_10 (fun H locs hI => ?_)
  exact md_iret hC hI hr hF dX9_mole_13
def f_bringsPairs (M : MS) (a1 : Int32) (a2 : Int32) : Option (Int32 × MS) := if (p_isIn a1 0 4) = 0 then (ob (f_fail M (-1)) (fun r10 M11 => some (r10, M11))) else (if (p_isIn a2 1 9) = 0 then (ob (f_fail M (-2)) (fun r7 M8 => some (r7, M8))) else (gd (gi (191 + a1) 216) (gd (gi (191 + a1) 216) (lt (rup M 1 (upd (M 1) (191 + a1).toNatClampNeg (p_lesser 9 ((M 1 (191 + a1).toNatClampNeg) + a2)))) (fun M5 => gd (gi (191 + a1) 216) (some ((M5 1 (191 + a1).toNatClampNeg), M5)))))))
set_option maxHeartbeats 4000000 in
theorem w_bringsPairs (l : Launch) (G : va_G) (ai : Nat → ClassId) (o : Nat) (ar : Nat → Nat) (M : MS) (a1 : Int32) (a2 : Int32) (r0 : Int32) (M0 : MS) (hF : f_bringsPairs M a1 a2 = some (r0, M0)) : md_M l G ai o ar yX9_bringsPairs cX9_bringsPairs 3 (some .int) ({ frames := 1, cells := 0, slots := 0, locals := 22 } : Room) [.ref o, .int a1, .int a2] M r0 M0 := by
  refine mo_body (Qc := fun A => va_Qi (fun (r' : Int32) (M2 : MS) => r' = r0 ∧ M2 = M0) (gw_E G ai (md_W ai o ar) A) A) (by decide) (Nat.le_of_ble_eq_true rfl) ?_
  intro p e s m args below meth c A ls hC hr hI hl _
  have hx := hC.1
  have hb := hC.2.1
  have hl : lv_has ls 3 [(0, .ref o), (1, .int a1), (2, .int a2)] := hl
  show W p l e _ s m args below meth c s.heap [] 0 0 (md_Q below G ai o ar A args s r0 M0) (F0 m 0 ls [])
  rw [f_bringsPairs] at hF
  refine lv_iload_n hx hb dX9_bringsPairs_0 rfl (lv_at hl 1 rfl) ?_
  refine lv_iconst (v := 0) hx hb dX9_bringsPairs_1 (by decide) ?_
  refine lv_iconst (v := 4) hx hb dX9_bringsPairs_2 (by decide) ?_
  refine k_isIn (mo_CN hC) (Nat.le_of_ble_eq_true rfl) (Nat.le_of_ble_eq_true rfl) hl.1 (Nat.le_of_ble_eq_true rfl) dX9_bringsPairs_3 ?_
  refine lv_if_ne (tgt := 15) hx hb dX9_bringsPairs_6 (by decide) (fun c1 => ?_) (fun c1 => ?_)
  · have hF := if_f hF c1
    refine lv_iload_n hx hb dX9_bringsPairs_15 rfl (lv_at hl 2 rfl) ?_
    refine lv_iconst (v := 1) hx hb dX9_bringsPairs_16 (by decide) ?_
    refine lv_bipush (v := 9) hx hb dX9_bringsPairs_17 (by decide) ?_
    refine k_isIn (mo_CN hC) (Nat.le_of_ble_eq_true rfl) (Nat.le_of_ble_eq_true rfl) hl.1 (Nat.le_of_ble_eq_true rfl) dX9_bringsPairs_19 ?_
    refine lv_if_ne (tgt := 32) hx hb dX9_bringsPairs_22 (by decide) (fun c2 => ?_) (fun c2 => ?_)
    · have hF := if_f hF c2
      refine lv_aload_n hx hb dX9_bringsPairs_32 rfl (lv_at hl 0 rfl) ?_
      refine md_g6 hC hI dX9_bringsPairs_33 ?_
      refine lv_sipush (v := 191) hx hb dX9_bringsPairs_36 (by decide) ?_
      refine lv_iload_n hx hb dX9_bringsPairs_39 rfl (lv_at hl 1 rfl) ?_
      refine lv_iadd hx hb dX9_bringsPairs_40 ?_
      refine lv_bipush (v := 9) hx hb dX9_bringsPairs_41 (by decide) ?_
      refine lv_aload_n hx hb dX9_bringsPairs_43 rfl (lv_at hl 0 rfl) ?_
      refine md_g6 hC hI dX9_bringsPairs_44 ?_
      refine lv_sipush (v := 191) hx hb dX9_bringsPairs_47 (by decide) ?_
      refine lv_iload_n hx hb dX9_bringsPairs_50 rfl (lv_at hl 1 rfl) ?_
      refine lv_iadd hx hb dX9_bringsPairs_51 ?_
      obtain ⟨hg3, hF⟩ := gd_some hF
      refine md_l1 hC hI hg3 dX9_bringsPairs_52 ?_
      refine lv_iload_n hx hb dX9_bringsPairs_53 rfl (lv_at hl 2 rfl) ?_
      refine lv_iadd hx hb dX9_bringsPairs_54 ?_
      refine k_lesser (mo_CN hC) (Nat.le_of_ble_eq_true rfl) (Nat.le_of_ble_eq_true rfl) hl.1 (Nat.le_of_ble_eq_true rfl) dX9_bringsPairs_55 ?_
      obtain ⟨hg4, hF⟩ := gd_some hF
      obtain ⟨M5, hM5, hF⟩ := lt_some hF
      refine md_s1 hC hI hg4 hM5 dX9_bringsPairs_58 (fun H locs hI => ?_)
      refine lv_aload_n hx hb dX9_bringsPairs_59 rfl (lv_at hl 0 rfl) ?_
      refine md_g6 hC hI dX9_bringsPairs_60 ?_
      refine lv_sipush (v := 191) hx hb dX9_bringsPairs_63 (by decide) ?_
      refine lv_iload_n hx hb dX9_bringsPairs_66 rfl (lv_at hl 1 rfl) ?_
      refine lv_iadd hx hb dX9_bringsPairs_67 ?_
      obtain ⟨hg6, hF⟩ := gd_some hF
      refine md_l1 hC hI hg6 dX9_bringsPairs_68 ?_
      exact md_iret hC hI hr hF dX9_bringsPairs_69
    · have hF := if_t hF c2
      refine lv_aload_n hx hb dX9_bringsPairs_25 rfl (lv_at hl 0 rfl) ?_
      refine lv_bipush (v := (-2)) hx hb dX9_bringsPairs_26 (by decide) ?_
      obtain ⟨r7, M8, hz9, hF⟩ := ob_some hF
      refine k_fail hC hI hz9 (Nat.le_of_ble_eq_true rfl) (Nat.le_of_ble_eq_true rfl) hl.1 (Nat.le_of_ble_eq_true rfl) dX9_bringsPairs_28 (fun H locs hI => ?_)
      exact md_iret hC hI hr hF dX9_bringsPairs_31
  · have hF := if_t hF c1
    refine lv_aload_n hx hb dX9_bringsPairs_9 rfl (lv_at hl 0 rfl) ?_
    refine lv_iconst (v := (-1)) hx hb dX9_bringsPairs_10 (by decide) ?_
    obtain ⟨r10, M11, hz12, hF⟩ := ob_some hF
    refine k_fail hC hI hz12 (Nat.le_of_ble_eq_true rfl) (Nat.le_of_ble_eq_true rfl) hl.1 (Nat.le_of_ble_eq_true rfl) dX9_bringsPairs_11 (fun H locs hI => ?_)
    exact md_iret hC hI hr hF dX9_bringsPairs_14
theorem k_bringsPairs {p : Program} {l : Launch} {e : Env} {R : Room} {s : State} {m : MethodId} {args : Array Value} {below : List Frame} {meth : Method} {c : Code} {H : Heap} {locs : List Loc} {cells slots : Nat} {Q : State → Prop} {pc : Nat} {ls : Array Slot} {rest : List Value} {G : va_G} {ai : Nat → ClassId} {A : Nat → Prop} {cc : ByteArray} {nL f L kc ks o : Nat} {ar : Nat → Nat} {M M1 : MS} {r1 : Int32} {a1 : Int32} {a2 : Int32} (hC : mo_C p R s m args meth c G ai A RX9 cc nL f L kc ks) (hI : mo_I G A s.heap (md_W ai o ar M) H locs) (hz : f_bringsPairs M a1 a2 = some (r1, M1)) (hf : 1 + 1 ≤ f) (hL : 8 + (3 + 11) + 22 ≤ L) (hsz : ls.size = nL) (hW : (rest.map fun v => v.category).sum ≤ 8) (hdg : decode cc pc = .ok (.invokevirtual 155, 3)) (kk : ∀ (H1 : Heap) (locs1 : List Loc), mo_I G A s.heap (md_W ai o ar M1) H1 locs1 → W p l e R s m args below meth c H1 locs1 cells slots Q (F0 m (pc + 3) ls (.int r1 :: rest))) (hc0 : cells ≤ kc := by first | exact Nat.zero_le _ | assumption) (hs0 : slots ≤ ks := by first | exact Nat.zero_le _ | assumption) : W p l e R s m args below meth c H locs cells slots Q (F0 m pc ls (.int a2 :: .int a1 :: .ref o :: rest)) := by
  have hI : mo_I G A s.heap (md_W ai o ar M ++ []) H locs := by rw [List.append_nil]; exact hI
  refine gw_cVi (As := [.int a1, .int a2]) (mc := 0) (ms := 0) (fs := md_F ar M) hC 2 hI (w_bringsPairs l G ai o ar M a1 a2 r1 M1 hz) 0 0 rfl rfl q2226 q2228 qs92 q142 q2229 rfl rfl (by decide +kernel) rfl hf hL hc0 hs0 hsz rfl hW hdg (fun r u H1 locs1 hp hI1 => ?_)
  obtain ⟨rfl, rfl⟩ := hp
  rw [List.append_nil] at hI1
  exact kk H1 locs1 hI1
def f_slippers (M : MS) (a1 : Int32) (a2 : Int32) : Option (Int32 × MS) := ob (f_begins M) (fun r1 M2 => ob (f_bringsPairs M2 a1 a2) (fun r4 M5 => ob (f_ends M5 r4) (fun r7 M8 => some (r7, M8))))
set_option maxHeartbeats 4000000 in
theorem w_slippers (l : Launch) (G : va_G) (ai : Nat → ClassId) (o : Nat) (ar : Nat → Nat) (M : MS) (a1 : Int32) (a2 : Int32) (r0 : Int32) (M0 : MS) (hF : f_slippers M a1 a2 = some (r0, M0)) : md_M l G ai o ar yX9_slippers cX9_slippers 3 (some .int) ({ frames := 2, cells := 0, slots := 0, locals := 44 } : Room) [.ref o, .int a1, .int a2] M r0 M0 := by
  refine mo_body (Qc := fun A => va_Qi (fun (r' : Int32) (M2 : MS) => r' = r0 ∧ M2 = M0) (gw_E G ai (md_W ai o ar) A) A) (by decide) (Nat.le_of_ble_eq_true rfl) ?_
  intro p e s m args below meth c A ls hC hr hI hl _
  have hx := hC.1
  have hb := hC.2.1
  have hl : lv_has ls 3 [(0, .ref o), (1, .int a1), (2, .int a2)] := hl
  show W p l e _ s m args below meth c s.heap [] 0 0 (md_Q below G ai o ar A args s r0 M0) (F0 m 0 ls [])
  rw [f_slippers] at hF
  refine lv_aload_n hx hb dX9_slippers_0 rfl (lv_at hl 0 rfl) ?_
  obtain ⟨r1, M2, hz3, hF⟩ := ob_some hF
  refine k_begins hC hI hz3 (Nat.le_of_ble_eq_true rfl) (Nat.le_of_ble_eq_true rfl) hl.1 (Nat.le_of_ble_eq_true rfl) dX9_slippers_1 (fun H locs hI => ?_)
  refine lv_aload_n hx hb dX9_slippers_4 rfl (lv_at hl 0 rfl) ?_
  refine lv_aload_n hx hb dX9_slippers_5 rfl (lv_at hl 0 rfl) ?_
  refine lv_iload_n hx hb dX9_slippers_6 rfl (lv_at hl 1 rfl) ?_
  refine lv_iload_n hx hb dX9_slippers_7 rfl (lv_at hl 2 rfl) ?_
  obtain ⟨r4, M5, hz6, hF⟩ := ob_some hF
  refine k_bringsPairs hC hI hz6 (Nat.le_of_ble_eq_true rfl) (Nat.le_of_ble_eq_true rfl) hl.1 (Nat.le_of_ble_eq_true rfl) dX9_slippers_8 (fun H locs hI => ?_)
  obtain ⟨r7, M8, hz9, hF⟩ := ob_some hF
  refine k_ends hC hI hz9 (Nat.le_of_ble_eq_true rfl) (Nat.le_of_ble_eq_true rfl) hl.1 (Nat.le_of_ble_eq_true rfl) dX9_slippers_11 (fun H locs hI => ?_)
  exact md_iret hC hI hr hF dX9_slippers_14
def f_measures_L2 (a1 : Int32) (kont : MS → Option (Int32 × MS)) : Nat → MS → Int32 → Option (Int32 × MS)
  | 0, _, _ => none
  | n + 1, M, x2 => if 30 ≤ x2 then (kont M) else (gd (gi x2 30) (lt (rup M 8 (upd (M 8) x2.toNatClampNeg (-1))) (fun M3 => lt (x2 + 1) (fun x2_4 => f_measures_L2 a1 kont n M3 x2_4))))
def f_measures_L67 (a2 : Int32) (a4 : Int32) (kont : MS → Int32 → Option (Int32 × MS)) : Nat → MS → Int32 → Int32 → Option (Int32 × MS)
  | 0, _, _, _ => none
  | n + 1, M, x5, x3 => if 4 ≤ x5 then (kont M x3) else (lt ((p_beside a4 x5)) (fun x6_18 => lj (fun (M19 : MS) (x3_20 : Int32) => lt (x5 + 1) (fun x5_22 => f_measures_L67 a2 a4 kont n M19 x5_22 x3_20)) (fun j136_20 => if x6_18 < 0 then (j136_20 M x3) else (gd (gi x6_18 30) (if 0 ≤ (M 8 x6_18.toNatClampNeg) then (j136_20 M x3) else (ob (f_mayTread M x6_18) (fun r26 M27 => if r26 = 0 then (j136_20 M27 x3) else (gd (gi a4 30) (gd (gi x6_18 30) (lt (rup M27 8 (upd (M27 8) x6_18.toNatClampNeg ((M27 8 a4.toNatClampNeg) + 1))) (fun M32 => gd (gi x3 30) (lt (rup M32 9 (upd (M32 9) x3.toNatClampNeg x6_18)) (fun M34 => lt (x3 + 1) (fun x3_35 => j136_20 M34 x3_35))))))))))))))
def f_measures_L48 (kont : MS → Option (Int32 × MS)) : Nat → MS → Int32 → Int32 → Option (Int32 × MS)
  | 0, _, _, _ => none
  | n + 1, M, x3, x2 => if x3 ≤ x2 then (kont M) else (gd (gi x2 30) (lt ((M 9 x2.toNatClampNeg)) (fun x4_15 => lt (x2 + 1) (fun x2_16 => f_measures_L67 x2_16 x4_15 (fun M36 x3_37 => f_measures_L48 kont n M36 x3_37 x2_16) 2000 M 0 x3))))
def f_measures (M : MS) (a1 : Int32) : Option (Int32 × MS) := f_measures_L2 a1 (fun M5 => ob (f_mayTread M5 a1) (fun r6 M7 => if r6 = 0 then (some (0, M7)) else (lt (rup M7 9 (upd (M7 9) (0 : Int32).toNatClampNeg a1)) (fun M10 => gd (gi a1 30) (lt (rup M10 8 (upd (M10 8) a1.toNatClampNeg 0)) (fun M12 => f_measures_L48 (fun M38 => some (0, M38)) 2000 M12 1 0)))))) 2000 M 0
set_option maxHeartbeats 4000000 in
theorem w_measures_L2 {p : Program} {l : Launch} {e : Env} {R : Room} {s : State} {m : MethodId} {args : Array Value} {below : List Frame} {meth : Method} {c : Code} {G : va_G} {ai : Nat → ClassId} {A : Nat → Prop} {o : Nat} {ar : Nat → Nat} {r0 : Int32} {M0 : MS} (hC : mo_C p R s m args meth c G ai A RX9 cX9_measures 7 2 43 0 0) (hr : meth.sig.returnType = none) (a1 : Int32) (kont : MS → Option (Int32 × MS)) (K : ∀ (M : MS) (H : Heap) (locs : List Loc) (ls : Array Slot), kont M = some (r0, M0) → mo_I G A s.heap (md_W ai o ar M) H locs → lv_has ls 7 [(0, .ref o), (1, .int a1)] → W p l e R s m args below meth c H locs 0 0 (md_Qv below G ai o ar A args s M0) (F0 m 21 ls [])) :
    ∀ (n : Nat) (M : MS) (x2 : Int32) (H : Heap) (locs : List Loc) (ls : Array Slot), f_measures_L2 a1 kont n M x2 = some (r0, M0) → mo_I G A s.heap (md_W ai o ar M) H locs → lv_has ls 7 [(2, .int x2), (0, .ref o), (1, .int a1)] → W p l e R s m args below meth c H locs 0 0 (md_Qv below G ai o ar A args s M0) (F0 m 2 ls []) := by
  have hx := hC.1
  have hb := hC.2.1
  intro n
  induction n with
  | zero =>
    intro M x2 H locs ls hF
    have h0 : (none : Option (Int32 × MS)) = some (r0, M0) := hF
    cases h0
  | succ n ih =>
    intro M x2 H locs ls hF hI hl
    rw [f_measures_L2] at hF
    refine lv_iload_n hx hb dX9_measures_2 rfl (lv_at hl 0 rfl) ?_
    refine lv_bipush (v := 30) hx hb dX9_measures_3 (by decide) ?_
    refine lv_icmp_ge (tgt := 21) hx hb dX9_measures_5 (by decide) (fun c1 => ?_) (fun c1 => ?_)
    · have hF := if_t hF c1
      exact K _ _ _ _ hF hI (lv_sub hl [1, 2] rfl)
    · have hF := if_f hF c1
      refine lv_aload_n hx hb dX9_measures_8 rfl (lv_at hl 1 rfl) ?_
      refine md_g13 hC hI dX9_measures_9 ?_
      refine lv_iload_n hx hb dX9_measures_12 rfl (lv_at hl 0 rfl) ?_
      refine lv_iconst (v := (-1)) hx hb dX9_measures_13 (by decide) ?_
      obtain ⟨hg2, hF⟩ := gd_some hF
      obtain ⟨M3, hM3, hF⟩ := lt_some hF
      refine md_s8 hC hI hg2 hM3 dX9_measures_14 (fun H locs hI => ?_)
      obtain ⟨x2_4, hx2_4, hF⟩ := lt_some hF
      refine mo_inc (k := 0) (lv' := [(2, .int x2_4), (0, .ref o), (1, .int a1)]) hx hb hx2_4 (by decide) dX9_measures_15 hl rfl (by decide) rfl (fun ls hl => ?_)
      refine lv_goto (tgt := 2) hx hb dX9_measures_18 (by decide) ?_
      exact ih _ _ _ _ _ hF hI (lv_sub hl [0, 1, 2] rfl)
set_option maxHeartbeats 4000000 in
theorem w_measures_L67 {p : Program} {l : Launch} {e : Env} {R : Room} {s : State} {m : MethodId} {args : Array Value} {below : List Frame} {meth : Method} {c : Code} {G : va_G} {ai : Nat → ClassId} {A : Nat → Prop} {o : Nat} {ar : Nat → Nat} {r0 : Int32} {M0 : MS} (hC : mo_C p R s m args meth c G ai A RX9 cX9_measures 7 2 43 0 0) (hr : meth.sig.returnType = none) (a2 : Int32) (a4 : Int32) (kont : MS → Int32 → Option (Int32 × MS)) (K : ∀ (M : MS) (x3 : Int32) (H : Heap) (locs : List Loc) (ls : Array Slot), kont M x3 = some (r0, M0) → mo_I G A s.heap (md_W ai o ar M) H locs → lv_has ls 7 [(2, .int a2), (3, .int x3), (0, .ref o)] → W p l e R s m args below meth c H locs 0 0 (md_Qv below G ai o ar A args s M0) (F0 m 142 ls [])) :
    ∀ (n : Nat) (M : MS) (x5 : Int32) (x3 : Int32) (H : Heap) (locs : List Loc) (ls : Array Slot), f_measures_L67 a2 a4 kont n M x5 x3 = some (r0, M0) → mo_I G A s.heap (md_W ai o ar M) H locs → lv_has ls 7 [(5, .int x5), (2, .int a2), (4, .int a4), (3, .int x3), (0, .ref o)] → W p l e R s m args below meth c H locs 0 0 (md_Qv below G ai o ar A args s M0) (F0 m 67 ls []) := by
  have hx := hC.1
  have hb := hC.2.1
  intro n
  induction n with
  | zero =>
    intro M x5 x3 H locs ls hF
    have h0 : (none : Option (Int32 × MS)) = some (r0, M0) := hF
    cases h0
  | succ n ih =>
    intro M x5 x3 H locs ls hF hI hl
    rw [f_measures_L67] at hF
    refine lv_iload hx hb dX9_measures_67 (lv_at hl 0 rfl) ?_
    refine lv_iconst (v := 4) hx hb dX9_measures_69 (by decide) ?_
    refine lv_icmp_ge (tgt := 142) hx hb dX9_measures_70 (by decide) (fun c17 => ?_) (fun c17 => ?_)
    · have hF := if_t hF c17
      exact K _ _ _ _ _ hF hI (lv_sub hl [1, 3, 4] rfl)
    · have hF := if_f hF c17
      refine lv_iload hx hb dX9_measures_73 (lv_at hl 2 rfl) ?_
      refine lv_iload hx hb dX9_measures_75 (lv_at hl 0 rfl) ?_
      refine k_beside (mo_CN hC) (Nat.le_of_ble_eq_true rfl) (Nat.le_of_ble_eq_true rfl) hl.1 (Nat.le_of_ble_eq_true rfl) dX9_measures_77 ?_
      obtain ⟨x6_18, hx6_18, hF⟩ := lt_some hF
      refine mo_ist4 (lv' := [(6, .int x6_18), (5, .int x5), (2, .int a2), (4, .int a4), (3, .int x3), (0, .ref o)]) hx hb hx6_18 dX9_measures_80 hl (by decide) rfl (fun ls hl => ?_)
      refine lv_iload hx hb dX9_measures_82 (lv_at hl 0 rfl) ?_
      obtain ⟨j136_20, hj136_20, hF⟩ := lj_some hF
      have J136 : ∀ (M19 : MS) (x3_20 : Int32) (H : Heap) (locs : List Loc) (ls : Array Slot), j136_20 M19 x3_20 = some (r0, M0) → mo_I G A s.heap (md_W ai o ar M19) H locs → lv_has ls 7 [(5, .int x5), (2, .int a2), (4, .int a4), (3, .int x3_20), (0, .ref o)] → W p l e R s m args below meth c H locs 0 0 (md_Qv below G ai o ar A args s M0) (F0 m 136 ls []) := by
        intro M19 x3_20 H locs ls hF hI hl
        rw [hj136_20] at hF
        obtain ⟨x5_22, hx5_22, hF⟩ := lt_some hF
        refine mo_inc (k := 0) (lv' := [(5, .int x5_22), (2, .int a2), (4, .int a4), (3, .int x3_20), (0, .ref o)]) hx hb hx5_22 (by decide) dX9_measures_136 hl rfl (by decide) rfl (fun ls hl => ?_)
        refine lv_goto (tgt := 67) hx hb dX9_measures_139 (by decide) ?_
        exact ih _ _ _ _ _ _ hF hI (lv_sub hl [0, 1, 2, 3, 4] rfl)
      refine lv_if_lt (tgt := 136) hx hb dX9_measures_84 (by decide) (fun c23 => ?_) (fun c23 => ?_)
      · have hF := if_t hF c23
        exact J136 _ _ _ _ _ hF hI (lv_sub hl [1, 2, 3, 4, 5] rfl)
      · have hF := if_f hF c23
        refine lv_aload_n hx hb dX9_measures_87 rfl (lv_at hl 5 rfl) ?_
        refine md_g13 hC hI dX9_measures_88 ?_
        refine lv_iload hx hb dX9_measures_91 (lv_at hl 0 rfl) ?_
        obtain ⟨hg24, hF⟩ := gd_some hF
        refine md_l8 hC hI hg24 dX9_measures_93 ?_
        refine lv_if_ge (tgt := 136) hx hb dX9_measures_94 (by decide) (fun c25 => ?_) (fun c25 => ?_)
        · have hF := if_t hF c25
          exact J136 _ _ _ _ _ hF hI (lv_sub hl [1, 2, 3, 4, 5] rfl)
        · have hF := if_f hF c25
          refine lv_aload_n hx hb dX9_measures_97 rfl (lv_at hl 5 rfl) ?_
          refine lv_iload hx hb dX9_measures_98 (lv_at hl 0 rfl) ?_
          obtain ⟨r26, M27, hz28, hF⟩ := ob_some hF
          refine k_mayTread hC hI hz28 (Nat.le_of_ble_eq_true rfl) (Nat.le_of_ble_eq_true rfl) hl.1 (Nat.le_of_ble_eq_true rfl) dX9_measures_100 (fun H locs hI => ?_)
          refine lv_if_ne (tgt := 109) hx hb dX9_measures_103 (by decide) (fun c29 => ?_) (fun c29 => ?_)
          · have hF := if_f hF c29
            refine lv_aload_n hx hb dX9_measures_109 rfl (lv_at hl 5 rfl) ?_
            refine md_g13 hC hI dX9_measures_110 ?_
            refine lv_iload hx hb dX9_measures_113 (lv_at hl 0 rfl) ?_
            refine lv_aload_n hx hb dX9_measures_115 rfl (lv_at hl 5 rfl) ?_
            refine md_g13 hC hI dX9_measures_116 ?_
            refine lv_iload hx hb dX9_measures_119 (lv_at hl 3 rfl) ?_
            obtain ⟨hg30, hF⟩ := gd_some hF
            refine md_l8 hC hI hg30 dX9_measures_121 ?_
            refine lv_iconst (v := 1) hx hb dX9_measures_122 (by decide) ?_
            refine lv_iadd hx hb dX9_measures_123 ?_
            obtain ⟨hg31, hF⟩ := gd_some hF
            obtain ⟨M32, hM32, hF⟩ := lt_some hF
            refine md_s8 hC hI hg31 hM32 dX9_measures_124 (fun H locs hI => ?_)
            refine lv_aload_n hx hb dX9_measures_125 rfl (lv_at hl 5 rfl) ?_
            refine md_g14 hC hI dX9_measures_126 ?_
            refine lv_iload_n hx hb dX9_measures_129 rfl (lv_at hl 4 rfl) ?_
            refine lv_iload hx hb dX9_measures_130 (lv_at hl 0 rfl) ?_
            obtain ⟨hg33, hF⟩ := gd_some hF
            obtain ⟨M34, hM34, hF⟩ := lt_some hF
            refine md_s9 hC hI hg33 hM34 dX9_measures_132 (fun H locs hI => ?_)
            obtain ⟨x3_35, hx3_35, hF⟩ := lt_some hF
            refine mo_inc (k := 4) (lv' := [(3, .int x3_35), (6, .int x6_18), (5, .int x5), (2, .int a2), (4, .int a4), (0, .ref o)]) hx hb hx3_35 (by decide) dX9_measures_133 hl rfl (by decide) rfl (fun ls hl => ?_)
            exact J136 _ _ _ _ _ hF hI (lv_sub hl [2, 3, 4, 0, 5] rfl)
          · have hF := if_t hF c29
            refine lv_goto (tgt := 136) hx hb dX9_measures_106 (by decide) ?_
            exact J136 _ _ _ _ _ hF hI (lv_sub hl [1, 2, 3, 4, 5] rfl)
set_option maxHeartbeats 4000000 in
theorem w_measures_L48 {p : Program} {l : Launch} {e : Env} {R : Room} {s : State} {m : MethodId} {args : Array Value} {below : List Frame} {meth : Method} {c : Code} {G : va_G} {ai : Nat → ClassId} {A : Nat → Prop} {o : Nat} {ar : Nat → Nat} {r0 : Int32} {M0 : MS} (hC : mo_C p R s m args meth c G ai A RX9 cX9_measures 7 2 43 0 0) (hr : meth.sig.returnType = none) (kont : MS → Option (Int32 × MS)) (K : ∀ (M : MS) (H : Heap) (locs : List Loc) (ls : Array Slot), kont M = some (r0, M0) → mo_I G A s.heap (md_W ai o ar M) H locs → lv_has ls 7 [] → W p l e R s m args below meth c H locs 0 0 (md_Qv below G ai o ar A args s M0) (F0 m 145 ls [])) :
    ∀ (n : Nat) (M : MS) (x3 : Int32) (x2 : Int32) (H : Heap) (locs : List Loc) (ls : Array Slot), f_measures_L48 kont n M x3 x2 = some (r0, M0) → mo_I G A s.heap (md_W ai o ar M) H locs → lv_has ls 7 [(3, .int x3), (2, .int x2), (0, .ref o)] → W p l e R s m args below meth c H locs 0 0 (md_Qv below G ai o ar A args s M0) (F0 m 48 ls []) := by
  have hx := hC.1
  have hb := hC.2.1
  intro n
  induction n with
  | zero =>
    intro M x3 x2 H locs ls hF
    have h0 : (none : Option (Int32 × MS)) = some (r0, M0) := hF
    cases h0
  | succ n ih =>
    intro M x3 x2 H locs ls hF hI hl
    rw [f_measures_L48] at hF
    refine lv_iload_n hx hb dX9_measures_48 rfl (lv_at hl 1 rfl) ?_
    refine lv_iload_n hx hb dX9_measures_49 rfl (lv_at hl 0 rfl) ?_
    refine lv_icmp_ge (tgt := 145) hx hb dX9_measures_50 (by decide) (fun c13 => ?_) (fun c13 => ?_)
    · have hF := if_t hF c13
      exact K _ _ _ _ hF hI (lv_sub hl [] rfl)
    · have hF := if_f hF c13
      refine lv_aload_n hx hb dX9_measures_53 rfl (lv_at hl 2 rfl) ?_
      refine md_g14 hC hI dX9_measures_54 ?_
      refine lv_iload_n hx hb dX9_measures_57 rfl (lv_at hl 1 rfl) ?_
      obtain ⟨hg14, hF⟩ := gd_some hF
      refine md_l9 hC hI hg14 dX9_measures_58 ?_
      obtain ⟨x4_15, hx4_15, hF⟩ := lt_some hF
      refine mo_ist4 (lv' := [(4, .int x4_15), (3, .int x3), (2, .int x2), (0, .ref o)]) hx hb hx4_15 dX9_measures_59 hl (by decide) rfl (fun ls hl => ?_)
      obtain ⟨x2_16, hx2_16, hF⟩ := lt_some hF
      refine mo_inc (k := 2) (lv' := [(2, .int x2_16), (4, .int x4_15), (3, .int x3), (0, .ref o)]) hx hb hx2_16 (by decide) dX9_measures_61 hl rfl (by decide) rfl (fun ls hl => ?_)
      refine lv_iconst (v := 0) hx hb dX9_measures_64 (by decide) ?_
      refine mo_ist4 (lv' := [(5, .int 0), (2, .int x2_16), (4, .int x4_15), (3, .int x3), (0, .ref o)]) hx hb rfl dX9_measures_65 hl (by decide) rfl (fun ls hl => ?_)
      refine w_measures_L67 hC hr x2_16 x4_15 _ (fun M36 x3_37 H locs ls hF hI hl => ?_) 2000 _ _ _ _ _ _ hF hI (lv_sub hl [0, 1, 2, 3, 4] rfl)
      refine lv_goto (tgt := 48) hx hb dX9_measures_142 (by decide) ?_
      exact ih _ _ _ _ _ _ hF hI (lv_sub hl [1, 0, 2] rfl)
set_option maxHeartbeats 4000000 in
theorem w_measures (l : Launch) (G : va_G) (ai : Nat → ClassId) (o : Nat) (ar : Nat → Nat) (M : MS) (a1 : Int32) (r0 : Int32) (M0 : MS) (hF : f_measures M a1 = some (r0, M0)) : md_Mv l G ai o ar yX9_measures cX9_measures 7 ({ frames := 2, cells := 0, slots := 0, locals := 43 } : Room) [.ref o, .int a1] M M0 := by
  refine mo_body (Qc := fun A => va_Qv (fun (M2 : MS) => M2 = M0) (gw_E G ai (md_W ai o ar) A) A) (by decide) (Nat.le_of_ble_eq_true rfl) ?_
  intro p e s m args below meth c A ls hC hr hI hl _
  have hx := hC.1
  have hb := hC.2.1
  have hl : lv_has ls 7 [(0, .ref o), (1, .int a1)] := hl
  show W p l e _ s m args below meth c s.heap [] 0 0 (md_Qv below G ai o ar A args s M0) (F0 m 0 ls [])
  rw [f_measures] at hF
  refine lv_iconst (v := 0) hx hb dX9_measures_0 (by decide) ?_
  refine mo_ist (lv' := [(2, .int 0), (0, .ref o), (1, .int a1)]) hx hb rfl dX9_measures_1 rfl hl (by decide) rfl (fun ls hl => ?_)
  refine w_measures_L2 hC hr a1 _ (fun M5 H locs ls hF hI hl => ?_) 2000 _ _ _ _ _ hF hI (lv_sub hl [0, 1, 2] rfl)
  refine lv_aload_n hx hb dX9_measures_21 rfl (lv_at hl 0 rfl) ?_
  refine lv_iload_n hx hb dX9_measures_22 rfl (lv_at hl 1 rfl) ?_
  obtain ⟨r6, M7, hz8, hF⟩ := ob_some hF
  refine k_mayTread hC hI hz8 (Nat.le_of_ble_eq_true rfl) (Nat.le_of_ble_eq_true rfl) hl.1 (Nat.le_of_ble_eq_true rfl) dX9_measures_23 (fun H locs hI => ?_)
  refine lv_if_ne (tgt := 30) hx hb dX9_measures_26 (by decide) (fun c9 => ?_) (fun c9 => ?_)
  · have hF := if_f hF c9
    refine lv_iconst (v := 0) hx hb dX9_measures_30 (by decide) ?_
    refine mo_ist (lv' := [(2, .int 0), (0, .ref o), (1, .int a1)]) hx hb rfl dX9_measures_31 rfl hl (by decide) rfl (fun ls hl => ?_)
    refine lv_iconst (v := 1) hx hb dX9_measures_32 (by decide) ?_
    refine mo_ist (lv' := [(3, .int 1), (2, .int 0), (0, .ref o), (1, .int a1)]) hx hb rfl dX9_measures_33 rfl hl (by decide) rfl (fun ls hl => ?_)
    refine lv_aload_n hx hb dX9_measures_34 rfl (lv_at hl 2 rfl) ?_
    refine md_g14 hC hI dX9_measures_35 ?_
    refine lv_iconst (v := 0) hx hb dX9_measures_38 (by decide) ?_
    refine lv_iload_n hx hb dX9_measures_39 rfl (lv_at hl 3 rfl) ?_
    obtain ⟨M10, hM10, hF⟩ := lt_some hF
    refine md_s9 hC hI (by decide) hM10 dX9_measures_40 (fun H locs hI => ?_)
    refine lv_aload_n hx hb dX9_measures_41 rfl (lv_at hl 2 rfl) ?_
    refine md_g13 hC hI dX9_measures_42 ?_
    refine lv_iload_n hx hb dX9_measures_45 rfl (lv_at hl 3 rfl) ?_
    refine lv_iconst (v := 0) hx hb dX9_measures_46 (by decide) ?_
    obtain ⟨hg11, hF⟩ := gd_some hF
    obtain ⟨M12, hM12, hF⟩ := lt_some hF
    refine md_s8 hC hI hg11 hM12 dX9_measures_47 (fun H locs hI => ?_)
    refine w_measures_L48 hC hr _ (fun M38 H locs ls hF hI hl => ?_) 2000 _ _ _ _ _ _ hF hI (lv_sub hl [0, 1, 2] rfl)
    exact md_vret hC hI hr hF dX9_measures_145
  · have hF := if_t hF c9
    exact md_vret hC hI hr hF dX9_measures_29
theorem k_measures {p : Program} {l : Launch} {e : Env} {R : Room} {s : State} {m : MethodId} {args : Array Value} {below : List Frame} {meth : Method} {c : Code} {H : Heap} {locs : List Loc} {cells slots : Nat} {Q : State → Prop} {pc : Nat} {ls : Array Slot} {rest : List Value} {G : va_G} {ai : Nat → ClassId} {A : Nat → Prop} {cc : ByteArray} {nL f L kc ks o : Nat} {ar : Nat → Nat} {M M1 : MS} {r1 : Int32} {a1 : Int32} (hC : mo_C p R s m args meth c G ai A RX9 cc nL f L kc ks) (hI : mo_I G A s.heap (md_W ai o ar M) H locs) (hz : f_measures M a1 = some (r1, M1)) (hf : 2 + 1 ≤ f) (hL : 8 + (7 + 11) + 43 ≤ L) (hsz : ls.size = nL) (hW : (rest.map fun v => v.category).sum ≤ 8) (hdg : decode cc pc = .ok (.invokevirtual 161, 3)) (kk : ∀ (H1 : Heap) (locs1 : List Loc), mo_I G A s.heap (md_W ai o ar M1) H1 locs1 → W p l e R s m args below meth c H1 locs1 cells slots Q (F0 m (pc + 3) ls (rest))) (hc0 : cells ≤ kc := by first | exact Nat.zero_le _ | assumption) (hs0 : slots ≤ ks := by first | exact Nat.zero_le _ | assumption) : W p l e R s m args below meth c H locs cells slots Q (F0 m pc ls (.int a1 :: .ref o :: rest)) := by
  have hI : mo_I G A s.heap (md_W ai o ar M ++ []) H locs := by rw [List.append_nil]; exact hI
  refine gw_cVv (As := [.int a1]) (mc := 0) (ms := 0) (fs := md_F ar M) hC 1 hI (w_measures l G ai o ar M a1 r1 M1 hz) 0 0 rfl rfl q2245 q2247 qs95 q142 q2248 rfl rfl (by decide +kernel) rfl hf hL hc0 hs0 hsz rfl hW hdg (fun u H1 locs1 hp hI1 => ?_)
  obtain rfl := hp
  rw [List.append_nil] at hI1
  exact kk H1 locs1 hI1
def f_next_L2 (a1 : Int32) (kont : MS → Option (Int32 × MS)) : Nat → MS → Int32 → Option (Int32 × MS)
  | 0, _, _ => none
  | n + 1, M, x2 => if 4 ≤ x2 then (kont M) else (lt ((p_beside a1 x2)) (fun x3_2 => lj (fun (M3 : MS) => lt (x2 + 1) (fun x2_5 => f_next_L2 a1 kont n M3 x2_5)) (fun j36_3 => if x3_2 < 0 then (j36_3 M) else (gd (gi x3_2 30) (gd (gi a1 30) (if (M 8 x3_2.toNatClampNeg) = ((M 8 a1.toNatClampNeg) - 1) then (some (x3_2, M)) else (j36_3 M)))))))
def f_next (M : MS) (a1 : Int32) : Option (Int32 × MS) := f_next_L2 a1 (fun M10 => some ((-1), M10)) 2000 M 0
set_option maxHeartbeats 4000000 in
theorem w_next_L2 {p : Program} {l : Launch} {e : Env} {R : Room} {s : State} {m : MethodId} {args : Array Value} {below : List Frame} {meth : Method} {c : Code} {G : va_G} {ai : Nat → ClassId} {A : Nat → Prop} {o : Nat} {ar : Nat → Nat} {r0 : Int32} {M0 : MS} (hC : mo_C p R s m args meth c G ai A RX9 cX9_next 4 1 23 0 0) (hr : meth.sig.returnType = (some .int)) (a1 : Int32) (kont : MS → Option (Int32 × MS)) (K : ∀ (M : MS) (H : Heap) (locs : List Loc) (ls : Array Slot), kont M = some (r0, M0) → mo_I G A s.heap (md_W ai o ar M) H locs → lv_has ls 4 [] → W p l e R s m args below meth c H locs 0 0 (md_Q below G ai o ar A args s r0 M0) (F0 m 42 ls [])) :
    ∀ (n : Nat) (M : MS) (x2 : Int32) (H : Heap) (locs : List Loc) (ls : Array Slot), f_next_L2 a1 kont n M x2 = some (r0, M0) → mo_I G A s.heap (md_W ai o ar M) H locs → lv_has ls 4 [(2, .int x2), (0, .ref o), (1, .int a1)] → W p l e R s m args below meth c H locs 0 0 (md_Q below G ai o ar A args s r0 M0) (F0 m 2 ls []) := by
  have hx := hC.1
  have hb := hC.2.1
  intro n
  induction n with
  | zero =>
    intro M x2 H locs ls hF
    have h0 : (none : Option (Int32 × MS)) = some (r0, M0) := hF
    cases h0
  | succ n ih =>
    intro M x2 H locs ls hF hI hl
    rw [f_next_L2] at hF
    refine lv_iload_n hx hb dX9_next_2 rfl (lv_at hl 0 rfl) ?_
    refine lv_iconst (v := 4) hx hb dX9_next_3 (by decide) ?_
    refine lv_icmp_ge (tgt := 42) hx hb dX9_next_4 (by decide) (fun c1 => ?_) (fun c1 => ?_)
    · have hF := if_t hF c1
      exact K _ _ _ _ hF hI (lv_sub hl [] rfl)
    · have hF := if_f hF c1
      refine lv_iload_n hx hb dX9_next_7 rfl (lv_at hl 2 rfl) ?_
      refine lv_iload_n hx hb dX9_next_8 rfl (lv_at hl 0 rfl) ?_
      refine k_beside (mo_CN hC) (Nat.le_of_ble_eq_true rfl) (Nat.le_of_ble_eq_true rfl) hl.1 (Nat.le_of_ble_eq_true rfl) dX9_next_9 ?_
      obtain ⟨x3_2, hx3_2, hF⟩ := lt_some hF
      refine mo_ist (lv' := [(3, .int x3_2), (2, .int x2), (0, .ref o), (1, .int a1)]) hx hb hx3_2 dX9_next_12 rfl hl (by decide) rfl (fun ls hl => ?_)
      refine lv_iload_n hx hb dX9_next_13 rfl (lv_at hl 0 rfl) ?_
      obtain ⟨j36_3, hj36_3, hF⟩ := lj_some hF
      have J36 : ∀ (M3 : MS) (H : Heap) (locs : List Loc) (ls : Array Slot), j36_3 M3 = some (r0, M0) → mo_I G A s.heap (md_W ai o ar M3) H locs → lv_has ls 4 [(2, .int x2), (0, .ref o), (1, .int a1)] → W p l e R s m args below meth c H locs 0 0 (md_Q below G ai o ar A args s r0 M0) (F0 m 36 ls []) := by
        intro M3 H locs ls hF hI hl
        rw [hj36_3] at hF
        obtain ⟨x2_5, hx2_5, hF⟩ := lt_some hF
        refine mo_inc (k := 0) (lv' := [(2, .int x2_5), (0, .ref o), (1, .int a1)]) hx hb hx2_5 (by decide) dX9_next_36 hl rfl (by decide) rfl (fun ls hl => ?_)
        refine lv_goto (tgt := 2) hx hb dX9_next_39 (by decide) ?_
        exact ih _ _ _ _ _ hF hI (lv_sub hl [0, 1, 2] rfl)
      refine lv_if_lt (tgt := 36) hx hb dX9_next_14 (by decide) (fun c6 => ?_) (fun c6 => ?_)
      · have hF := if_t hF c6
        exact J36 _ _ _ _ hF hI (lv_sub hl [1, 2, 3] rfl)
      · have hF := if_f hF c6
        refine lv_aload_n hx hb dX9_next_17 rfl (lv_at hl 2 rfl) ?_
        refine md_g13 hC hI dX9_next_18 ?_
        refine lv_iload_n hx hb dX9_next_21 rfl (lv_at hl 0 rfl) ?_
        obtain ⟨hg7, hF⟩ := gd_some hF
        refine md_l8 hC hI hg7 dX9_next_22 ?_
        refine lv_aload_n hx hb dX9_next_23 rfl (lv_at hl 2 rfl) ?_
        refine md_g13 hC hI dX9_next_24 ?_
        refine lv_iload_n hx hb dX9_next_27 rfl (lv_at hl 3 rfl) ?_
        obtain ⟨hg8, hF⟩ := gd_some hF
        refine md_l8 hC hI hg8 dX9_next_28 ?_
        refine lv_iconst (v := 1) hx hb dX9_next_29 (by decide) ?_
        refine lv_isub hx hb dX9_next_30 ?_
        refine lv_icmp_ne (tgt := 36) hx hb dX9_next_31 (by decide) (fun c9 => ?_) (fun c9 => ?_)
        · have hF := if_f hF c9
          exact J36 _ _ _ _ hF hI (lv_sub hl [1, 2, 3] rfl)
        · have hF := if_t hF c9
          refine lv_iload_n hx hb dX9_next_34 rfl (lv_at hl 0 rfl) ?_
          exact md_iret hC hI hr hF dX9_next_35
set_option maxHeartbeats 4000000 in
theorem w_next (l : Launch) (G : va_G) (ai : Nat → ClassId) (o : Nat) (ar : Nat → Nat) (M : MS) (a1 : Int32) (r0 : Int32) (M0 : MS) (hF : f_next M a1 = some (r0, M0)) : md_M l G ai o ar yX9_next cX9_next 4 (some .int) ({ frames := 1, cells := 0, slots := 0, locals := 23 } : Room) [.ref o, .int a1] M r0 M0 := by
  refine mo_body (Qc := fun A => va_Qi (fun (r' : Int32) (M2 : MS) => r' = r0 ∧ M2 = M0) (gw_E G ai (md_W ai o ar) A) A) (by decide) (Nat.le_of_ble_eq_true rfl) ?_
  intro p e s m args below meth c A ls hC hr hI hl _
  have hx := hC.1
  have hb := hC.2.1
  have hl : lv_has ls 4 [(0, .ref o), (1, .int a1)] := hl
  show W p l e _ s m args below meth c s.heap [] 0 0 (md_Q below G ai o ar A args s r0 M0) (F0 m 0 ls [])
  rw [f_next] at hF
  refine lv_iconst (v := 0) hx hb dX9_next_0 (by decide) ?_
  refine mo_ist (lv' := [(2, .int 0), (0, .ref o), (1, .int a1)]) hx hb rfl dX9_next_1 rfl hl (by decide) rfl (fun ls hl => ?_)
  refine w_next_L2 hC hr a1 _ (fun M10 H locs ls hF hI hl => ?_) 2000 _ _ _ _ _ hF hI (lv_sub hl [0, 1, 2] rfl)
  refine lv_iconst (v := (-1)) hx hb dX9_next_42 (by decide) ?_
  exact md_iret hC hI hr hF dX9_next_43
theorem k_next {p : Program} {l : Launch} {e : Env} {R : Room} {s : State} {m : MethodId} {args : Array Value} {below : List Frame} {meth : Method} {c : Code} {H : Heap} {locs : List Loc} {cells slots : Nat} {Q : State → Prop} {pc : Nat} {ls : Array Slot} {rest : List Value} {G : va_G} {ai : Nat → ClassId} {A : Nat → Prop} {cc : ByteArray} {nL f L kc ks o : Nat} {ar : Nat → Nat} {M M1 : MS} {r1 : Int32} {a1 : Int32} (hC : mo_C p R s m args meth c G ai A RX9 cc nL f L kc ks) (hI : mo_I G A s.heap (md_W ai o ar M) H locs) (hz : f_next M a1 = some (r1, M1)) (hf : 1 + 1 ≤ f) (hL : 8 + (4 + 11) + 23 ≤ L) (hsz : ls.size = nL) (hW : (rest.map fun v => v.category).sum ≤ 8) (hdg : decode cc pc = .ok (.invokevirtual 168, 3)) (kk : ∀ (H1 : Heap) (locs1 : List Loc), mo_I G A s.heap (md_W ai o ar M1) H1 locs1 → W p l e R s m args below meth c H1 locs1 cells slots Q (F0 m (pc + 3) ls (.int r1 :: rest))) (hc0 : cells ≤ kc := by first | exact Nat.zero_le _ | assumption) (hs0 : slots ≤ ks := by first | exact Nat.zero_le _ | assumption) : W p l e R s m args below meth c H locs cells slots Q (F0 m pc ls (.int a1 :: .ref o :: rest)) := by
  have hI : mo_I G A s.heap (md_W ai o ar M ++ []) H locs := by rw [List.append_nil]; exact hI
  refine gw_cVi (As := [.int a1]) (mc := 0) (ms := 0) (fs := md_F ar M) hC 1 hI (w_next l G ai o ar M a1 r1 M1 hz) 0 0 rfl rfl q2253 q2255 qs97 q142 q2256 rfl rfl (by decide +kernel) rfl hf hL hc0 hs0 hsz rfl hW hdg (fun r u H1 locs1 hp hI1 => ?_)
  obtain ⟨rfl, rfl⟩ := hp
  rw [List.append_nil] at hI1
  exact kk H1 locs1 hI1
def f_pairFor_L2 (kont : MS → Option (Int32 × MS)) : Nat → MS → Int32 → Option (Int32 × MS)
  | 0, _, _ => none
  | n + 1, M, x2 => if 5 ≤ x2 then (kont M) else (gd (gi (191 + x2) 216) (if (M 1 (191 + x2).toNatClampNeg) ≤ 0 then (lt (x2 + 1) (fun x2_4 => f_pairFor_L2 kont n M x2_4)) else (some (x2, M))))
def f_pairFor (M : MS) (a1 : Int32) : Option (Int32 × MS) := f_pairFor_L2 (fun M5 => some ((-1), M5)) 2000 M a1
set_option maxHeartbeats 4000000 in
theorem w_pairFor_L2 {p : Program} {l : Launch} {e : Env} {R : Room} {s : State} {m : MethodId} {args : Array Value} {below : List Frame} {meth : Method} {c : Code} {G : va_G} {ai : Nat → ClassId} {A : Nat → Prop} {o : Nat} {ar : Nat → Nat} {r0 : Int32} {M0 : MS} (hC : mo_C p R s m args meth c G ai A RX9 cX9_pairFor 3 0 0 0 0) (hr : meth.sig.returnType = (some .int)) (kont : MS → Option (Int32 × MS)) (K : ∀ (M : MS) (H : Heap) (locs : List Loc) (ls : Array Slot), kont M = some (r0, M0) → mo_I G A s.heap (md_W ai o ar M) H locs → lv_has ls 3 [] → W p l e R s m args below meth c H locs 0 0 (md_Q below G ai o ar A args s r0 M0) (F0 m 28 ls [])) :
    ∀ (n : Nat) (M : MS) (x2 : Int32) (H : Heap) (locs : List Loc) (ls : Array Slot), f_pairFor_L2 kont n M x2 = some (r0, M0) → mo_I G A s.heap (md_W ai o ar M) H locs → lv_has ls 3 [(2, .int x2), (0, .ref o)] → W p l e R s m args below meth c H locs 0 0 (md_Q below G ai o ar A args s r0 M0) (F0 m 2 ls []) := by
  have hx := hC.1
  have hb := hC.2.1
  intro n
  induction n with
  | zero =>
    intro M x2 H locs ls hF
    have h0 : (none : Option (Int32 × MS)) = some (r0, M0) := hF
    cases h0
  | succ n ih =>
    intro M x2 H locs ls hF hI hl
    rw [f_pairFor_L2] at hF
    refine lv_iload_n hx hb dX9_pairFor_2 rfl (lv_at hl 0 rfl) ?_
    refine lv_iconst (v := 5) hx hb dX9_pairFor_3 (by decide) ?_
    refine lv_icmp_ge (tgt := 28) hx hb dX9_pairFor_4 (by decide) (fun c1 => ?_) (fun c1 => ?_)
    · have hF := if_t hF c1
      exact K _ _ _ _ hF hI (lv_sub hl [] rfl)
    · have hF := if_f hF c1
      refine lv_aload_n hx hb dX9_pairFor_7 rfl (lv_at hl 1 rfl) ?_
      refine md_g6 hC hI dX9_pairFor_8 ?_
      refine lv_sipush (v := 191) hx hb dX9_pairFor_11 (by decide) ?_
      refine lv_iload_n hx hb dX9_pairFor_14 rfl (lv_at hl 0 rfl) ?_
      refine lv_iadd hx hb dX9_pairFor_15 ?_
      obtain ⟨hg2, hF⟩ := gd_some hF
      refine md_l1 hC hI hg2 dX9_pairFor_16 ?_
      refine lv_if_le (tgt := 22) hx hb dX9_pairFor_17 (by decide) (fun c3 => ?_) (fun c3 => ?_)
      · have hF := if_t hF c3
        obtain ⟨x2_4, hx2_4, hF⟩ := lt_some hF
        refine mo_inc (k := 0) (lv' := [(2, .int x2_4), (0, .ref o)]) hx hb hx2_4 (by decide) dX9_pairFor_22 hl rfl (by decide) rfl (fun ls hl => ?_)
        refine lv_goto (tgt := 2) hx hb dX9_pairFor_25 (by decide) ?_
        exact ih _ _ _ _ _ hF hI (lv_sub hl [0, 1] rfl)
      · have hF := if_f hF c3
        refine lv_iload_n hx hb dX9_pairFor_20 rfl (lv_at hl 0 rfl) ?_
        exact md_iret hC hI hr hF dX9_pairFor_21
set_option maxHeartbeats 4000000 in
theorem w_pairFor (l : Launch) (G : va_G) (ai : Nat → ClassId) (o : Nat) (ar : Nat → Nat) (M : MS) (a1 : Int32) (r0 : Int32) (M0 : MS) (hF : f_pairFor M a1 = some (r0, M0)) : md_M l G ai o ar yX9_pairFor cX9_pairFor 3 (some .int) ({ frames := 0, cells := 0, slots := 0, locals := 0 } : Room) [.ref o, .int a1] M r0 M0 := by
  refine mo_body (Qc := fun A => va_Qi (fun (r' : Int32) (M2 : MS) => r' = r0 ∧ M2 = M0) (gw_E G ai (md_W ai o ar) A) A) (by decide) (Nat.le_of_ble_eq_true rfl) ?_
  intro p e s m args below meth c A ls hC hr hI hl _
  have hx := hC.1
  have hb := hC.2.1
  have hl : lv_has ls 3 [(0, .ref o), (1, .int a1)] := hl
  show W p l e _ s m args below meth c s.heap [] 0 0 (md_Q below G ai o ar A args s r0 M0) (F0 m 0 ls [])
  rw [f_pairFor] at hF
  refine lv_iload_n hx hb dX9_pairFor_0 rfl (lv_at hl 1 rfl) ?_
  refine mo_ist (lv' := [(2, .int a1), (0, .ref o), (1, .int a1)]) hx hb rfl dX9_pairFor_1 rfl hl (by decide) rfl (fun ls hl => ?_)
  refine w_pairFor_L2 hC hr _ (fun M5 H locs ls hF hI hl => ?_) 2000 _ _ _ _ _ hF hI (lv_sub hl [0, 1] rfl)
  refine lv_iconst (v := (-1)) hx hb dX9_pairFor_28 (by decide) ?_
  exact md_iret hC hI hr hF dX9_pairFor_29
theorem k_pairFor {p : Program} {l : Launch} {e : Env} {R : Room} {s : State} {m : MethodId} {args : Array Value} {below : List Frame} {meth : Method} {c : Code} {H : Heap} {locs : List Loc} {cells slots : Nat} {Q : State → Prop} {pc : Nat} {ls : Array Slot} {rest : List Value} {G : va_G} {ai : Nat → ClassId} {A : Nat → Prop} {cc : ByteArray} {nL f L kc ks o : Nat} {ar : Nat → Nat} {M M1 : MS} {r1 : Int32} {a1 : Int32} (hC : mo_C p R s m args meth c G ai A RX9 cc nL f L kc ks) (hI : mo_I G A s.heap (md_W ai o ar M) H locs) (hz : f_pairFor M a1 = some (r1, M1)) (hf : 0 + 1 ≤ f) (hL : 8 + (3 + 11) + 0 ≤ L) (hsz : ls.size = nL) (hW : (rest.map fun v => v.category).sum ≤ 8) (hdg : decode cc pc = .ok (.invokevirtual 158, 3)) (kk : ∀ (H1 : Heap) (locs1 : List Loc), mo_I G A s.heap (md_W ai o ar M1) H1 locs1 → W p l e R s m args below meth c H1 locs1 cells slots Q (F0 m (pc + 3) ls (.int r1 :: rest))) (hc0 : cells ≤ kc := by first | exact Nat.zero_le _ | assumption) (hs0 : slots ≤ ks := by first | exact Nat.zero_le _ | assumption) : W p l e R s m args below meth c H locs cells slots Q (F0 m pc ls (.int a1 :: .ref o :: rest)) := by
  have hI : mo_I G A s.heap (md_W ai o ar M ++ []) H locs := by rw [List.append_nil]; exact hI
  refine gw_cVi (As := [.int a1]) (mc := 0) (ms := 0) (fs := md_F ar M) hC 1 hI (w_pairFor l G ai o ar M a1 r1 M1 hz) 0 0 rfl rfl q2241 q2243 qs94 q142 q2244 rfl rfl (by decide +kernel) rfl hf hL hc0 hs0 hsz rfl hW hdg (fun r u H1 locs1 hp hI1 => ?_)
  obtain ⟨rfl, rfl⟩ := hp
  rw [List.append_nil] at hI1
  exact kk H1 locs1 hI1
def f_treads (M : MS) (a1 : Int32) : Option (Int32 × MS) := gd (gi (42 + a1) 216) (if 7 ≤ (M 1 (42 + a1).toNatClampNeg) then (gd (gi (42 + a1) 216) (gd (gi (42 + a1) 216) (lt (rup M 1 (upd (M 1) (42 + a1).toNatClampNeg ((M 1 (42 + a1).toNatClampNeg) - 1))) (fun M5 => lt (rup M5 1 (upd (M5 1) (6 : Int32).toNatClampNeg ((M5 1 (6 : Int32).toNatClampNeg) + 1))) (fun M6 => some (0, M6)))))) else (some (0, M)))
set_option maxHeartbeats 4000000 in
theorem w_treads (l : Launch) (G : va_G) (ai : Nat → ClassId) (o : Nat) (ar : Nat → Nat) (M : MS) (a1 : Int32) (r0 : Int32) (M0 : MS) (hF : f_treads M a1 = some (r0, M0)) : md_Mv l G ai o ar yX9_treads cX9_treads 2 ({ frames := 0, cells := 0, slots := 0, locals := 0 } : Room) [.ref o, .int a1] M M0 := by
  refine mo_body (Qc := fun A => va_Qv (fun (M2 : MS) => M2 = M0) (gw_E G ai (md_W ai o ar) A) A) (by decide) (Nat.le_of_ble_eq_true rfl) ?_
  intro p e s m args below meth c A ls hC hr hI hl _
  have hx := hC.1
  have hb := hC.2.1
  have hl : lv_has ls 2 [(0, .ref o), (1, .int a1)] := hl
  show W p l e _ s m args below meth c s.heap [] 0 0 (md_Qv below G ai o ar A args s M0) (F0 m 0 ls [])
  rw [f_treads] at hF
  refine lv_aload_n hx hb dX9_treads_0 rfl (lv_at hl 0 rfl) ?_
  refine md_g6 hC hI dX9_treads_1 ?_
  refine lv_bipush (v := 42) hx hb dX9_treads_4 (by decide) ?_
  refine lv_iload_n hx hb dX9_treads_6 rfl (lv_at hl 1 rfl) ?_
  refine lv_iadd hx hb dX9_treads_7 ?_
  obtain ⟨hg1, hF⟩ := gd_some hF
  refine md_l1 hC hI hg1 dX9_treads_8 ?_
  refine lv_bipush (v := 7) hx hb dX9_treads_9 (by decide) ?_
  refine lv_icmp_ge (tgt := 15) hx hb dX9_treads_11 (by decide) (fun c2 => ?_) (fun c2 => ?_)
  · have hF := if_t hF c2
    refine lv_aload_n hx hb dX9_treads_15 rfl (lv_at hl 0 rfl) ?_
    refine md_g6 hC hI dX9_treads_16 ?_
    refine lv_bipush (v := 42) hx hb dX9_treads_19 (by decide) ?_
    refine lv_iload_n hx hb dX9_treads_21 rfl (lv_at hl 1 rfl) ?_
    refine lv_iadd hx hb dX9_treads_22 ?_
    refine lv_dup2_11 hx hb dX9_treads_23 rfl rfl ?_
    obtain ⟨hg3, hF⟩ := gd_some hF
    refine md_l1 hC hI hg3 dX9_treads_24 ?_
    refine lv_iconst (v := 1) hx hb dX9_treads_25 (by decide) ?_
    refine lv_isub hx hb dX9_treads_26 ?_
    obtain ⟨hg4, hF⟩ := gd_some hF
    obtain ⟨M5, hM5, hF⟩ := lt_some hF
    refine md_s1 hC hI hg4 hM5 dX9_treads_27 (fun H locs hI => ?_)
    refine lv_aload_n hx hb dX9_treads_28 rfl (lv_at hl 0 rfl) ?_
    refine md_g6 hC hI dX9_treads_29 ?_
    refine lv_bipush (v := 6) hx hb dX9_treads_32 (by decide) ?_
    refine lv_dup2_11 hx hb dX9_treads_34 rfl rfl ?_
    refine md_l1 hC hI (by decide) dX9_treads_35 ?_
    refine lv_iconst (v := 1) hx hb dX9_treads_36 (by decide) ?_
    refine lv_iadd hx hb dX9_treads_37 ?_
    obtain ⟨M6, hM6, hF⟩ := lt_some hF
    refine md_s1 hC hI (by decide) hM6 dX9_treads_38 (fun H locs hI => ?_)
    exact md_vret hC hI hr hF dX9_treads_39
  · have hF := if_f hF c2
    exact md_vret hC hI hr hF dX9_treads_14
theorem k_treads {p : Program} {l : Launch} {e : Env} {R : Room} {s : State} {m : MethodId} {args : Array Value} {below : List Frame} {meth : Method} {c : Code} {H : Heap} {locs : List Loc} {cells slots : Nat} {Q : State → Prop} {pc : Nat} {ls : Array Slot} {rest : List Value} {G : va_G} {ai : Nat → ClassId} {A : Nat → Prop} {cc : ByteArray} {nL f L kc ks o : Nat} {ar : Nat → Nat} {M M1 : MS} {r1 : Int32} {a1 : Int32} (hC : mo_C p R s m args meth c G ai A RX9 cc nL f L kc ks) (hI : mo_I G A s.heap (md_W ai o ar M) H locs) (hz : f_treads M a1 = some (r1, M1)) (hf : 0 + 1 ≤ f) (hL : 8 + (2 + 11) + 0 ≤ L) (hsz : ls.size = nL) (hW : (rest.map fun v => v.category).sum ≤ 8) (hdg : decode cc pc = .ok (.invokevirtual 165, 3)) (kk : ∀ (H1 : Heap) (locs1 : List Loc), mo_I G A s.heap (md_W ai o ar M1) H1 locs1 → W p l e R s m args below meth c H1 locs1 cells slots Q (F0 m (pc + 3) ls (rest))) (hc0 : cells ≤ kc := by first | exact Nat.zero_le _ | assumption) (hs0 : slots ≤ ks := by first | exact Nat.zero_le _ | assumption) : W p l e R s m args below meth c H locs cells slots Q (F0 m pc ls (.int a1 :: .ref o :: rest)) := by
  have hI : mo_I G A s.heap (md_W ai o ar M ++ []) H locs := by rw [List.append_nil]; exact hI
  refine gw_cVv (As := [.int a1]) (mc := 0) (ms := 0) (fs := md_F ar M) hC 1 hI (w_treads l G ai o ar M a1 r1 M1 hz) 0 0 rfl rfl q2249 q2251 qs96 q142 q2252 rfl rfl (by decide +kernel) rfl hf hL hc0 hs0 hsz rfl hW hdg (fun u H1 locs1 hp hI1 => ?_)
  obtain rfl := hp
  rw [List.append_nil] at hI1
  exact kk H1 locs1 hI1
def f_notes_L4 (a1 : Int32) (a2 : Int32) (a3 : Int32) (a4 : Int32) (kont : MS → Option (Int32 × MS)) : Nat → MS → Int32 → Option (Int32 × MS)
  | 0, _, _ => none
  | n + 1, M, x5 => if x5 < 4 then (kont M) else (gd (gi ((196 + x5) - 4) 216) (gd (gi (196 + x5) 216) (lt (rup M 1 (upd (M 1) (196 + x5).toNatClampNeg (M 1 ((196 + x5) - 4).toNatClampNeg))) (fun M4 => lt (x5 + (-1)) (fun x5_5 => f_notes_L4 a1 a2 a3 a4 kont n M4 x5_5)))))
def f_notes (M : MS) (a1 : Int32) (a2 : Int32) (a3 : Int32) (a4 : Int32) : Option (Int32 × MS) := f_notes_L4 a1 a2 a3 a4 (fun M6 => lt (rup M6 1 (upd (M6 1) (196 : Int32).toNatClampNeg a1)) (fun M7 => lt (rup M7 1 (upd (M7 1) (197 : Int32).toNatClampNeg a2)) (fun M8 => lt (rup M8 1 (upd (M8 1) (198 : Int32).toNatClampNeg a3)) (fun M9 => lt (rup M9 1 (upd (M9 1) (199 : Int32).toNatClampNeg a4)) (fun M10 => lt (rup M10 1 (upd (M10 1) (11 : Int32).toNatClampNeg (p_lesser 5 ((M10 1 (11 : Int32).toNatClampNeg) + 1)))) (fun M11 => some (0, M11))))))) 2000 M 19
set_option maxHeartbeats 4000000 in
theorem w_notes_L4 {p : Program} {l : Launch} {e : Env} {R : Room} {s : State} {m : MethodId} {args : Array Value} {below : List Frame} {meth : Method} {c : Code} {G : va_G} {ai : Nat → ClassId} {A : Nat → Prop} {o : Nat} {ar : Nat → Nat} {r0 : Int32} {M0 : MS} (hC : mo_C p R s m args meth c G ai A RX9 cX9_notes 6 1 21 0 0) (hr : meth.sig.returnType = none) (a1 : Int32) (a2 : Int32) (a3 : Int32) (a4 : Int32) (kont : MS → Option (Int32 × MS)) (K : ∀ (M : MS) (H : Heap) (locs : List Loc) (ls : Array Slot), kont M = some (r0, M0) → mo_I G A s.heap (md_W ai o ar M) H locs → lv_has ls 6 [(0, .ref o), (1, .int a1), (2, .int a2), (3, .int a3), (4, .int a4)] → W p l e R s m args below meth c H locs 0 0 (md_Qv below G ai o ar A args s M0) (F0 m 40 ls [])) :
    ∀ (n : Nat) (M : MS) (x5 : Int32) (H : Heap) (locs : List Loc) (ls : Array Slot), f_notes_L4 a1 a2 a3 a4 kont n M x5 = some (r0, M0) → mo_I G A s.heap (md_W ai o ar M) H locs → lv_has ls 6 [(5, .int x5), (0, .ref o), (1, .int a1), (2, .int a2), (3, .int a3), (4, .int a4)] → W p l e R s m args below meth c H locs 0 0 (md_Qv below G ai o ar A args s M0) (F0 m 4 ls []) := by
  have hx := hC.1
  have hb := hC.2.1
  intro n
  induction n with
  | zero =>
    intro M x5 H locs ls hF
    have h0 : (none : Option (Int32 × MS)) = some (r0, M0) := hF
    cases h0
  | succ n ih =>
    intro M x5 H locs ls hF hI hl
    rw [f_notes_L4] at hF
    refine lv_iload hx hb dX9_notes_4 (lv_at hl 0 rfl) ?_
    refine lv_iconst (v := 4) hx hb dX9_notes_6 (by decide) ?_
    refine lv_icmp_lt (tgt := 40) hx hb dX9_notes_7 (by decide) (fun c1 => ?_) (fun c1 => ?_)
    · have hF := if_t hF c1
      exact K _ _ _ _ hF hI (lv_sub hl [1, 2, 3, 4, 5] rfl)
    · have hF := if_f hF c1
      refine lv_aload_n hx hb dX9_notes_10 rfl (lv_at hl 1 rfl) ?_
      refine md_g6 hC hI dX9_notes_11 ?_
      refine lv_sipush (v := 196) hx hb dX9_notes_14 (by decide) ?_
      refine lv_iload hx hb dX9_notes_17 (lv_at hl 0 rfl) ?_
      refine lv_iadd hx hb dX9_notes_19 ?_
      refine lv_aload_n hx hb dX9_notes_20 rfl (lv_at hl 1 rfl) ?_
      refine md_g6 hC hI dX9_notes_21 ?_
      refine lv_sipush (v := 196) hx hb dX9_notes_24 (by decide) ?_
      refine lv_iload hx hb dX9_notes_27 (lv_at hl 0 rfl) ?_
      refine lv_iadd hx hb dX9_notes_29 ?_
      refine lv_iconst (v := 4) hx hb dX9_notes_30 (by decide) ?_
      refine lv_isub hx hb dX9_notes_31 ?_
      obtain ⟨hg2, hF⟩ := gd_some hF
      refine md_l1 hC hI hg2 dX9_notes_32 ?_
      obtain ⟨hg3, hF⟩ := gd_some hF
      obtain ⟨M4, hM4, hF⟩ := lt_some hF
      refine md_s1 hC hI hg3 hM4 dX9_notes_33 (fun H locs hI => ?_)
      obtain ⟨x5_5, hx5_5, hF⟩ := lt_some hF
      refine mo_inc (k := 0) (lv' := [(5, .int x5_5), (0, .ref o), (1, .int a1), (2, .int a2), (3, .int a3), (4, .int a4)]) hx hb hx5_5 (by decide) dX9_notes_34 hl rfl (by decide) rfl (fun ls hl => ?_)
      refine lv_goto (tgt := 4) hx hb dX9_notes_37 (by decide) ?_
      exact ih _ _ _ _ _ hF hI (lv_sub hl [0, 1, 2, 3, 4, 5] rfl)
set_option maxHeartbeats 4000000 in
theorem w_notes (l : Launch) (G : va_G) (ai : Nat → ClassId) (o : Nat) (ar : Nat → Nat) (M : MS) (a1 : Int32) (a2 : Int32) (a3 : Int32) (a4 : Int32) (r0 : Int32) (M0 : MS) (hF : f_notes M a1 a2 a3 a4 = some (r0, M0)) : md_Mv l G ai o ar yX9_notes cX9_notes 6 ({ frames := 1, cells := 0, slots := 0, locals := 21 } : Room) [.ref o, .int a1, .int a2, .int a3, .int a4] M M0 := by
  refine mo_body (Qc := fun A => va_Qv (fun (M2 : MS) => M2 = M0) (gw_E G ai (md_W ai o ar) A) A) (by decide) (Nat.le_of_ble_eq_true rfl) ?_
  intro p e s m args below meth c A ls hC hr hI hl _
  have hx := hC.1
  have hb := hC.2.1
  have hl : lv_has ls 6 [(0, .ref o), (1, .int a1), (2, .int a2), (3, .int a3), (4, .int a4)] := hl
  show W p l e _ s m args below meth c s.heap [] 0 0 (md_Qv below G ai o ar A args s M0) (F0 m 0 ls [])
  rw [f_notes] at hF
  refine lv_bipush (v := 19) hx hb dX9_notes_0 (by decide) ?_
  refine mo_ist4 (lv' := [(5, .int 19), (0, .ref o), (1, .int a1), (2, .int a2), (3, .int a3), (4, .int a4)]) hx hb rfl dX9_notes_2 hl (by decide) rfl (fun ls hl => ?_)
  refine w_notes_L4 hC hr a1 a2 a3 a4 _ (fun M6 H locs ls hF hI hl => ?_) 2000 _ _ _ _ _ hF hI (lv_sub hl [0, 1, 2, 3, 4, 5] rfl)
  refine lv_aload_n hx hb dX9_notes_40 rfl (lv_at hl 0 rfl) ?_
  refine md_g6 hC hI dX9_notes_41 ?_
  refine lv_sipush (v := 196) hx hb dX9_notes_44 (by decide) ?_
  refine lv_iload_n hx hb dX9_notes_47 rfl (lv_at hl 1 rfl) ?_
  obtain ⟨M7, hM7, hF⟩ := lt_some hF
  refine md_s1 hC hI (by decide) hM7 dX9_notes_48 (fun H locs hI => ?_)
  refine lv_aload_n hx hb dX9_notes_49 rfl (lv_at hl 0 rfl) ?_
  refine md_g6 hC hI dX9_notes_50 ?_
  refine lv_sipush (v := 197) hx hb dX9_notes_53 (by decide) ?_
  refine lv_iload_n hx hb dX9_notes_56 rfl (lv_at hl 2 rfl) ?_
  obtain ⟨M8, hM8, hF⟩ := lt_some hF
  refine md_s1 hC hI (by decide) hM8 dX9_notes_57 (fun H locs hI => ?_)
  refine lv_aload_n hx hb dX9_notes_58 rfl (lv_at hl 0 rfl) ?_
  refine md_g6 hC hI dX9_notes_59 ?_
  refine lv_sipush (v := 198) hx hb dX9_notes_62 (by decide) ?_
  refine lv_iload_n hx hb dX9_notes_65 rfl (lv_at hl 3 rfl) ?_
  obtain ⟨M9, hM9, hF⟩ := lt_some hF
  refine md_s1 hC hI (by decide) hM9 dX9_notes_66 (fun H locs hI => ?_)
  refine lv_aload_n hx hb dX9_notes_67 rfl (lv_at hl 0 rfl) ?_
  refine md_g6 hC hI dX9_notes_68 ?_
  refine lv_sipush (v := 199) hx hb dX9_notes_71 (by decide) ?_
  refine lv_iload hx hb dX9_notes_74 (lv_at hl 4 rfl) ?_
  obtain ⟨M10, hM10, hF⟩ := lt_some hF
  refine md_s1 hC hI (by decide) hM10 dX9_notes_76 (fun H locs hI => ?_)
  refine lv_aload_n hx hb dX9_notes_77 rfl (lv_at hl 0 rfl) ?_
  refine md_g6 hC hI dX9_notes_78 ?_
  refine lv_bipush (v := 11) hx hb dX9_notes_81 (by decide) ?_
  refine lv_iconst (v := 5) hx hb dX9_notes_83 (by decide) ?_
  refine lv_aload_n hx hb dX9_notes_84 rfl (lv_at hl 0 rfl) ?_
  refine md_g6 hC hI dX9_notes_85 ?_
  refine lv_bipush (v := 11) hx hb dX9_notes_88 (by decide) ?_
  refine md_l1 hC hI (by decide) dX9_notes_90 ?_
  refine lv_iconst (v := 1) hx hb dX9_notes_91 (by decide) ?_
  refine lv_iadd hx hb dX9_notes_92 ?_
  refine k_lesser (mo_CN hC) (Nat.le_of_ble_eq_true rfl) (Nat.le_of_ble_eq_true rfl) hl.1 (Nat.le_of_ble_eq_true rfl) dX9_notes_93 ?_
  obtain ⟨M11, hM11, hF⟩ := lt_some hF
  refine md_s1 hC hI (by decide) hM11 dX9_notes_96 (fun H locs hI => ?_)
  exact md_vret hC hI hr hF dX9_notes_97
theorem k_notes {p : Program} {l : Launch} {e : Env} {R : Room} {s : State} {m : MethodId} {args : Array Value} {below : List Frame} {meth : Method} {c : Code} {H : Heap} {locs : List Loc} {cells slots : Nat} {Q : State → Prop} {pc : Nat} {ls : Array Slot} {rest : List Value} {G : va_G} {ai : Nat → ClassId} {A : Nat → Prop} {cc : ByteArray} {nL f L kc ks o : Nat} {ar : Nat → Nat} {M M1 : MS} {r1 : Int32} {a1 : Int32} {a2 : Int32} {a3 : Int32} {a4 : Int32} (hC : mo_C p R s m args meth c G ai A RX9 cc nL f L kc ks) (hI : mo_I G A s.heap (md_W ai o ar M) H locs) (hz : f_notes M a1 a2 a3 a4 = some (r1, M1)) (hf : 1 + 1 ≤ f) (hL : 8 + (6 + 11) + 21 ≤ L) (hsz : ls.size = nL) (hW : (rest.map fun v => v.category).sum ≤ 8) (hdg : decode cc pc = .ok (.invokevirtual 171, 3)) (kk : ∀ (H1 : Heap) (locs1 : List Loc), mo_I G A s.heap (md_W ai o ar M1) H1 locs1 → W p l e R s m args below meth c H1 locs1 cells slots Q (F0 m (pc + 3) ls (rest))) (hc0 : cells ≤ kc := by first | exact Nat.zero_le _ | assumption) (hs0 : slots ≤ ks := by first | exact Nat.zero_le _ | assumption) : W p l e R s m args below meth c H locs cells slots Q (F0 m pc ls (.int a4 :: .int a3 :: .int a2 :: .int a1 :: .ref o :: rest)) := by
  have hI : mo_I G A s.heap (md_W ai o ar M ++ []) H locs := by rw [List.append_nil]; exact hI
  refine gw_cVv (As := [.int a1, .int a2, .int a3, .int a4]) (mc := 0) (ms := 0) (fs := md_F ar M) hC 4 hI (w_notes l G ai o ar M a1 a2 a3 a4 r1 M1 hz) 0 0 rfl rfl q2257 q2259 qs98 q142 q2260 rfl rfl (by decide +kernel) rfl hf hL hc0 hs0 hsz rfl hW hdg (fun u H1 locs1 hp hI1 => ?_)
  obtain rfl := hp
  rw [List.append_nil] at hI1
  exact kk H1 locs1 hI1
def f_visits_L106 (a5 : Int32) (a4 : Int32) (a2 : Int32) (a3 : Int32) (kont : MS → Option (Int32 × MS)) : Nat → MS → Int32 → Option (Int32 × MS)
  | 0, _, _ => none
  | n + 1, M, x6 => if x6 < 0 then (kont M) else (ob (f_treads M x6) (fun r28 M29 => gd (gi x6 30) (lj (fun (M32 : MS) (t34 : Int32) => f_visits_L106 a5 a4 a2 a3 kont n M32 t34) (fun j137_34 => if (M29 8 x6.toNatClampNeg) = 0 then (j137_34 M29 (-1)) else (ob (f_next M29 x6) (fun r37 M38 => j137_34 M38 r37))))))
def f_visits (M : MS) (a1 : Int32) (a2 : Int32) (a3 : Int32) : Option (Int32 × MS) := lj (fun (M1 : MS) => ob (f_fail M1 (-1)) (fun r3 M4 => some (r3, M4))) (fun j23_1 => if (p_isIn a1 0 4) = 0 then (j23_1 M) else (if (p_isSquare a2) = 0 then (j23_1 M) else (if (p_isSquare a3) = 0 then (j23_1 M) else (ob (f_pairFor M a1) (fun r9 M10 => if 0 ≤ r9 then (ob (f_mayTread M10 a2) (fun r13 M14 => if r13 = 0 then (ob (f_refusesFoot M14 a2) (fun r55 M56 => some (r55, M56))) else (ob (f_mayTread M14 a3) (fun r17 M18 => if r17 = 0 then (ob (f_refusesFoot M18 a3) (fun r52 M53 => some (r52, M53))) else (ob (f_measures M18 a3) (fun r21 M22 => gd (gi a2 30) (lt ((M22 8 a2.toNatClampNeg)) (fun x5_25 => if 0 ≤ x5_25 then (f_visits_L106 x5_25 r9 a2 a3 (fun M40 => gd (gi (191 + r9) 216) (gd (gi (191 + r9) 216) (lt (rup M40 1 (upd (M40 1) (191 + r9).toNatClampNeg ((M40 1 (191 + r9).toNatClampNeg) - 1))) (fun M43 => ob (f_notes M43 r9 a2 a3 x5_25) (fun r44 M45 => lt (rup M45 1 (upd (M45 1) (8 : Int32).toNatClampNeg ((M45 1 (8 : Int32).toNatClampNeg) + 1))) (fun M47 => lt (rup M47 1 (upd (M47 1) (9 : Int32).toNatClampNeg ((M47 1 (9 : Int32).toNatClampNeg) + (2 + x5_25)))) (fun M48 => some ((2 + x5_25), M48)))))))) 2000 M22 a2) else (ob (f_refuses M22 11 a3) (fun r49 M50 => some (r49, M50))))))))))) else (ob (f_refuses M10 10 a1) (fun r58 M59 => some (r58, M59))))))))
set_option maxHeartbeats 4000000 in
theorem w_visits_L106 {p : Program} {l : Launch} {e : Env} {R : Room} {s : State} {m : MethodId} {args : Array Value} {below : List Frame} {meth : Method} {c : Code} {G : va_G} {ai : Nat → ClassId} {A : Nat → Prop} {o : Nat} {ar : Nat → Nat} {r0 : Int32} {M0 : MS} (hC : mo_C p R s m args meth c G ai A RX9 cX9_visits 7 3 69 0 0) (hr : meth.sig.returnType = (some .int)) (a5 : Int32) (a4 : Int32) (a2 : Int32) (a3 : Int32) (kont : MS → Option (Int32 × MS)) (K : ∀ (M : MS) (H : Heap) (locs : List Loc) (ls : Array Slot), kont M = some (r0, M0) → mo_I G A s.heap (md_W ai o ar M) H locs → lv_has ls 7 [(5, .int a5), (4, .int a4), (0, .ref o), (2, .int a2), (3, .int a3)] → W p l e R s m args below meth c H locs 0 0 (md_Q below G ai o ar A args s r0 M0) (F0 m 142 ls [])) :
    ∀ (n : Nat) (M : MS) (x6 : Int32) (H : Heap) (locs : List Loc) (ls : Array Slot), f_visits_L106 a5 a4 a2 a3 kont n M x6 = some (r0, M0) → mo_I G A s.heap (md_W ai o ar M) H locs → lv_has ls 7 [(6, .int x6), (5, .int a5), (4, .int a4), (0, .ref o), (2, .int a2), (3, .int a3)] → W p l e R s m args below meth c H locs 0 0 (md_Q below G ai o ar A args s r0 M0) (F0 m 106 ls []) := by
  have hx := hC.1
  have hb := hC.2.1
  intro n
  induction n with
  | zero =>
    intro M x6 H locs ls hF
    have h0 : (none : Option (Int32 × MS)) = some (r0, M0) := hF
    cases h0
  | succ n ih =>
    intro M x6 H locs ls hF hI hl
    rw [f_visits_L106] at hF
    refine lv_iload hx hb dX9_visits_106 (lv_at hl 0 rfl) ?_
    refine lv_if_lt (tgt := 142) hx hb dX9_visits_108 (by decide) (fun c27 => ?_) (fun c27 => ?_)
    · have hF := if_t hF c27
      exact K _ _ _ _ hF hI (lv_sub hl [1, 2, 3, 4, 5] rfl)
    · have hF := if_f hF c27
      refine lv_aload_n hx hb dX9_visits_111 rfl (lv_at hl 3 rfl) ?_
      refine lv_iload hx hb dX9_visits_112 (lv_at hl 0 rfl) ?_
      obtain ⟨r28, M29, hz30, hF⟩ := ob_some hF
      refine k_treads hC hI hz30 (Nat.le_of_ble_eq_true rfl) (Nat.le_of_ble_eq_true rfl) hl.1 (Nat.le_of_ble_eq_true rfl) dX9_visits_114 (fun H locs hI => ?_)
      refine lv_aload_n hx hb dX9_visits_117 rfl (lv_at hl 3 rfl) ?_
      refine md_g13 hC hI dX9_visits_118 ?_
      refine lv_iload hx hb dX9_visits_121 (lv_at hl 0 rfl) ?_
      obtain ⟨hg31, hF⟩ := gd_some hF
      refine md_l8 hC hI hg31 dX9_visits_123 ?_
      obtain ⟨j137_34, hj137_34, hF⟩ := lj_some hF
      have J137 : ∀ (M32 : MS) (t34 : Int32) (H : Heap) (locs : List Loc) (ls : Array Slot), j137_34 M32 t34 = some (r0, M0) → mo_I G A s.heap (md_W ai o ar M32) H locs → lv_has ls 7 [(5, .int a5), (4, .int a4), (0, .ref o), (2, .int a2), (3, .int a3)] → W p l e R s m args below meth c H locs 0 0 (md_Q below G ai o ar A args s r0 M0) (F0 m 137 ls [.int t34]) := by
        intro M32 t34 H locs ls hF hI hl
        rw [hj137_34] at hF
        refine mo_ist4 (lv' := [(6, .int t34), (5, .int a5), (4, .int a4), (0, .ref o), (2, .int a2), (3, .int a3)]) hx hb rfl dX9_visits_137 hl (by decide) rfl (fun ls hl => ?_)
        refine lv_goto (tgt := 106) hx hb dX9_visits_139 (by decide) ?_
        exact ih _ _ _ _ _ hF hI (lv_sub hl [0, 1, 2, 3, 4, 5] rfl)
      refine lv_if_ne (tgt := 131) hx hb dX9_visits_124 (by decide) (fun c36 => ?_) (fun c36 => ?_)
      · have hF := if_f hF c36
        refine lv_aload_n hx hb dX9_visits_131 rfl (lv_at hl 3 rfl) ?_
        refine lv_iload hx hb dX9_visits_132 (lv_at hl 0 rfl) ?_
        obtain ⟨r37, M38, hz39, hF⟩ := ob_some hF
        refine k_next hC hI hz39 (Nat.le_of_ble_eq_true rfl) (Nat.le_of_ble_eq_true rfl) hl.1 (Nat.le_of_ble_eq_true rfl) dX9_visits_134 (fun H locs hI => ?_)
        exact J137 _ _ _ _ _ hF hI (lv_sub hl [1, 2, 3, 4, 5] rfl)
      · have hF := if_t hF c36
        refine lv_iconst (v := (-1)) hx hb dX9_visits_127 (by decide) ?_
        refine lv_goto (tgt := 137) hx hb dX9_visits_128 (by decide) ?_
        exact J137 _ _ _ _ _ hF hI (lv_sub hl [1, 2, 3, 4, 5] rfl)
set_option maxHeartbeats 4000000 in
theorem w_visits (l : Launch) (G : va_G) (ai : Nat → ClassId) (o : Nat) (ar : Nat → Nat) (M : MS) (a1 : Int32) (a2 : Int32) (a3 : Int32) (r0 : Int32) (M0 : MS) (hF : f_visits M a1 a2 a3 = some (r0, M0)) : md_M l G ai o ar yX9_visits cX9_visits 7 (some .int) ({ frames := 3, cells := 0, slots := 0, locals := 69 } : Room) [.ref o, .int a1, .int a2, .int a3] M r0 M0 := by
  refine mo_body (Qc := fun A => va_Qi (fun (r' : Int32) (M2 : MS) => r' = r0 ∧ M2 = M0) (gw_E G ai (md_W ai o ar) A) A) (by decide) (Nat.le_of_ble_eq_true rfl) ?_
  intro p e s m args below meth c A ls hC hr hI hl _
  have hx := hC.1
  have hb := hC.2.1
  have hl : lv_has ls 7 [(0, .ref o), (1, .int a1), (2, .int a2), (3, .int a3)] := hl
  show W p l e _ s m args below meth c s.heap [] 0 0 (md_Q below G ai o ar A args s r0 M0) (F0 m 0 ls [])
  rw [f_visits] at hF
  refine lv_iload_n hx hb dX9_visits_0 rfl (lv_at hl 1 rfl) ?_
  refine lv_iconst (v := 0) hx hb dX9_visits_1 (by decide) ?_
  refine lv_iconst (v := 4) hx hb dX9_visits_2 (by decide) ?_
  refine k_isIn (mo_CN hC) (Nat.le_of_ble_eq_true rfl) (Nat.le_of_ble_eq_true rfl) hl.1 (Nat.le_of_ble_eq_true rfl) dX9_visits_3 ?_
  obtain ⟨j23_1, hj23_1, hF⟩ := lj_some hF
  have J23 : ∀ (M1 : MS) (H : Heap) (locs : List Loc) (ls : Array Slot), j23_1 M1 = some (r0, M0) → mo_I G A s.heap (md_W ai o ar M1) H locs → lv_has ls 7 [(0, .ref o)] → W p l e ({ frames := 3, cells := 0, slots := 0, locals := 69 } : Room) s m args below meth c H locs 0 0 (md_Q below G ai o ar A args s r0 M0) (F0 m 23 ls []) := by
    intro M1 H locs ls hF hI hl
    rw [hj23_1] at hF
    refine lv_aload_n hx hb dX9_visits_23 rfl (lv_at hl 0 rfl) ?_
    refine lv_iconst (v := (-1)) hx hb dX9_visits_24 (by decide) ?_
    obtain ⟨r3, M4, hz5, hF⟩ := ob_some hF
    refine k_fail hC hI hz5 (Nat.le_of_ble_eq_true rfl) (Nat.le_of_ble_eq_true rfl) hl.1 (Nat.le_of_ble_eq_true rfl) dX9_visits_25 (fun H locs hI => ?_)
    exact md_iret hC hI hr hF dX9_visits_28
  refine lv_if_eq (tgt := 23) hx hb dX9_visits_6 (by decide) (fun c6 => ?_) (fun c6 => ?_)
  · have hF := if_t hF c6
    exact J23 _ _ _ _ hF hI (lv_sub hl [0] rfl)
  · have hF := if_f hF c6
    refine lv_iload_n hx hb dX9_visits_9 rfl (lv_at hl 2 rfl) ?_
    refine k_isSquare (mo_CN hC) (Nat.le_of_ble_eq_true rfl) (Nat.le_of_ble_eq_true rfl) hl.1 (Nat.le_of_ble_eq_true rfl) dX9_visits_10 ?_
    refine lv_if_eq (tgt := 23) hx hb dX9_visits_13 (by decide) (fun c7 => ?_) (fun c7 => ?_)
    · have hF := if_t hF c7
      exact J23 _ _ _ _ hF hI (lv_sub hl [0] rfl)
    · have hF := if_f hF c7
      refine lv_iload_n hx hb dX9_visits_16 rfl (lv_at hl 3 rfl) ?_
      refine k_isSquare (mo_CN hC) (Nat.le_of_ble_eq_true rfl) (Nat.le_of_ble_eq_true rfl) hl.1 (Nat.le_of_ble_eq_true rfl) dX9_visits_17 ?_
      refine lv_if_ne (tgt := 29) hx hb dX9_visits_20 (by decide) (fun c8 => ?_) (fun c8 => ?_)
      · have hF := if_f hF c8
        refine lv_aload_n hx hb dX9_visits_29 rfl (lv_at hl 0 rfl) ?_
        refine lv_iload_n hx hb dX9_visits_30 rfl (lv_at hl 1 rfl) ?_
        obtain ⟨r9, M10, hz11, hF⟩ := ob_some hF
        refine k_pairFor hC hI hz11 (Nat.le_of_ble_eq_true rfl) (Nat.le_of_ble_eq_true rfl) hl.1 (Nat.le_of_ble_eq_true rfl) dX9_visits_31 (fun H locs hI => ?_)
        refine mo_ist4 (lv' := [(4, .int r9), (0, .ref o), (1, .int a1), (2, .int a2), (3, .int a3)]) hx hb rfl dX9_visits_34 hl (by decide) rfl (fun ls hl => ?_)
        refine lv_iload hx hb dX9_visits_36 (lv_at hl 0 rfl) ?_
        refine lv_if_ge (tgt := 49) hx hb dX9_visits_38 (by decide) (fun c12 => ?_) (fun c12 => ?_)
        · have hF := if_t hF c12
          refine lv_aload_n hx hb dX9_visits_49 rfl (lv_at hl 1 rfl) ?_
          refine lv_iload_n hx hb dX9_visits_50 rfl (lv_at hl 3 rfl) ?_
          obtain ⟨r13, M14, hz15, hF⟩ := ob_some hF
          refine k_mayTread hC hI hz15 (Nat.le_of_ble_eq_true rfl) (Nat.le_of_ble_eq_true rfl) hl.1 (Nat.le_of_ble_eq_true rfl) dX9_visits_51 (fun H locs hI => ?_)
          refine lv_if_ne (tgt := 63) hx hb dX9_visits_54 (by decide) (fun c16 => ?_) (fun c16 => ?_)
          · have hF := if_f hF c16
            refine lv_aload_n hx hb dX9_visits_63 rfl (lv_at hl 1 rfl) ?_
            refine lv_iload_n hx hb dX9_visits_64 rfl (lv_at hl 4 rfl) ?_
            obtain ⟨r17, M18, hz19, hF⟩ := ob_some hF
            refine k_mayTread hC hI hz19 (Nat.le_of_ble_eq_true rfl) (Nat.le_of_ble_eq_true rfl) hl.1 (Nat.le_of_ble_eq_true rfl) dX9_visits_65 (fun H locs hI => ?_)
            refine lv_if_ne (tgt := 77) hx hb dX9_visits_68 (by decide) (fun c20 => ?_) (fun c20 => ?_)
            · have hF := if_f hF c20
              refine lv_aload_n hx hb dX9_visits_77 rfl (lv_at hl 1 rfl) ?_
              refine lv_iload_n hx hb dX9_visits_78 rfl (lv_at hl 4 rfl) ?_
              obtain ⟨r21, M22, hz23, hF⟩ := ob_some hF
              refine k_measures hC hI hz23 (Nat.le_of_ble_eq_true rfl) (Nat.le_of_ble_eq_true rfl) hl.1 (Nat.le_of_ble_eq_true rfl) dX9_visits_79 (fun H locs hI => ?_)
              refine lv_aload_n hx hb dX9_visits_82 rfl (lv_at hl 1 rfl) ?_
              refine md_g13 hC hI dX9_visits_83 ?_
              refine lv_iload_n hx hb dX9_visits_86 rfl (lv_at hl 3 rfl) ?_
              obtain ⟨hg24, hF⟩ := gd_some hF
              refine md_l8 hC hI hg24 dX9_visits_87 ?_
              obtain ⟨x5_25, hx5_25, hF⟩ := lt_some hF
              refine mo_ist4 (lv' := [(5, .int x5_25), (4, .int r9), (0, .ref o), (1, .int a1), (2, .int a2), (3, .int a3)]) hx hb hx5_25 dX9_visits_88 hl (by decide) rfl (fun ls hl => ?_)
              refine lv_iload hx hb dX9_visits_90 (lv_at hl 0 rfl) ?_
              refine lv_if_ge (tgt := 103) hx hb dX9_visits_92 (by decide) (fun c26 => ?_) (fun c26 => ?_)
              · have hF := if_t hF c26
                refine lv_iload_n hx hb dX9_visits_103 rfl (lv_at hl 4 rfl) ?_
                refine mo_ist4 (lv' := [(6, .int a2), (5, .int x5_25), (4, .int r9), (0, .ref o), (1, .int a1), (2, .int a2), (3, .int a3)]) hx hb rfl dX9_visits_104 hl (by decide) rfl (fun ls hl => ?_)
                refine w_visits_L106 hC hr x5_25 r9 a2 a3 _ (fun M40 H locs ls hF hI hl => ?_) 2000 _ _ _ _ _ hF hI (lv_sub hl [0, 1, 2, 3, 5, 6] rfl)
                refine lv_aload_n hx hb dX9_visits_142 rfl (lv_at hl 2 rfl) ?_
                refine md_g6 hC hI dX9_visits_143 ?_
                refine lv_sipush (v := 191) hx hb dX9_visits_146 (by decide) ?_
                refine lv_iload hx hb dX9_visits_149 (lv_at hl 1 rfl) ?_
                refine lv_iadd hx hb dX9_visits_151 ?_
                refine lv_dup2_11 hx hb dX9_visits_152 rfl rfl ?_
                obtain ⟨hg41, hF⟩ := gd_some hF
                refine md_l1 hC hI hg41 dX9_visits_153 ?_
                refine lv_iconst (v := 1) hx hb dX9_visits_154 (by decide) ?_
                refine lv_isub hx hb dX9_visits_155 ?_
                obtain ⟨hg42, hF⟩ := gd_some hF
                obtain ⟨M43, hM43, hF⟩ := lt_some hF
                refine md_s1 hC hI hg42 hM43 dX9_visits_156 (fun H locs hI => ?_)
                refine lv_aload_n hx hb dX9_visits_157 rfl (lv_at hl 2 rfl) ?_
                refine lv_iload hx hb dX9_visits_158 (lv_at hl 1 rfl) ?_
                refine lv_iload_n hx hb dX9_visits_160 rfl (lv_at hl 3 rfl) ?_
                refine lv_iload_n hx hb dX9_visits_161 rfl (lv_at hl 4 rfl) ?_
                refine lv_iload hx hb dX9_visits_162 (lv_at hl 0 rfl) ?_
                obtain ⟨r44, M45, hz46, hF⟩ := ob_some hF
                refine k_notes hC hI hz46 (Nat.le_of_ble_eq_true rfl) (Nat.le_of_ble_eq_true rfl) hl.1 (Nat.le_of_ble_eq_true rfl) dX9_visits_164 (fun H locs hI => ?_)
                refine lv_aload_n hx hb dX9_visits_167 rfl (lv_at hl 2 rfl) ?_
                refine md_g6 hC hI dX9_visits_168 ?_
                refine lv_bipush (v := 8) hx hb dX9_visits_171 (by decide) ?_
                refine lv_dup2_11 hx hb dX9_visits_173 rfl rfl ?_
                refine md_l1 hC hI (by decide) dX9_visits_174 ?_
                refine lv_iconst (v := 1) hx hb dX9_visits_175 (by decide) ?_
                refine lv_iadd hx hb dX9_visits_176 ?_
                obtain ⟨M47, hM47, hF⟩ := lt_some hF
                refine md_s1 hC hI (by decide) hM47 dX9_visits_177 (fun H locs hI => ?_)
                refine lv_aload_n hx hb dX9_visits_178 rfl (lv_at hl 2 rfl) ?_
                refine md_g6 hC hI dX9_visits_179 ?_
                refine lv_bipush (v := 9) hx hb dX9_visits_182 (by decide) ?_
                refine lv_dup2_11 hx hb dX9_visits_184 rfl rfl ?_
                refine md_l1 hC hI (by decide) dX9_visits_185 ?_
                refine lv_iconst (v := 2) hx hb dX9_visits_186 (by decide) ?_
                refine lv_iload hx hb dX9_visits_187 (lv_at hl 0 rfl) ?_
                refine lv_iadd hx hb dX9_visits_189 ?_
                refine lv_iadd hx hb dX9_visits_190 ?_
                obtain ⟨M48, hM48, hF⟩ := lt_some hF
                refine md_s1 hC hI (by decide) hM48 dX9_visits_191 (fun H locs hI => ?_)
                refine lv_iconst (v := 2) hx hb dX9_visits_192 (by decide) ?_
                refine lv_iload hx hb dX9_visits_193 (lv_at hl 0 rfl) ?_
                refine lv_iadd hx hb dX9_visits_195 ?_
                exact md_iret hC hI hr hF dX9_visits_196
              · have hF := if_f hF c26
                refine lv_aload_n hx hb dX9_visits_95 rfl (lv_at hl 2 rfl) ?_
                refine lv_bipush (v := 11) hx hb dX9_visits_96 (by decide) ?_
                refine lv_iload_n hx hb dX9_visits_98 rfl (lv_at hl 5 rfl) ?_
                obtain ⟨r49, M50, hz51, hF⟩ := ob_some hF
                refine k_refuses hC hI hz51 (Nat.le_of_ble_eq_true rfl) (Nat.le_of_ble_eq_true rfl) hl.1 (Nat.le_of_ble_eq_true rfl) dX9_visits_99 (fun H locs hI => ?_)
                exact md_iret hC hI hr hF dX9_visits_102
            · have hF := if_t hF c20
              refine lv_aload_n hx hb dX9_visits_71 rfl (lv_at hl 1 rfl) ?_
              refine lv_iload_n hx hb dX9_visits_72 rfl (lv_at hl 4 rfl) ?_
              obtain ⟨r52, M53, hz54, hF⟩ := ob_some hF
              refine k_refusesFoot hC hI hz54 (Nat.le_of_ble_eq_true rfl) (Nat.le_of_ble_eq_true rfl) hl.1 (Nat.le_of_ble_eq_true rfl) dX9_visits_73 (fun H locs hI => ?_)
              exact md_iret hC hI hr hF dX9_visits_76
          · have hF := if_t hF c16
            refine lv_aload_n hx hb dX9_visits_57 rfl (lv_at hl 1 rfl) ?_
            refine lv_iload_n hx hb dX9_visits_58 rfl (lv_at hl 3 rfl) ?_
            obtain ⟨r55, M56, hz57, hF⟩ := ob_some hF
            refine k_refusesFoot hC hI hz57 (Nat.le_of_ble_eq_true rfl) (Nat.le_of_ble_eq_true rfl) hl.1 (Nat.le_of_ble_eq_true rfl) dX9_visits_59 (fun H locs hI => ?_)
            exact md_iret hC hI hr hF dX9_visits_62
        · have hF := if_f hF c12
          refine lv_aload_n hx hb dX9_visits_41 rfl (lv_at hl 1 rfl) ?_
          refine lv_bipush (v := 10) hx hb dX9_visits_42 (by decide) ?_
          refine lv_iload_n hx hb dX9_visits_44 rfl (lv_at hl 2 rfl) ?_
          obtain ⟨r58, M59, hz60, hF⟩ := ob_some hF
          refine k_refuses hC hI hz60 (Nat.le_of_ble_eq_true rfl) (Nat.le_of_ble_eq_true rfl) hl.1 (Nat.le_of_ble_eq_true rfl) dX9_visits_45 (fun H locs hI => ?_)
          exact md_iret hC hI hr hF dX9_visits_48
      · have hF := if_t hF c8
        exact J23 _ _ _ _ hF hI (lv_sub hl [0] rfl)
theorem k_visits {p : Program} {l : Launch} {e : Env} {R : Room} {s : State} {m : MethodId} {args : Array Value} {below : List Frame} {meth : Method} {c : Code} {H : Heap} {locs : List Loc} {cells slots : Nat} {Q : State → Prop} {pc : Nat} {ls : Array Slot} {rest : List Value} {G : va_G} {ai : Nat → ClassId} {A : Nat → Prop} {cc : ByteArray} {nL f L kc ks o : Nat} {ar : Nat → Nat} {M M1 : MS} {r1 : Int32} {a1 : Int32} {a2 : Int32} {a3 : Int32} (hC : mo_C p R s m args meth c G ai A RX9 cc nL f L kc ks) (hI : mo_I G A s.heap (md_W ai o ar M) H locs) (hz : f_visits M a1 a2 a3 = some (r1, M1)) (hf : 3 + 1 ≤ f) (hL : 8 + (7 + 11) + 69 ≤ L) (hsz : ls.size = nL) (hW : (rest.map fun v => v.category).sum ≤ 8) (hdg : decode cc pc = .ok (.invokevirtual 175, 3)) (kk : ∀ (H1 : Heap) (locs1 : List Loc), mo_I G A s.heap (md_W ai o ar M1) H1 locs1 → W p l e R s m args below meth c H1 locs1 cells slots Q (F0 m (pc + 3) ls (.int r1 :: rest))) (hc0 : cells ≤ kc := by first | exact Nat.zero_le _ | assumption) (hs0 : slots ≤ ks := by first | exact Nat.zero_le _ | assumption) : W p l e R s m args below meth c H locs cells slots Q (F0 m pc ls (.int a3 :: .int a2 :: .int a1 :: .ref o :: rest)) := by
  have hI : mo_I G A s.heap (md_W ai o ar M ++ []) H locs := by rw [List.append_nil]; exact hI
  refine gw_cVi (As := [.int a1, .int a2, .int a3]) (mc := 0) (ms := 0) (fs := md_F ar M) hC 3 hI (w_visits l G ai o ar M a1 a2 a3 r1 M1 hz) 0 0 rfl rfl q2237 q2239 qs93 q142 q2240 rfl rfl (by decide +kernel) rfl hf hL hc0 hs0 hsz rfl hW hdg (fun r u H1 locs1 hp hI1 => ?_)
  obtain ⟨rfl, rfl⟩ := hp
  rw [List.append_nil] at hI1
  exact kk H1 locs1 hI1
def f_pilgrim (M : MS) (a1 : Int32) (a2 : Int32) (a3 : Int32) : Option (Int32 × MS) := ob (f_begins M) (fun r1 M2 => ob (f_visits M2 a1 a2 a3) (fun r4 M5 => ob (f_ends M5 r4) (fun r7 M8 => some (r7, M8))))
set_option maxHeartbeats 4000000 in
theorem w_pilgrim (l : Launch) (G : va_G) (ai : Nat → ClassId) (o : Nat) (ar : Nat → Nat) (M : MS) (a1 : Int32) (a2 : Int32) (a3 : Int32) (r0 : Int32) (M0 : MS) (hF : f_pilgrim M a1 a2 a3 = some (r0, M0)) : md_M l G ai o ar yX9_pilgrim cX9_pilgrim 4 (some .int) ({ frames := 4, cells := 0, slots := 0, locals := 95 } : Room) [.ref o, .int a1, .int a2, .int a3] M r0 M0 := by
  refine mo_body (Qc := fun A => va_Qi (fun (r' : Int32) (M2 : MS) => r' = r0 ∧ M2 = M0) (gw_E G ai (md_W ai o ar) A) A) (by decide) (Nat.le_of_ble_eq_true rfl) ?_
  intro p e s m args below meth c A ls hC hr hI hl _
  have hx := hC.1
  have hb := hC.2.1
  have hl : lv_has ls 4 [(0, .ref o), (1, .int a1), (2, .int a2), (3, .int a3)] := hl
  show W p l e _ s m args below meth c s.heap [] 0 0 (md_Q below G ai o ar A args s r0 M0) (F0 m 0 ls [])
  rw [f_pilgrim] at hF
  refine lv_aload_n hx hb dX9_pilgrim_0 rfl (lv_at hl 0 rfl) ?_
  obtain ⟨r1, M2, hz3, hF⟩ := ob_some hF
  refine k_begins hC hI hz3 (Nat.le_of_ble_eq_true rfl) (Nat.le_of_ble_eq_true rfl) hl.1 (Nat.le_of_ble_eq_true rfl) dX9_pilgrim_1 (fun H locs hI => ?_)
  refine lv_aload_n hx hb dX9_pilgrim_4 rfl (lv_at hl 0 rfl) ?_
  refine lv_aload_n hx hb dX9_pilgrim_5 rfl (lv_at hl 0 rfl) ?_
  refine lv_iload_n hx hb dX9_pilgrim_6 rfl (lv_at hl 1 rfl) ?_
  refine lv_iload_n hx hb dX9_pilgrim_7 rfl (lv_at hl 2 rfl) ?_
  refine lv_iload_n hx hb dX9_pilgrim_8 rfl (lv_at hl 3 rfl) ?_
  obtain ⟨r4, M5, hz6, hF⟩ := ob_some hF
  refine k_visits hC hI hz6 (Nat.le_of_ble_eq_true rfl) (Nat.le_of_ble_eq_true rfl) hl.1 (Nat.le_of_ble_eq_true rfl) dX9_pilgrim_9 (fun H locs hI => ?_)
  obtain ⟨r7, M8, hz9, hF⟩ := ob_some hF
  refine k_ends hC hI hz9 (Nat.le_of_ble_eq_true rfl) (Nat.le_of_ble_eq_true rfl) hl.1 (Nat.le_of_ble_eq_true rfl) dX9_pilgrim_12 (fun H locs hI => ?_)
  exact md_iret hC hI hr hF dX9_pilgrim_15
def f_grows (M : MS) (a1 : Int32) : Option (Int32 × MS) := gd (gi (42 + a1) 216) (lt ((M 1 (42 + a1).toNatClampNeg)) (fun x2_2 => gd (gi (12 + a1) 216) (lt ((M 1 (12 + a1).toNatClampNeg)) (fun x3_4 => if x2_2 = 0 then (some (0, M)) else (gd (gi (72 + a1) 216) (if (M 1 (72 + a1).toNatClampNeg) < 3 then (if (M 1 (1 : Int32).toNatClampNeg) = 0 then (some (0, M)) else (lj (fun (M9 : MS) => lj (fun (M11 : MS) (t13 : Int32) (t14 : Int32) => lt ((p_lesser t13 t14)) (fun x4_16 => gd (gi (42 + a1) 216) (gd (gi (42 + a1) 216) (lt (rup M11 1 (upd (M11 1) (42 + a1).toNatClampNeg ((M11 1 (42 + a1).toNatClampNeg) + x4_16))) (fun M19 => lt (rup M19 1 (upd (M19 1) (5 : Int32).toNatClampNeg ((M19 1 (5 : Int32).toNatClampNeg) + x4_16))) (fun M20 => some (0, M20))))))) (fun j101_14 => if x3_4 < 3 then (j101_14 M9 (20 - x2_2) 1) else (j101_14 M9 (20 - x2_2) 2))) (fun j87_9 => if x3_4 = 0 then (if 3 ≤ (M 1 (1 : Int32).toNatClampNeg) then (j87_9 M) else (some (0, M))) else (j87_9 M)))) else (gd (gi (42 + a1) 216) (gd (gi (42 + a1) 216) (lt (rup M 1 (upd (M 1) (42 + a1).toNatClampNeg ((M 1 (42 + a1).toNatClampNeg) - 1))) (fun M26 => lt (rup M26 1 (upd (M26 1) (6 : Int32).toNatClampNeg ((M26 1 (6 : Int32).toNatClampNeg) + 1))) (fun M27 => some (0, M27))))))))))))
set_option maxHeartbeats 4000000 in
theorem w_grows (l : Launch) (G : va_G) (ai : Nat → ClassId) (o : Nat) (ar : Nat → Nat) (M : MS) (a1 : Int32) (r0 : Int32) (M0 : MS) (hF : f_grows M a1 = some (r0, M0)) : md_Mv l G ai o ar yX9_grows cX9_grows 5 ({ frames := 1, cells := 0, slots := 0, locals := 21 } : Room) [.ref o, .int a1] M M0 := by
  refine mo_body (Qc := fun A => va_Qv (fun (M2 : MS) => M2 = M0) (gw_E G ai (md_W ai o ar) A) A) (by decide) (Nat.le_of_ble_eq_true rfl) ?_
  intro p e s m args below meth c A ls hC hr hI hl _
  have hx := hC.1
  have hb := hC.2.1
  have hl : lv_has ls 5 [(0, .ref o), (1, .int a1)] := hl
  show W p l e _ s m args below meth c s.heap [] 0 0 (md_Qv below G ai o ar A args s M0) (F0 m 0 ls [])
  rw [f_grows] at hF
  refine lv_aload_n hx hb dX9_grows_0 rfl (lv_at hl 0 rfl) ?_
  refine md_g6 hC hI dX9_grows_1 ?_
  refine lv_bipush (v := 42) hx hb dX9_grows_4 (by decide) ?_
  refine lv_iload_n hx hb dX9_grows_6 rfl (lv_at hl 1 rfl) ?_
  refine lv_iadd hx hb dX9_grows_7 ?_
  obtain ⟨hg1, hF⟩ := gd_some hF
  refine md_l1 hC hI hg1 dX9_grows_8 ?_
  obtain ⟨x2_2, hx2_2, hF⟩ := lt_some hF
  refine mo_ist (lv' := [(2, .int x2_2), (0, .ref o), (1, .int a1)]) hx hb hx2_2 dX9_grows_9 rfl hl (by decide) rfl (fun ls hl => ?_)
  refine lv_aload_n hx hb dX9_grows_10 rfl (lv_at hl 1 rfl) ?_
  refine md_g6 hC hI dX9_grows_11 ?_
  refine lv_bipush (v := 12) hx hb dX9_grows_14 (by decide) ?_
  refine lv_iload_n hx hb dX9_grows_16 rfl (lv_at hl 2 rfl) ?_
  refine lv_iadd hx hb dX9_grows_17 ?_
  obtain ⟨hg3, hF⟩ := gd_some hF
  refine md_l1 hC hI hg3 dX9_grows_18 ?_
  obtain ⟨x3_4, hx3_4, hF⟩ := lt_some hF
  refine mo_ist (lv' := [(3, .int x3_4), (2, .int x2_2), (0, .ref o), (1, .int a1)]) hx hb hx3_4 dX9_grows_19 rfl hl (by decide) rfl (fun ls hl => ?_)
  refine lv_iload_n hx hb dX9_grows_20 rfl (lv_at hl 1 rfl) ?_
  refine lv_if_ne (tgt := 25) hx hb dX9_grows_21 (by decide) (fun c5 => ?_) (fun c5 => ?_)
  · have hF := if_f hF c5
    refine lv_aload_n hx hb dX9_grows_25 rfl (lv_at hl 2 rfl) ?_
    refine md_g6 hC hI dX9_grows_26 ?_
    refine lv_bipush (v := 72) hx hb dX9_grows_29 (by decide) ?_
    refine lv_iload_n hx hb dX9_grows_31 rfl (lv_at hl 3 rfl) ?_
    refine lv_iadd hx hb dX9_grows_32 ?_
    obtain ⟨hg6, hF⟩ := gd_some hF
    refine md_l1 hC hI hg6 dX9_grows_33 ?_
    refine lv_iconst (v := 3) hx hb dX9_grows_34 (by decide) ?_
    refine lv_icmp_lt (tgt := 63) hx hb dX9_grows_35 (by decide) (fun c7 => ?_) (fun c7 => ?_)
    · have hF := if_t hF c7
      refine lv_aload_n hx hb dX9_grows_63 rfl (lv_at hl 2 rfl) ?_
      refine md_g6 hC hI dX9_grows_64 ?_
      refine lv_iconst (v := 1) hx hb dX9_grows_67 (by decide) ?_
      refine md_l1 hC hI (by decide) dX9_grows_68 ?_
      refine lv_if_eq (tgt := 86) hx hb dX9_grows_69 (by decide) (fun c8 => ?_) (fun c8 => ?_)
      · have hF := if_t hF c8
        exact md_vret hC hI hr hF dX9_grows_86
      · have hF := if_f hF c8
        refine lv_iload_n hx hb dX9_grows_72 rfl (lv_at hl 0 rfl) ?_
        obtain ⟨j87_9, hj87_9, hF⟩ := lj_some hF
        have J87 : ∀ (M9 : MS) (H : Heap) (locs : List Loc) (ls : Array Slot), j87_9 M9 = some (r0, M0) → mo_I G A s.heap (md_W ai o ar M9) H locs → lv_has ls 5 [(3, .int x3_4), (2, .int x2_2), (0, .ref o), (1, .int a1)] → W p l e ({ frames := 1, cells := 0, slots := 0, locals := 21 } : Room) s m args below meth c H locs 0 0 (md_Qv below G ai o ar A args s M0) (F0 m 87 ls []) := by
          intro M9 H locs ls hF hI hl
          rw [hj87_9] at hF
          refine lv_bipush (v := 20) hx hb dX9_grows_87 (by decide) ?_
          refine lv_iload_n hx hb dX9_grows_89 rfl (lv_at hl 1 rfl) ?_
          refine lv_isub hx hb dX9_grows_90 ?_
          refine lv_iload_n hx hb dX9_grows_91 rfl (lv_at hl 0 rfl) ?_
          refine lv_iconst (v := 3) hx hb dX9_grows_92 (by decide) ?_
          obtain ⟨j101_14, hj101_14, hF⟩ := lj_some hF
          have J101 : ∀ (M11 : MS) (t13 : Int32) (t14 : Int32) (H : Heap) (locs : List Loc) (ls : Array Slot), j101_14 M11 t13 t14 = some (r0, M0) → mo_I G A s.heap (md_W ai o ar M11) H locs → lv_has ls 5 [(0, .ref o), (1, .int a1)] → W p l e ({ frames := 1, cells := 0, slots := 0, locals := 21 } : Room) s m args below meth c H locs 0 0 (md_Qv below G ai o ar A args s M0) (F0 m 101 ls [.int t14, .int t13]) := by
            intro M11 t13 t14 H locs ls hF hI hl
            rw [hj101_14] at hF
            refine k_lesser (mo_CN hC) (Nat.le_of_ble_eq_true rfl) (Nat.le_of_ble_eq_true rfl) hl.1 (Nat.le_of_ble_eq_true rfl) dX9_grows_101 ?_
            obtain ⟨x4_16, hx4_16, hF⟩ := lt_some hF
            refine mo_ist4 (lv' := [(4, .int x4_16), (0, .ref o), (1, .int a1)]) hx hb hx4_16 dX9_grows_104 hl (by decide) rfl (fun ls hl => ?_)
            refine lv_aload_n hx hb dX9_grows_106 rfl (lv_at hl 1 rfl) ?_
            refine md_g6 hC hI dX9_grows_107 ?_
            refine lv_bipush (v := 42) hx hb dX9_grows_110 (by decide) ?_
            refine lv_iload_n hx hb dX9_grows_112 rfl (lv_at hl 2 rfl) ?_
            refine lv_iadd hx hb dX9_grows_113 ?_
            refine lv_dup2_11 hx hb dX9_grows_114 rfl rfl ?_
            obtain ⟨hg17, hF⟩ := gd_some hF
            refine md_l1 hC hI hg17 dX9_grows_115 ?_
            refine lv_iload hx hb dX9_grows_116 (lv_at hl 0 rfl) ?_
            refine lv_iadd hx hb dX9_grows_118 ?_
            obtain ⟨hg18, hF⟩ := gd_some hF
            obtain ⟨M19, hM19, hF⟩ := lt_some hF
            refine md_s1 hC hI hg18 hM19 dX9_grows_119 (fun H locs hI => ?_)
            refine lv_aload_n hx hb dX9_grows_120 rfl (lv_at hl 1 rfl) ?_
            refine md_g6 hC hI dX9_grows_121 ?_
            refine lv_iconst (v := 5) hx hb dX9_grows_124 (by decide) ?_
            refine lv_dup2_11 hx hb dX9_grows_125 rfl rfl ?_
            refine md_l1 hC hI (by decide) dX9_grows_126 ?_
            refine lv_iload hx hb dX9_grows_127 (lv_at hl 0 rfl) ?_
            refine lv_iadd hx hb dX9_grows_129 ?_
            obtain ⟨M20, hM20, hF⟩ := lt_some hF
            refine md_s1 hC hI (by decide) hM20 dX9_grows_130 (fun H locs hI => ?_)
            exact md_vret hC hI hr hF dX9_grows_131
          refine lv_icmp_lt (tgt := 100) hx hb dX9_grows_93 (by decide) (fun c21 => ?_) (fun c21 => ?_)
          · have hF := if_t hF c21
            refine lv_iconst (v := 1) hx hb dX9_grows_100 (by decide) ?_
            exact J101 _ _ _ _ _ _ hF hI (lv_sub hl [2, 3] rfl)
          · have hF := if_f hF c21
            refine lv_iconst (v := 2) hx hb dX9_grows_96 (by decide) ?_
            refine lv_goto (tgt := 101) hx hb dX9_grows_97 (by decide) ?_
            exact J101 _ _ _ _ _ _ hF hI (lv_sub hl [2, 3] rfl)
        refine lv_if_ne (tgt := 87) hx hb dX9_grows_73 (by decide) (fun c22 => ?_) (fun c22 => ?_)
        · have hF := if_f hF c22
          exact J87 _ _ _ _ hF hI (lv_sub hl [0, 1, 2, 3] rfl)
        · have hF := if_t hF c22
          refine lv_aload_n hx hb dX9_grows_76 rfl (lv_at hl 2 rfl) ?_
          refine md_g6 hC hI dX9_grows_77 ?_
          refine lv_iconst (v := 1) hx hb dX9_grows_80 (by decide) ?_
          refine md_l1 hC hI (by decide) dX9_grows_81 ?_
          refine lv_iconst (v := 3) hx hb dX9_grows_82 (by decide) ?_
          refine lv_icmp_ge (tgt := 87) hx hb dX9_grows_83 (by decide) (fun c23 => ?_) (fun c23 => ?_)
          · have hF := if_t hF c23
            exact J87 _ _ _ _ hF hI (lv_sub hl [0, 1, 2, 3] rfl)
          · have hF := if_f hF c23
            exact md_vret hC hI hr hF dX9_grows_86
    · have hF := if_f hF c7
      refine lv_aload_n hx hb dX9_grows_38 rfl (lv_at hl 2 rfl) ?_
      refine md_g6 hC hI dX9_grows_39 ?_
      refine lv_bipush (v := 42) hx hb dX9_grows_42 (by decide) ?_
      refine lv_iload_n hx hb dX9_grows_44 rfl (lv_at hl 3 rfl) ?_
      refine lv_iadd hx hb dX9_grows_45 ?_
      refine lv_dup2_11 hx hb dX9_grows_46 rfl rfl ?_
      obtain ⟨hg24, hF⟩ := gd_some hF
      refine md_l1 hC hI hg24 dX9_grows_47 ?_
      refine lv_iconst (v := 1) hx hb dX9_grows_48 (by decide) ?_
      refine lv_isub hx hb dX9_grows_49 ?_
      obtain ⟨hg25, hF⟩ := gd_some hF
      obtain ⟨M26, hM26, hF⟩ := lt_some hF
      refine md_s1 hC hI hg25 hM26 dX9_grows_50 (fun H locs hI => ?_)
      refine lv_aload_n hx hb dX9_grows_51 rfl (lv_at hl 2 rfl) ?_
      refine md_g6 hC hI dX9_grows_52 ?_
      refine lv_bipush (v := 6) hx hb dX9_grows_55 (by decide) ?_
      refine lv_dup2_11 hx hb dX9_grows_57 rfl rfl ?_
      refine md_l1 hC hI (by decide) dX9_grows_58 ?_
      refine lv_iconst (v := 1) hx hb dX9_grows_59 (by decide) ?_
      refine lv_iadd hx hb dX9_grows_60 ?_
      obtain ⟨M27, hM27, hF⟩ := lt_some hF
      refine md_s1 hC hI (by decide) hM27 dX9_grows_61 (fun H locs hI => ?_)
      exact md_vret hC hI hr hF dX9_grows_62
  · have hF := if_t hF c5
    exact md_vret hC hI hr hF dX9_grows_24
theorem k_grows {p : Program} {l : Launch} {e : Env} {R : Room} {s : State} {m : MethodId} {args : Array Value} {below : List Frame} {meth : Method} {c : Code} {H : Heap} {locs : List Loc} {cells slots : Nat} {Q : State → Prop} {pc : Nat} {ls : Array Slot} {rest : List Value} {G : va_G} {ai : Nat → ClassId} {A : Nat → Prop} {cc : ByteArray} {nL f L kc ks o : Nat} {ar : Nat → Nat} {M M1 : MS} {r1 : Int32} {a1 : Int32} (hC : mo_C p R s m args meth c G ai A RX9 cc nL f L kc ks) (hI : mo_I G A s.heap (md_W ai o ar M) H locs) (hz : f_grows M a1 = some (r1, M1)) (hf : 1 + 1 ≤ f) (hL : 8 + (5 + 11) + 21 ≤ L) (hsz : ls.size = nL) (hW : (rest.map fun v => v.category).sum ≤ 8) (hdg : decode cc pc = .ok (.invokevirtual 182, 3)) (kk : ∀ (H1 : Heap) (locs1 : List Loc), mo_I G A s.heap (md_W ai o ar M1) H1 locs1 → W p l e R s m args below meth c H1 locs1 cells slots Q (F0 m (pc + 3) ls (rest))) (hc0 : cells ≤ kc := by first | exact Nat.zero_le _ | assumption) (hs0 : slots ≤ ks := by first | exact Nat.zero_le _ | assumption) : W p l e R s m args below meth c H locs cells slots Q (F0 m pc ls (.int a1 :: .ref o :: rest)) := by
  have hI : mo_I G A s.heap (md_W ai o ar M ++ []) H locs := by rw [List.append_nil]; exact hI
  refine gw_cVv (As := [.int a1]) (mc := 0) (ms := 0) (fs := md_F ar M) hC 1 hI (w_grows l G ai o ar M a1 r1 M1 hz) 0 0 rfl rfl q2273 q2275 qs101 q142 q2276 rfl rfl (by decide +kernel) rfl hf hL hc0 hs0 hsz rfl hW hdg (fun u H1 locs1 hp hI1 => ?_)
  obtain rfl := hp
  rw [List.append_nil] at hI1
  exact kk H1 locs1 hI1
def f_richest_L4 (a1 : Int32) (kont : MS → Int32 → Option (Int32 × MS)) : Nat → MS → Int32 → Int32 → Option (Int32 × MS)
  | 0, _, _, _ => none
  | n + 1, M, x3, x2 => if 4 ≤ x3 then (kont M x2) else (lt ((p_beside a1 x3)) (fun x4_3 => lj (fun (M4 : MS) (x2_5 : Int32) => lt (x3 + 1) (fun x3_7 => f_richest_L4 a1 kont n M4 x3_7 x2_5)) (fun j62_5 => if x4_3 < 0 then (j62_5 M x2) else (ob (f_isStone M x4_3) (fun r9 M10 => if r9 = 0 then (lj (fun (M13 : MS) => j62_5 M13 x4_3) (fun j59_13 => if x2 < 0 then (j59_13 M10) else (gd (gi (42 + x4_3) 216) (gd (gi (42 + x2) 216) (if (M10 1 (42 + x4_3).toNatClampNeg) ≤ (M10 1 (42 + x2).toNatClampNeg) then (j62_5 M10 x2) else (j59_13 M10)))))) else (j62_5 M10 x2))))))
def f_richest (M : MS) (a1 : Int32) : Option (Int32 × MS) := lt ((-1)) (fun x2_1 => f_richest_L4 a1 (fun M19 x2_20 => some (x2_20, M19)) 2000 M 0 x2_1)
set_option maxHeartbeats 4000000 in
theorem w_richest_L4 {p : Program} {l : Launch} {e : Env} {R : Room} {s : State} {m : MethodId} {args : Array Value} {below : List Frame} {meth : Method} {c : Code} {G : va_G} {ai : Nat → ClassId} {A : Nat → Prop} {o : Nat} {ar : Nat → Nat} {r0 : Int32} {M0 : MS} (hC : mo_C p R s m args meth c G ai A RX9 cX9_richest 5 1 23 0 0) (hr : meth.sig.returnType = (some .int)) (a1 : Int32) (kont : MS → Int32 → Option (Int32 × MS)) (K : ∀ (M : MS) (x2 : Int32) (H : Heap) (locs : List Loc) (ls : Array Slot), kont M x2 = some (r0, M0) → mo_I G A s.heap (md_W ai o ar M) H locs → lv_has ls 5 [(2, .int x2)] → W p l e R s m args below meth c H locs 0 0 (md_Q below G ai o ar A args s r0 M0) (F0 m 68 ls [])) :
    ∀ (n : Nat) (M : MS) (x3 : Int32) (x2 : Int32) (H : Heap) (locs : List Loc) (ls : Array Slot), f_richest_L4 a1 kont n M x3 x2 = some (r0, M0) → mo_I G A s.heap (md_W ai o ar M) H locs → lv_has ls 5 [(3, .int x3), (2, .int x2), (0, .ref o), (1, .int a1)] → W p l e R s m args below meth c H locs 0 0 (md_Q below G ai o ar A args s r0 M0) (F0 m 4 ls []) := by
  have hx := hC.1
  have hb := hC.2.1
  intro n
  induction n with
  | zero =>
    intro M x3 x2 H locs ls hF
    have h0 : (none : Option (Int32 × MS)) = some (r0, M0) := hF
    cases h0
  | succ n ih =>
    intro M x3 x2 H locs ls hF hI hl
    rw [f_richest_L4] at hF
    refine lv_iload_n hx hb dX9_richest_4 rfl (lv_at hl 0 rfl) ?_
    refine lv_iconst (v := 4) hx hb dX9_richest_5 (by decide) ?_
    refine lv_icmp_ge (tgt := 68) hx hb dX9_richest_6 (by decide) (fun c2 => ?_) (fun c2 => ?_)
    · have hF := if_t hF c2
      exact K _ _ _ _ _ hF hI (lv_sub hl [1] rfl)
    · have hF := if_f hF c2
      refine lv_iload_n hx hb dX9_richest_9 rfl (lv_at hl 3 rfl) ?_
      refine lv_iload_n hx hb dX9_richest_10 rfl (lv_at hl 0 rfl) ?_
      refine k_beside (mo_CN hC) (Nat.le_of_ble_eq_true rfl) (Nat.le_of_ble_eq_true rfl) hl.1 (Nat.le_of_ble_eq_true rfl) dX9_richest_11 ?_
      obtain ⟨x4_3, hx4_3, hF⟩ := lt_some hF
      refine mo_ist4 (lv' := [(4, .int x4_3), (3, .int x3), (2, .int x2), (0, .ref o), (1, .int a1)]) hx hb hx4_3 dX9_richest_14 hl (by decide) rfl (fun ls hl => ?_)
      refine lv_iload hx hb dX9_richest_16 (lv_at hl 0 rfl) ?_
      obtain ⟨j62_5, hj62_5, hF⟩ := lj_some hF
      have J62 : ∀ (M4 : MS) (x2_5 : Int32) (H : Heap) (locs : List Loc) (ls : Array Slot), j62_5 M4 x2_5 = some (r0, M0) → mo_I G A s.heap (md_W ai o ar M4) H locs → lv_has ls 5 [(3, .int x3), (2, .int x2_5), (0, .ref o), (1, .int a1)] → W p l e R s m args below meth c H locs 0 0 (md_Q below G ai o ar A args s r0 M0) (F0 m 62 ls []) := by
        intro M4 x2_5 H locs ls hF hI hl
        rw [hj62_5] at hF
        obtain ⟨x3_7, hx3_7, hF⟩ := lt_some hF
        refine mo_inc (k := 0) (lv' := [(3, .int x3_7), (2, .int x2_5), (0, .ref o), (1, .int a1)]) hx hb hx3_7 (by decide) dX9_richest_62 hl rfl (by decide) rfl (fun ls hl => ?_)
        refine lv_goto (tgt := 4) hx hb dX9_richest_65 (by decide) ?_
        exact ih _ _ _ _ _ _ hF hI (lv_sub hl [0, 1, 2, 3] rfl)
      refine lv_if_lt (tgt := 62) hx hb dX9_richest_18 (by decide) (fun c8 => ?_) (fun c8 => ?_)
      · have hF := if_t hF c8
        exact J62 _ _ _ _ _ hF hI (lv_sub hl [1, 2, 3, 4] rfl)
      · have hF := if_f hF c8
        refine lv_aload_n hx hb dX9_richest_21 rfl (lv_at hl 3 rfl) ?_
        refine lv_iload hx hb dX9_richest_22 (lv_at hl 0 rfl) ?_
        obtain ⟨r9, M10, hz11, hF⟩ := ob_some hF
        refine k_isStone hC hI hz11 (Nat.le_of_ble_eq_true rfl) (Nat.le_of_ble_eq_true rfl) hl.1 (Nat.le_of_ble_eq_true rfl) dX9_richest_24 (fun H locs hI => ?_)
        refine lv_if_eq (tgt := 33) hx hb dX9_richest_27 (by decide) (fun c12 => ?_) (fun c12 => ?_)
        · have hF := if_t hF c12
          refine lv_iload_n hx hb dX9_richest_33 rfl (lv_at hl 2 rfl) ?_
          obtain ⟨j59_13, hj59_13, hF⟩ := lj_some hF
          have J59 : ∀ (M13 : MS) (H : Heap) (locs : List Loc) (ls : Array Slot), j59_13 M13 = some (r0, M0) → mo_I G A s.heap (md_W ai o ar M13) H locs → lv_has ls 5 [(4, .int x4_3), (3, .int x3), (0, .ref o), (1, .int a1)] → W p l e R s m args below meth c H locs 0 0 (md_Q below G ai o ar A args s r0 M0) (F0 m 59 ls []) := by
            intro M13 H locs ls hF hI hl
            rw [hj59_13] at hF
            refine lv_iload hx hb dX9_richest_59 (lv_at hl 0 rfl) ?_
            refine mo_ist (lv' := [(2, .int x4_3), (4, .int x4_3), (3, .int x3), (0, .ref o), (1, .int a1)]) hx hb rfl dX9_richest_61 rfl hl (by decide) rfl (fun ls hl => ?_)
            exact J62 _ _ _ _ _ hF hI (lv_sub hl [2, 0, 3, 4] rfl)
          refine lv_if_lt (tgt := 59) hx hb dX9_richest_34 (by decide) (fun c15 => ?_) (fun c15 => ?_)
          · have hF := if_t hF c15
            exact J59 _ _ _ _ hF hI (lv_sub hl [0, 1, 3, 4] rfl)
          · have hF := if_f hF c15
            refine lv_aload_n hx hb dX9_richest_37 rfl (lv_at hl 3 rfl) ?_
            refine md_g6 hC hI dX9_richest_38 ?_
            refine lv_bipush (v := 42) hx hb dX9_richest_41 (by decide) ?_
            refine lv_iload hx hb dX9_richest_43 (lv_at hl 0 rfl) ?_
            refine lv_iadd hx hb dX9_richest_45 ?_
            obtain ⟨hg16, hF⟩ := gd_some hF
            refine md_l1 hC hI hg16 dX9_richest_46 ?_
            refine lv_aload_n hx hb dX9_richest_47 rfl (lv_at hl 3 rfl) ?_
            refine md_g6 hC hI dX9_richest_48 ?_
            refine lv_bipush (v := 42) hx hb dX9_richest_51 (by decide) ?_
            refine lv_iload_n hx hb dX9_richest_53 rfl (lv_at hl 2 rfl) ?_
            refine lv_iadd hx hb dX9_richest_54 ?_
            obtain ⟨hg17, hF⟩ := gd_some hF
            refine md_l1 hC hI hg17 dX9_richest_55 ?_
            refine lv_icmp_le (tgt := 62) hx hb dX9_richest_56 (by decide) (fun c18 => ?_) (fun c18 => ?_)
            · have hF := if_t hF c18
              exact J62 _ _ _ _ _ hF hI (lv_sub hl [1, 2, 3, 4] rfl)
            · have hF := if_f hF c18
              exact J59 _ _ _ _ hF hI (lv_sub hl [0, 1, 3, 4] rfl)
        · have hF := if_f hF c12
          refine lv_goto (tgt := 62) hx hb dX9_richest_30 (by decide) ?_
          exact J62 _ _ _ _ _ hF hI (lv_sub hl [1, 2, 3, 4] rfl)
set_option maxHeartbeats 4000000 in
theorem w_richest (l : Launch) (G : va_G) (ai : Nat → ClassId) (o : Nat) (ar : Nat → Nat) (M : MS) (a1 : Int32) (r0 : Int32) (M0 : MS) (hF : f_richest M a1 = some (r0, M0)) : md_M l G ai o ar yX9_richest cX9_richest 5 (some .int) ({ frames := 1, cells := 0, slots := 0, locals := 23 } : Room) [.ref o, .int a1] M r0 M0 := by
  refine mo_body (Qc := fun A => va_Qi (fun (r' : Int32) (M2 : MS) => r' = r0 ∧ M2 = M0) (gw_E G ai (md_W ai o ar) A) A) (by decide) (Nat.le_of_ble_eq_true rfl) ?_
  intro p e s m args below meth c A ls hC hr hI hl _
  have hx := hC.1
  have hb := hC.2.1
  have hl : lv_has ls 5 [(0, .ref o), (1, .int a1)] := hl
  show W p l e _ s m args below meth c s.heap [] 0 0 (md_Q below G ai o ar A args s r0 M0) (F0 m 0 ls [])
  rw [f_richest] at hF
  refine lv_iconst (v := (-1)) hx hb dX9_richest_0 (by decide) ?_
  obtain ⟨x2_1, hx2_1, hF⟩ := lt_some hF
  refine mo_ist (lv' := [(2, .int x2_1), (0, .ref o), (1, .int a1)]) hx hb hx2_1 dX9_richest_1 rfl hl (by decide) rfl (fun ls hl => ?_)
  refine lv_iconst (v := 0) hx hb dX9_richest_2 (by decide) ?_
  refine mo_ist (lv' := [(3, .int 0), (2, .int x2_1), (0, .ref o), (1, .int a1)]) hx hb rfl dX9_richest_3 rfl hl (by decide) rfl (fun ls hl => ?_)
  refine w_richest_L4 hC hr a1 _ (fun M19 x2_20 H locs ls hF hI hl => ?_) 2000 _ _ _ _ _ _ hF hI (lv_sub hl [0, 1, 2, 3] rfl)
  refine lv_iload_n hx hb dX9_richest_68 rfl (lv_at hl 0 rfl) ?_
  exact md_iret hC hI hr hF dX9_richest_69
theorem k_richest {p : Program} {l : Launch} {e : Env} {R : Room} {s : State} {m : MethodId} {args : Array Value} {below : List Frame} {meth : Method} {c : Code} {H : Heap} {locs : List Loc} {cells slots : Nat} {Q : State → Prop} {pc : Nat} {ls : Array Slot} {rest : List Value} {G : va_G} {ai : Nat → ClassId} {A : Nat → Prop} {cc : ByteArray} {nL f L kc ks o : Nat} {ar : Nat → Nat} {M M1 : MS} {r1 : Int32} {a1 : Int32} (hC : mo_C p R s m args meth c G ai A RX9 cc nL f L kc ks) (hI : mo_I G A s.heap (md_W ai o ar M) H locs) (hz : f_richest M a1 = some (r1, M1)) (hf : 1 + 1 ≤ f) (hL : 8 + (5 + 11) + 23 ≤ L) (hsz : ls.size = nL) (hW : (rest.map fun v => v.category).sum ≤ 8) (hdg : decode cc pc = .ok (.invokevirtual 179, 3)) (kk : ∀ (H1 : Heap) (locs1 : List Loc), mo_I G A s.heap (md_W ai o ar M1) H1 locs1 → W p l e R s m args below meth c H1 locs1 cells slots Q (F0 m (pc + 3) ls (.int r1 :: rest))) (hc0 : cells ≤ kc := by first | exact Nat.zero_le _ | assumption) (hs0 : slots ≤ ks := by first | exact Nat.zero_le _ | assumption) : W p l e R s m args below meth c H locs cells slots Q (F0 m pc ls (.int a1 :: .ref o :: rest)) := by
  have hI : mo_I G A s.heap (md_W ai o ar M ++ []) H locs := by rw [List.append_nil]; exact hI
  refine gw_cVi (As := [.int a1]) (mc := 0) (ms := 0) (fs := md_F ar M) hC 1 hI (w_richest l G ai o ar M a1 r1 M1 hz) 0 0 rfl rfl q2281 q2283 qs103 q142 q2284 rfl rfl (by decide +kernel) rfl hf hL hc0 hs0 hsz rfl hW hdg (fun r u H1 locs1 hp hI1 => ?_)
  obtain ⟨rfl, rfl⟩ := hp
  rw [List.append_nil] at hI1
  exact kk H1 locs1 hI1
def f_digs (M : MS) (a1 : Int32) : Option (Int32 × MS) := gd (gi (p_moleAt a1 0) 216) (lt ((M 1 (p_moleAt a1 0).toNatClampNeg)) (fun x2_2 => gd (gi (42 + x2_2) 216) (gd (gi (42 + x2_2) 216) (lt (((M 1 (42 + x2_2).toNatClampNeg) - ((M 1 (42 + x2_2).toNatClampNeg) / 2))) (fun x3_5 => ob (f_richest M x2_2) (fun r6 M7 => gd (gi (42 + x2_2) 216) (gd (gi (42 + x2_2) 216) (lt (rup M7 1 (upd (M7 1) (42 + x2_2).toNatClampNeg ((M7 1 (42 + x2_2).toNatClampNeg) - x3_5))) (fun M11 => lt (rup M11 1 (upd (M11 1) (6 : Int32).toNatClampNeg ((M11 1 (6 : Int32).toNatClampNeg) + x3_5))) (fun M12 => gd (gi (p_moleAt a1 2) 216) (gd (gi (p_moleAt a1 2) 216) (lt (rup M12 1 (upd (M12 1) (p_moleAt a1 2).toNatClampNeg ((M12 1 (p_moleAt a1 2).toNatClampNeg) + x3_5))) (fun M15 => if 0 ≤ r6 then (gd (gi (p_moleAt a1 0) 216) (lt (rup M15 1 (upd (M15 1) (p_moleAt a1 0).toNatClampNeg r6)) (fun M18 => gd (gi (132 + r6) 216) (if (M18 1 (132 + r6).toNatClampNeg) = 0 then (some (0, M18)) else (gd (gi (132 + r6) 216) (lt (rup M18 1 (upd (M18 1) (132 + r6).toNatClampNeg 0)) (fun M22 => gd (gi (p_moleAt a1 1) 216) (lt (rup M22 1 (upd (M22 1) (p_moleAt a1 1).toNatClampNeg 1)) (fun M24 => some (1, M24)))))))))) else (some (0, M15)))))))))))))))
set_option maxHeartbeats 4000000 in
theorem w_digs (l : Launch) (G : va_G) (ai : Nat → ClassId) (o : Nat) (ar : Nat → Nat) (M : MS) (a1 : Int32) (r0 : Int32) (M0 : MS) (hF : f_digs M a1 = some (r0, M0)) : md_M l G ai o ar yX9_digs cX9_digs 5 (some .boolean) ({ frames := 2, cells := 0, slots := 0, locals := 47 } : Room) [.ref o, .int a1] M r0 M0 := by
  refine mo_body (Qc := fun A => va_Qi (fun (r' : Int32) (M2 : MS) => r' = r0 ∧ M2 = M0) (gw_E G ai (md_W ai o ar) A) A) (by decide) (Nat.le_of_ble_eq_true rfl) ?_
  intro p e s m args below meth c A ls hC hr hI hl _
  have hx := hC.1
  have hb := hC.2.1
  have hl : lv_has ls 5 [(0, .ref o), (1, .int a1)] := hl
  show W p l e _ s m args below meth c s.heap [] 0 0 (md_Q below G ai o ar A args s r0 M0) (F0 m 0 ls [])
  rw [f_digs] at hF
  refine lv_aload_n hx hb dX9_digs_0 rfl (lv_at hl 0 rfl) ?_
  refine md_g6 hC hI dX9_digs_1 ?_
  refine lv_iload_n hx hb dX9_digs_4 rfl (lv_at hl 1 rfl) ?_
  refine lv_iconst (v := 0) hx hb dX9_digs_5 (by decide) ?_
  refine k_moleAt (mo_CN hC) (Nat.le_of_ble_eq_true rfl) (Nat.le_of_ble_eq_true rfl) hl.1 (Nat.le_of_ble_eq_true rfl) dX9_digs_6 ?_
  obtain ⟨hg1, hF⟩ := gd_some hF
  refine md_l1 hC hI hg1 dX9_digs_9 ?_
  obtain ⟨x2_2, hx2_2, hF⟩ := lt_some hF
  refine mo_ist (lv' := [(2, .int x2_2), (0, .ref o), (1, .int a1)]) hx hb hx2_2 dX9_digs_10 rfl hl (by decide) rfl (fun ls hl => ?_)
  refine lv_aload_n hx hb dX9_digs_11 rfl (lv_at hl 1 rfl) ?_
  refine md_g6 hC hI dX9_digs_12 ?_
  refine lv_bipush (v := 42) hx hb dX9_digs_15 (by decide) ?_
  refine lv_iload_n hx hb dX9_digs_17 rfl (lv_at hl 0 rfl) ?_
  refine lv_iadd hx hb dX9_digs_18 ?_
  obtain ⟨hg3, hF⟩ := gd_some hF
  refine md_l1 hC hI hg3 dX9_digs_19 ?_
  refine lv_aload_n hx hb dX9_digs_20 rfl (lv_at hl 1 rfl) ?_
  refine md_g6 hC hI dX9_digs_21 ?_
  refine lv_bipush (v := 42) hx hb dX9_digs_24 (by decide) ?_
  refine lv_iload_n hx hb dX9_digs_26 rfl (lv_at hl 0 rfl) ?_
  refine lv_iadd hx hb dX9_digs_27 ?_
  obtain ⟨hg4, hF⟩ := gd_some hF
  refine md_l1 hC hI hg4 dX9_digs_28 ?_
  refine lv_iconst (v := 2) hx hb dX9_digs_29 (by decide) ?_
  refine lv_idiv hx hb dX9_digs_30 (by decide) ?_
  refine lv_isub hx hb dX9_digs_31 ?_
  obtain ⟨x3_5, hx3_5, hF⟩ := lt_some hF
  refine mo_ist (lv' := [(3, .int x3_5), (2, .int x2_2), (0, .ref o), (1, .int a1)]) hx hb hx3_5 dX9_digs_32 rfl hl (by decide) rfl (fun ls hl => ?_)
  refine lv_aload_n hx hb dX9_digs_33 rfl (lv_at hl 2 rfl) ?_
  refine lv_iload_n hx hb dX9_digs_34 rfl (lv_at hl 1 rfl) ?_
  obtain ⟨r6, M7, hz8, hF⟩ := ob_some hF
  refine k_richest hC hI hz8 (Nat.le_of_ble_eq_true rfl) (Nat.le_of_ble_eq_true rfl) hl.1 (Nat.le_of_ble_eq_true rfl) dX9_digs_35 (fun H locs hI => ?_)
  refine mo_ist4 (lv' := [(4, .int r6), (3, .int x3_5), (2, .int x2_2), (0, .ref o), (1, .int a1)]) hx hb rfl dX9_digs_38 hl (by decide) rfl (fun ls hl => ?_)
  refine lv_aload_n hx hb dX9_digs_40 rfl (lv_at hl 3 rfl) ?_
  refine md_g6 hC hI dX9_digs_41 ?_
  refine lv_bipush (v := 42) hx hb dX9_digs_44 (by decide) ?_
  refine lv_iload_n hx hb dX9_digs_46 rfl (lv_at hl 2 rfl) ?_
  refine lv_iadd hx hb dX9_digs_47 ?_
  refine lv_dup2_11 hx hb dX9_digs_48 rfl rfl ?_
  obtain ⟨hg9, hF⟩ := gd_some hF
  refine md_l1 hC hI hg9 dX9_digs_49 ?_
  refine lv_iload_n hx hb dX9_digs_50 rfl (lv_at hl 1 rfl) ?_
  refine lv_isub hx hb dX9_digs_51 ?_
  obtain ⟨hg10, hF⟩ := gd_some hF
  obtain ⟨M11, hM11, hF⟩ := lt_some hF
  refine md_s1 hC hI hg10 hM11 dX9_digs_52 (fun H locs hI => ?_)
  refine lv_aload_n hx hb dX9_digs_53 rfl (lv_at hl 3 rfl) ?_
  refine md_g6 hC hI dX9_digs_54 ?_
  refine lv_bipush (v := 6) hx hb dX9_digs_57 (by decide) ?_
  refine lv_dup2_11 hx hb dX9_digs_59 rfl rfl ?_
  refine md_l1 hC hI (by decide) dX9_digs_60 ?_
  refine lv_iload_n hx hb dX9_digs_61 rfl (lv_at hl 1 rfl) ?_
  refine lv_iadd hx hb dX9_digs_62 ?_
  obtain ⟨M12, hM12, hF⟩ := lt_some hF
  refine md_s1 hC hI (by decide) hM12 dX9_digs_63 (fun H locs hI => ?_)
  refine lv_aload_n hx hb dX9_digs_64 rfl (lv_at hl 3 rfl) ?_
  refine md_g6 hC hI dX9_digs_65 ?_
  refine lv_iload_n hx hb dX9_digs_68 rfl (lv_at hl 4 rfl) ?_
  refine lv_iconst (v := 2) hx hb dX9_digs_69 (by decide) ?_
  refine k_moleAt (mo_CN hC) (Nat.le_of_ble_eq_true rfl) (Nat.le_of_ble_eq_true rfl) hl.1 (Nat.le_of_ble_eq_true rfl) dX9_digs_70 ?_
  refine lv_dup2_11 hx hb dX9_digs_73 rfl rfl ?_
  obtain ⟨hg13, hF⟩ := gd_some hF
  refine md_l1 hC hI hg13 dX9_digs_74 ?_
  refine lv_iload_n hx hb dX9_digs_75 rfl (lv_at hl 1 rfl) ?_
  refine lv_iadd hx hb dX9_digs_76 ?_
  obtain ⟨hg14, hF⟩ := gd_some hF
  obtain ⟨M15, hM15, hF⟩ := lt_some hF
  refine md_s1 hC hI hg14 hM15 dX9_digs_77 (fun H locs hI => ?_)
  refine lv_iload hx hb dX9_digs_78 (lv_at hl 0 rfl) ?_
  refine lv_if_ge (tgt := 85) hx hb dX9_digs_80 (by decide) (fun c16 => ?_) (fun c16 => ?_)
  · have hF := if_t hF c16
    refine lv_aload_n hx hb dX9_digs_85 rfl (lv_at hl 3 rfl) ?_
    refine md_g6 hC hI dX9_digs_86 ?_
    refine lv_iload_n hx hb dX9_digs_89 rfl (lv_at hl 4 rfl) ?_
    refine lv_iconst (v := 0) hx hb dX9_digs_90 (by decide) ?_
    refine k_moleAt (mo_CN hC) (Nat.le_of_ble_eq_true rfl) (Nat.le_of_ble_eq_true rfl) hl.1 (Nat.le_of_ble_eq_true rfl) dX9_digs_91 ?_
    refine lv_iload hx hb dX9_digs_94 (lv_at hl 0 rfl) ?_
    obtain ⟨hg17, hF⟩ := gd_some hF
    obtain ⟨M18, hM18, hF⟩ := lt_some hF
    refine md_s1 hC hI hg17 hM18 dX9_digs_96 (fun H locs hI => ?_)
    refine lv_aload_n hx hb dX9_digs_97 rfl (lv_at hl 3 rfl) ?_
    refine md_g6 hC hI dX9_digs_98 ?_
    refine lv_sipush (v := 132) hx hb dX9_digs_101 (by decide) ?_
    refine lv_iload hx hb dX9_digs_104 (lv_at hl 0 rfl) ?_
    refine lv_iadd hx hb dX9_digs_106 ?_
    obtain ⟨hg19, hF⟩ := gd_some hF
    refine md_l1 hC hI hg19 dX9_digs_107 ?_
    refine lv_if_ne (tgt := 113) hx hb dX9_digs_108 (by decide) (fun c20 => ?_) (fun c20 => ?_)
    · have hF := if_f hF c20
      refine lv_aload_n hx hb dX9_digs_113 rfl (lv_at hl 3 rfl) ?_
      refine md_g6 hC hI dX9_digs_114 ?_
      refine lv_sipush (v := 132) hx hb dX9_digs_117 (by decide) ?_
      refine lv_iload hx hb dX9_digs_120 (lv_at hl 0 rfl) ?_
      refine lv_iadd hx hb dX9_digs_122 ?_
      refine lv_iconst (v := 0) hx hb dX9_digs_123 (by decide) ?_
      obtain ⟨hg21, hF⟩ := gd_some hF
      obtain ⟨M22, hM22, hF⟩ := lt_some hF
      refine md_s1 hC hI hg21 hM22 dX9_digs_124 (fun H locs hI => ?_)
      refine lv_aload_n hx hb dX9_digs_125 rfl (lv_at hl 3 rfl) ?_
      refine md_g6 hC hI dX9_digs_126 ?_
      refine lv_iload_n hx hb dX9_digs_129 rfl (lv_at hl 4 rfl) ?_
      refine lv_iconst (v := 1) hx hb dX9_digs_130 (by decide) ?_
      refine k_moleAt (mo_CN hC) (Nat.le_of_ble_eq_true rfl) (Nat.le_of_ble_eq_true rfl) hl.1 (Nat.le_of_ble_eq_true rfl) dX9_digs_131 ?_
      refine lv_iconst (v := 1) hx hb dX9_digs_134 (by decide) ?_
      obtain ⟨hg23, hF⟩ := gd_some hF
      obtain ⟨M24, hM24, hF⟩ := lt_some hF
      refine md_s1 hC hI hg23 hM24 dX9_digs_135 (fun H locs hI => ?_)
      refine lv_iconst (v := 1) hx hb dX9_digs_136 (by decide) ?_
      exact md_zret hC hI hr (by decide) hF dX9_digs_137
    · have hF := if_t hF c20
      refine lv_iconst (v := 0) hx hb dX9_digs_111 (by decide) ?_
      exact md_zret hC hI hr (by decide) hF dX9_digs_112
  · have hF := if_f hF c16
    refine lv_iconst (v := 0) hx hb dX9_digs_83 (by decide) ?_
    exact md_zret hC hI hr (by decide) hF dX9_digs_84
theorem k_digs {p : Program} {l : Launch} {e : Env} {R : Room} {s : State} {m : MethodId} {args : Array Value} {below : List Frame} {meth : Method} {c : Code} {H : Heap} {locs : List Loc} {cells slots : Nat} {Q : State → Prop} {pc : Nat} {ls : Array Slot} {rest : List Value} {G : va_G} {ai : Nat → ClassId} {A : Nat → Prop} {cc : ByteArray} {nL f L kc ks o : Nat} {ar : Nat → Nat} {M M1 : MS} {r1 : Int32} {a1 : Int32} (hC : mo_C p R s m args meth c G ai A RX9 cc nL f L kc ks) (hI : mo_I G A s.heap (md_W ai o ar M) H locs) (hz : f_digs M a1 = some (r1, M1)) (hf : 2 + 1 ≤ f) (hL : 8 + (5 + 11) + 47 ≤ L) (hsz : ls.size = nL) (hW : (rest.map fun v => v.category).sum ≤ 8) (hdg : decode cc pc = .ok (.invokevirtual 185, 3)) (kk : ∀ (H1 : Heap) (locs1 : List Loc), mo_I G A s.heap (md_W ai o ar M1) H1 locs1 → W p l e R s m args below meth c H1 locs1 cells slots Q (F0 m (pc + 3) ls (.int r1 :: rest))) (hc0 : cells ≤ kc := by first | exact Nat.zero_le _ | assumption) (hs0 : slots ≤ ks := by first | exact Nat.zero_le _ | assumption) : W p l e R s m args below meth c H locs cells slots Q (F0 m pc ls (.int a1 :: .ref o :: rest)) := by
  have hI : mo_I G A s.heap (md_W ai o ar M ++ []) H locs := by rw [List.append_nil]; exact hI
  refine gw_cVi (As := [.int a1]) (mc := 0) (ms := 0) (fs := md_F ar M) hC 1 hI (w_digs l G ai o ar M a1 r1 M1 hz) 0 0 rfl rfl q2277 q2279 qs102 q142 q2280 rfl rfl (by decide +kernel) rfl hf hL hc0 hs0 hsz rfl hW hdg (fun r u H1 locs1 hp hI1 => ?_)
  obtain ⟨rfl, rfl⟩ := hp
  rw [List.append_nil] at hI1
  exact kk H1 locs1 hI1
def f_bell_L4 (a1 : Int32) (kont : MS → Option (Int32 × MS)) : Nat → MS → Int32 → Option (Int32 × MS)
  | 0, _, _ => none
  | n + 1, M, x2 => if 30 ≤ x2 then (kont M) else (ob (f_grows M x2) (fun r2 M3 => lt (x2 + 1) (fun x2_5 => f_bell_L4 a1 kont n M3 x2_5)))
def f_bell_L23 (a1 : Int32) (kont : MS → Option (Int32 × MS)) : Nat → MS → Int32 → Option (Int32 × MS)
  | 0, _, _ => none
  | n + 1, M, x2 => if 30 ≤ x2 then (kont M) else (ob (f_isStone M x2) (fun r8 M9 => lj (fun (M11 : MS) => lt (x2 + 1) (fun x2_13 => f_bell_L23 a1 kont n M11 x2_13)) (fun j72_11 => if r8 = 0 then (gd (gi (72 + x2) 216) (gd (gi (12 + x2) 216) (gd (gi (72 + x2) 216) (lt (rup M9 1 (upd (M9 1) (72 + x2).toNatClampNeg (p_lesser 9 ((M9 1 (72 + x2).toNatClampNeg) + ((M9 1 (12 + x2).toNatClampNeg) / 2))))) (fun M18 => j72_11 M18))))) else (j72_11 M9))))
def f_bell_L80 (kont : MS → Int32 → Option (Int32 × MS)) : Nat → MS → Int32 → Int32 → Option (Int32 × MS)
  | 0, _, _, _ => none
  | n + 1, M, x2, x1 => if (M 1 (3 : Int32).toNatClampNeg) ≤ x2 then (kont M x1) else (gd (gi (p_moleAt x2 1) 216) (lj (fun (M22 : MS) (x1_23 : Int32) => lt (x2 + 1) (fun x2_25 => f_bell_L80 kont n M22 x2_25 x1_23)) (fun j119_23 => if (M 1 (p_moleAt x2 1).toNatClampNeg) = 0 then (ob (f_digs M x2) (fun r27 M28 => lj (fun (M30 : MS) (t32 : Int32) (t33 : Int32) => lt ((t32 + t33)) (fun x1_35 => j119_23 M30 x1_35)) (fun j117_33 => if r27 = 0 then (j117_33 M28 x1 0) else (j117_33 M28 x1 1)))) else (j119_23 M x1))))
def f_bell_L127 (a1 : Int32) (kont : MS → Option (Int32 × MS)) : Nat → MS → Int32 → Option (Int32 × MS)
  | 0, _, _ => none
  | n + 1, M, x2 => if (M 1 (2 : Int32).toNatClampNeg) ≤ x2 then (kont M) else (gd (gi (p_gardAt x2 1) 216) (lt (rup M 1 (upd (M 1) (p_gardAt x2 1).toNatClampNeg 6)) (fun M41 => lt (x2 + 1) (fun x2_42 => f_bell_L127 a1 kont n M41 x2_42))))
def f_bell (M : MS) : Option (Int32 × MS) := f_bell_L4 0 (fun M6 => f_bell_L23 0 (fun M19 => f_bell_L80 (fun M37 x1_38 => f_bell_L127 x1_38 (fun M43 => lj (fun (M44 : MS) (t46 : Int32) (t47 : Int32) (t48 : Int32) => gd (gi t46 216) (lt (rup M44 1 (upd (M44 1) t46.toNatClampNeg (t47 + t48))) (fun M51 => lt (rup M51 1 (upd (M51 1) (0 : Int32).toNatClampNeg ((M51 1 (0 : Int32).toNatClampNeg) + 1))) (fun M52 => some (x1_38, M52))))) (fun j178_48 => if (M43 1 (1 : Int32).toNatClampNeg) < 3 then (j178_48 M43 10 (M43 1 (10 : Int32).toNatClampNeg) 3) else (j178_48 M43 10 (M43 1 (10 : Int32).toNatClampNeg) 5))) 2000 M37 0) 2000 M19 0 0) 2000 M6 0) 2000 M 0
set_option maxHeartbeats 4000000 in
theorem w_bell_L4 {p : Program} {l : Launch} {e : Env} {R : Room} {s : State} {m : MethodId} {args : Array Value} {below : List Frame} {meth : Method} {c : Code} {G : va_G} {ai : Nat → ClassId} {A : Nat → Prop} {o : Nat} {ar : Nat → Nat} {r0 : Int32} {M0 : MS} (hC : mo_C p R s m args meth c G ai A RX9 cX9_bell 3 3 71 0 0) (hr : meth.sig.returnType = (some .int)) (a1 : Int32) (kont : MS → Option (Int32 × MS)) (K : ∀ (M : MS) (H : Heap) (locs : List Loc) (ls : Array Slot), kont M = some (r0, M0) → mo_I G A s.heap (md_W ai o ar M) H locs → lv_has ls 3 [(1, .int a1), (0, .ref o)] → W p l e R s m args below meth c H locs 0 0 (md_Q below G ai o ar A args s r0 M0) (F0 m 21 ls [])) :
    ∀ (n : Nat) (M : MS) (x2 : Int32) (H : Heap) (locs : List Loc) (ls : Array Slot), f_bell_L4 a1 kont n M x2 = some (r0, M0) → mo_I G A s.heap (md_W ai o ar M) H locs → lv_has ls 3 [(2, .int x2), (1, .int a1), (0, .ref o)] → W p l e R s m args below meth c H locs 0 0 (md_Q below G ai o ar A args s r0 M0) (F0 m 4 ls []) := by
  have hx := hC.1
  have hb := hC.2.1
  intro n
  induction n with
  | zero =>
    intro M x2 H locs ls hF
    have h0 : (none : Option (Int32 × MS)) = some (r0, M0) := hF
    cases h0
  | succ n ih =>
    intro M x2 H locs ls hF hI hl
    rw [f_bell_L4] at hF
    refine lv_iload_n hx hb dX9_bell_4 rfl (lv_at hl 0 rfl) ?_
    refine lv_bipush (v := 30) hx hb dX9_bell_5 (by decide) ?_
    refine lv_icmp_ge (tgt := 21) hx hb dX9_bell_7 (by decide) (fun c1 => ?_) (fun c1 => ?_)
    · have hF := if_t hF c1
      exact K _ _ _ _ hF hI (lv_sub hl [1, 2] rfl)
    · have hF := if_f hF c1
      refine lv_aload_n hx hb dX9_bell_10 rfl (lv_at hl 2 rfl) ?_
      refine lv_iload_n hx hb dX9_bell_11 rfl (lv_at hl 0 rfl) ?_
      obtain ⟨r2, M3, hz4, hF⟩ := ob_some hF
      refine k_grows hC hI hz4 (Nat.le_of_ble_eq_true rfl) (Nat.le_of_ble_eq_true rfl) hl.1 (Nat.le_of_ble_eq_true rfl) dX9_bell_12 (fun H locs hI => ?_)
      obtain ⟨x2_5, hx2_5, hF⟩ := lt_some hF
      refine mo_inc (k := 0) (lv' := [(2, .int x2_5), (1, .int a1), (0, .ref o)]) hx hb hx2_5 (by decide) dX9_bell_15 hl rfl (by decide) rfl (fun ls hl => ?_)
      refine lv_goto (tgt := 4) hx hb dX9_bell_18 (by decide) ?_
      exact ih _ _ _ _ _ hF hI (lv_sub hl [0, 1, 2] rfl)
set_option maxHeartbeats 4000000 in
theorem w_bell_L23 {p : Program} {l : Launch} {e : Env} {R : Room} {s : State} {m : MethodId} {args : Array Value} {below : List Frame} {meth : Method} {c : Code} {G : va_G} {ai : Nat → ClassId} {A : Nat → Prop} {o : Nat} {ar : Nat → Nat} {r0 : Int32} {M0 : MS} (hC : mo_C p R s m args meth c G ai A RX9 cX9_bell 3 3 71 0 0) (hr : meth.sig.returnType = (some .int)) (a1 : Int32) (kont : MS → Option (Int32 × MS)) (K : ∀ (M : MS) (H : Heap) (locs : List Loc) (ls : Array Slot), kont M = some (r0, M0) → mo_I G A s.heap (md_W ai o ar M) H locs → lv_has ls 3 [(1, .int a1), (0, .ref o)] → W p l e R s m args below meth c H locs 0 0 (md_Q below G ai o ar A args s r0 M0) (F0 m 78 ls [])) :
    ∀ (n : Nat) (M : MS) (x2 : Int32) (H : Heap) (locs : List Loc) (ls : Array Slot), f_bell_L23 a1 kont n M x2 = some (r0, M0) → mo_I G A s.heap (md_W ai o ar M) H locs → lv_has ls 3 [(2, .int x2), (1, .int a1), (0, .ref o)] → W p l e R s m args below meth c H locs 0 0 (md_Q below G ai o ar A args s r0 M0) (F0 m 23 ls []) := by
  have hx := hC.1
  have hb := hC.2.1
  intro n
  induction n with
  | zero =>
    intro M x2 H locs ls hF
    have h0 : (none : Option (Int32 × MS)) = some (r0, M0) := hF
    cases h0
  | succ n ih =>
    intro M x2 H locs ls hF hI hl
    rw [f_bell_L23] at hF
    refine lv_iload_n hx hb dX9_bell_23 rfl (lv_at hl 0 rfl) ?_
    refine lv_bipush (v := 30) hx hb dX9_bell_24 (by decide) ?_
    refine lv_icmp_ge (tgt := 78) hx hb dX9_bell_26 (by decide) (fun c7 => ?_) (fun c7 => ?_)
    · have hF := if_t hF c7
      exact K _ _ _ _ hF hI (lv_sub hl [1, 2] rfl)
    · have hF := if_f hF c7
      refine lv_aload_n hx hb dX9_bell_29 rfl (lv_at hl 2 rfl) ?_
      refine lv_iload_n hx hb dX9_bell_30 rfl (lv_at hl 0 rfl) ?_
      obtain ⟨r8, M9, hz10, hF⟩ := ob_some hF
      refine k_isStone hC hI hz10 (Nat.le_of_ble_eq_true rfl) (Nat.le_of_ble_eq_true rfl) hl.1 (Nat.le_of_ble_eq_true rfl) dX9_bell_31 (fun H locs hI => ?_)
      obtain ⟨j72_11, hj72_11, hF⟩ := lj_some hF
      have J72 : ∀ (M11 : MS) (H : Heap) (locs : List Loc) (ls : Array Slot), j72_11 M11 = some (r0, M0) → mo_I G A s.heap (md_W ai o ar M11) H locs → lv_has ls 3 [(2, .int x2), (1, .int a1), (0, .ref o)] → W p l e R s m args below meth c H locs 0 0 (md_Q below G ai o ar A args s r0 M0) (F0 m 72 ls []) := by
        intro M11 H locs ls hF hI hl
        rw [hj72_11] at hF
        obtain ⟨x2_13, hx2_13, hF⟩ := lt_some hF
        refine mo_inc (k := 0) (lv' := [(2, .int x2_13), (1, .int a1), (0, .ref o)]) hx hb hx2_13 (by decide) dX9_bell_72 hl rfl (by decide) rfl (fun ls hl => ?_)
        refine lv_goto (tgt := 23) hx hb dX9_bell_75 (by decide) ?_
        exact ih _ _ _ _ _ hF hI (lv_sub hl [0, 1, 2] rfl)
      refine lv_if_ne (tgt := 72) hx hb dX9_bell_34 (by decide) (fun c14 => ?_) (fun c14 => ?_)
      · have hF := if_f hF c14
        exact J72 _ _ _ _ hF hI (lv_sub hl [0, 1, 2] rfl)
      · have hF := if_t hF c14
        refine lv_aload_n hx hb dX9_bell_37 rfl (lv_at hl 2 rfl) ?_
        refine md_g6 hC hI dX9_bell_38 ?_
        refine lv_bipush (v := 72) hx hb dX9_bell_41 (by decide) ?_
        refine lv_iload_n hx hb dX9_bell_43 rfl (lv_at hl 0 rfl) ?_
        refine lv_iadd hx hb dX9_bell_44 ?_
        refine lv_bipush (v := 9) hx hb dX9_bell_45 (by decide) ?_
        refine lv_aload_n hx hb dX9_bell_47 rfl (lv_at hl 2 rfl) ?_
        refine md_g6 hC hI dX9_bell_48 ?_
        refine lv_bipush (v := 72) hx hb dX9_bell_51 (by decide) ?_
        refine lv_iload_n hx hb dX9_bell_53 rfl (lv_at hl 0 rfl) ?_
        refine lv_iadd hx hb dX9_bell_54 ?_
        obtain ⟨hg15, hF⟩ := gd_some hF
        refine md_l1 hC hI hg15 dX9_bell_55 ?_
        refine lv_aload_n hx hb dX9_bell_56 rfl (lv_at hl 2 rfl) ?_
        refine md_g6 hC hI dX9_bell_57 ?_
        refine lv_bipush (v := 12) hx hb dX9_bell_60 (by decide) ?_
        refine lv_iload_n hx hb dX9_bell_62 rfl (lv_at hl 0 rfl) ?_
        refine lv_iadd hx hb dX9_bell_63 ?_
        obtain ⟨hg16, hF⟩ := gd_some hF
        refine md_l1 hC hI hg16 dX9_bell_64 ?_
        refine lv_iconst (v := 2) hx hb dX9_bell_65 (by decide) ?_
        refine lv_idiv hx hb dX9_bell_66 (by decide) ?_
        refine lv_iadd hx hb dX9_bell_67 ?_
        refine k_lesser (mo_CN hC) (Nat.le_of_ble_eq_true rfl) (Nat.le_of_ble_eq_true rfl) hl.1 (Nat.le_of_ble_eq_true rfl) dX9_bell_68 ?_
        obtain ⟨hg17, hF⟩ := gd_some hF
        obtain ⟨M18, hM18, hF⟩ := lt_some hF
        refine md_s1 hC hI hg17 hM18 dX9_bell_71 (fun H locs hI => ?_)
        exact J72 _ _ _ _ hF hI (lv_sub hl [0, 1, 2] rfl)
set_option maxHeartbeats 4000000 in
theorem w_bell_L80 {p : Program} {l : Launch} {e : Env} {R : Room} {s : State} {m : MethodId} {args : Array Value} {below : List Frame} {meth : Method} {c : Code} {G : va_G} {ai : Nat → ClassId} {A : Nat → Prop} {o : Nat} {ar : Nat → Nat} {r0 : Int32} {M0 : MS} (hC : mo_C p R s m args meth c G ai A RX9 cX9_bell 3 3 71 0 0) (hr : meth.sig.returnType = (some .int)) (kont : MS → Int32 → Option (Int32 × MS)) (K : ∀ (M : MS) (x1 : Int32) (H : Heap) (locs : List Loc) (ls : Array Slot), kont M x1 = some (r0, M0) → mo_I G A s.heap (md_W ai o ar M) H locs → lv_has ls 3 [(1, .int x1), (0, .ref o)] → W p l e R s m args below meth c H locs 0 0 (md_Q below G ai o ar A args s r0 M0) (F0 m 125 ls [])) :
    ∀ (n : Nat) (M : MS) (x2 : Int32) (x1 : Int32) (H : Heap) (locs : List Loc) (ls : Array Slot), f_bell_L80 kont n M x2 x1 = some (r0, M0) → mo_I G A s.heap (md_W ai o ar M) H locs → lv_has ls 3 [(2, .int x2), (1, .int x1), (0, .ref o)] → W p l e R s m args below meth c H locs 0 0 (md_Q below G ai o ar A args s r0 M0) (F0 m 80 ls []) := by
  have hx := hC.1
  have hb := hC.2.1
  intro n
  induction n with
  | zero =>
    intro M x2 x1 H locs ls hF
    have h0 : (none : Option (Int32 × MS)) = some (r0, M0) := hF
    cases h0
  | succ n ih =>
    intro M x2 x1 H locs ls hF hI hl
    rw [f_bell_L80] at hF
    refine lv_iload_n hx hb dX9_bell_80 rfl (lv_at hl 0 rfl) ?_
    refine lv_aload_n hx hb dX9_bell_81 rfl (lv_at hl 2 rfl) ?_
    refine md_g6 hC hI dX9_bell_82 ?_
    refine lv_iconst (v := 3) hx hb dX9_bell_85 (by decide) ?_
    refine md_l1 hC hI (by decide) dX9_bell_86 ?_
    refine lv_icmp_ge (tgt := 125) hx hb dX9_bell_87 (by decide) (fun c20 => ?_) (fun c20 => ?_)
    · have hF := if_t hF c20
      exact K _ _ _ _ _ hF hI (lv_sub hl [1, 2] rfl)
    · have hF := if_f hF c20
      refine lv_aload_n hx hb dX9_bell_90 rfl (lv_at hl 2 rfl) ?_
      refine md_g6 hC hI dX9_bell_91 ?_
      refine lv_iload_n hx hb dX9_bell_94 rfl (lv_at hl 0 rfl) ?_
      refine lv_iconst (v := 1) hx hb dX9_bell_95 (by decide) ?_
      refine k_moleAt (mo_CN hC) (Nat.le_of_ble_eq_true rfl) (Nat.le_of_ble_eq_true rfl) hl.1 (Nat.le_of_ble_eq_true rfl) dX9_bell_96 ?_
      obtain ⟨hg21, hF⟩ := gd_some hF
      refine md_l1 hC hI hg21 dX9_bell_99 ?_
      obtain ⟨j119_23, hj119_23, hF⟩ := lj_some hF
      have J119 : ∀ (M22 : MS) (x1_23 : Int32) (H : Heap) (locs : List Loc) (ls : Array Slot), j119_23 M22 x1_23 = some (r0, M0) → mo_I G A s.heap (md_W ai o ar M22) H locs → lv_has ls 3 [(2, .int x2), (1, .int x1_23), (0, .ref o)] → W p l e R s m args below meth c H locs 0 0 (md_Q below G ai o ar A args s r0 M0) (F0 m 119 ls []) := by
        intro M22 x1_23 H locs ls hF hI hl
        rw [hj119_23] at hF
        obtain ⟨x2_25, hx2_25, hF⟩ := lt_some hF
        refine mo_inc (k := 0) (lv' := [(2, .int x2_25), (1, .int x1_23), (0, .ref o)]) hx hb hx2_25 (by decide) dX9_bell_119 hl rfl (by decide) rfl (fun ls hl => ?_)
        refine lv_goto (tgt := 80) hx hb dX9_bell_122 (by decide) ?_
        exact ih _ _ _ _ _ _ hF hI (lv_sub hl [0, 1, 2] rfl)
      refine lv_if_ne (tgt := 119) hx hb dX9_bell_100 (by decide) (fun c26 => ?_) (fun c26 => ?_)
      · have hF := if_f hF c26
        exact J119 _ _ _ _ _ hF hI (lv_sub hl [0, 1, 2] rfl)
      · have hF := if_t hF c26
        refine lv_iload_n hx hb dX9_bell_103 rfl (lv_at hl 1 rfl) ?_
        refine lv_aload_n hx hb dX9_bell_104 rfl (lv_at hl 2 rfl) ?_
        refine lv_iload_n hx hb dX9_bell_105 rfl (lv_at hl 0 rfl) ?_
        obtain ⟨r27, M28, hz29, hF⟩ := ob_some hF
        refine k_digs hC hI hz29 (Nat.le_of_ble_eq_true rfl) (Nat.le_of_ble_eq_true rfl) hl.1 (Nat.le_of_ble_eq_true rfl) dX9_bell_106 (fun H locs hI => ?_)
        obtain ⟨j117_33, hj117_33, hF⟩ := lj_some hF
        have J117 : ∀ (M30 : MS) (t32 : Int32) (t33 : Int32) (H : Heap) (locs : List Loc) (ls : Array Slot), j117_33 M30 t32 t33 = some (r0, M0) → mo_I G A s.heap (md_W ai o ar M30) H locs → lv_has ls 3 [(2, .int x2), (0, .ref o)] → W p l e R s m args below meth c H locs 0 0 (md_Q below G ai o ar A args s r0 M0) (F0 m 117 ls [.int t33, .int t32]) := by
          intro M30 t32 t33 H locs ls hF hI hl
          rw [hj117_33] at hF
          refine lv_iadd hx hb dX9_bell_117 ?_
          obtain ⟨x1_35, hx1_35, hF⟩ := lt_some hF
          refine mo_ist (lv' := [(1, .int x1_35), (2, .int x2), (0, .ref o)]) hx hb hx1_35 dX9_bell_118 rfl hl (by decide) rfl (fun ls hl => ?_)
          exact J119 _ _ _ _ _ hF hI (lv_sub hl [1, 0, 2] rfl)
        refine lv_if_eq (tgt := 116) hx hb dX9_bell_109 (by decide) (fun c36 => ?_) (fun c36 => ?_)
        · have hF := if_t hF c36
          refine lv_iconst (v := 0) hx hb dX9_bell_116 (by decide) ?_
          exact J117 _ _ _ _ _ _ hF hI (lv_sub hl [0, 2] rfl)
        · have hF := if_f hF c36
          refine lv_iconst (v := 1) hx hb dX9_bell_112 (by decide) ?_
          refine lv_goto (tgt := 117) hx hb dX9_bell_113 (by decide) ?_
          exact J117 _ _ _ _ _ _ hF hI (lv_sub hl [0, 2] rfl)
set_option maxHeartbeats 4000000 in
theorem w_bell_L127 {p : Program} {l : Launch} {e : Env} {R : Room} {s : State} {m : MethodId} {args : Array Value} {below : List Frame} {meth : Method} {c : Code} {G : va_G} {ai : Nat → ClassId} {A : Nat → Prop} {o : Nat} {ar : Nat → Nat} {r0 : Int32} {M0 : MS} (hC : mo_C p R s m args meth c G ai A RX9 cX9_bell 3 3 71 0 0) (hr : meth.sig.returnType = (some .int)) (a1 : Int32) (kont : MS → Option (Int32 × MS)) (K : ∀ (M : MS) (H : Heap) (locs : List Loc) (ls : Array Slot), kont M = some (r0, M0) → mo_I G A s.heap (md_W ai o ar M) H locs → lv_has ls 3 [(1, .int a1), (0, .ref o)] → W p l e R s m args below meth c H locs 0 0 (md_Q below G ai o ar A args s r0 M0) (F0 m 155 ls [])) :
    ∀ (n : Nat) (M : MS) (x2 : Int32) (H : Heap) (locs : List Loc) (ls : Array Slot), f_bell_L127 a1 kont n M x2 = some (r0, M0) → mo_I G A s.heap (md_W ai o ar M) H locs → lv_has ls 3 [(2, .int x2), (1, .int a1), (0, .ref o)] → W p l e R s m args below meth c H locs 0 0 (md_Q below G ai o ar A args s r0 M0) (F0 m 127 ls []) := by
  have hx := hC.1
  have hb := hC.2.1
  intro n
  induction n with
  | zero =>
    intro M x2 H locs ls hF
    have h0 : (none : Option (Int32 × MS)) = some (r0, M0) := hF
    cases h0
  | succ n ih =>
    intro M x2 H locs ls hF hI hl
    rw [f_bell_L127] at hF
    refine lv_iload_n hx hb dX9_bell_127 rfl (lv_at hl 0 rfl) ?_
    refine lv_aload_n hx hb dX9_bell_128 rfl (lv_at hl 2 rfl) ?_
    refine md_g6 hC hI dX9_bell_129 ?_
    refine lv_iconst (v := 2) hx hb dX9_bell_132 (by decide) ?_
    refine md_l1 hC hI (by decide) dX9_bell_133 ?_
    refine lv_icmp_ge (tgt := 155) hx hb dX9_bell_134 (by decide) (fun c39 => ?_) (fun c39 => ?_)
    · have hF := if_t hF c39
      exact K _ _ _ _ hF hI (lv_sub hl [1, 2] rfl)
    · have hF := if_f hF c39
      refine lv_aload_n hx hb dX9_bell_137 rfl (lv_at hl 2 rfl) ?_
      refine md_g6 hC hI dX9_bell_138 ?_
      refine lv_iload_n hx hb dX9_bell_141 rfl (lv_at hl 0 rfl) ?_
      refine lv_iconst (v := 1) hx hb dX9_bell_142 (by decide) ?_
      refine k_gardAt (mo_CN hC) (Nat.le_of_ble_eq_true rfl) (Nat.le_of_ble_eq_true rfl) hl.1 (Nat.le_of_ble_eq_true rfl) dX9_bell_143 ?_
      refine lv_bipush (v := 6) hx hb dX9_bell_146 (by decide) ?_
      obtain ⟨hg40, hF⟩ := gd_some hF
      obtain ⟨M41, hM41, hF⟩ := lt_some hF
      refine md_s1 hC hI hg40 hM41 dX9_bell_148 (fun H locs hI => ?_)
      obtain ⟨x2_42, hx2_42, hF⟩ := lt_some hF
      refine mo_inc (k := 0) (lv' := [(2, .int x2_42), (1, .int a1), (0, .ref o)]) hx hb hx2_42 (by decide) dX9_bell_149 hl rfl (by decide) rfl (fun ls hl => ?_)
      refine lv_goto (tgt := 127) hx hb dX9_bell_152 (by decide) ?_
      exact ih _ _ _ _ _ hF hI (lv_sub hl [0, 1, 2] rfl)
set_option maxHeartbeats 4000000 in
theorem w_bell (l : Launch) (G : va_G) (ai : Nat → ClassId) (o : Nat) (ar : Nat → Nat) (M : MS) (r0 : Int32) (M0 : MS) (hF : f_bell M = some (r0, M0)) : md_M l G ai o ar yX9_bell cX9_bell 3 (some .int) ({ frames := 3, cells := 0, slots := 0, locals := 71 } : Room) [.ref o] M r0 M0 := by
  refine mo_body (Qc := fun A => va_Qi (fun (r' : Int32) (M2 : MS) => r' = r0 ∧ M2 = M0) (gw_E G ai (md_W ai o ar) A) A) (by decide) (Nat.le_of_ble_eq_true rfl) ?_
  intro p e s m args below meth c A ls hC hr hI hl _
  have hx := hC.1
  have hb := hC.2.1
  have hl : lv_has ls 3 [(0, .ref o)] := hl
  show W p l e _ s m args below meth c s.heap [] 0 0 (md_Q below G ai o ar A args s r0 M0) (F0 m 0 ls [])
  rw [f_bell] at hF
  refine lv_iconst (v := 0) hx hb dX9_bell_0 (by decide) ?_
  refine mo_ist (lv' := [(1, .int 0), (0, .ref o)]) hx hb rfl dX9_bell_1 rfl hl (by decide) rfl (fun ls hl => ?_)
  refine lv_iconst (v := 0) hx hb dX9_bell_2 (by decide) ?_
  refine mo_ist (lv' := [(2, .int 0), (1, .int 0), (0, .ref o)]) hx hb rfl dX9_bell_3 rfl hl (by decide) rfl (fun ls hl => ?_)
  refine w_bell_L4 hC hr 0 _ (fun M6 H locs ls hF hI hl => ?_) 2000 _ _ _ _ _ hF hI (lv_sub hl [0, 1, 2] rfl)
  refine lv_iconst (v := 0) hx hb dX9_bell_21 (by decide) ?_
  refine mo_ist (lv' := [(2, .int 0), (1, .int 0), (0, .ref o)]) hx hb rfl dX9_bell_22 rfl hl (by decide) rfl (fun ls hl => ?_)
  refine w_bell_L23 hC hr 0 _ (fun M19 H locs ls hF hI hl => ?_) 2000 _ _ _ _ _ hF hI (lv_sub hl [0, 1, 2] rfl)
  refine lv_iconst (v := 0) hx hb dX9_bell_78 (by decide) ?_
  refine mo_ist (lv' := [(2, .int 0), (1, .int 0), (0, .ref o)]) hx hb rfl dX9_bell_79 rfl hl (by decide) rfl (fun ls hl => ?_)
  refine w_bell_L80 hC hr _ (fun M37 x1_38 H locs ls hF hI hl => ?_) 2000 _ _ _ _ _ _ hF hI (lv_sub hl [0, 1, 2] rfl)
  refine lv_iconst (v := 0) hx hb dX9_bell_125 (by decide) ?_
  refine mo_ist (lv' := [(2, .int 0), (1, .int x1_38), (0, .ref o)]) hx hb rfl dX9_bell_126 rfl hl (by decide) rfl (fun ls hl => ?_)
  refine w_bell_L127 hC hr x1_38 _ (fun M43 H locs ls hF hI hl => ?_) 2000 _ _ _ _ _ hF hI (lv_sub hl [0, 1, 2] rfl)
  refine lv_aload_n hx hb dX9_bell_155 rfl (lv_at hl 1 rfl) ?_
  refine md_g6 hC hI dX9_bell_156 ?_
  refine lv_bipush (v := 10) hx hb dX9_bell_159 (by decide) ?_
  refine lv_dup2_11 hx hb dX9_bell_161 rfl rfl ?_
  refine md_l1 hC hI (by decide) dX9_bell_162 ?_
  refine lv_aload_n hx hb dX9_bell_163 rfl (lv_at hl 1 rfl) ?_
  refine md_g6 hC hI dX9_bell_164 ?_
  refine lv_iconst (v := 1) hx hb dX9_bell_167 (by decide) ?_
  refine md_l1 hC hI (by decide) dX9_bell_168 ?_
  refine lv_iconst (v := 3) hx hb dX9_bell_169 (by decide) ?_
  obtain ⟨j178_48, hj178_48, hF⟩ := lj_some hF
  have J178 : ∀ (M44 : MS) (t46 : Int32) (t47 : Int32) (t48 : Int32) (H : Heap) (locs : List Loc) (ls : Array Slot), j178_48 M44 t46 t47 t48 = some (r0, M0) → mo_I G A s.heap (md_W ai o ar M44) H locs → lv_has ls 3 [(1, .int x1_38), (0, .ref o)] → W p l e ({ frames := 3, cells := 0, slots := 0, locals := 71 } : Room) s m args below meth c H locs 0 0 (md_Q below G ai o ar A args s r0 M0) (F0 m 178 ls [.int t48, .int t47, .int t46, .ref (ar 1)]) := by
    intro M44 t46 t47 t48 H locs ls hF hI hl
    rw [hj178_48] at hF
    refine lv_iadd hx hb dX9_bell_178 ?_
    obtain ⟨hg50, hF⟩ := gd_some hF
    obtain ⟨M51, hM51, hF⟩ := lt_some hF
    refine md_s1 hC hI hg50 hM51 dX9_bell_179 (fun H locs hI => ?_)
    refine lv_aload_n hx hb dX9_bell_180 rfl (lv_at hl 1 rfl) ?_
    refine md_g6 hC hI dX9_bell_181 ?_
    refine lv_iconst (v := 0) hx hb dX9_bell_184 (by decide) ?_
    refine lv_dup2_11 hx hb dX9_bell_185 rfl rfl ?_
    refine md_l1 hC hI (by decide) dX9_bell_186 ?_
    refine lv_iconst (v := 1) hx hb dX9_bell_187 (by decide) ?_
    refine lv_iadd hx hb dX9_bell_188 ?_
    obtain ⟨M52, hM52, hF⟩ := lt_some hF
    refine md_s1 hC hI (by decide) hM52 dX9_bell_189 (fun H locs hI => ?_)
    refine lv_iload_n hx hb dX9_bell_190 rfl (lv_at hl 0 rfl) ?_
    exact md_iret hC hI hr hF dX9_bell_191
  refine lv_icmp_lt (tgt := 177) hx hb dX9_bell_170 (by decide) (fun c53 => ?_) (fun c53 => ?_)
  · have hF := if_t hF c53
    refine lv_iconst (v := 3) hx hb dX9_bell_177 (by decide) ?_
    exact J178 _ _ _ _ _ _ _ hF hI (lv_sub hl [0, 1] rfl)
  · have hF := if_f hF c53
    refine lv_iconst (v := 5) hx hb dX9_bell_173 (by decide) ?_
    refine lv_goto (tgt := 178) hx hb dX9_bell_174 (by decide) ?_
    exact J178 _ _ _ _ _ _ _ hF hI (lv_sub hl [0, 1] rfl)
theorem k_bell {p : Program} {l : Launch} {e : Env} {R : Room} {s : State} {m : MethodId} {args : Array Value} {below : List Frame} {meth : Method} {c : Code} {H : Heap} {locs : List Loc} {cells slots : Nat} {Q : State → Prop} {pc : Nat} {ls : Array Slot} {rest : List Value} {G : va_G} {ai : Nat → ClassId} {A : Nat → Prop} {cc : ByteArray} {nL f L kc ks o : Nat} {ar : Nat → Nat} {M M1 : MS} {r1 : Int32} (hC : mo_C p R s m args meth c G ai A RX9 cc nL f L kc ks) (hI : mo_I G A s.heap (md_W ai o ar M) H locs) (hz : f_bell M = some (r1, M1)) (hf : 3 + 1 ≤ f) (hL : 8 + (3 + 11) + 71 ≤ L) (hsz : ls.size = nL) (hW : (rest.map fun v => v.category).sum ≤ 8) (hdg : decode cc pc = .ok (.invokevirtual 188, 3)) (kk : ∀ (H1 : Heap) (locs1 : List Loc), mo_I G A s.heap (md_W ai o ar M1) H1 locs1 → W p l e R s m args below meth c H1 locs1 cells slots Q (F0 m (pc + 3) ls (.int r1 :: rest))) (hc0 : cells ≤ kc := by first | exact Nat.zero_le _ | assumption) (hs0 : slots ≤ ks := by first | exact Nat.zero_le _ | assumption) : W p l e R s m args below meth c H locs cells slots Q (F0 m pc ls (.ref o :: rest)) := by
  have hI : mo_I G A s.heap (md_W ai o ar M ++ []) H locs := by rw [List.append_nil]; exact hI
  refine gw_cVi (As := []) (mc := 0) (ms := 0) (fs := md_F ar M) hC 0 hI (w_bell l G ai o ar M r1 M1 hz) 0 0 rfl rfl q2269 q2271 qs100 q142 q2272 rfl rfl (by decide +kernel) rfl hf hL hc0 hs0 hsz rfl hW hdg (fun r u H1 locs1 hp hI1 => ?_)
  obtain ⟨rfl, rfl⟩ := hp
  rw [List.append_nil] at hI1
  exact kk H1 locs1 hI1
def f_passes_L21 (a1 : Int32) (kont : MS → Int32 → Option (Int32 × MS)) : Nat → MS → Int32 → Int32 → Option (Int32 × MS)
  | 0, _, _, _ => none
  | n + 1, M, x3, x2 => if a1 ≤ x3 then (kont M x2) else (ob (f_bell M) (fun r3 M4 => lt ((x2 + r3)) (fun x2_6 => lt (x3 + 1) (fun x3_7 => f_passes_L21 a1 kont n M4 x3_7 x2_6))))
def f_passes (M : MS) (a1 : Int32) : Option (Int32 × MS) := if (p_isIn a1 1 20) = 0 then (ob (f_fail M (-2)) (fun r10 M11 => some (r10, M11))) else (f_passes_L21 a1 (fun M8 x2_9 => some (x2_9, M8)) 2000 M 0 0)
set_option maxHeartbeats 4000000 in
theorem w_passes_L21 {p : Program} {l : Launch} {e : Env} {R : Room} {s : State} {m : MethodId} {args : Array Value} {below : List Frame} {meth : Method} {c : Code} {G : va_G} {ai : Nat → ClassId} {A : Nat → Prop} {o : Nat} {ar : Nat → Nat} {r0 : Int32} {M0 : MS} (hC : mo_C p R s m args meth c G ai A RX9 cX9_passes 4 4 93 0 0) (hr : meth.sig.returnType = (some .int)) (a1 : Int32) (kont : MS → Int32 → Option (Int32 × MS)) (K : ∀ (M : MS) (x2 : Int32) (H : Heap) (locs : List Loc) (ls : Array Slot), kont M x2 = some (r0, M0) → mo_I G A s.heap (md_W ai o ar M) H locs → lv_has ls 4 [(2, .int x2)] → W p l e R s m args below meth c H locs 0 0 (md_Q below G ai o ar A args s r0 M0) (F0 m 39 ls [])) :
    ∀ (n : Nat) (M : MS) (x3 : Int32) (x2 : Int32) (H : Heap) (locs : List Loc) (ls : Array Slot), f_passes_L21 a1 kont n M x3 x2 = some (r0, M0) → mo_I G A s.heap (md_W ai o ar M) H locs → lv_has ls 4 [(3, .int x3), (2, .int x2), (0, .ref o), (1, .int a1)] → W p l e R s m args below meth c H locs 0 0 (md_Q below G ai o ar A args s r0 M0) (F0 m 21 ls []) := by
  have hx := hC.1
  have hb := hC.2.1
  intro n
  induction n with
  | zero =>
    intro M x3 x2 H locs ls hF
    have h0 : (none : Option (Int32 × MS)) = some (r0, M0) := hF
    cases h0
  | succ n ih =>
    intro M x3 x2 H locs ls hF hI hl
    rw [f_passes_L21] at hF
    refine lv_iload_n hx hb dX9_passes_21 rfl (lv_at hl 0 rfl) ?_
    refine lv_iload_n hx hb dX9_passes_22 rfl (lv_at hl 3 rfl) ?_
    refine lv_icmp_ge (tgt := 39) hx hb dX9_passes_23 (by decide) (fun c2 => ?_) (fun c2 => ?_)
    · have hF := if_t hF c2
      exact K _ _ _ _ _ hF hI (lv_sub hl [1] rfl)
    · have hF := if_f hF c2
      refine lv_iload_n hx hb dX9_passes_26 rfl (lv_at hl 1 rfl) ?_
      refine lv_aload_n hx hb dX9_passes_27 rfl (lv_at hl 2 rfl) ?_
      obtain ⟨r3, M4, hz5, hF⟩ := ob_some hF
      refine k_bell hC hI hz5 (Nat.le_of_ble_eq_true rfl) (Nat.le_of_ble_eq_true rfl) hl.1 (Nat.le_of_ble_eq_true rfl) dX9_passes_28 (fun H locs hI => ?_)
      refine lv_iadd hx hb dX9_passes_31 ?_
      obtain ⟨x2_6, hx2_6, hF⟩ := lt_some hF
      refine mo_ist (lv' := [(2, .int x2_6), (3, .int x3), (0, .ref o), (1, .int a1)]) hx hb hx2_6 dX9_passes_32 rfl hl (by decide) rfl (fun ls hl => ?_)
      obtain ⟨x3_7, hx3_7, hF⟩ := lt_some hF
      refine mo_inc (k := 1) (lv' := [(3, .int x3_7), (2, .int x2_6), (0, .ref o), (1, .int a1)]) hx hb hx3_7 (by decide) dX9_passes_33 hl rfl (by decide) rfl (fun ls hl => ?_)
      refine lv_goto (tgt := 21) hx hb dX9_passes_36 (by decide) ?_
      exact ih _ _ _ _ _ _ hF hI (lv_sub hl [0, 1, 2, 3] rfl)
set_option maxHeartbeats 4000000 in
theorem w_passes (l : Launch) (G : va_G) (ai : Nat → ClassId) (o : Nat) (ar : Nat → Nat) (M : MS) (a1 : Int32) (r0 : Int32) (M0 : MS) (hF : f_passes M a1 = some (r0, M0)) : md_M l G ai o ar yX9_passes cX9_passes 4 (some .int) ({ frames := 4, cells := 0, slots := 0, locals := 93 } : Room) [.ref o, .int a1] M r0 M0 := by
  refine mo_body (Qc := fun A => va_Qi (fun (r' : Int32) (M2 : MS) => r' = r0 ∧ M2 = M0) (gw_E G ai (md_W ai o ar) A) A) (by decide) (Nat.le_of_ble_eq_true rfl) ?_
  intro p e s m args below meth c A ls hC hr hI hl _
  have hx := hC.1
  have hb := hC.2.1
  have hl : lv_has ls 4 [(0, .ref o), (1, .int a1)] := hl
  show W p l e _ s m args below meth c s.heap [] 0 0 (md_Q below G ai o ar A args s r0 M0) (F0 m 0 ls [])
  rw [f_passes] at hF
  refine lv_iload_n hx hb dX9_passes_0 rfl (lv_at hl 1 rfl) ?_
  refine lv_iconst (v := 1) hx hb dX9_passes_1 (by decide) ?_
  refine lv_bipush (v := 20) hx hb dX9_passes_2 (by decide) ?_
  refine k_isIn (mo_CN hC) (Nat.le_of_ble_eq_true rfl) (Nat.le_of_ble_eq_true rfl) hl.1 (Nat.le_of_ble_eq_true rfl) dX9_passes_4 ?_
  refine lv_if_ne (tgt := 17) hx hb dX9_passes_7 (by decide) (fun c1 => ?_) (fun c1 => ?_)
  · have hF := if_f hF c1
    refine lv_iconst (v := 0) hx hb dX9_passes_17 (by decide) ?_
    refine mo_ist (lv' := [(2, .int 0), (0, .ref o), (1, .int a1)]) hx hb rfl dX9_passes_18 rfl hl (by decide) rfl (fun ls hl => ?_)
    refine lv_iconst (v := 0) hx hb dX9_passes_19 (by decide) ?_
    refine mo_ist (lv' := [(3, .int 0), (2, .int 0), (0, .ref o), (1, .int a1)]) hx hb rfl dX9_passes_20 rfl hl (by decide) rfl (fun ls hl => ?_)
    refine w_passes_L21 hC hr a1 _ (fun M8 x2_9 H locs ls hF hI hl => ?_) 2000 _ _ _ _ _ _ hF hI (lv_sub hl [0, 1, 2, 3] rfl)
    refine lv_iload_n hx hb dX9_passes_39 rfl (lv_at hl 0 rfl) ?_
    exact md_iret hC hI hr hF dX9_passes_40
  · have hF := if_t hF c1
    refine lv_aload_n hx hb dX9_passes_10 rfl (lv_at hl 0 rfl) ?_
    refine lv_bipush (v := (-2)) hx hb dX9_passes_11 (by decide) ?_
    obtain ⟨r10, M11, hz12, hF⟩ := ob_some hF
    refine k_fail hC hI hz12 (Nat.le_of_ble_eq_true rfl) (Nat.le_of_ble_eq_true rfl) hl.1 (Nat.le_of_ble_eq_true rfl) dX9_passes_13 (fun H locs hI => ?_)
    exact md_iret hC hI hr hF dX9_passes_16
theorem k_passes {p : Program} {l : Launch} {e : Env} {R : Room} {s : State} {m : MethodId} {args : Array Value} {below : List Frame} {meth : Method} {c : Code} {H : Heap} {locs : List Loc} {cells slots : Nat} {Q : State → Prop} {pc : Nat} {ls : Array Slot} {rest : List Value} {G : va_G} {ai : Nat → ClassId} {A : Nat → Prop} {cc : ByteArray} {nL f L kc ks o : Nat} {ar : Nat → Nat} {M M1 : MS} {r1 : Int32} {a1 : Int32} (hC : mo_C p R s m args meth c G ai A RX9 cc nL f L kc ks) (hI : mo_I G A s.heap (md_W ai o ar M) H locs) (hz : f_passes M a1 = some (r1, M1)) (hf : 4 + 1 ≤ f) (hL : 8 + (4 + 11) + 93 ≤ L) (hsz : ls.size = nL) (hW : (rest.map fun v => v.category).sum ≤ 8) (hdg : decode cc pc = .ok (.invokevirtual 192, 3)) (kk : ∀ (H1 : Heap) (locs1 : List Loc), mo_I G A s.heap (md_W ai o ar M1) H1 locs1 → W p l e R s m args below meth c H1 locs1 cells slots Q (F0 m (pc + 3) ls (.int r1 :: rest))) (hc0 : cells ≤ kc := by first | exact Nat.zero_le _ | assumption) (hs0 : slots ≤ ks := by first | exact Nat.zero_le _ | assumption) : W p l e R s m args below meth c H locs cells slots Q (F0 m pc ls (.int a1 :: .ref o :: rest)) := by
  have hI : mo_I G A s.heap (md_W ai o ar M ++ []) H locs := by rw [List.append_nil]; exact hI
  refine gw_cVi (As := [.int a1]) (mc := 0) (ms := 0) (fs := md_F ar M) hC 1 hI (w_passes l G ai o ar M a1 r1 M1 hz) 0 0 rfl rfl q2265 q2267 qs99 q142 q2268 rfl rfl (by decide +kernel) rfl hf hL hc0 hs0 hsz rfl hW hdg (fun r u H1 locs1 hp hI1 => ?_)
  obtain ⟨rfl, rfl⟩ := hp
  rw [List.append_nil] at hI1
  exact kk H1 locs1 hI1
def f_day (M : MS) (a1 : Int32) : Option (Int32 × MS) := ob (f_begins M) (fun r1 M2 => ob (f_passes M2 a1) (fun r4 M5 => ob (f_ends M5 r4) (fun r7 M8 => some (r7, M8))))
set_option maxHeartbeats 4000000 in
theorem w_day (l : Launch) (G : va_G) (ai : Nat → ClassId) (o : Nat) (ar : Nat → Nat) (M : MS) (a1 : Int32) (r0 : Int32) (M0 : MS) (hF : f_day M a1 = some (r0, M0)) : md_M l G ai o ar yX9_day cX9_day 2 (some .int) ({ frames := 5, cells := 0, slots := 0, locals := 116 } : Room) [.ref o, .int a1] M r0 M0 := by
  refine mo_body (Qc := fun A => va_Qi (fun (r' : Int32) (M2 : MS) => r' = r0 ∧ M2 = M0) (gw_E G ai (md_W ai o ar) A) A) (by decide) (Nat.le_of_ble_eq_true rfl) ?_
  intro p e s m args below meth c A ls hC hr hI hl _
  have hx := hC.1
  have hb := hC.2.1
  have hl : lv_has ls 2 [(0, .ref o), (1, .int a1)] := hl
  show W p l e _ s m args below meth c s.heap [] 0 0 (md_Q below G ai o ar A args s r0 M0) (F0 m 0 ls [])
  rw [f_day] at hF
  refine lv_aload_n hx hb dX9_day_0 rfl (lv_at hl 0 rfl) ?_
  obtain ⟨r1, M2, hz3, hF⟩ := ob_some hF
  refine k_begins hC hI hz3 (Nat.le_of_ble_eq_true rfl) (Nat.le_of_ble_eq_true rfl) hl.1 (Nat.le_of_ble_eq_true rfl) dX9_day_1 (fun H locs hI => ?_)
  refine lv_aload_n hx hb dX9_day_4 rfl (lv_at hl 0 rfl) ?_
  refine lv_aload_n hx hb dX9_day_5 rfl (lv_at hl 0 rfl) ?_
  refine lv_iload_n hx hb dX9_day_6 rfl (lv_at hl 1 rfl) ?_
  obtain ⟨r4, M5, hz6, hF⟩ := ob_some hF
  refine k_passes hC hI hz6 (Nat.le_of_ble_eq_true rfl) (Nat.le_of_ble_eq_true rfl) hl.1 (Nat.le_of_ble_eq_true rfl) dX9_day_7 (fun H locs hI => ?_)
  obtain ⟨r7, M8, hz9, hF⟩ := ob_some hF
  refine k_ends hC hI hz9 (Nat.le_of_ble_eq_true rfl) (Nat.le_of_ble_eq_true rfl) hl.1 (Nat.le_of_ble_eq_true rfl) dX9_day_10 (fun H locs hI => ?_)
  exact md_iret hC hI hr hF dX9_day_13

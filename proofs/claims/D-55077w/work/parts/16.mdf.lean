/-! printed by tools/gen_md.py -/
set_option maxRecDepth 100000
def f_meanMoss (M : MS) : Option (UInt32 × MS) := ob (f_sumOf M 102) (fun r1 M2 => lt ((30 - r1)) (fun x1_4 => if x1_4 = 0 then (some (FP.fconst0, M2)) else (ob (f_sumOf M2 42) (fun r6 M7 => gd (gnf (FP.fdiv (FP.i2f r6) (FP.i2f x1_4))) (some ((FP.fdiv (FP.i2f r6) (FP.i2f x1_4)), M7))))))
set_option maxHeartbeats 4000000 in
theorem w_meanMoss (l : Launch) (G : va_G) (ai : Nat → ClassId) (o : Nat) (ar : Nat → Nat) (M : MS) (r0 : UInt32) (M0 : MS) (hF : f_meanMoss M = some (r0, M0)) : md_Mf l G ai o ar yX9_meanMoss cX9_meanMoss 2 (some .float) ({ frames := 1, cells := 0, slots := 0, locals := 23 } : Room) [.ref o] M r0 M0 := by
  refine mo_body (Qc := fun A => va_Qf (fun (r' : UInt32) (M2 : MS) => r' = r0 ∧ M2 = M0) (gw_E G ai (md_W ai o ar) A) A) (by decide) (Nat.le_of_ble_eq_true rfl) ?_
  intro p e s m args below meth c A ls hC hr hI hl _
  have hx := hC.1
  have hb := hC.2.1
  have hl : lv_has ls 2 [(0, .ref o)] := hl
  show W p l e _ s m args below meth c s.heap [] 0 0 (md_Qf below G ai o ar A args s r0 M0) (F0 m 0 ls [])
  rw [f_meanMoss] at hF
  refine lv_bipush (v := 30) hx hb dX9_meanMoss_0 (by decide) ?_
  refine lv_aload_n hx hb dX9_meanMoss_2 rfl (lv_at hl 0 rfl) ?_
  refine lv_bipush (v := 102) hx hb dX9_meanMoss_3 (by decide) ?_
  obtain ⟨r1, M2, hz3, hF⟩ := ob_some hF
  refine k_sumOf hC hI hz3 (Nat.le_of_ble_eq_true rfl) (Nat.le_of_ble_eq_true rfl) hl.1 (Nat.le_of_ble_eq_true rfl) dX9_meanMoss_5 (fun H locs hI => ?_)
  refine lv_isub hx hb dX9_meanMoss_8 ?_
  obtain ⟨x1_4, hx1_4, hF⟩ := lt_some hF
  refine mo_ist (lv' := [(1, .int x1_4), (0, .ref o)]) hx hb hx1_4 dX9_meanMoss_9 rfl hl (by decide) rfl (fun ls hl => ?_)
  refine lv_iload_n hx hb dX9_meanMoss_10 rfl (lv_at hl 0 rfl) ?_
  refine lv_if_ne (tgt := 18) hx hb dX9_meanMoss_11 (by decide) (fun c5 => ?_) (fun c5 => ?_)
  · have hF := if_f hF c5
    refine lv_aload_n hx hb dX9_meanMoss_18 rfl (lv_at hl 1 rfl) ?_
    refine lv_bipush (v := 42) hx hb dX9_meanMoss_19 (by decide) ?_
    obtain ⟨r6, M7, hz8, hF⟩ := ob_some hF
    refine k_sumOf hC hI hz8 (Nat.le_of_ble_eq_true rfl) (Nat.le_of_ble_eq_true rfl) hl.1 (Nat.le_of_ble_eq_true rfl) dX9_meanMoss_21 (fun H locs hI => ?_)
    refine lv_i2f hx hb dX9_meanMoss_24 ?_
    refine lv_iload_n hx hb dX9_meanMoss_25 rfl (lv_at hl 0 rfl) ?_
    refine lv_i2f hx hb dX9_meanMoss_26 ?_
    obtain ⟨hg9, hF⟩ := gd_some hF
    refine lv_fdiv hx hb dX9_meanMoss_27 (gnf_n hg9) ?_
    exact md_fret hC hI hr hF dX9_meanMoss_28
  · have hF := if_t hF c5
    refine lv_fconst0 hx hb dX9_meanMoss_14 ?_
    refine lv_goto (tgt := 28) hx hb dX9_meanMoss_15 (by decide) ?_
    exact md_fret hC hI hr hF dX9_meanMoss_28
def f_oldShare_L6 (kont : MS → Int32 → Int32 → Option (UInt64 × MS)) : Nat → MS → Int32 → Int32 → Int32 → Option (UInt64 × MS)
  | 0, _, _, _, _ => none
  | n + 1, M, x3, x2, x1 => if 30 ≤ x3 then (kont M x2 x1) else (gd (gi (42 + x3) 216) (lj (fun (M3 : MS) (t5 : Int32) (t6 : Int32) => lt ((t5 + t6)) (fun x2_8 => gd (gi (42 + x3) 216) (lj (fun (M10 : MS) (t12 : Int32) (t13 : Int32) => lt ((t12 + t13)) (fun x1_15 => lt (x3 + 1) (fun x3_16 => f_oldShare_L6 kont n M10 x3_16 x2_8 x1_15))) (fun j52_13 => if (M3 1 (42 + x3).toNatClampNeg) < 6 then (j52_13 M3 x1 0) else (j52_13 M3 x1 1))))) (fun j30_6 => if (M 1 (42 + x3).toNatClampNeg) ≤ 0 then (j30_6 M x2 0) else (j30_6 M x2 1))))
def f_oldShare (M : MS) : Option (UInt64 × MS) := f_oldShare_L6 (fun M19 x2_20 x1_21 => if x2_20 = 0 then (some (FP.dconst0, M19)) else (gd (gnd (FP.ddiv (FP.i2d x1_21) (FP.i2d x2_20))) (some ((FP.ddiv (FP.i2d x1_21) (FP.i2d x2_20)), M19)))) 2000 M 0 0 0
set_option maxHeartbeats 4000000 in
theorem w_oldShare_L6 {p : Program} {l : Launch} {e : Env} {R : Room} {s : State} {m : MethodId} {args : Array Value} {below : List Frame} {meth : Method} {c : Code} {G : va_G} {ai : Nat → ClassId} {A : Nat → Prop} {o : Nat} {ar : Nat → Nat} {r0 : UInt64} {M0 : MS} (hC : mo_C p R s m args meth c G ai A RX9 cX9_oldShare 4 0 0 0 0) (hr : meth.sig.returnType = (some .double)) (kont : MS → Int32 → Int32 → Option (UInt64 × MS)) (K : ∀ (M : MS) (x2 : Int32) (x1 : Int32) (H : Heap) (locs : List Loc) (ls : Array Slot), kont M x2 x1 = some (r0, M0) → mo_I G A s.heap (md_W ai o ar M) H locs → lv_has ls 4 [(2, .int x2), (1, .int x1)] → W p l e R s m args below meth c H locs 0 0 (md_Qd below G ai o ar A args s r0 M0) (F0 m 60 ls [])) :
    ∀ (n : Nat) (M : MS) (x3 : Int32) (x2 : Int32) (x1 : Int32) (H : Heap) (locs : List Loc) (ls : Array Slot), f_oldShare_L6 kont n M x3 x2 x1 = some (r0, M0) → mo_I G A s.heap (md_W ai o ar M) H locs → lv_has ls 4 [(3, .int x3), (2, .int x2), (1, .int x1), (0, .ref o)] → W p l e R s m args below meth c H locs 0 0 (md_Qd below G ai o ar A args s r0 M0) (F0 m 6 ls []) := by
  have hx := hC.1
  have hb := hC.2.1
  intro n
  induction n with
  | zero =>
    intro M x3 x2 x1 H locs ls hF
    have h0 : (none : Option (UInt64 × MS)) = some (r0, M0) := hF
    cases h0
  | succ n ih =>
    intro M x3 x2 x1 H locs ls hF hI hl
    rw [f_oldShare_L6] at hF
    refine lv_iload_n hx hb dX9_oldShare_6 rfl (lv_at hl 0 rfl) ?_
    refine lv_bipush (v := 30) hx hb dX9_oldShare_7 (by decide) ?_
    refine lv_icmp_ge (tgt := 60) hx hb dX9_oldShare_9 (by decide) (fun c1 => ?_) (fun c1 => ?_)
    · have hF := if_t hF c1
      exact K _ _ _ _ _ _ hF hI (lv_sub hl [1, 2] rfl)
    · have hF := if_f hF c1
      refine lv_iload_n hx hb dX9_oldShare_12 rfl (lv_at hl 1 rfl) ?_
      refine lv_aload_n hx hb dX9_oldShare_13 rfl (lv_at hl 3 rfl) ?_
      refine md_g6 hC hI dX9_oldShare_14 ?_
      refine lv_bipush (v := 42) hx hb dX9_oldShare_17 (by decide) ?_
      refine lv_iload_n hx hb dX9_oldShare_19 rfl (lv_at hl 0 rfl) ?_
      refine lv_iadd hx hb dX9_oldShare_20 ?_
      obtain ⟨hg2, hF⟩ := gd_some hF
      refine md_l1 hC hI hg2 dX9_oldShare_21 ?_
      obtain ⟨j30_6, hj30_6, hF⟩ := lj_some hF
      have J30 : ∀ (M3 : MS) (t5 : Int32) (t6 : Int32) (H : Heap) (locs : List Loc) (ls : Array Slot), j30_6 M3 t5 t6 = some (r0, M0) → mo_I G A s.heap (md_W ai o ar M3) H locs → lv_has ls 4 [(3, .int x3), (1, .int x1), (0, .ref o)] → W p l e R s m args below meth c H locs 0 0 (md_Qd below G ai o ar A args s r0 M0) (F0 m 30 ls [.int t6, .int t5]) := by
        intro M3 t5 t6 H locs ls hF hI hl
        rw [hj30_6] at hF
        refine lv_iadd hx hb dX9_oldShare_30 ?_
        obtain ⟨x2_8, hx2_8, hF⟩ := lt_some hF
        refine mo_ist (lv' := [(2, .int x2_8), (3, .int x3), (1, .int x1), (0, .ref o)]) hx hb hx2_8 dX9_oldShare_31 rfl hl (by decide) rfl (fun ls hl => ?_)
        refine lv_iload_n hx hb dX9_oldShare_32 rfl (lv_at hl 2 rfl) ?_
        refine lv_aload_n hx hb dX9_oldShare_33 rfl (lv_at hl 3 rfl) ?_
        refine md_g6 hC hI dX9_oldShare_34 ?_
        refine lv_bipush (v := 42) hx hb dX9_oldShare_37 (by decide) ?_
        refine lv_iload_n hx hb dX9_oldShare_39 rfl (lv_at hl 1 rfl) ?_
        refine lv_iadd hx hb dX9_oldShare_40 ?_
        obtain ⟨hg9, hF⟩ := gd_some hF
        refine md_l1 hC hI hg9 dX9_oldShare_41 ?_
        refine lv_bipush (v := 6) hx hb dX9_oldShare_42 (by decide) ?_
        obtain ⟨j52_13, hj52_13, hF⟩ := lj_some hF
        have J52 : ∀ (M10 : MS) (t12 : Int32) (t13 : Int32) (H : Heap) (locs : List Loc) (ls : Array Slot), j52_13 M10 t12 t13 = some (r0, M0) → mo_I G A s.heap (md_W ai o ar M10) H locs → lv_has ls 4 [(2, .int x2_8), (3, .int x3), (0, .ref o)] → W p l e R s m args below meth c H locs 0 0 (md_Qd below G ai o ar A args s r0 M0) (F0 m 52 ls [.int t13, .int t12]) := by
          intro M10 t12 t13 H locs ls hF hI hl
          rw [hj52_13] at hF
          refine lv_iadd hx hb dX9_oldShare_52 ?_
          obtain ⟨x1_15, hx1_15, hF⟩ := lt_some hF
          refine mo_ist (lv' := [(1, .int x1_15), (2, .int x2_8), (3, .int x3), (0, .ref o)]) hx hb hx1_15 dX9_oldShare_53 rfl hl (by decide) rfl (fun ls hl => ?_)
          obtain ⟨x3_16, hx3_16, hF⟩ := lt_some hF
          refine mo_inc (k := 2) (lv' := [(3, .int x3_16), (1, .int x1_15), (2, .int x2_8), (0, .ref o)]) hx hb hx3_16 (by decide) dX9_oldShare_54 hl rfl (by decide) rfl (fun ls hl => ?_)
          refine lv_goto (tgt := 6) hx hb dX9_oldShare_57 (by decide) ?_
          exact ih _ _ _ _ _ _ _ hF hI (lv_sub hl [0, 2, 1, 3] rfl)
        refine lv_icmp_lt (tgt := 51) hx hb dX9_oldShare_44 (by decide) (fun c17 => ?_) (fun c17 => ?_)
        · have hF := if_t hF c17
          refine lv_iconst (v := 0) hx hb dX9_oldShare_51 (by decide) ?_
          exact J52 _ _ _ _ _ _ hF hI (lv_sub hl [0, 1, 3] rfl)
        · have hF := if_f hF c17
          refine lv_iconst (v := 1) hx hb dX9_oldShare_47 (by decide) ?_
          refine lv_goto (tgt := 52) hx hb dX9_oldShare_48 (by decide) ?_
          exact J52 _ _ _ _ _ _ hF hI (lv_sub hl [0, 1, 3] rfl)
      refine lv_if_le (tgt := 29) hx hb dX9_oldShare_22 (by decide) (fun c18 => ?_) (fun c18 => ?_)
      · have hF := if_t hF c18
        refine lv_iconst (v := 0) hx hb dX9_oldShare_29 (by decide) ?_
        exact J30 _ _ _ _ _ _ hF hI (lv_sub hl [0, 2, 3] rfl)
      · have hF := if_f hF c18
        refine lv_iconst (v := 1) hx hb dX9_oldShare_25 (by decide) ?_
        refine lv_goto (tgt := 30) hx hb dX9_oldShare_26 (by decide) ?_
        exact J30 _ _ _ _ _ _ hF hI (lv_sub hl [0, 2, 3] rfl)
set_option maxHeartbeats 4000000 in
theorem w_oldShare (l : Launch) (G : va_G) (ai : Nat → ClassId) (o : Nat) (ar : Nat → Nat) (M : MS) (r0 : UInt64) (M0 : MS) (hF : f_oldShare M = some (r0, M0)) : md_Md l G ai o ar yX9_oldShare cX9_oldShare 4 (some .double) ({ frames := 0, cells := 0, slots := 0, locals := 0 } : Room) [.ref o] M r0 M0 := by
  refine mo_body (Qc := fun A => va_Qd (fun (r' : UInt64) (M2 : MS) => r' = r0 ∧ M2 = M0) (gw_E G ai (md_W ai o ar) A) A) (by decide) (Nat.le_of_ble_eq_true rfl) ?_
  intro p e s m args below meth c A ls hC hr hI hl _
  have hx := hC.1
  have hb := hC.2.1
  have hl : lv_has ls 4 [(0, .ref o)] := hl
  show W p l e _ s m args below meth c s.heap [] 0 0 (md_Qd below G ai o ar A args s r0 M0) (F0 m 0 ls [])
  rw [f_oldShare] at hF
  refine lv_iconst (v := 0) hx hb dX9_oldShare_0 (by decide) ?_
  refine mo_ist (lv' := [(1, .int 0), (0, .ref o)]) hx hb rfl dX9_oldShare_1 rfl hl (by decide) rfl (fun ls hl => ?_)
  refine lv_iconst (v := 0) hx hb dX9_oldShare_2 (by decide) ?_
  refine mo_ist (lv' := [(2, .int 0), (1, .int 0), (0, .ref o)]) hx hb rfl dX9_oldShare_3 rfl hl (by decide) rfl (fun ls hl => ?_)
  refine lv_iconst (v := 0) hx hb dX9_oldShare_4 (by decide) ?_
  refine mo_ist (lv' := [(3, .int 0), (2, .int 0), (1, .int 0), (0, .ref o)]) hx hb rfl dX9_oldShare_5 rfl hl (by decide) rfl (fun ls hl => ?_)
  refine w_oldShare_L6 hC hr _ (fun M19 x2_20 x1_21 H locs ls hF hI hl => ?_) 2000 _ _ _ _ _ _ _ hF hI (lv_sub hl [0, 1, 2, 3] rfl)
  refine lv_iload_n hx hb dX9_oldShare_60 rfl (lv_at hl 0 rfl) ?_
  refine lv_if_ne (tgt := 68) hx hb dX9_oldShare_61 (by decide) (fun c22 => ?_) (fun c22 => ?_)
  · have hF := if_f hF c22
    refine lv_iload_n hx hb dX9_oldShare_68 rfl (lv_at hl 1 rfl) ?_
    refine lv_i2d hx hb dX9_oldShare_69 ?_
    refine lv_iload_n hx hb dX9_oldShare_70 rfl (lv_at hl 0 rfl) ?_
    refine lv_i2d hx hb dX9_oldShare_71 ?_
    obtain ⟨hg23, hF⟩ := gd_some hF
    refine lv_ddiv hx hb dX9_oldShare_72 (gnd_n hg23) ?_
    exact md_dret hC hI hr hF dX9_oldShare_73
  · have hF := if_t hF c22
    refine lv_dconst0 hx hb dX9_oldShare_64 ?_
    refine lv_goto (tgt := 73) hx hb dX9_oldShare_65 (by decide) ?_
    exact md_dret hC hI hr hF dX9_oldShare_73

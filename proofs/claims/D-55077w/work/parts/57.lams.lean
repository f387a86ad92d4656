set_option maxRecDepth 100000
def f_ml_setOf_1_L4 (b1 : Int32) (x_v : MS) (x_ml : MS) (a0 : Int32) (kont : Int32 → Option Int32) : Nat → Int32 → Int32 → Option Int32
  | 0, _, _ => none
  | n + 1, x3, x2 => if a0 ≤ x3 then (kont x2) else (ov (f_ml_lambda_gardenersOn_0 x_v x_ml b1 x3) (fun r2 => lj (fun (t4 : Int32) (t5 : Int32) => lt ((t4 ||| t5)) (fun x2_7 => lt (x3 + 1) (fun x3_8 => f_ml_setOf_1_L4 b1 x_v x_ml a0 kont n x3_8 x2_7))) (fun j27_5 => if r2 = 0 then (j27_5 x2 0) else (j27_5 x2 (1 <<< (x3 &&& 31))))))
def f_ml_setOf_1 (b1 : Int32) (v : MS) (ml : MS) (a0 : Int32) : Option Int32 := f_ml_setOf_1_L4 b1 v ml a0 (fun x2_10 => some x2_10) 40 0 0
set_option maxHeartbeats 4000000 in
theorem w_ml_setOf_1_L4 {p : Program} {l : Launch} {e : Env} {R : Room} {s s0 : State} {b0 : Addr} {m : MethodId} {args : Array Value} {below : List Frame} {meth : Method} {c : Code} {G : va_G} {ai : Nat → ClassId} {A : Nat → Prop} {sa ma : Nat → Nat} {rf : Value} {tl : va_W} {q9 : Nat} {b1 : Int32} {x_v : MS} {x_ml : MS} {r0 : Int32} (hC : mo_C p R s m args meth c G ai A RX0 cX0_setOf 4 2 43 0 0) (h0 : mo_S0 s0 b0) (hZ : mo_Z s0 A s) (hr : meth.sig.returnType = (some .int)) (hq9 : s.heap[q9]? = some { cls := laK s0 sx_1 9 184 sg_1, slots := #[.ref (ma 0), .int b1], vm := .none }) (hI0 : mo_I G A s.heap (st_W ai sa x_v (ml_C ai s0 b0 sa ma rf x_ml ++ tl)) s.heap []) (a0 : Int32) (kont : Int32 → Option Int32) (K : ∀ (x2 : Int32) (ls : Array Slot), kont x2 = some r0 → lv_has ls 4 [(2, .int x2)] → W p l e R s m args below meth c s.heap [] 0 0 (MQ below (rd_Q (.int r0)) args s 0 0 (fun _ => False)) (F0 m 35 ls [])) :
    ∀ (n : Nat) (x3 : Int32) (x2 : Int32) (ls : Array Slot), f_ml_setOf_1_L4 b1 x_v x_ml a0 kont n x3 x2 = some r0 → lv_has ls 4 [(3, .int x3), (2, .int x2), (0, .int a0), (1, .ref q9)] → W p l e R s m args below meth c s.heap [] 0 0 (MQ below (rd_Q (.int r0)) args s 0 0 (fun _ => False)) (F0 m 4 ls []) := by
  have hx := hC.1
  have hb := hC.2.1
  have hI := hI0
  intro n
  induction n with
  | zero =>
    intro x3 x2 ls hF
    have h0 : (none : Option Int32) = some r0 := hF
    cases h0
  | succ n ih =>
    intro x3 x2 ls hF hl
    rw [f_ml_setOf_1_L4] at hF
    refine lv_iload_n hx hb dX0_setOf_4 rfl (lv_at hl 0 rfl) ?_
    refine lv_iload_n hx hb dX0_setOf_5 rfl (lv_at hl 2 rfl) ?_
    refine lv_icmp_ge (tgt := 35) hx hb dX0_setOf_6 (by decide) (fun c1 => ?_) (fun c1 => ?_)
    · have hF := if_t hF c1
      exact K _ _ hF (lv_sub hl [1] rfl)
    · have hF := if_f hF c1
      refine lv_iload_n hx hb dX0_setOf_9 rfl (lv_at hl 1 rfl) ?_
      refine lv_aload_n hx hb dX0_setOf_10 rfl (lv_at hl 3 rfl) ?_
      refine lv_iload_n hx hb dX0_setOf_11 rfl (lv_at hl 0 rfl) ?_
      obtain ⟨r2, hz3, hF⟩ := ov_some hF
      refine c_1 hC h0 hZ hI hq9 hz3 (Nat.le_of_ble_eq_true rfl) (Nat.le_of_ble_eq_true rfl) hl.1 (Nat.le_of_ble_eq_true rfl) dX0_setOf_12 ?_
      obtain ⟨j27_5, hj27_5, hF⟩ := lj_some hF
      have J27 : ∀ (t4 : Int32) (t5 : Int32) (ls : Array Slot), j27_5 t4 t5 = some r0 → lv_has ls 4 [(3, .int x3), (0, .int a0), (1, .ref q9)] → W p l e R s m args below meth c s.heap [] 0 0 (MQ below (rd_Q (.int r0)) args s 0 0 (fun _ => False)) (F0 m 27 ls [.int t5, .int t4]) := by
        intro t4 t5 ls hF hl
        rw [hj27_5] at hF
        refine lv_ior hx hb dX0_setOf_27 ?_
        obtain ⟨x2_7, hx2_7, hF⟩ := lt_some hF
        refine mo_ist (lv' := [(2, .int x2_7), (3, .int x3), (0, .int a0), (1, .ref q9)]) hx hb hx2_7 dX0_setOf_28 rfl hl (by decide) rfl (fun ls hl => ?_)
        obtain ⟨x3_8, hx3_8, hF⟩ := lt_some hF
        refine mo_inc (k := 1) (lv' := [(3, .int x3_8), (2, .int x2_7), (0, .int a0), (1, .ref q9)]) hx hb hx3_8 (by decide) dX0_setOf_29 hl rfl (by decide) rfl (fun ls hl => ?_)
        refine lv_goto (tgt := 4) hx hb dX0_setOf_32 (by decide) ?_
        exact ih _ _ _ hF (lv_sub hl [0, 1, 2, 3] rfl)
      refine lv_if_eq (tgt := 26) hx hb dX0_setOf_17 (by decide) (fun c9 => ?_) (fun c9 => ?_)
      · have hF := if_t hF c9
        refine lv_iconst (v := 0) hx hb dX0_setOf_26 (by decide) ?_
        exact J27 _ _ _ hF (lv_sub hl [0, 2, 3] rfl)
      · have hF := if_f hF c9
        refine lv_iconst (v := 1) hx hb dX0_setOf_20 (by decide) ?_
        refine lv_iload_n hx hb dX0_setOf_21 rfl (lv_at hl 0 rfl) ?_
        refine lv_ishl hx hb dX0_setOf_22 ?_
        refine lv_goto (tgt := 27) hx hb dX0_setOf_23 (by decide) ?_
        exact J27 _ _ _ hF (lv_sub hl [0, 2, 3] rfl)
set_option maxHeartbeats 4000000 in
theorem w_ml_setOf_1 (l : Launch) (G : va_G) (ai : Nat → ClassId) {s0 : State} {b0 : Addr} (h0 : mo_S0 s0 b0) {sa ma : Nat → Nat} {rf : Value} {tl : va_W} {q9 : Nat} {b1 : Int32} (v : MS) (ml : MS) (a0 : Int32) (r0 : Int32) (hF : f_ml_setOf_1 b1 v ml a0 = some r0) : rl_Met l G ai s0 yX0_setOf cX0_setOf 4 (some .int) ({ frames := 2, cells := 0, slots := 0, locals := 43 } : Room) [.int a0, .ref q9] (st_W ai sa v (ml_C ai s0 b0 sa ma rf ml ++ tl)) q9 { cls := laK s0 sx_1 9 184 sg_1, slots := #[.ref (ma 0), .int b1], vm := .none } (.int r0) := by
  refine rl_body (by decide) (Nat.le_of_ble_eq_true rfl) ?_
  intro p e s m args below meth c A ls hC hZ hr hI hl hq9
  have hx := hC.1
  have hb := hC.2.1
  have hl : lv_has ls 4 [(0, .int a0), (1, .ref q9)] := hl
  show W p l e _ s m args below meth c s.heap [] 0 0 (MQ below (rd_Q (.int r0)) args s 0 0 (fun _ => False)) (F0 m 0 ls [])
  rw [f_ml_setOf_1] at hF
  refine lv_iconst (v := 0) hx hb dX0_setOf_0 (by decide) ?_
  refine mo_ist (lv' := [(2, .int 0), (0, .int a0), (1, .ref q9)]) hx hb rfl dX0_setOf_1 rfl hl (by decide) rfl (fun ls hl => ?_)
  refine lv_iconst (v := 0) hx hb dX0_setOf_2 (by decide) ?_
  refine mo_ist (lv' := [(3, .int 0), (2, .int 0), (0, .int a0), (1, .ref q9)]) hx hb rfl dX0_setOf_3 rfl hl (by decide) rfl (fun ls hl => ?_)
  refine w_ml_setOf_1_L4 hC h0 hZ hr hq9 hI a0 _ (fun x2_10 ls hF hl => ?_) 40 _ _ _ hF (lv_sub hl [0, 1, 2, 3] rfl)
  refine lv_iload_n hx hb dX0_setOf_35 rfl (lv_at hl 0 rfl) ?_
  have hF := Option.some.inj hF
  subst hF
  exact rd_iret hC hr rfl dX0_setOf_36
theorem k_X0_ml_setOf_1 {p : Program} {l : Launch} {e : Env} {R : Room} {s s0 : State} {b0 : Addr} {m : MethodId} {args : Array Value} {below : List Frame} {meth : Method} {c : Code} {H : Heap} {locs : List Loc} {cells slots : Nat} {Q : State → Prop} {pc : Nat} {ls : Array Slot} {rest : List Value} {G : va_G} {ai : Nat → ClassId} {A : Nat → Prop} {cc : ByteArray} {nL f L kc ks : Nat} {sa ma : Nat → Nat} {rf : Value} {tl : va_W} {q9 : Nat} {b1 : Int32} {v : MS} {ml : MS} {a0 : Int32}  {r1 : Int32} (hC : mo_C p R s m args meth c G ai A RX0 cc nL f L kc ks) (h0 : mo_S0 s0 b0) (hZ : mo_Z s0 A s) (hI : mo_I G A s.heap (st_W ai sa v (ml_C ai s0 b0 sa ma rf ml ++ tl)) H locs) (hq9 : H[q9]? = some { cls := laK s0 sx_1 9 184 sg_1, slots := #[.ref (ma 0), .int b1], vm := .none }) (hz : f_ml_setOf_1 b1 v ml a0 = some r1) (hf : 2 + 1 ≤ f) (hL : 8 + (4 + 11) + 43 ≤ L) (hsz : ls.size = nL) (hW : (rest.map fun v => v.category).sum ≤ 8) (hdg : decode cc pc = .ok (.invokestatic 187, 3)) (kk : W p l e R s m args below meth c H locs cells slots Q (F0 m (pc + 3) ls (.int r1 :: rest))) (hc0 : cells ≤ kc := by first | exact Nat.zero_le _ | exact Nat.le_of_ble_eq_true rfl | assumption | omega) (hs0 : slots ≤ ks := by first | exact Nat.zero_le _ | exact Nat.le_of_ble_eq_true rfl | assumption | omega) : W p l e R s m args below meth c H locs cells slots Q (F0 m pc ls (.ref q9 :: .int a0 :: rest)) :=
  rd_use (va_runS (As := [.int a0, .ref q9]) (rest := rest) ⟨hC.1, hC.2.1, hC.2.2.1, hC.2.2.2.1, hC.2.2.2.2.1⟩ (w_ml_setOf_1 l G ai h0 v ml a0 r1 hz H.size) (va_cwS 2 hC.2.2.2.2.1 (lw_S q899 q900 q115 q901) rfl rfl rfl (by decide +kernel) ⟨Nat.le_trans hf hC.2.2.2.2.2.2.2.2.1, Nat.le_trans hL hC.2.2.2.2.2.2.2.2.2.1⟩) ⟨rl_blind, fun U hU hW => ⟨gz_pre0 hC hZ hI U hU hW, by rw [hU]; exact hq9⟩⟩ rfl rfl hsz rfl (lv_room hW) hdg ⟨Nat.le_trans hc0 hC.2.2.2.2.2.2.2.2.2.2.1, Nat.le_trans hs0 hC.2.2.2.2.2.2.2.2.2.2.2⟩) kk
def f_ml_setOf_2_L4 (b1 : Int32) (x_v : MS) (x_ml : MS) (a0 : Int32) (kont : Int32 → Option Int32) : Nat → Int32 → Int32 → Option Int32
  | 0, _, _ => none
  | n + 1, x3, x2 => if a0 ≤ x3 then (kont x2) else (ov (f_ml_lambda_molesOn_1 x_v x_ml b1 x3) (fun r2 => lj (fun (t4 : Int32) (t5 : Int32) => lt ((t4 ||| t5)) (fun x2_7 => lt (x3 + 1) (fun x3_8 => f_ml_setOf_2_L4 b1 x_v x_ml a0 kont n x3_8 x2_7))) (fun j27_5 => if r2 = 0 then (j27_5 x2 0) else (j27_5 x2 (1 <<< (x3 &&& 31))))))
def f_ml_setOf_2 (b1 : Int32) (v : MS) (ml : MS) (a0 : Int32) : Option Int32 := f_ml_setOf_2_L4 b1 v ml a0 (fun x2_10 => some x2_10) 40 0 0
set_option maxHeartbeats 4000000 in
theorem w_ml_setOf_2_L4 {p : Program} {l : Launch} {e : Env} {R : Room} {s s0 : State} {b0 : Addr} {m : MethodId} {args : Array Value} {below : List Frame} {meth : Method} {c : Code} {G : va_G} {ai : Nat → ClassId} {A : Nat → Prop} {sa ma : Nat → Nat} {rf : Value} {tl : va_W} {q9 : Nat} {b1 : Int32} {x_v : MS} {x_ml : MS} {r0 : Int32} (hC : mo_C p R s m args meth c G ai A RX0 cX0_setOf 4 3 64 0 0) (h0 : mo_S0 s0 b0) (hZ : mo_Z s0 A s) (hr : meth.sig.returnType = (some .int)) (hq9 : s.heap[q9]? = some { cls := laK s0 sx_2 9 194 sg_2, slots := #[.ref (ma 0), .int b1], vm := .none }) (hI0 : mo_I G A s.heap (st_W ai sa x_v (ml_C ai s0 b0 sa ma rf x_ml ++ tl)) s.heap []) (a0 : Int32) (kont : Int32 → Option Int32) (K : ∀ (x2 : Int32) (ls : Array Slot), kont x2 = some r0 → lv_has ls 4 [(2, .int x2)] → W p l e R s m args below meth c s.heap [] 0 0 (MQ below (rd_Q (.int r0)) args s 0 0 (fun _ => False)) (F0 m 35 ls [])) :
    ∀ (n : Nat) (x3 : Int32) (x2 : Int32) (ls : Array Slot), f_ml_setOf_2_L4 b1 x_v x_ml a0 kont n x3 x2 = some r0 → lv_has ls 4 [(3, .int x3), (2, .int x2), (0, .int a0), (1, .ref q9)] → W p l e R s m args below meth c s.heap [] 0 0 (MQ below (rd_Q (.int r0)) args s 0 0 (fun _ => False)) (F0 m 4 ls []) := by
  have hx := hC.1
  have hb := hC.2.1
  have hI := hI0
  intro n
  induction n with
  | zero =>
    intro x3 x2 ls hF
    have h0 : (none : Option Int32) = some r0 := hF
    cases h0
  | succ n ih =>
    intro x3 x2 ls hF hl
    rw [f_ml_setOf_2_L4] at hF
    refine lv_iload_n hx hb dX0_setOf_4 rfl (lv_at hl 0 rfl) ?_
    refine lv_iload_n hx hb dX0_setOf_5 rfl (lv_at hl 2 rfl) ?_
    refine lv_icmp_ge (tgt := 35) hx hb dX0_setOf_6 (by decide) (fun c1 => ?_) (fun c1 => ?_)
    · have hF := if_t hF c1
      exact K _ _ hF (lv_sub hl [1] rfl)
    · have hF := if_f hF c1
      refine lv_iload_n hx hb dX0_setOf_9 rfl (lv_at hl 1 rfl) ?_
      refine lv_aload_n hx hb dX0_setOf_10 rfl (lv_at hl 3 rfl) ?_
      refine lv_iload_n hx hb dX0_setOf_11 rfl (lv_at hl 0 rfl) ?_
      obtain ⟨r2, hz3, hF⟩ := ov_some hF
      refine c_2 hC h0 hZ hI hq9 hz3 (Nat.le_of_ble_eq_true rfl) (Nat.le_of_ble_eq_true rfl) hl.1 (Nat.le_of_ble_eq_true rfl) dX0_setOf_12 ?_
      obtain ⟨j27_5, hj27_5, hF⟩ := lj_some hF
      have J27 : ∀ (t4 : Int32) (t5 : Int32) (ls : Array Slot), j27_5 t4 t5 = some r0 → lv_has ls 4 [(3, .int x3), (0, .int a0), (1, .ref q9)] → W p l e R s m args below meth c s.heap [] 0 0 (MQ below (rd_Q (.int r0)) args s 0 0 (fun _ => False)) (F0 m 27 ls [.int t5, .int t4]) := by
        intro t4 t5 ls hF hl
        rw [hj27_5] at hF
        refine lv_ior hx hb dX0_setOf_27 ?_
        obtain ⟨x2_7, hx2_7, hF⟩ := lt_some hF
        refine mo_ist (lv' := [(2, .int x2_7), (3, .int x3), (0, .int a0), (1, .ref q9)]) hx hb hx2_7 dX0_setOf_28 rfl hl (by decide) rfl (fun ls hl => ?_)
        obtain ⟨x3_8, hx3_8, hF⟩ := lt_some hF
        refine mo_inc (k := 1) (lv' := [(3, .int x3_8), (2, .int x2_7), (0, .int a0), (1, .ref q9)]) hx hb hx3_8 (by decide) dX0_setOf_29 hl rfl (by decide) rfl (fun ls hl => ?_)
        refine lv_goto (tgt := 4) hx hb dX0_setOf_32 (by decide) ?_
        exact ih _ _ _ hF (lv_sub hl [0, 1, 2, 3] rfl)
      refine lv_if_eq (tgt := 26) hx hb dX0_setOf_17 (by decide) (fun c9 => ?_) (fun c9 => ?_)
      · have hF := if_t hF c9
        refine lv_iconst (v := 0) hx hb dX0_setOf_26 (by decide) ?_
        exact J27 _ _ _ hF (lv_sub hl [0, 2, 3] rfl)
      · have hF := if_f hF c9
        refine lv_iconst (v := 1) hx hb dX0_setOf_20 (by decide) ?_
        refine lv_iload_n hx hb dX0_setOf_21 rfl (lv_at hl 0 rfl) ?_
        refine lv_ishl hx hb dX0_setOf_22 ?_
        refine lv_goto (tgt := 27) hx hb dX0_setOf_23 (by decide) ?_
        exact J27 _ _ _ hF (lv_sub hl [0, 2, 3] rfl)
set_option maxHeartbeats 4000000 in
theorem w_ml_setOf_2 (l : Launch) (G : va_G) (ai : Nat → ClassId) {s0 : State} {b0 : Addr} (h0 : mo_S0 s0 b0) {sa ma : Nat → Nat} {rf : Value} {tl : va_W} {q9 : Nat} {b1 : Int32} (v : MS) (ml : MS) (a0 : Int32) (r0 : Int32) (hF : f_ml_setOf_2 b1 v ml a0 = some r0) : rl_Met l G ai s0 yX0_setOf cX0_setOf 4 (some .int) ({ frames := 3, cells := 0, slots := 0, locals := 64 } : Room) [.int a0, .ref q9] (st_W ai sa v (ml_C ai s0 b0 sa ma rf ml ++ tl)) q9 { cls := laK s0 sx_2 9 194 sg_2, slots := #[.ref (ma 0), .int b1], vm := .none } (.int r0) := by
  refine rl_body (by decide) (Nat.le_of_ble_eq_true rfl) ?_
  intro p e s m args below meth c A ls hC hZ hr hI hl hq9
  have hx := hC.1
  have hb := hC.2.1
  have hl : lv_has ls 4 [(0, .int a0), (1, .ref q9)] := hl
  show W p l e _ s m args below meth c s.heap [] 0 0 (MQ below (rd_Q (.int r0)) args s 0 0 (fun _ => False)) (F0 m 0 ls [])
  rw [f_ml_setOf_2] at hF
  refine lv_iconst (v := 0) hx hb dX0_setOf_0 (by decide) ?_
  refine mo_ist (lv' := [(2, .int 0), (0, .int a0), (1, .ref q9)]) hx hb rfl dX0_setOf_1 rfl hl (by decide) rfl (fun ls hl => ?_)
  refine lv_iconst (v := 0) hx hb dX0_setOf_2 (by decide) ?_
  refine mo_ist (lv' := [(3, .int 0), (2, .int 0), (0, .int a0), (1, .ref q9)]) hx hb rfl dX0_setOf_3 rfl hl (by decide) rfl (fun ls hl => ?_)
  refine w_ml_setOf_2_L4 hC h0 hZ hr hq9 hI a0 _ (fun x2_10 ls hF hl => ?_) 40 _ _ _ hF (lv_sub hl [0, 1, 2, 3] rfl)
  refine lv_iload_n hx hb dX0_setOf_35 rfl (lv_at hl 0 rfl) ?_
  have hF := Option.some.inj hF
  subst hF
  exact rd_iret hC hr rfl dX0_setOf_36
theorem k_X0_ml_setOf_2 {p : Program} {l : Launch} {e : Env} {R : Room} {s s0 : State} {b0 : Addr} {m : MethodId} {args : Array Value} {below : List Frame} {meth : Method} {c : Code} {H : Heap} {locs : List Loc} {cells slots : Nat} {Q : State → Prop} {pc : Nat} {ls : Array Slot} {rest : List Value} {G : va_G} {ai : Nat → ClassId} {A : Nat → Prop} {cc : ByteArray} {nL f L kc ks : Nat} {sa ma : Nat → Nat} {rf : Value} {tl : va_W} {q9 : Nat} {b1 : Int32} {v : MS} {ml : MS} {a0 : Int32}  {r1 : Int32} (hC : mo_C p R s m args meth c G ai A RX0 cc nL f L kc ks) (h0 : mo_S0 s0 b0) (hZ : mo_Z s0 A s) (hI : mo_I G A s.heap (st_W ai sa v (ml_C ai s0 b0 sa ma rf ml ++ tl)) H locs) (hq9 : H[q9]? = some { cls := laK s0 sx_2 9 194 sg_2, slots := #[.ref (ma 0), .int b1], vm := .none }) (hz : f_ml_setOf_2 b1 v ml a0 = some r1) (hf : 3 + 1 ≤ f) (hL : 8 + (4 + 11) + 64 ≤ L) (hsz : ls.size = nL) (hW : (rest.map fun v => v.category).sum ≤ 8) (hdg : decode cc pc = .ok (.invokestatic 187, 3)) (kk : W p l e R s m args below meth c H locs cells slots Q (F0 m (pc + 3) ls (.int r1 :: rest))) (hc0 : cells ≤ kc := by first | exact Nat.zero_le _ | exact Nat.le_of_ble_eq_true rfl | assumption | omega) (hs0 : slots ≤ ks := by first | exact Nat.zero_le _ | exact Nat.le_of_ble_eq_true rfl | assumption | omega) : W p l e R s m args below meth c H locs cells slots Q (F0 m pc ls (.ref q9 :: .int a0 :: rest)) :=
  rd_use (va_runS (As := [.int a0, .ref q9]) (rest := rest) ⟨hC.1, hC.2.1, hC.2.2.1, hC.2.2.2.1, hC.2.2.2.2.1⟩ (w_ml_setOf_2 l G ai h0 v ml a0 r1 hz H.size) (va_cwS 2 hC.2.2.2.2.1 (lw_S q899 q900 q115 q901) rfl rfl rfl (by decide +kernel) ⟨Nat.le_trans hf hC.2.2.2.2.2.2.2.2.1, Nat.le_trans hL hC.2.2.2.2.2.2.2.2.2.1⟩) ⟨rl_blind, fun U hU hW => ⟨gz_pre0 hC hZ hI U hU hW, by rw [hU]; exact hq9⟩⟩ rfl rfl hsz rfl (lv_room hW) hdg ⟨Nat.le_trans hc0 hC.2.2.2.2.2.2.2.2.2.2.1, Nat.le_trans hs0 hC.2.2.2.2.2.2.2.2.2.2.2⟩) kk
def f_ml_setOf_11_L4 (x_v : MS) (x_ml : MS) (a0 : Int32) (kont : Int32 → Option Int32) : Nat → Int32 → Int32 → Option Int32
  | 0, _, _ => none
  | n + 1, x3, x2 => if a0 ≤ x3 then (kont x2) else (ov (f_ml_lambda_young_10 x_v x_ml x3) (fun r2 => lj (fun (t4 : Int32) (t5 : Int32) => lt ((t4 ||| t5)) (fun x2_7 => lt (x3 + 1) (fun x3_8 => f_ml_setOf_11_L4 x_v x_ml a0 kont n x3_8 x2_7))) (fun j27_5 => if r2 = 0 then (j27_5 x2 0) else (j27_5 x2 (1 <<< (x3 &&& 31))))))
def f_ml_setOf_11 (v : MS) (ml : MS) (a0 : Int32) : Option Int32 := f_ml_setOf_11_L4 v ml a0 (fun x2_10 => some x2_10) 40 0 0
set_option maxHeartbeats 4000000 in
theorem w_ml_setOf_11_L4 {p : Program} {l : Launch} {e : Env} {R : Room} {s s0 : State} {b0 : Addr} {m : MethodId} {args : Array Value} {below : List Frame} {meth : Method} {c : Code} {G : va_G} {ai : Nat → ClassId} {A : Nat → Prop} {sa ma : Nat → Nat} {rf : Value} {tl : va_W} {q9 : Nat}  {x_v : MS} {x_ml : MS} {r0 : Int32} (hC : mo_C p R s m args meth c G ai A RX0 cX0_setOf 4 5 106 0 0) (h0 : mo_S0 s0 b0) (hZ : mo_Z s0 A s) (hr : meth.sig.returnType = (some .int)) (hq9 : s.heap[q9]? = some { cls := laK s0 sx_11 3 537 sg_11, slots := #[.ref (ma 0)], vm := .none }) (hI0 : mo_I G A s.heap (st_W ai sa x_v (ml_C ai s0 b0 sa ma rf x_ml ++ tl)) s.heap []) (a0 : Int32) (kont : Int32 → Option Int32) (K : ∀ (x2 : Int32) (ls : Array Slot), kont x2 = some r0 → lv_has ls 4 [(2, .int x2)] → W p l e R s m args below meth c s.heap [] 0 0 (MQ below (rd_Q (.int r0)) args s 0 0 (fun _ => False)) (F0 m 35 ls [])) :
    ∀ (n : Nat) (x3 : Int32) (x2 : Int32) (ls : Array Slot), f_ml_setOf_11_L4 x_v x_ml a0 kont n x3 x2 = some r0 → lv_has ls 4 [(3, .int x3), (2, .int x2), (0, .int a0), (1, .ref q9)] → W p l e R s m args below meth c s.heap [] 0 0 (MQ below (rd_Q (.int r0)) args s 0 0 (fun _ => False)) (F0 m 4 ls []) := by
  have hx := hC.1
  have hb := hC.2.1
  have hI := hI0
  intro n
  induction n with
  | zero =>
    intro x3 x2 ls hF
    have h0 : (none : Option Int32) = some r0 := hF
    cases h0
  | succ n ih =>
    intro x3 x2 ls hF hl
    rw [f_ml_setOf_11_L4] at hF
    refine lv_iload_n hx hb dX0_setOf_4 rfl (lv_at hl 0 rfl) ?_
    refine lv_iload_n hx hb dX0_setOf_5 rfl (lv_at hl 2 rfl) ?_
    refine lv_icmp_ge (tgt := 35) hx hb dX0_setOf_6 (by decide) (fun c1 => ?_) (fun c1 => ?_)
    · have hF := if_t hF c1
      exact K _ _ hF (lv_sub hl [1] rfl)
    · have hF := if_f hF c1
      refine lv_iload_n hx hb dX0_setOf_9 rfl (lv_at hl 1 rfl) ?_
      refine lv_aload_n hx hb dX0_setOf_10 rfl (lv_at hl 3 rfl) ?_
      refine lv_iload_n hx hb dX0_setOf_11 rfl (lv_at hl 0 rfl) ?_
      obtain ⟨r2, hz3, hF⟩ := ov_some hF
      refine c_11 hC h0 hZ hI hq9 hz3 (Nat.le_of_ble_eq_true rfl) (Nat.le_of_ble_eq_true rfl) hl.1 (Nat.le_of_ble_eq_true rfl) dX0_setOf_12 ?_
      obtain ⟨j27_5, hj27_5, hF⟩ := lj_some hF
      have J27 : ∀ (t4 : Int32) (t5 : Int32) (ls : Array Slot), j27_5 t4 t5 = some r0 → lv_has ls 4 [(3, .int x3), (0, .int a0), (1, .ref q9)] → W p l e R s m args below meth c s.heap [] 0 0 (MQ below (rd_Q (.int r0)) args s 0 0 (fun _ => False)) (F0 m 27 ls [.int t5, .int t4]) := by
        intro t4 t5 ls hF hl
        rw [hj27_5] at hF
        refine lv_ior hx hb dX0_setOf_27 ?_
        obtain ⟨x2_7, hx2_7, hF⟩ := lt_some hF
        refine mo_ist (lv' := [(2, .int x2_7), (3, .int x3), (0, .int a0), (1, .ref q9)]) hx hb hx2_7 dX0_setOf_28 rfl hl (by decide) rfl (fun ls hl => ?_)
        obtain ⟨x3_8, hx3_8, hF⟩ := lt_some hF
        refine mo_inc (k := 1) (lv' := [(3, .int x3_8), (2, .int x2_7), (0, .int a0), (1, .ref q9)]) hx hb hx3_8 (by decide) dX0_setOf_29 hl rfl (by decide) rfl (fun ls hl => ?_)
        refine lv_goto (tgt := 4) hx hb dX0_setOf_32 (by decide) ?_
        exact ih _ _ _ hF (lv_sub hl [0, 1, 2, 3] rfl)
      refine lv_if_eq (tgt := 26) hx hb dX0_setOf_17 (by decide) (fun c9 => ?_) (fun c9 => ?_)
      · have hF := if_t hF c9
        refine lv_iconst (v := 0) hx hb dX0_setOf_26 (by decide) ?_
        exact J27 _ _ _ hF (lv_sub hl [0, 2, 3] rfl)
      · have hF := if_f hF c9
        refine lv_iconst (v := 1) hx hb dX0_setOf_20 (by decide) ?_
        refine lv_iload_n hx hb dX0_setOf_21 rfl (lv_at hl 0 rfl) ?_
        refine lv_ishl hx hb dX0_setOf_22 ?_
        refine lv_goto (tgt := 27) hx hb dX0_setOf_23 (by decide) ?_
        exact J27 _ _ _ hF (lv_sub hl [0, 2, 3] rfl)
set_option maxHeartbeats 4000000 in
theorem w_ml_setOf_11 (l : Launch) (G : va_G) (ai : Nat → ClassId) {s0 : State} {b0 : Addr} (h0 : mo_S0 s0 b0) {sa ma : Nat → Nat} {rf : Value} {tl : va_W} {q9 : Nat}  (v : MS) (ml : MS) (a0 : Int32) (r0 : Int32) (hF : f_ml_setOf_11 v ml a0 = some r0) : rl_Met l G ai s0 yX0_setOf cX0_setOf 4 (some .int) ({ frames := 5, cells := 0, slots := 0, locals := 106 } : Room) [.int a0, .ref q9] (st_W ai sa v (ml_C ai s0 b0 sa ma rf ml ++ tl)) q9 { cls := laK s0 sx_11 3 537 sg_11, slots := #[.ref (ma 0)], vm := .none } (.int r0) := by
  refine rl_body (by decide) (Nat.le_of_ble_eq_true rfl) ?_
  intro p e s m args below meth c A ls hC hZ hr hI hl hq9
  have hx := hC.1
  have hb := hC.2.1
  have hl : lv_has ls 4 [(0, .int a0), (1, .ref q9)] := hl
  show W p l e _ s m args below meth c s.heap [] 0 0 (MQ below (rd_Q (.int r0)) args s 0 0 (fun _ => False)) (F0 m 0 ls [])
  rw [f_ml_setOf_11] at hF
  refine lv_iconst (v := 0) hx hb dX0_setOf_0 (by decide) ?_
  refine mo_ist (lv' := [(2, .int 0), (0, .int a0), (1, .ref q9)]) hx hb rfl dX0_setOf_1 rfl hl (by decide) rfl (fun ls hl => ?_)
  refine lv_iconst (v := 0) hx hb dX0_setOf_2 (by decide) ?_
  refine mo_ist (lv' := [(3, .int 0), (2, .int 0), (0, .int a0), (1, .ref q9)]) hx hb rfl dX0_setOf_3 rfl hl (by decide) rfl (fun ls hl => ?_)
  refine w_ml_setOf_11_L4 hC h0 hZ hr hq9 hI a0 _ (fun x2_10 ls hF hl => ?_) 40 _ _ _ hF (lv_sub hl [0, 1, 2, 3] rfl)
  refine lv_iload_n hx hb dX0_setOf_35 rfl (lv_at hl 0 rfl) ?_
  have hF := Option.some.inj hF
  subst hF
  exact rd_iret hC hr rfl dX0_setOf_36
theorem k_X0_ml_setOf_11 {p : Program} {l : Launch} {e : Env} {R : Room} {s s0 : State} {b0 : Addr} {m : MethodId} {args : Array Value} {below : List Frame} {meth : Method} {c : Code} {H : Heap} {locs : List Loc} {cells slots : Nat} {Q : State → Prop} {pc : Nat} {ls : Array Slot} {rest : List Value} {G : va_G} {ai : Nat → ClassId} {A : Nat → Prop} {cc : ByteArray} {nL f L kc ks : Nat} {sa ma : Nat → Nat} {rf : Value} {tl : va_W} {q9 : Nat}  {v : MS} {ml : MS} {a0 : Int32}  {r1 : Int32} (hC : mo_C p R s m args meth c G ai A RX0 cc nL f L kc ks) (h0 : mo_S0 s0 b0) (hZ : mo_Z s0 A s) (hI : mo_I G A s.heap (st_W ai sa v (ml_C ai s0 b0 sa ma rf ml ++ tl)) H locs) (hq9 : H[q9]? = some { cls := laK s0 sx_11 3 537 sg_11, slots := #[.ref (ma 0)], vm := .none }) (hz : f_ml_setOf_11 v ml a0 = some r1) (hf : 5 + 1 ≤ f) (hL : 8 + (4 + 11) + 106 ≤ L) (hsz : ls.size = nL) (hW : (rest.map fun v => v.category).sum ≤ 8) (hdg : decode cc pc = .ok (.invokestatic 187, 3)) (kk : W p l e R s m args below meth c H locs cells slots Q (F0 m (pc + 3) ls (.int r1 :: rest))) (hc0 : cells ≤ kc := by first | exact Nat.zero_le _ | exact Nat.le_of_ble_eq_true rfl | assumption | omega) (hs0 : slots ≤ ks := by first | exact Nat.zero_le _ | exact Nat.le_of_ble_eq_true rfl | assumption | omega) : W p l e R s m args below meth c H locs cells slots Q (F0 m pc ls (.ref q9 :: .int a0 :: rest)) :=
  rd_use (va_runS (As := [.int a0, .ref q9]) (rest := rest) ⟨hC.1, hC.2.1, hC.2.2.1, hC.2.2.2.1, hC.2.2.2.2.1⟩ (w_ml_setOf_11 l G ai h0 v ml a0 r1 hz H.size) (va_cwS 2 hC.2.2.2.2.1 (lw_S q899 q900 q115 q901) rfl rfl rfl (by decide +kernel) ⟨Nat.le_trans hf hC.2.2.2.2.2.2.2.2.1, Nat.le_trans hL hC.2.2.2.2.2.2.2.2.2.1⟩) ⟨rl_blind, fun U hU hW => ⟨gz_pre0 hC hZ hI U hU hW, by rw [hU]; exact hq9⟩⟩ rfl rfl hsz rfl (lv_room hW) hdg ⟨Nat.le_trans hc0 hC.2.2.2.2.2.2.2.2.2.2.1, Nat.le_trans hs0 hC.2.2.2.2.2.2.2.2.2.2.2⟩) kk
def f_ml_setOf_12_L4 (x_v : MS) (x_ml : MS) (a0 : Int32) (kont : Int32 → Option Int32) : Nat → Int32 → Int32 → Option Int32
  | 0, _, _ => none
  | n + 1, x3, x2 => if a0 ≤ x3 then (kont x2) else (ov (f_ml_lambda_oldShare_11 x_v x_ml x3) (fun r2 => lj (fun (t4 : Int32) (t5 : Int32) => lt ((t4 ||| t5)) (fun x2_7 => lt (x3 + 1) (fun x3_8 => f_ml_setOf_12_L4 x_v x_ml a0 kont n x3_8 x2_7))) (fun j27_5 => if r2 = 0 then (j27_5 x2 0) else (j27_5 x2 (1 <<< (x3 &&& 31))))))
def f_ml_setOf_12 (v : MS) (ml : MS) (a0 : Int32) : Option Int32 := f_ml_setOf_12_L4 v ml a0 (fun x2_10 => some x2_10) 40 0 0
set_option maxHeartbeats 4000000 in
theorem w_ml_setOf_12_L4 {p : Program} {l : Launch} {e : Env} {R : Room} {s s0 : State} {b0 : Addr} {m : MethodId} {args : Array Value} {below : List Frame} {meth : Method} {c : Code} {G : va_G} {ai : Nat → ClassId} {A : Nat → Prop} {sa ma : Nat → Nat} {rf : Value} {tl : va_W} {q9 : Nat}  {x_v : MS} {x_ml : MS} {r0 : Int32} (hC : mo_C p R s m args meth c G ai A RX0 cX0_setOf 4 5 106 0 0) (h0 : mo_S0 s0 b0) (hZ : mo_Z s0 A s) (hr : meth.sig.returnType = (some .int)) (hq9 : s.heap[q9]? = some { cls := laK s0 sx_12 3 557 sg_12, slots := #[.ref (ma 0)], vm := .none }) (hI0 : mo_I G A s.heap (st_W ai sa x_v (ml_C ai s0 b0 sa ma rf x_ml ++ tl)) s.heap []) (a0 : Int32) (kont : Int32 → Option Int32) (K : ∀ (x2 : Int32) (ls : Array Slot), kont x2 = some r0 → lv_has ls 4 [(2, .int x2)] → W p l e R s m args below meth c s.heap [] 0 0 (MQ below (rd_Q (.int r0)) args s 0 0 (fun _ => False)) (F0 m 35 ls [])) :
    ∀ (n : Nat) (x3 : Int32) (x2 : Int32) (ls : Array Slot), f_ml_setOf_12_L4 x_v x_ml a0 kont n x3 x2 = some r0 → lv_has ls 4 [(3, .int x3), (2, .int x2), (0, .int a0), (1, .ref q9)] → W p l e R s m args below meth c s.heap [] 0 0 (MQ below (rd_Q (.int r0)) args s 0 0 (fun _ => False)) (F0 m 4 ls []) := by
  have hx := hC.1
  have hb := hC.2.1
  have hI := hI0
  intro n
  induction n with
  | zero =>
    intro x3 x2 ls hF
    have h0 : (none : Option Int32) = some r0 := hF
    cases h0
  | succ n ih =>
    intro x3 x2 ls hF hl
    rw [f_ml_setOf_12_L4] at hF
    refine lv_iload_n hx hb dX0_setOf_4 rfl (lv_at hl 0 rfl) ?_
    refine lv_iload_n hx hb dX0_setOf_5 rfl (lv_at hl 2 rfl) ?_
    refine lv_icmp_ge (tgt := 35) hx hb dX0_setOf_6 (by decide) (fun c1 => ?_) (fun c1 => ?_)
    · have hF := if_t hF c1
      exact K _ _ hF (lv_sub hl [1] rfl)
    · have hF := if_f hF c1
      refine lv_iload_n hx hb dX0_setOf_9 rfl (lv_at hl 1 rfl) ?_
      refine lv_aload_n hx hb dX0_setOf_10 rfl (lv_at hl 3 rfl) ?_
      refine lv_iload_n hx hb dX0_setOf_11 rfl (lv_at hl 0 rfl) ?_
      obtain ⟨r2, hz3, hF⟩ := ov_some hF
      refine c_12 hC h0 hZ hI hq9 hz3 (Nat.le_of_ble_eq_true rfl) (Nat.le_of_ble_eq_true rfl) hl.1 (Nat.le_of_ble_eq_true rfl) dX0_setOf_12 ?_
      obtain ⟨j27_5, hj27_5, hF⟩ := lj_some hF
      have J27 : ∀ (t4 : Int32) (t5 : Int32) (ls : Array Slot), j27_5 t4 t5 = some r0 → lv_has ls 4 [(3, .int x3), (0, .int a0), (1, .ref q9)] → W p l e R s m args below meth c s.heap [] 0 0 (MQ below (rd_Q (.int r0)) args s 0 0 (fun _ => False)) (F0 m 27 ls [.int t5, .int t4]) := by
        intro t4 t5 ls hF hl
        rw [hj27_5] at hF
        refine lv_ior hx hb dX0_setOf_27 ?_
        obtain ⟨x2_7, hx2_7, hF⟩ := lt_some hF
        refine mo_ist (lv' := [(2, .int x2_7), (3, .int x3), (0, .int a0), (1, .ref q9)]) hx hb hx2_7 dX0_setOf_28 rfl hl (by decide) rfl (fun ls hl => ?_)
        obtain ⟨x3_8, hx3_8, hF⟩ := lt_some hF
        refine mo_inc (k := 1) (lv' := [(3, .int x3_8), (2, .int x2_7), (0, .int a0), (1, .ref q9)]) hx hb hx3_8 (by decide) dX0_setOf_29 hl rfl (by decide) rfl (fun ls hl => ?_)
        refine lv_goto (tgt := 4) hx hb dX0_setOf_32 (by decide) ?_
        exact ih _ _ _ hF (lv_sub hl [0, 1, 2, 3] rfl)
      refine lv_if_eq (tgt := 26) hx hb dX0_setOf_17 (by decide) (fun c9 => ?_) (fun c9 => ?_)
      · have hF := if_t hF c9
        refine lv_iconst (v := 0) hx hb dX0_setOf_26 (by decide) ?_
        exact J27 _ _ _ hF (lv_sub hl [0, 2, 3] rfl)
      · have hF := if_f hF c9
        refine lv_iconst (v := 1) hx hb dX0_setOf_20 (by decide) ?_
        refine lv_iload_n hx hb dX0_setOf_21 rfl (lv_at hl 0 rfl) ?_
        refine lv_ishl hx hb dX0_setOf_22 ?_
        refine lv_goto (tgt := 27) hx hb dX0_setOf_23 (by decide) ?_
        exact J27 _ _ _ hF (lv_sub hl [0, 2, 3] rfl)
set_option maxHeartbeats 4000000 in
theorem w_ml_setOf_12 (l : Launch) (G : va_G) (ai : Nat → ClassId) {s0 : State} {b0 : Addr} (h0 : mo_S0 s0 b0) {sa ma : Nat → Nat} {rf : Value} {tl : va_W} {q9 : Nat}  (v : MS) (ml : MS) (a0 : Int32) (r0 : Int32) (hF : f_ml_setOf_12 v ml a0 = some r0) : rl_Met l G ai s0 yX0_setOf cX0_setOf 4 (some .int) ({ frames := 5, cells := 0, slots := 0, locals := 106 } : Room) [.int a0, .ref q9] (st_W ai sa v (ml_C ai s0 b0 sa ma rf ml ++ tl)) q9 { cls := laK s0 sx_12 3 557 sg_12, slots := #[.ref (ma 0)], vm := .none } (.int r0) := by
  refine rl_body (by decide) (Nat.le_of_ble_eq_true rfl) ?_
  intro p e s m args below meth c A ls hC hZ hr hI hl hq9
  have hx := hC.1
  have hb := hC.2.1
  have hl : lv_has ls 4 [(0, .int a0), (1, .ref q9)] := hl
  show W p l e _ s m args below meth c s.heap [] 0 0 (MQ below (rd_Q (.int r0)) args s 0 0 (fun _ => False)) (F0 m 0 ls [])
  rw [f_ml_setOf_12] at hF
  refine lv_iconst (v := 0) hx hb dX0_setOf_0 (by decide) ?_
  refine mo_ist (lv' := [(2, .int 0), (0, .int a0), (1, .ref q9)]) hx hb rfl dX0_setOf_1 rfl hl (by decide) rfl (fun ls hl => ?_)
  refine lv_iconst (v := 0) hx hb dX0_setOf_2 (by decide) ?_
  refine mo_ist (lv' := [(3, .int 0), (2, .int 0), (0, .int a0), (1, .ref q9)]) hx hb rfl dX0_setOf_3 rfl hl (by decide) rfl (fun ls hl => ?_)
  refine w_ml_setOf_12_L4 hC h0 hZ hr hq9 hI a0 _ (fun x2_10 ls hF hl => ?_) 40 _ _ _ hF (lv_sub hl [0, 1, 2, 3] rfl)
  refine lv_iload_n hx hb dX0_setOf_35 rfl (lv_at hl 0 rfl) ?_
  have hF := Option.some.inj hF
  subst hF
  exact rd_iret hC hr rfl dX0_setOf_36
theorem k_X0_ml_setOf_12 {p : Program} {l : Launch} {e : Env} {R : Room} {s s0 : State} {b0 : Addr} {m : MethodId} {args : Array Value} {below : List Frame} {meth : Method} {c : Code} {H : Heap} {locs : List Loc} {cells slots : Nat} {Q : State → Prop} {pc : Nat} {ls : Array Slot} {rest : List Value} {G : va_G} {ai : Nat → ClassId} {A : Nat → Prop} {cc : ByteArray} {nL f L kc ks : Nat} {sa ma : Nat → Nat} {rf : Value} {tl : va_W} {q9 : Nat}  {v : MS} {ml : MS} {a0 : Int32}  {r1 : Int32} (hC : mo_C p R s m args meth c G ai A RX0 cc nL f L kc ks) (h0 : mo_S0 s0 b0) (hZ : mo_Z s0 A s) (hI : mo_I G A s.heap (st_W ai sa v (ml_C ai s0 b0 sa ma rf ml ++ tl)) H locs) (hq9 : H[q9]? = some { cls := laK s0 sx_12 3 557 sg_12, slots := #[.ref (ma 0)], vm := .none }) (hz : f_ml_setOf_12 v ml a0 = some r1) (hf : 5 + 1 ≤ f) (hL : 8 + (4 + 11) + 106 ≤ L) (hsz : ls.size = nL) (hW : (rest.map fun v => v.category).sum ≤ 8) (hdg : decode cc pc = .ok (.invokestatic 187, 3)) (kk : W p l e R s m args below meth c H locs cells slots Q (F0 m (pc + 3) ls (.int r1 :: rest))) (hc0 : cells ≤ kc := by first | exact Nat.zero_le _ | exact Nat.le_of_ble_eq_true rfl | assumption | omega) (hs0 : slots ≤ ks := by first | exact Nat.zero_le _ | exact Nat.le_of_ble_eq_true rfl | assumption | omega) : W p l e R s m args below meth c H locs cells slots Q (F0 m pc ls (.ref q9 :: .int a0 :: rest)) :=
  rd_use (va_runS (As := [.int a0, .ref q9]) (rest := rest) ⟨hC.1, hC.2.1, hC.2.2.1, hC.2.2.2.1, hC.2.2.2.2.1⟩ (w_ml_setOf_12 l G ai h0 v ml a0 r1 hz H.size) (va_cwS 2 hC.2.2.2.2.1 (lw_S q899 q900 q115 q901) rfl rfl rfl (by decide +kernel) ⟨Nat.le_trans hf hC.2.2.2.2.2.2.2.2.1, Nat.le_trans hL hC.2.2.2.2.2.2.2.2.2.1⟩) ⟨rl_blind, fun U hU hW => ⟨gz_pre0 hC hZ hI U hU hW, by rw [hU]; exact hq9⟩⟩ rfl rfl hsz rfl (lv_room hW) hdg ⟨Nat.le_trans hc0 hC.2.2.2.2.2.2.2.2.2.2.1, Nat.le_trans hs0 hC.2.2.2.2.2.2.2.2.2.2.2⟩) kk
def f_ml_sum_13_L4 (x_v : MS) (x_ml : MS) (a0 : Int32) (kont : Int32 → Option Int32) : Nat → Int32 → Int32 → Option Int32
  | 0, _, _ => none
  | n + 1, x3, x2 => if a0 ≤ x3 then (kont x2) else (ov (f_ml_lambda_caughtMany_12 x_v x_ml x3) (fun r2 => lt ((x2 + r2)) (fun x2_4 => lt (x3 + 1) (fun x3_5 => f_ml_sum_13_L4 x_v x_ml a0 kont n x3_5 x2_4))))
def f_ml_sum_13 (v : MS) (ml : MS) (a0 : Int32) : Option Int32 := f_ml_sum_13_L4 v ml a0 (fun x2_6 => some x2_6) 40 0 0
set_option maxHeartbeats 4000000 in
theorem w_ml_sum_13_L4 {p : Program} {l : Launch} {e : Env} {R : Room} {s s0 : State} {b0 : Addr} {m : MethodId} {args : Array Value} {below : List Frame} {meth : Method} {c : Code} {G : va_G} {ai : Nat → ClassId} {A : Nat → Prop} {sa ma : Nat → Nat} {rf : Value} {tl : va_W} {q9 : Nat}  {x_v : MS} {x_ml : MS} {r0 : Int32} (hC : mo_C p R s m args meth c G ai A RX0 cX0_sum 4 2 42 0 0) (h0 : mo_S0 s0 b0) (hZ : mo_Z s0 A s) (hr : meth.sig.returnType = (some .int)) (hq9 : s.heap[q9]? = some { cls := laK s0 sx_13 8 568 sg_13, slots := #[.ref (ma 0)], vm := .none }) (hI0 : mo_I G A s.heap (st_W ai sa x_v (ml_C ai s0 b0 sa ma rf x_ml ++ tl)) s.heap []) (a0 : Int32) (kont : Int32 → Option Int32) (K : ∀ (x2 : Int32) (ls : Array Slot), kont x2 = some r0 → lv_has ls 4 [(2, .int x2)] → W p l e R s m args below meth c s.heap [] 0 0 (MQ below (rd_Q (.int r0)) args s 0 0 (fun _ => False)) (F0 m 25 ls [])) :
    ∀ (n : Nat) (x3 : Int32) (x2 : Int32) (ls : Array Slot), f_ml_sum_13_L4 x_v x_ml a0 kont n x3 x2 = some r0 → lv_has ls 4 [(3, .int x3), (2, .int x2), (0, .int a0), (1, .ref q9)] → W p l e R s m args below meth c s.heap [] 0 0 (MQ below (rd_Q (.int r0)) args s 0 0 (fun _ => False)) (F0 m 4 ls []) := by
  have hx := hC.1
  have hb := hC.2.1
  have hI := hI0
  intro n
  induction n with
  | zero =>
    intro x3 x2 ls hF
    have h0 : (none : Option Int32) = some r0 := hF
    cases h0
  | succ n ih =>
    intro x3 x2 ls hF hl
    rw [f_ml_sum_13_L4] at hF
    refine lv_iload_n hx hb dX0_sum_4 rfl (lv_at hl 0 rfl) ?_
    refine lv_iload_n hx hb dX0_sum_5 rfl (lv_at hl 2 rfl) ?_
    refine lv_icmp_ge (tgt := 25) hx hb dX0_sum_6 (by decide) (fun c1 => ?_) (fun c1 => ?_)
    · have hF := if_t hF c1
      exact K _ _ hF (lv_sub hl [1] rfl)
    · have hF := if_f hF c1
      refine lv_iload_n hx hb dX0_sum_9 rfl (lv_at hl 1 rfl) ?_
      refine lv_aload_n hx hb dX0_sum_10 rfl (lv_at hl 3 rfl) ?_
      refine lv_iload_n hx hb dX0_sum_11 rfl (lv_at hl 0 rfl) ?_
      obtain ⟨r2, hz3, hF⟩ := ov_some hF
      refine c_13 hC h0 hZ hI hq9 hz3 (Nat.le_of_ble_eq_true rfl) (Nat.le_of_ble_eq_true rfl) hl.1 (Nat.le_of_ble_eq_true rfl) dX0_sum_12 ?_
      refine lv_iadd hx hb dX0_sum_17 ?_
      obtain ⟨x2_4, hx2_4, hF⟩ := lt_some hF
      refine mo_ist (lv' := [(2, .int x2_4), (3, .int x3), (0, .int a0), (1, .ref q9)]) hx hb hx2_4 dX0_sum_18 rfl hl (by decide) rfl (fun ls hl => ?_)
      obtain ⟨x3_5, hx3_5, hF⟩ := lt_some hF
      refine mo_inc (k := 1) (lv' := [(3, .int x3_5), (2, .int x2_4), (0, .int a0), (1, .ref q9)]) hx hb hx3_5 (by decide) dX0_sum_19 hl rfl (by decide) rfl (fun ls hl => ?_)
      refine lv_goto (tgt := 4) hx hb dX0_sum_22 (by decide) ?_
      exact ih _ _ _ hF (lv_sub hl [0, 1, 2, 3] rfl)
set_option maxHeartbeats 4000000 in
theorem w_ml_sum_13 (l : Launch) (G : va_G) (ai : Nat → ClassId) {s0 : State} {b0 : Addr} (h0 : mo_S0 s0 b0) {sa ma : Nat → Nat} {rf : Value} {tl : va_W} {q9 : Nat}  (v : MS) (ml : MS) (a0 : Int32) (r0 : Int32) (hF : f_ml_sum_13 v ml a0 = some r0) : rl_Met l G ai s0 yX0_sum cX0_sum 4 (some .int) ({ frames := 2, cells := 0, slots := 0, locals := 42 } : Room) [.int a0, .ref q9] (st_W ai sa v (ml_C ai s0 b0 sa ma rf ml ++ tl)) q9 { cls := laK s0 sx_13 8 568 sg_13, slots := #[.ref (ma 0)], vm := .none } (.int r0) := by
  refine rl_body (by decide) (Nat.le_of_ble_eq_true rfl) ?_
  intro p e s m args below meth c A ls hC hZ hr hI hl hq9
  have hx := hC.1
  have hb := hC.2.1
  have hl : lv_has ls 4 [(0, .int a0), (1, .ref q9)] := hl
  show W p l e _ s m args below meth c s.heap [] 0 0 (MQ below (rd_Q (.int r0)) args s 0 0 (fun _ => False)) (F0 m 0 ls [])
  rw [f_ml_sum_13] at hF
  refine lv_iconst (v := 0) hx hb dX0_sum_0 (by decide) ?_
  refine mo_ist (lv' := [(2, .int 0), (0, .int a0), (1, .ref q9)]) hx hb rfl dX0_sum_1 rfl hl (by decide) rfl (fun ls hl => ?_)
  refine lv_iconst (v := 0) hx hb dX0_sum_2 (by decide) ?_
  refine mo_ist (lv' := [(3, .int 0), (2, .int 0), (0, .int a0), (1, .ref q9)]) hx hb rfl dX0_sum_3 rfl hl (by decide) rfl (fun ls hl => ?_)
  refine w_ml_sum_13_L4 hC h0 hZ hr hq9 hI a0 _ (fun x2_6 ls hF hl => ?_) 40 _ _ _ hF (lv_sub hl [0, 1, 2, 3] rfl)
  refine lv_iload_n hx hb dX0_sum_25 rfl (lv_at hl 0 rfl) ?_
  have hF := Option.some.inj hF
  subst hF
  exact rd_iret hC hr rfl dX0_sum_26
theorem k_X0_ml_sum_13 {p : Program} {l : Launch} {e : Env} {R : Room} {s s0 : State} {b0 : Addr} {m : MethodId} {args : Array Value} {below : List Frame} {meth : Method} {c : Code} {H : Heap} {locs : List Loc} {cells slots : Nat} {Q : State → Prop} {pc : Nat} {ls : Array Slot} {rest : List Value} {G : va_G} {ai : Nat → ClassId} {A : Nat → Prop} {cc : ByteArray} {nL f L kc ks : Nat} {sa ma : Nat → Nat} {rf : Value} {tl : va_W} {q9 : Nat}  {v : MS} {ml : MS} {a0 : Int32}  {r1 : Int32} (hC : mo_C p R s m args meth c G ai A RX0 cc nL f L kc ks) (h0 : mo_S0 s0 b0) (hZ : mo_Z s0 A s) (hI : mo_I G A s.heap (st_W ai sa v (ml_C ai s0 b0 sa ma rf ml ++ tl)) H locs) (hq9 : H[q9]? = some { cls := laK s0 sx_13 8 568 sg_13, slots := #[.ref (ma 0)], vm := .none }) (hz : f_ml_sum_13 v ml a0 = some r1) (hf : 2 + 1 ≤ f) (hL : 8 + (4 + 11) + 42 ≤ L) (hsz : ls.size = nL) (hW : (rest.map fun v => v.category).sum ≤ 8) (hdg : decode cc pc = .ok (.invokestatic 571, 3)) (kk : W p l e R s m args below meth c H locs cells slots Q (F0 m (pc + 3) ls (.int r1 :: rest))) (hc0 : cells ≤ kc := by first | exact Nat.zero_le _ | exact Nat.le_of_ble_eq_true rfl | assumption | omega) (hs0 : slots ≤ ks := by first | exact Nat.zero_le _ | exact Nat.le_of_ble_eq_true rfl | assumption | omega) : W p l e R s m args below meth c H locs cells slots Q (F0 m pc ls (.ref q9 :: .int a0 :: rest)) :=
  rd_use (va_runS (As := [.int a0, .ref q9]) (rest := rest) ⟨hC.1, hC.2.1, hC.2.2.1, hC.2.2.2.1, hC.2.2.2.2.1⟩ (w_ml_sum_13 l G ai h0 v ml a0 r1 hz H.size) (va_cwS 2 hC.2.2.2.2.1 (lw_S q1971 q1972 q115 q1973) rfl rfl rfl (by decide +kernel) ⟨Nat.le_trans hf hC.2.2.2.2.2.2.2.2.1, Nat.le_trans hL hC.2.2.2.2.2.2.2.2.2.1⟩) ⟨rl_blind, fun U hU hW => ⟨gz_pre0 hC hZ hI U hU hW, by rw [hU]; exact hq9⟩⟩ rfl rfl hsz rfl (lv_room hW) hdg ⟨Nat.le_trans hc0 hC.2.2.2.2.2.2.2.2.2.2.1, Nat.le_trans hs0 hC.2.2.2.2.2.2.2.2.2.2.2⟩) kk
def f_ml_sum_14_L4 (x_v : MS) (x_ml : MS) (a0 : Int32) (kont : Int32 → Option Int32) : Nat → Int32 → Int32 → Option Int32
  | 0, _, _ => none
  | n + 1, x3, x2 => if a0 ≤ x3 then (kont x2) else (ov (f_ml_lambda_account_13 x_v x_ml x3) (fun r2 => lt ((x2 + r2)) (fun x2_4 => lt (x3 + 1) (fun x3_5 => f_ml_sum_14_L4 x_v x_ml a0 kont n x3_5 x2_4))))
def f_ml_sum_14 (v : MS) (ml : MS) (a0 : Int32) : Option Int32 := f_ml_sum_14_L4 v ml a0 (fun x2_6 => some x2_6) 40 0 0
set_option maxHeartbeats 4000000 in
theorem w_ml_sum_14_L4 {p : Program} {l : Launch} {e : Env} {R : Room} {s s0 : State} {b0 : Addr} {m : MethodId} {args : Array Value} {below : List Frame} {meth : Method} {c : Code} {G : va_G} {ai : Nat → ClassId} {A : Nat → Prop} {sa ma : Nat → Nat} {rf : Value} {tl : va_W} {q9 : Nat}  {x_v : MS} {x_ml : MS} {r0 : Int32} (hC : mo_C p R s m args meth c G ai A RX0 cX0_sum 4 2 42 0 0) (h0 : mo_S0 s0 b0) (hZ : mo_Z s0 A s) (hr : meth.sig.returnType = (some .int)) (hq9 : s.heap[q9]? = some { cls := laK s0 sx_14 159 578 sg_14, slots := #[.ref (ma 0)], vm := .none }) (hI0 : mo_I G A s.heap (st_W ai sa x_v (ml_C ai s0 b0 sa ma rf x_ml ++ tl)) s.heap []) (a0 : Int32) (kont : Int32 → Option Int32) (K : ∀ (x2 : Int32) (ls : Array Slot), kont x2 = some r0 → lv_has ls 4 [(2, .int x2)] → W p l e R s m args below meth c s.heap [] 0 0 (MQ below (rd_Q (.int r0)) args s 0 0 (fun _ => False)) (F0 m 25 ls [])) :
    ∀ (n : Nat) (x3 : Int32) (x2 : Int32) (ls : Array Slot), f_ml_sum_14_L4 x_v x_ml a0 kont n x3 x2 = some r0 → lv_has ls 4 [(3, .int x3), (2, .int x2), (0, .int a0), (1, .ref q9)] → W p l e R s m args below meth c s.heap [] 0 0 (MQ below (rd_Q (.int r0)) args s 0 0 (fun _ => False)) (F0 m 4 ls []) := by
  have hx := hC.1
  have hb := hC.2.1
  have hI := hI0
  intro n
  induction n with
  | zero =>
    intro x3 x2 ls hF
    have h0 : (none : Option Int32) = some r0 := hF
    cases h0
  | succ n ih =>
    intro x3 x2 ls hF hl
    rw [f_ml_sum_14_L4] at hF
    refine lv_iload_n hx hb dX0_sum_4 rfl (lv_at hl 0 rfl) ?_
    refine lv_iload_n hx hb dX0_sum_5 rfl (lv_at hl 2 rfl) ?_
    refine lv_icmp_ge (tgt := 25) hx hb dX0_sum_6 (by decide) (fun c1 => ?_) (fun c1 => ?_)
    · have hF := if_t hF c1
      exact K _ _ hF (lv_sub hl [1] rfl)
    · have hF := if_f hF c1
      refine lv_iload_n hx hb dX0_sum_9 rfl (lv_at hl 1 rfl) ?_
      refine lv_aload_n hx hb dX0_sum_10 rfl (lv_at hl 3 rfl) ?_
      refine lv_iload_n hx hb dX0_sum_11 rfl (lv_at hl 0 rfl) ?_
      obtain ⟨r2, hz3, hF⟩ := ov_some hF
      refine c_14 hC h0 hZ hI hq9 hz3 (Nat.le_of_ble_eq_true rfl) (Nat.le_of_ble_eq_true rfl) hl.1 (Nat.le_of_ble_eq_true rfl) dX0_sum_12 ?_
      refine lv_iadd hx hb dX0_sum_17 ?_
      obtain ⟨x2_4, hx2_4, hF⟩ := lt_some hF
      refine mo_ist (lv' := [(2, .int x2_4), (3, .int x3), (0, .int a0), (1, .ref q9)]) hx hb hx2_4 dX0_sum_18 rfl hl (by decide) rfl (fun ls hl => ?_)
      obtain ⟨x3_5, hx3_5, hF⟩ := lt_some hF
      refine mo_inc (k := 1) (lv' := [(3, .int x3_5), (2, .int x2_4), (0, .int a0), (1, .ref q9)]) hx hb hx3_5 (by decide) dX0_sum_19 hl rfl (by decide) rfl (fun ls hl => ?_)
      refine lv_goto (tgt := 4) hx hb dX0_sum_22 (by decide) ?_
      exact ih _ _ _ hF (lv_sub hl [0, 1, 2, 3] rfl)
set_option maxHeartbeats 4000000 in
theorem w_ml_sum_14 (l : Launch) (G : va_G) (ai : Nat → ClassId) {s0 : State} {b0 : Addr} (h0 : mo_S0 s0 b0) {sa ma : Nat → Nat} {rf : Value} {tl : va_W} {q9 : Nat}  (v : MS) (ml : MS) (a0 : Int32) (r0 : Int32) (hF : f_ml_sum_14 v ml a0 = some r0) : rl_Met l G ai s0 yX0_sum cX0_sum 4 (some .int) ({ frames := 2, cells := 0, slots := 0, locals := 42 } : Room) [.int a0, .ref q9] (st_W ai sa v (ml_C ai s0 b0 sa ma rf ml ++ tl)) q9 { cls := laK s0 sx_14 159 578 sg_14, slots := #[.ref (ma 0)], vm := .none } (.int r0) := by
  refine rl_body (by decide) (Nat.le_of_ble_eq_true rfl) ?_
  intro p e s m args below meth c A ls hC hZ hr hI hl hq9
  have hx := hC.1
  have hb := hC.2.1
  have hl : lv_has ls 4 [(0, .int a0), (1, .ref q9)] := hl
  show W p l e _ s m args below meth c s.heap [] 0 0 (MQ below (rd_Q (.int r0)) args s 0 0 (fun _ => False)) (F0 m 0 ls [])
  rw [f_ml_sum_14] at hF
  refine lv_iconst (v := 0) hx hb dX0_sum_0 (by decide) ?_
  refine mo_ist (lv' := [(2, .int 0), (0, .int a0), (1, .ref q9)]) hx hb rfl dX0_sum_1 rfl hl (by decide) rfl (fun ls hl => ?_)
  refine lv_iconst (v := 0) hx hb dX0_sum_2 (by decide) ?_
  refine mo_ist (lv' := [(3, .int 0), (2, .int 0), (0, .int a0), (1, .ref q9)]) hx hb rfl dX0_sum_3 rfl hl (by decide) rfl (fun ls hl => ?_)
  refine w_ml_sum_14_L4 hC h0 hZ hr hq9 hI a0 _ (fun x2_6 ls hF hl => ?_) 40 _ _ _ hF (lv_sub hl [0, 1, 2, 3] rfl)
  refine lv_iload_n hx hb dX0_sum_25 rfl (lv_at hl 0 rfl) ?_
  have hF := Option.some.inj hF
  subst hF
  exact rd_iret hC hr rfl dX0_sum_26
theorem k_X0_ml_sum_14 {p : Program} {l : Launch} {e : Env} {R : Room} {s s0 : State} {b0 : Addr} {m : MethodId} {args : Array Value} {below : List Frame} {meth : Method} {c : Code} {H : Heap} {locs : List Loc} {cells slots : Nat} {Q : State → Prop} {pc : Nat} {ls : Array Slot} {rest : List Value} {G : va_G} {ai : Nat → ClassId} {A : Nat → Prop} {cc : ByteArray} {nL f L kc ks : Nat} {sa ma : Nat → Nat} {rf : Value} {tl : va_W} {q9 : Nat}  {v : MS} {ml : MS} {a0 : Int32}  {r1 : Int32} (hC : mo_C p R s m args meth c G ai A RX0 cc nL f L kc ks) (h0 : mo_S0 s0 b0) (hZ : mo_Z s0 A s) (hI : mo_I G A s.heap (st_W ai sa v (ml_C ai s0 b0 sa ma rf ml ++ tl)) H locs) (hq9 : H[q9]? = some { cls := laK s0 sx_14 159 578 sg_14, slots := #[.ref (ma 0)], vm := .none }) (hz : f_ml_sum_14 v ml a0 = some r1) (hf : 2 + 1 ≤ f) (hL : 8 + (4 + 11) + 42 ≤ L) (hsz : ls.size = nL) (hW : (rest.map fun v => v.category).sum ≤ 8) (hdg : decode cc pc = .ok (.invokestatic 571, 3)) (kk : W p l e R s m args below meth c H locs cells slots Q (F0 m (pc + 3) ls (.int r1 :: rest))) (hc0 : cells ≤ kc := by first | exact Nat.zero_le _ | exact Nat.le_of_ble_eq_true rfl | assumption | omega) (hs0 : slots ≤ ks := by first | exact Nat.zero_le _ | exact Nat.le_of_ble_eq_true rfl | assumption | omega) : W p l e R s m args below meth c H locs cells slots Q (F0 m pc ls (.ref q9 :: .int a0 :: rest)) :=
  rd_use (va_runS (As := [.int a0, .ref q9]) (rest := rest) ⟨hC.1, hC.2.1, hC.2.2.1, hC.2.2.2.1, hC.2.2.2.2.1⟩ (w_ml_sum_14 l G ai h0 v ml a0 r1 hz H.size) (va_cwS 2 hC.2.2.2.2.1 (lw_S q1971 q1972 q115 q1973) rfl rfl rfl (by decide +kernel) ⟨Nat.le_trans hf hC.2.2.2.2.2.2.2.2.1, Nat.le_trans hL hC.2.2.2.2.2.2.2.2.2.1⟩) ⟨rl_blind, fun U hU hW => ⟨gz_pre0 hC hZ hI U hU hW, by rw [hU]; exact hq9⟩⟩ rfl rfl hsz rfl (lv_room hW) hdg ⟨Nat.le_trans hc0 hC.2.2.2.2.2.2.2.2.2.2.1, Nat.le_trans hs0 hC.2.2.2.2.2.2.2.2.2.2.2⟩) kk
def f_ml_sum_15_L4 (x_v : MS) (x_ml : MS) (a0 : Int32) (kont : Int32 → Option Int32) : Nat → Int32 → Int32 → Option Int32
  | 0, _, _ => none
  | n + 1, x3, x2 => if a0 ≤ x3 then (kont x2) else (ov (f_ml_lambda_account_14 x_v x_ml x3) (fun r2 => lt ((x2 + r2)) (fun x2_4 => lt (x3 + 1) (fun x3_5 => f_ml_sum_15_L4 x_v x_ml a0 kont n x3_5 x2_4))))
def f_ml_sum_15 (v : MS) (ml : MS) (a0 : Int32) : Option Int32 := f_ml_sum_15_L4 v ml a0 (fun x2_6 => some x2_6) 40 0 0
set_option maxHeartbeats 4000000 in
theorem w_ml_sum_15_L4 {p : Program} {l : Launch} {e : Env} {R : Room} {s s0 : State} {b0 : Addr} {m : MethodId} {args : Array Value} {below : List Frame} {meth : Method} {c : Code} {G : va_G} {ai : Nat → ClassId} {A : Nat → Prop} {sa ma : Nat → Nat} {rf : Value} {tl : va_W} {q9 : Nat}  {x_v : MS} {x_ml : MS} {r0 : Int32} (hC : mo_C p R s m args meth c G ai A RX0 cX0_sum 4 2 42 0 0) (h0 : mo_S0 s0 b0) (hZ : mo_Z s0 A s) (hr : meth.sig.returnType = (some .int)) (hq9 : s.heap[q9]? = some { cls := laK s0 sx_15 176 579 sg_15, slots := #[.ref (ma 0)], vm := .none }) (hI0 : mo_I G A s.heap (st_W ai sa x_v (ml_C ai s0 b0 sa ma rf x_ml ++ tl)) s.heap []) (a0 : Int32) (kont : Int32 → Option Int32) (K : ∀ (x2 : Int32) (ls : Array Slot), kont x2 = some r0 → lv_has ls 4 [(2, .int x2)] → W p l e R s m args below meth c s.heap [] 0 0 (MQ below (rd_Q (.int r0)) args s 0 0 (fun _ => False)) (F0 m 25 ls [])) :
    ∀ (n : Nat) (x3 : Int32) (x2 : Int32) (ls : Array Slot), f_ml_sum_15_L4 x_v x_ml a0 kont n x3 x2 = some r0 → lv_has ls 4 [(3, .int x3), (2, .int x2), (0, .int a0), (1, .ref q9)] → W p l e R s m args below meth c s.heap [] 0 0 (MQ below (rd_Q (.int r0)) args s 0 0 (fun _ => False)) (F0 m 4 ls []) := by
  have hx := hC.1
  have hb := hC.2.1
  have hI := hI0
  intro n
  induction n with
  | zero =>
    intro x3 x2 ls hF
    have h0 : (none : Option Int32) = some r0 := hF
    cases h0
  | succ n ih =>
    intro x3 x2 ls hF hl
    rw [f_ml_sum_15_L4] at hF
    refine lv_iload_n hx hb dX0_sum_4 rfl (lv_at hl 0 rfl) ?_
    refine lv_iload_n hx hb dX0_sum_5 rfl (lv_at hl 2 rfl) ?_
    refine lv_icmp_ge (tgt := 25) hx hb dX0_sum_6 (by decide) (fun c1 => ?_) (fun c1 => ?_)
    · have hF := if_t hF c1
      exact K _ _ hF (lv_sub hl [1] rfl)
    · have hF := if_f hF c1
      refine lv_iload_n hx hb dX0_sum_9 rfl (lv_at hl 1 rfl) ?_
      refine lv_aload_n hx hb dX0_sum_10 rfl (lv_at hl 3 rfl) ?_
      refine lv_iload_n hx hb dX0_sum_11 rfl (lv_at hl 0 rfl) ?_
      obtain ⟨r2, hz3, hF⟩ := ov_some hF
      refine c_15 hC h0 hZ hI hq9 hz3 (Nat.le_of_ble_eq_true rfl) (Nat.le_of_ble_eq_true rfl) hl.1 (Nat.le_of_ble_eq_true rfl) dX0_sum_12 ?_
      refine lv_iadd hx hb dX0_sum_17 ?_
      obtain ⟨x2_4, hx2_4, hF⟩ := lt_some hF
      refine mo_ist (lv' := [(2, .int x2_4), (3, .int x3), (0, .int a0), (1, .ref q9)]) hx hb hx2_4 dX0_sum_18 rfl hl (by decide) rfl (fun ls hl => ?_)
      obtain ⟨x3_5, hx3_5, hF⟩ := lt_some hF
      refine mo_inc (k := 1) (lv' := [(3, .int x3_5), (2, .int x2_4), (0, .int a0), (1, .ref q9)]) hx hb hx3_5 (by decide) dX0_sum_19 hl rfl (by decide) rfl (fun ls hl => ?_)
      refine lv_goto (tgt := 4) hx hb dX0_sum_22 (by decide) ?_
      exact ih _ _ _ hF (lv_sub hl [0, 1, 2, 3] rfl)
set_option maxHeartbeats 4000000 in
theorem w_ml_sum_15 (l : Launch) (G : va_G) (ai : Nat → ClassId) {s0 : State} {b0 : Addr} (h0 : mo_S0 s0 b0) {sa ma : Nat → Nat} {rf : Value} {tl : va_W} {q9 : Nat}  (v : MS) (ml : MS) (a0 : Int32) (r0 : Int32) (hF : f_ml_sum_15 v ml a0 = some r0) : rl_Met l G ai s0 yX0_sum cX0_sum 4 (some .int) ({ frames := 2, cells := 0, slots := 0, locals := 42 } : Room) [.int a0, .ref q9] (st_W ai sa v (ml_C ai s0 b0 sa ma rf ml ++ tl)) q9 { cls := laK s0 sx_15 176 579 sg_15, slots := #[.ref (ma 0)], vm := .none } (.int r0) := by
  refine rl_body (by decide) (Nat.le_of_ble_eq_true rfl) ?_
  intro p e s m args below meth c A ls hC hZ hr hI hl hq9
  have hx := hC.1
  have hb := hC.2.1
  have hl : lv_has ls 4 [(0, .int a0), (1, .ref q9)] := hl
  show W p l e _ s m args below meth c s.heap [] 0 0 (MQ below (rd_Q (.int r0)) args s 0 0 (fun _ => False)) (F0 m 0 ls [])
  rw [f_ml_sum_15] at hF
  refine lv_iconst (v := 0) hx hb dX0_sum_0 (by decide) ?_
  refine mo_ist (lv' := [(2, .int 0), (0, .int a0), (1, .ref q9)]) hx hb rfl dX0_sum_1 rfl hl (by decide) rfl (fun ls hl => ?_)
  refine lv_iconst (v := 0) hx hb dX0_sum_2 (by decide) ?_
  refine mo_ist (lv' := [(3, .int 0), (2, .int 0), (0, .int a0), (1, .ref q9)]) hx hb rfl dX0_sum_3 rfl hl (by decide) rfl (fun ls hl => ?_)
  refine w_ml_sum_15_L4 hC h0 hZ hr hq9 hI a0 _ (fun x2_6 ls hF hl => ?_) 40 _ _ _ hF (lv_sub hl [0, 1, 2, 3] rfl)
  refine lv_iload_n hx hb dX0_sum_25 rfl (lv_at hl 0 rfl) ?_
  have hF := Option.some.inj hF
  subst hF
  exact rd_iret hC hr rfl dX0_sum_26
theorem k_X0_ml_sum_15 {p : Program} {l : Launch} {e : Env} {R : Room} {s s0 : State} {b0 : Addr} {m : MethodId} {args : Array Value} {below : List Frame} {meth : Method} {c : Code} {H : Heap} {locs : List Loc} {cells slots : Nat} {Q : State → Prop} {pc : Nat} {ls : Array Slot} {rest : List Value} {G : va_G} {ai : Nat → ClassId} {A : Nat → Prop} {cc : ByteArray} {nL f L kc ks : Nat} {sa ma : Nat → Nat} {rf : Value} {tl : va_W} {q9 : Nat}  {v : MS} {ml : MS} {a0 : Int32}  {r1 : Int32} (hC : mo_C p R s m args meth c G ai A RX0 cc nL f L kc ks) (h0 : mo_S0 s0 b0) (hZ : mo_Z s0 A s) (hI : mo_I G A s.heap (st_W ai sa v (ml_C ai s0 b0 sa ma rf ml ++ tl)) H locs) (hq9 : H[q9]? = some { cls := laK s0 sx_15 176 579 sg_15, slots := #[.ref (ma 0)], vm := .none }) (hz : f_ml_sum_15 v ml a0 = some r1) (hf : 2 + 1 ≤ f) (hL : 8 + (4 + 11) + 42 ≤ L) (hsz : ls.size = nL) (hW : (rest.map fun v => v.category).sum ≤ 8) (hdg : decode cc pc = .ok (.invokestatic 571, 3)) (kk : W p l e R s m args below meth c H locs cells slots Q (F0 m (pc + 3) ls (.int r1 :: rest))) (hc0 : cells ≤ kc := by first | exact Nat.zero_le _ | exact Nat.le_of_ble_eq_true rfl | assumption | omega) (hs0 : slots ≤ ks := by first | exact Nat.zero_le _ | exact Nat.le_of_ble_eq_true rfl | assumption | omega) : W p l e R s m args below meth c H locs cells slots Q (F0 m pc ls (.ref q9 :: .int a0 :: rest)) :=
  rd_use (va_runS (As := [.int a0, .ref q9]) (rest := rest) ⟨hC.1, hC.2.1, hC.2.2.1, hC.2.2.2.1, hC.2.2.2.2.1⟩ (w_ml_sum_15 l G ai h0 v ml a0 r1 hz H.size) (va_cwS 2 hC.2.2.2.2.1 (lw_S q1971 q1972 q115 q1973) rfl rfl rfl (by decide +kernel) ⟨Nat.le_trans hf hC.2.2.2.2.2.2.2.2.1, Nat.le_trans hL hC.2.2.2.2.2.2.2.2.2.1⟩) ⟨rl_blind, fun U hU hW => ⟨gz_pre0 hC hZ hI U hU hW, by rw [hU]; exact hq9⟩⟩ rfl rfl hsz rfl (lv_room hW) hdg ⟨Nat.le_trans hc0 hC.2.2.2.2.2.2.2.2.2.2.1, Nat.le_trans hs0 hC.2.2.2.2.2.2.2.2.2.2.2⟩) kk
def f_ml_gardenersOn (v : MS) (ml : MS) (a1 : Int32) : Option ((Int32 × MS × MS)) := ov (f_ml_setOf_1 a1 v ml (v 0 6)) (fun r3 => some (r3, (v, ml)))
set_option maxHeartbeats 4000000 in
theorem w_ml_gardenersOn (l : Launch) (G : va_G) (ai : Nat → ClassId) {s0 : State} {b0 : Addr} (h0 : mo_S0 s0 b0) {sa ma : Nat → Nat} {rf : Value} {tl : va_W} (v : MS) (ml : MS) (a1 : Int32) (r0 : Int32) (u0 : MS × MS) (hF : f_ml_gardenersOn v ml a1 = some (r0, u0)) : gz_Mi l G ai s0 (fun (u : MS × MS) => (st_W ai sa u.1 (ml_C ai s0 b0 sa ma rf u.2 ++ tl))) yX0_gardenersOn cX0_gardenersOn 2 (some .int) ({ frames := 3, cells := 1, slots := 2, locals := 3096 } : Room) [.ref (ma 0), .int a1] (st_W ai sa v (ml_C ai s0 b0 sa ma rf ml ++ tl)) (fun (r : Int32) (u : MS × MS) => r = r0 ∧ u = u0) 1 2 := by
  refine gz_bodyN (Qc := fun A => va_Qi (fun (r : Int32) (u : MS × MS) => r = r0 ∧ u = u0) (gw_E G ai (fun (u : MS × MS) => (st_W ai sa u.1 (ml_C ai s0 b0 sa ma rf u.2 ++ tl))) A) A) (fr := fun A => A) (by decide) (Nat.le_of_ble_eq_true rfl) ?_
  intro p e s m args below meth c A ls hC hZ hr hI hl hnmd
  have hx := hC.1
  have hb := hC.2.1
  have hl : lv_has ls 2 [(0, .ref (ma 0)), (1, .int a1)] := hl
  show W p l e _ s m args below meth c s.heap [] 0 0 (MQ below (va_Qi (fun (r : Int32) (u : MS × MS) => r = r0 ∧ u = u0) (gw_E G ai (fun (u : MS × MS) => (st_W ai sa u.1 (ml_C ai s0 b0 sa ma rf u.2 ++ tl))) A) A) args s 1 2 A) (F0 m 0 ls [])
  rw [f_ml_gardenersOn] at hF
  refine lv_aload_n hx hb dX0_gardenersOn_0 rfl (lv_at hl 0 rfl) ?_
  refine ml_X0_g_ml_now hC h0 hZ hI dX0_gardenersOn_1 ?_
  refine st_X0_g_st_gardenerMany hC h0 hZ hI dX0_gardenersOn_4 ?_
  refine lv_aload_n hx hb dX0_gardenersOn_7 rfl (lv_at hl 0 rfl) ?_
  refine lv_iload_n hx hb dX0_gardenersOn_8 rfl (lv_at hl 1 rfl) ?_
  refine la_make (x := sx_1) (D := sD_1) (vals := [.ref (ma 0), .int a1]) (rest := [.int (v 0 6)]) hC h0 hZ sq_1 scap_1 hnmd (sis_1 h0) hI hl.1 rfl (by first | exact Nat.le_of_ble_eq_true rfl | omega) (by rw [sown_1]; rfl) (fun i v hv => by rw [sown_1]; match i, hv with | 0, hv => (cases hv; exact ⟨_, rfl, rfl⟩) | 1, hv => (cases hv; exact ⟨_, rfl, rfl⟩) | j + 2, hv => (cases hv)) dX0_gardenersOn_9 (by first | exact Nat.le_of_ble_eq_true rfl | omega) (by first | exact Nat.le_of_ble_eq_true rfl | omega) (fun q1 H hq2 hqs hI => ?_)
  obtain ⟨r3, hz4, hF⟩ := ov_some hF
  refine k_X0_ml_setOf_1 hC h0 hZ hI hq2 hz4 (Nat.le_of_ble_eq_true rfl) (Nat.le_of_ble_eq_true rfl) hl.1 (Nat.le_of_ble_eq_true rfl) dX0_gardenersOn_14 ?_
  cases hF
  refine W.widen (k := 1) (n := 2) (Nat.le_of_ble_eq_true rfl) (Nat.le_of_ble_eq_true rfl) ?_
  exact W.zret hx hb hr rfl (fun t ht hW => ⟨⟨_, _, rfl, ⟨rfl, rfl⟩, by rw [ht]; exact hI.1, va_K.moved hW.alike hC.2.2.2.2.2.2.1, hI.2.1⟩, hI.2.2.F ht⟩) hI.2.2.2.2 dX0_gardenersOn_17 hC.2.2.2.2.2.1
theorem k_X0_ml_gardenersOn {p : Program} {l : Launch} {e : Env} {R : Room} {s s0 : State} {b0 : Addr} {m : MethodId} {args : Array Value} {below : List Frame} {meth : Method} {c : Code} {H : Heap} {locs : List Loc} {cells slots : Nat} {Q : State → Prop} {pc : Nat} {ls : Array Slot} {rest : List Value} {G : va_G} {ai : Nat → ClassId} {A : Nat → Prop} {cc : ByteArray} {nL f L kc ks : Nat} {sa ma : Nat → Nat} {rf : Value} {tl : va_W} {v : MS} {ml : MS} {a1 : Int32}  {r1 : Int32} {u1 : MS × MS} (hC : mo_C p R s m args meth c G ai A RX0 cc nL f L kc ks) (h0 : mo_S0 s0 b0) (hZ : mo_Z s0 A s) (hI : mo_I G A s.heap (st_W ai sa v (ml_C ai s0 b0 sa ma rf ml ++ tl)) H locs) (hz : f_ml_gardenersOn v ml a1 = some (r1, u1)) (hf : 3 + 1 ≤ f) (hL : 8 + (2 + 11) + 3096 ≤ L) (hsz : ls.size = nL) (hW : (rest.map fun v => v.category).sum ≤ 8) (hdg : decode cc pc = .ok (.invokevirtual 203, 3)) (kk : ∀ (H1 : Heap) (locs1 : List Loc), mo_I G A s.heap (st_W ai sa u1.1 (ml_C ai s0 b0 sa ma rf u1.2 ++ tl)) H1 locs1 → W p l e R s m args below meth c H1 locs1 (cells + 1) (slots + 2) Q (F0 m (pc + 3) ls (.int r1 :: rest))) (hc0 : cells + 1 ≤ kc := by first | exact Nat.zero_le _ | exact Nat.le_of_ble_eq_true rfl | assumption | omega) (hs0 : slots + 2 ≤ ks := by first | exact Nat.zero_le _ | exact Nat.le_of_ble_eq_true rfl | assumption | omega) : W p l e R s m args below meth c H locs cells slots Q (F0 m pc ls (.int a1 :: .ref (ma 0) :: rest)) :=
  gz_usei0 hC.2.2.2.2.2.2.2.1 hI (va_runV (As := [.int a1]) (rest := rest) ⟨hC.1, hC.2.1, hC.2.2.1, hC.2.2.2.1, hC.2.2.2.2.1⟩ (w_ml_gardenersOn l G ai h0 v ml a1 r1 u1 hz H.size) (cwV 1 hC.2.2.2.2.1 (lw_V q892 q894 qs10 q115 q895) rfl rfl rfl (by decide +kernel) ⟨Nat.le_trans hf hC.2.2.2.2.2.2.2.2.1, Nat.le_trans hL hC.2.2.2.2.2.2.2.2.2.1⟩) ⟨gz_blind, (va_recv hC.2.2.2.2.2.2.1 hI.1 (ci := 1) (q0 := 18) rfl rfl), gz_pre0 hC hZ hI⟩ rfl rfl hsz rfl (lv_room hW) hdg ⟨Nat.le_trans hc0 hC.2.2.2.2.2.2.2.2.2.2.1, Nat.le_trans hs0 hC.2.2.2.2.2.2.2.2.2.2.2⟩) (fun r u H1 locs1 hp hI1 => by obtain ⟨rfl, rfl⟩ := hp; exact kk H1 locs1 hI1)
def f_ml_molesOn (v : MS) (ml : MS) (a1 : Int32) : Option ((Int32 × MS × MS)) := ov (f_ml_setOf_2 a1 v ml (v 0 8)) (fun r3 => some (r3, (v, ml)))
set_option maxHeartbeats 4000000 in
theorem w_ml_molesOn (l : Launch) (G : va_G) (ai : Nat → ClassId) {s0 : State} {b0 : Addr} (h0 : mo_S0 s0 b0) {sa ma : Nat → Nat} {rf : Value} {tl : va_W} (v : MS) (ml : MS) (a1 : Int32) (r0 : Int32) (u0 : MS × MS) (hF : f_ml_molesOn v ml a1 = some (r0, u0)) : gz_Mi l G ai s0 (fun (u : MS × MS) => (st_W ai sa u.1 (ml_C ai s0 b0 sa ma rf u.2 ++ tl))) yX0_molesOn cX0_molesOn 2 (some .int) ({ frames := 4, cells := 1, slots := 2, locals := 3096 } : Room) [.ref (ma 0), .int a1] (st_W ai sa v (ml_C ai s0 b0 sa ma rf ml ++ tl)) (fun (r : Int32) (u : MS × MS) => r = r0 ∧ u = u0) 1 2 := by
  refine gz_bodyN (Qc := fun A => va_Qi (fun (r : Int32) (u : MS × MS) => r = r0 ∧ u = u0) (gw_E G ai (fun (u : MS × MS) => (st_W ai sa u.1 (ml_C ai s0 b0 sa ma rf u.2 ++ tl))) A) A) (fr := fun A => A) (by decide) (Nat.le_of_ble_eq_true rfl) ?_
  intro p e s m args below meth c A ls hC hZ hr hI hl hnmd
  have hx := hC.1
  have hb := hC.2.1
  have hl : lv_has ls 2 [(0, .ref (ma 0)), (1, .int a1)] := hl
  show W p l e _ s m args below meth c s.heap [] 0 0 (MQ below (va_Qi (fun (r : Int32) (u : MS × MS) => r = r0 ∧ u = u0) (gw_E G ai (fun (u : MS × MS) => (st_W ai sa u.1 (ml_C ai s0 b0 sa ma rf u.2 ++ tl))) A) A) args s 1 2 A) (F0 m 0 ls [])
  rw [f_ml_molesOn] at hF
  refine lv_aload_n hx hb dX0_molesOn_0 rfl (lv_at hl 0 rfl) ?_
  refine ml_X0_g_ml_now hC h0 hZ hI dX0_molesOn_1 ?_
  refine st_X0_g_st_moleMany hC h0 hZ hI dX0_molesOn_4 ?_
  refine lv_aload_n hx hb dX0_molesOn_7 rfl (lv_at hl 0 rfl) ?_
  refine lv_iload_n hx hb dX0_molesOn_8 rfl (lv_at hl 1 rfl) ?_
  refine la_make (x := sx_2) (D := sD_2) (vals := [.ref (ma 0), .int a1]) (rest := [.int (v 0 8)]) hC h0 hZ sq_2 scap_2 hnmd (sis_2 h0) hI hl.1 rfl (by first | exact Nat.le_of_ble_eq_true rfl | omega) (by rw [sown_2]; rfl) (fun i v hv => by rw [sown_2]; match i, hv with | 0, hv => (cases hv; exact ⟨_, rfl, rfl⟩) | 1, hv => (cases hv; exact ⟨_, rfl, rfl⟩) | j + 2, hv => (cases hv)) dX0_molesOn_9 (by first | exact Nat.le_of_ble_eq_true rfl | omega) (by first | exact Nat.le_of_ble_eq_true rfl | omega) (fun q1 H hq2 hqs hI => ?_)
  obtain ⟨r3, hz4, hF⟩ := ov_some hF
  refine k_X0_ml_setOf_2 hC h0 hZ hI hq2 hz4 (Nat.le_of_ble_eq_true rfl) (Nat.le_of_ble_eq_true rfl) hl.1 (Nat.le_of_ble_eq_true rfl) dX0_molesOn_14 ?_
  cases hF
  refine W.widen (k := 1) (n := 2) (Nat.le_of_ble_eq_true rfl) (Nat.le_of_ble_eq_true rfl) ?_
  exact W.zret hx hb hr rfl (fun t ht hW => ⟨⟨_, _, rfl, ⟨rfl, rfl⟩, by rw [ht]; exact hI.1, va_K.moved hW.alike hC.2.2.2.2.2.2.1, hI.2.1⟩, hI.2.2.F ht⟩) hI.2.2.2.2 dX0_molesOn_17 hC.2.2.2.2.2.1
theorem k_X0_ml_molesOn {p : Program} {l : Launch} {e : Env} {R : Room} {s s0 : State} {b0 : Addr} {m : MethodId} {args : Array Value} {below : List Frame} {meth : Method} {c : Code} {H : Heap} {locs : List Loc} {cells slots : Nat} {Q : State → Prop} {pc : Nat} {ls : Array Slot} {rest : List Value} {G : va_G} {ai : Nat → ClassId} {A : Nat → Prop} {cc : ByteArray} {nL f L kc ks : Nat} {sa ma : Nat → Nat} {rf : Value} {tl : va_W} {v : MS} {ml : MS} {a1 : Int32}  {r1 : Int32} {u1 : MS × MS} (hC : mo_C p R s m args meth c G ai A RX0 cc nL f L kc ks) (h0 : mo_S0 s0 b0) (hZ : mo_Z s0 A s) (hI : mo_I G A s.heap (st_W ai sa v (ml_C ai s0 b0 sa ma rf ml ++ tl)) H locs) (hz : f_ml_molesOn v ml a1 = some (r1, u1)) (hf : 4 + 1 ≤ f) (hL : 8 + (2 + 11) + 3096 ≤ L) (hsz : ls.size = nL) (hW : (rest.map fun v => v.category).sum ≤ 8) (hdg : decode cc pc = .ok (.invokevirtual 206, 3)) (kk : ∀ (H1 : Heap) (locs1 : List Loc), mo_I G A s.heap (st_W ai sa u1.1 (ml_C ai s0 b0 sa ma rf u1.2 ++ tl)) H1 locs1 → W p l e R s m args below meth c H1 locs1 (cells + 1) (slots + 2) Q (F0 m (pc + 3) ls (.int r1 :: rest))) (hc0 : cells + 1 ≤ kc := by first | exact Nat.zero_le _ | exact Nat.le_of_ble_eq_true rfl | assumption | omega) (hs0 : slots + 2 ≤ ks := by first | exact Nat.zero_le _ | exact Nat.le_of_ble_eq_true rfl | assumption | omega) : W p l e R s m args below meth c H locs cells slots Q (F0 m pc ls (.int a1 :: .ref (ma 0) :: rest)) :=
  gz_usei0 hC.2.2.2.2.2.2.2.1 hI (va_runV (As := [.int a1]) (rest := rest) ⟨hC.1, hC.2.1, hC.2.2.1, hC.2.2.2.1, hC.2.2.2.2.1⟩ (w_ml_molesOn l G ai h0 v ml a1 r1 u1 hz H.size) (cwV 1 hC.2.2.2.2.1 (lw_V q906 q908 qs12 q115 q909) rfl rfl rfl (by decide +kernel) ⟨Nat.le_trans hf hC.2.2.2.2.2.2.2.2.1, Nat.le_trans hL hC.2.2.2.2.2.2.2.2.2.1⟩) ⟨gz_blind, (va_recv hC.2.2.2.2.2.2.1 hI.1 (ci := 1) (q0 := 18) rfl rfl), gz_pre0 hC hZ hI⟩ rfl rfl hsz rfl (lv_room hW) hdg ⟨Nat.le_trans hc0 hC.2.2.2.2.2.2.2.2.2.2.1, Nat.le_trans hs0 hC.2.2.2.2.2.2.2.2.2.2.2⟩) (fun r u H1 locs1 hp hI1 => by obtain ⟨rfl, rfl⟩ := hp; exact kk H1 locs1 hI1)
def f_ml_young (v : MS) (ml : MS) : Option ((Int32 × MS × MS)) := ov (f_ml_setOf_11 v ml 30) (fun r3 => some (r3, (v, ml)))
set_option maxHeartbeats 4000000 in
theorem w_ml_young (l : Launch) (G : va_G) (ai : Nat → ClassId) {s0 : State} {b0 : Addr} (h0 : mo_S0 s0 b0) {sa ma : Nat → Nat} {rf : Value} {tl : va_W} (v : MS) (ml : MS) (r0 : Int32) (u0 : MS × MS) (hF : f_ml_young v ml = some (r0, u0)) : gz_Mi l G ai s0 (fun (u : MS × MS) => (st_W ai sa u.1 (ml_C ai s0 b0 sa ma rf u.2 ++ tl))) yX0_young cX0_young 1 (some .int) ({ frames := 6, cells := 1, slots := 1, locals := 3096 } : Room) [.ref (ma 0)] (st_W ai sa v (ml_C ai s0 b0 sa ma rf ml ++ tl)) (fun (r : Int32) (u : MS × MS) => r = r0 ∧ u = u0) 1 1 := by
  refine gz_bodyN (Qc := fun A => va_Qi (fun (r : Int32) (u : MS × MS) => r = r0 ∧ u = u0) (gw_E G ai (fun (u : MS × MS) => (st_W ai sa u.1 (ml_C ai s0 b0 sa ma rf u.2 ++ tl))) A) A) (fr := fun A => A) (by decide) (Nat.le_of_ble_eq_true rfl) ?_
  intro p e s m args below meth c A ls hC hZ hr hI hl hnmd
  have hx := hC.1
  have hb := hC.2.1
  have hl : lv_has ls 1 [(0, .ref (ma 0))] := hl
  show W p l e _ s m args below meth c s.heap [] 0 0 (MQ below (va_Qi (fun (r : Int32) (u : MS × MS) => r = r0 ∧ u = u0) (gw_E G ai (fun (u : MS × MS) => (st_W ai sa u.1 (ml_C ai s0 b0 sa ma rf u.2 ++ tl))) A) A) args s 1 1 A) (F0 m 0 ls [])
  rw [f_ml_young] at hF
  refine lv_bipush (v := 30) hx hb dX0_young_0 (by decide) ?_
  refine lv_aload_n hx hb dX0_young_2 rfl (lv_at hl 0 rfl) ?_
  refine la_make (x := sx_11) (D := sD_11) (vals := [.ref (ma 0)]) (rest := [.int 30]) hC h0 hZ sq_11 scap_11 hnmd (sis_11 h0) hI hl.1 rfl (by first | exact Nat.le_of_ble_eq_true rfl | omega) (by rw [sown_11]; rfl) (fun i v hv => by rw [sown_11]; match i, hv with | 0, hv => (cases hv; exact ⟨_, rfl, rfl⟩) | j + 1, hv => (cases hv)) dX0_young_3 (by first | exact Nat.le_of_ble_eq_true rfl | omega) (by first | exact Nat.le_of_ble_eq_true rfl | omega) (fun q1 H hq2 hqs hI => ?_)
  obtain ⟨r3, hz4, hF⟩ := ov_some hF
  refine k_X0_ml_setOf_11 hC h0 hZ hI hq2 hz4 (Nat.le_of_ble_eq_true rfl) (Nat.le_of_ble_eq_true rfl) hl.1 (Nat.le_of_ble_eq_true rfl) dX0_young_8 ?_
  cases hF
  refine W.widen (k := 1) (n := 1) (Nat.le_of_ble_eq_true rfl) (Nat.le_of_ble_eq_true rfl) ?_
  exact W.zret hx hb hr rfl (fun t ht hW => ⟨⟨_, _, rfl, ⟨rfl, rfl⟩, by rw [ht]; exact hI.1, va_K.moved hW.alike hC.2.2.2.2.2.2.1, hI.2.1⟩, hI.2.2.F ht⟩) hI.2.2.2.2 dX0_young_11 hC.2.2.2.2.2.1
theorem k_X0_ml_young {p : Program} {l : Launch} {e : Env} {R : Room} {s s0 : State} {b0 : Addr} {m : MethodId} {args : Array Value} {below : List Frame} {meth : Method} {c : Code} {H : Heap} {locs : List Loc} {cells slots : Nat} {Q : State → Prop} {pc : Nat} {ls : Array Slot} {rest : List Value} {G : va_G} {ai : Nat → ClassId} {A : Nat → Prop} {cc : ByteArray} {nL f L kc ks : Nat} {sa ma : Nat → Nat} {rf : Value} {tl : va_W} {v : MS} {ml : MS}  {r1 : Int32} {u1 : MS × MS} (hC : mo_C p R s m args meth c G ai A RX0 cc nL f L kc ks) (h0 : mo_S0 s0 b0) (hZ : mo_Z s0 A s) (hI : mo_I G A s.heap (st_W ai sa v (ml_C ai s0 b0 sa ma rf ml ++ tl)) H locs) (hz : f_ml_young v ml = some (r1, u1)) (hf : 6 + 1 ≤ f) (hL : 8 + (1 + 11) + 3096 ≤ L) (hsz : ls.size = nL) (hW : (rest.map fun v => v.category).sum ≤ 8) (hdg : decode cc pc = .ok (.invokevirtual 561, 3)) (kk : ∀ (H1 : Heap) (locs1 : List Loc), mo_I G A s.heap (st_W ai sa u1.1 (ml_C ai s0 b0 sa ma rf u1.2 ++ tl)) H1 locs1 → W p l e R s m args below meth c H1 locs1 (cells + 1) (slots + 1) Q (F0 m (pc + 3) ls (.int r1 :: rest))) (hc0 : cells + 1 ≤ kc := by first | exact Nat.zero_le _ | exact Nat.le_of_ble_eq_true rfl | assumption | omega) (hs0 : slots + 1 ≤ ks := by first | exact Nat.zero_le _ | exact Nat.le_of_ble_eq_true rfl | assumption | omega) : W p l e R s m args below meth c H locs cells slots Q (F0 m pc ls (.ref (ma 0) :: rest)) :=
  gz_usei0 hC.2.2.2.2.2.2.2.1 hI (va_runV (As := []) (rest := rest) ⟨hC.1, hC.2.1, hC.2.2.1, hC.2.2.2.1, hC.2.2.2.2.1⟩ (w_ml_young l G ai h0 v ml r1 u1 hz H.size) (cwV 0 hC.2.2.2.2.1 (lw_V q1959 q1873 q1874 q115 q1875) rfl rfl rfl (by decide +kernel) ⟨Nat.le_trans hf hC.2.2.2.2.2.2.2.2.1, Nat.le_trans hL hC.2.2.2.2.2.2.2.2.2.1⟩) ⟨gz_blind, (va_recv hC.2.2.2.2.2.2.1 hI.1 (ci := 1) (q0 := 18) rfl rfl), gz_pre0 hC hZ hI⟩ rfl rfl hsz rfl (lv_room hW) hdg ⟨Nat.le_trans hc0 hC.2.2.2.2.2.2.2.2.2.2.1, Nat.le_trans hs0 hC.2.2.2.2.2.2.2.2.2.2.2⟩) (fun r u H1 locs1 hp hI1 => by obtain ⟨rfl, rfl⟩ := hp; exact kk H1 locs1 hI1)
theorem k_L_ml_young {p : Program} {l : Launch} {e : Env} {R : Room} {s s0 : State} {b0 : Addr} {m : MethodId} {args : Array Value} {below : List Frame} {meth : Method} {c : Code} {H : Heap} {locs : List Loc} {cells slots : Nat} {Q : State → Prop} {pc : Nat} {ls : Array Slot} {rest : List Value} {G : va_G} {ai : Nat → ClassId} {A : Nat → Prop} {cc : ByteArray} {nL f L kc ks : Nat} {sa ma : Nat → Nat} {rf : Value} {tl : va_W} {v : MS} {ml : MS}  {r1 : Int32} {u1 : MS × MS} (hC : mo_C p R s m args meth c G ai A RL cc nL f L kc ks) (h0 : mo_S0 s0 b0) (hZ : mo_Z s0 A s) (hI : mo_I G A s.heap (st_W ai sa v (ml_C ai s0 b0 sa ma rf ml ++ tl)) H locs) (hz : f_ml_young v ml = some (r1, u1)) (hf : 6 + 1 ≤ f) (hL : 8 + (1 + 11) + 3096 ≤ L) (hsz : ls.size = nL) (hW : (rest.map fun v => v.category).sum ≤ 8) (hdg : decode cc pc = .ok (.invokevirtual 124, 3)) (kk : ∀ (H1 : Heap) (locs1 : List Loc), mo_I G A s.heap (st_W ai sa u1.1 (ml_C ai s0 b0 sa ma rf u1.2 ++ tl)) H1 locs1 → W p l e R s m args below meth c H1 locs1 (cells + 1) (slots + 1) Q (F0 m (pc + 3) ls (.int r1 :: rest))) (hc0 : cells + 1 ≤ kc := by first | exact Nat.zero_le _ | exact Nat.le_of_ble_eq_true rfl | assumption | omega) (hs0 : slots + 1 ≤ ks := by first | exact Nat.zero_le _ | exact Nat.le_of_ble_eq_true rfl | assumption | omega) : W p l e R s m args below meth c H locs cells slots Q (F0 m pc ls (.ref (ma 0) :: rest)) :=
  gz_usei0 hC.2.2.2.2.2.2.2.1 hI (va_runV (As := []) (rest := rest) ⟨hC.1, hC.2.1, hC.2.2.1, hC.2.2.2.1, hC.2.2.2.2.1⟩ (w_ml_young l G ai h0 v ml r1 u1 hz H.size) (cwV 0 hC.2.2.2.2.1 (lw_V q1872 q1873 q1874 q115 q1875) rfl rfl rfl (by decide +kernel) ⟨Nat.le_trans hf hC.2.2.2.2.2.2.2.2.1, Nat.le_trans hL hC.2.2.2.2.2.2.2.2.2.1⟩) ⟨gz_blind, (va_recv hC.2.2.2.2.2.2.1 hI.1 (ci := 1) (q0 := 18) rfl rfl), gz_pre0 hC hZ hI⟩ rfl rfl hsz rfl (lv_room hW) hdg ⟨Nat.le_trans hc0 hC.2.2.2.2.2.2.2.2.2.2.1, Nat.le_trans hs0 hC.2.2.2.2.2.2.2.2.2.2.2⟩) (fun r u H1 locs1 hp hI1 => by obtain ⟨rfl, rfl⟩ := hp; exact kk H1 locs1 hI1)
def f_ml_caughtMany (v : MS) (ml : MS) : Option ((Int32 × MS × MS)) := ov (f_ml_sum_13 v ml (v 0 8)) (fun r3 => some (r3, (v, ml)))
set_option maxHeartbeats 4000000 in
theorem w_ml_caughtMany (l : Launch) (G : va_G) (ai : Nat → ClassId) {s0 : State} {b0 : Addr} (h0 : mo_S0 s0 b0) {sa ma : Nat → Nat} {rf : Value} {tl : va_W} (v : MS) (ml : MS) (r0 : Int32) (u0 : MS × MS) (hF : f_ml_caughtMany v ml = some (r0, u0)) : gz_Mi l G ai s0 (fun (u : MS × MS) => (st_W ai sa u.1 (ml_C ai s0 b0 sa ma rf u.2 ++ tl))) yX0_caughtMany cX0_caughtMany 1 (some .int) ({ frames := 3, cells := 1, slots := 1, locals := 3096 } : Room) [.ref (ma 0)] (st_W ai sa v (ml_C ai s0 b0 sa ma rf ml ++ tl)) (fun (r : Int32) (u : MS × MS) => r = r0 ∧ u = u0) 1 1 := by
  refine gz_bodyN (Qc := fun A => va_Qi (fun (r : Int32) (u : MS × MS) => r = r0 ∧ u = u0) (gw_E G ai (fun (u : MS × MS) => (st_W ai sa u.1 (ml_C ai s0 b0 sa ma rf u.2 ++ tl))) A) A) (fr := fun A => A) (by decide) (Nat.le_of_ble_eq_true rfl) ?_
  intro p e s m args below meth c A ls hC hZ hr hI hl hnmd
  have hx := hC.1
  have hb := hC.2.1
  have hl : lv_has ls 1 [(0, .ref (ma 0))] := hl
  show W p l e _ s m args below meth c s.heap [] 0 0 (MQ below (va_Qi (fun (r : Int32) (u : MS × MS) => r = r0 ∧ u = u0) (gw_E G ai (fun (u : MS × MS) => (st_W ai sa u.1 (ml_C ai s0 b0 sa ma rf u.2 ++ tl))) A) A) args s 1 1 A) (F0 m 0 ls [])
  rw [f_ml_caughtMany] at hF
  refine lv_aload_n hx hb dX0_caughtMany_0 rfl (lv_at hl 0 rfl) ?_
  refine ml_X0_g_ml_now hC h0 hZ hI dX0_caughtMany_1 ?_
  refine st_X0_g_st_moleMany hC h0 hZ hI dX0_caughtMany_4 ?_
  refine lv_aload_n hx hb dX0_caughtMany_7 rfl (lv_at hl 0 rfl) ?_
  refine la_make (x := sx_13) (D := sD_13) (vals := [.ref (ma 0)]) (rest := [.int (v 0 8)]) hC h0 hZ sq_13 scap_13 hnmd (sis_13 h0) hI hl.1 rfl (by first | exact Nat.le_of_ble_eq_true rfl | omega) (by rw [sown_13]; rfl) (fun i v hv => by rw [sown_13]; match i, hv with | 0, hv => (cases hv; exact ⟨_, rfl, rfl⟩) | j + 1, hv => (cases hv)) dX0_caughtMany_8 (by first | exact Nat.le_of_ble_eq_true rfl | omega) (by first | exact Nat.le_of_ble_eq_true rfl | omega) (fun q1 H hq2 hqs hI => ?_)
  obtain ⟨r3, hz4, hF⟩ := ov_some hF
  refine k_X0_ml_sum_13 hC h0 hZ hI hq2 hz4 (Nat.le_of_ble_eq_true rfl) (Nat.le_of_ble_eq_true rfl) hl.1 (Nat.le_of_ble_eq_true rfl) dX0_caughtMany_13 ?_
  cases hF
  refine W.widen (k := 1) (n := 1) (Nat.le_of_ble_eq_true rfl) (Nat.le_of_ble_eq_true rfl) ?_
  exact W.zret hx hb hr rfl (fun t ht hW => ⟨⟨_, _, rfl, ⟨rfl, rfl⟩, by rw [ht]; exact hI.1, va_K.moved hW.alike hC.2.2.2.2.2.2.1, hI.2.1⟩, hI.2.2.F ht⟩) hI.2.2.2.2 dX0_caughtMany_16 hC.2.2.2.2.2.1
theorem k_X0_ml_caughtMany {p : Program} {l : Launch} {e : Env} {R : Room} {s s0 : State} {b0 : Addr} {m : MethodId} {args : Array Value} {below : List Frame} {meth : Method} {c : Code} {H : Heap} {locs : List Loc} {cells slots : Nat} {Q : State → Prop} {pc : Nat} {ls : Array Slot} {rest : List Value} {G : va_G} {ai : Nat → ClassId} {A : Nat → Prop} {cc : ByteArray} {nL f L kc ks : Nat} {sa ma : Nat → Nat} {rf : Value} {tl : va_W} {v : MS} {ml : MS}  {r1 : Int32} {u1 : MS × MS} (hC : mo_C p R s m args meth c G ai A RX0 cc nL f L kc ks) (h0 : mo_S0 s0 b0) (hZ : mo_Z s0 A s) (hI : mo_I G A s.heap (st_W ai sa v (ml_C ai s0 b0 sa ma rf ml ++ tl)) H locs) (hz : f_ml_caughtMany v ml = some (r1, u1)) (hf : 3 + 1 ≤ f) (hL : 8 + (1 + 11) + 3096 ≤ L) (hsz : ls.size = nL) (hW : (rest.map fun v => v.category).sum ≤ 8) (hdg : decode cc pc = .ok (.invokevirtual 575, 3)) (kk : ∀ (H1 : Heap) (locs1 : List Loc), mo_I G A s.heap (st_W ai sa u1.1 (ml_C ai s0 b0 sa ma rf u1.2 ++ tl)) H1 locs1 → W p l e R s m args below meth c H1 locs1 (cells + 1) (slots + 1) Q (F0 m (pc + 3) ls (.int r1 :: rest))) (hc0 : cells + 1 ≤ kc := by first | exact Nat.zero_le _ | exact Nat.le_of_ble_eq_true rfl | assumption | omega) (hs0 : slots + 1 ≤ ks := by first | exact Nat.zero_le _ | exact Nat.le_of_ble_eq_true rfl | assumption | omega) : W p l e R s m args below meth c H locs cells slots Q (F0 m pc ls (.ref (ma 0) :: rest)) :=
  gz_usei0 hC.2.2.2.2.2.2.2.1 hI (va_runV (As := []) (rest := rest) ⟨hC.1, hC.2.1, hC.2.2.1, hC.2.2.2.1, hC.2.2.2.2.1⟩ (w_ml_caughtMany l G ai h0 v ml r1 u1 hz H.size) (cwV 0 hC.2.2.2.2.1 (lw_V q1964 q1966 qs66 q115 q1967) rfl rfl rfl (by decide +kernel) ⟨Nat.le_trans hf hC.2.2.2.2.2.2.2.2.1, Nat.le_trans hL hC.2.2.2.2.2.2.2.2.2.1⟩) ⟨gz_blind, (va_recv hC.2.2.2.2.2.2.1 hI.1 (ci := 1) (q0 := 18) rfl rfl), gz_pre0 hC hZ hI⟩ rfl rfl hsz rfl (lv_room hW) hdg ⟨Nat.le_trans hc0 hC.2.2.2.2.2.2.2.2.2.2.1, Nat.le_trans hs0 hC.2.2.2.2.2.2.2.2.2.2.2⟩) (fun r u H1 locs1 hp hI1 => by obtain ⟨rfl, rfl⟩ := hp; exact kk H1 locs1 hI1)

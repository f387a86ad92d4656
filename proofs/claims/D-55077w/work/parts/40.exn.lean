set_option maxRecDepth 100000
theorem mo_oinit {p : Program} {l : Launch} {e : Env} {R : Room} {s : State} {m : MethodId} {args : Array Value} {below : List Frame} {meth : Method} {c : Code} {H : Heap} {locs : List Loc} {cells slots : Nat} {Q : State → Prop} {pc : Nat} {ls : Array Slot} {own : String} {cc : ByteArray} {nL f L idx : Nat} {a : Nat} (hN : mo_N p R s m args meth c own cc nL f L) (hq : Cond.methodLink own idx Lib.objectInit ∈ lw_all) (hsz : ls.size = nL) (hf : 1 ≤ f) (hL : 20 ≤ L) (hdg : decode cc pc = .ok (.invokespecial idx, 3)) (kk : W p l e R s m args below meth c H locs cells slots Q (F0 m (pc + 3) ls [])) : W p l e R s m args below meth c H locs cells slots Q (F0 m pc ls [.ref a]) := by
  obtain ⟨hx, hb, hml, ho, hts, hlk, hRf, hRl⟩ := hN
  refine W.objInit hx hb ho (hts _ hq) (hts _ q172) (hts _ q173) rfl (hsz.trans hml.symm) rfl hdg (Nat.le_trans hf hRf) (Nat.le_trans ?_ (Nat.le_trans hL hRl)) kk
  exact Nat.le_of_ble_eq_true rfl
theorem mo_snoc {c : Nat × va_E} {ws : va_W} : (ws ++ [c]).Perm (c :: ws) := List.perm_append_singleton c ws
theorem er_perm : ∀ {l l' : va_W} {i : Nat} {c : Nat × va_E}, l[i]? = some c → l.eraseIdx i = l' → l.Perm (c :: l')
  | [], _, _, _, h, _ => by cases h
  | a :: l, _, 0, c, h, h2 => by
    have e : a = c := Option.some.inj h
    subst h2; subst e; exact List.Perm.refl _
  | a :: l, _, i + 1, c, h, h2 => by
    subst h2
    exact (List.Perm.cons a (er_perm (l := l) (i := i) (c := c) h rfl)).trans (List.Perm.swap c a _)
theorem mo_pick {G : va_G} {A : Nat → Prop} {H0 H : Heap} {l l' : va_W} {locs : List Loc} {c : Nat × va_E} {i : Nat} (h : l[i]? = some c) (h2 : l.eraseIdx i = l') (hI : mo_I G A H0 l H locs) : mo_I G A H0 (c :: l') H locs := mo_Iperm (er_perm h h2) hI
set_option maxHeartbeats 4000000 in
theorem w_thX10N (l : Launch) (G : va_G) (ai : Nat → ClassId) {s0 : State} {b0 : Addr} (h0 : mo_S0 s0 b0) {tl : va_W} (q : Nat) (x6 : Value) : gz_Mv l G ai s0 (fun (u : Unit) => ([(q, .inr (9, [.null, .null, .null, .null, .null, .int 0, x6]))] ++ tl)) yJ23_init_2 cJ23_init_2 5 ({ frames := 1, cells := 0, slots := 0, locals := 20 } : Room) [.ref q, .null, .null, .int 0, .int 0] ([(q, .inr (9, [.null, .null, .null, .null, .null, .int 0, x6]))] ++ tl) (fun (_ : Unit) => True) 0 0 := by
  refine gz_body (y := yJ23_init_2) (cc := cJ23_init_2) (nL := 5) (As := [.ref q, .null, .null, .int 0, .int 0]) (w0 := ([(q, .inr (9, [.null, .null, .null, .null, .null, .int 0, x6]))] ++ tl)) (Qc := fun A => va_Qv (fun (_ : Unit) => True) (gw_E G ai (fun (u : Unit) => ([(q, .inr (9, [.null, .null, .null, .null, .null, .int 0, x6]))] ++ tl)) A) A) (fr := fun A => A) (by decide) (Nat.le_of_ble_eq_true rfl) ?_
  intro p e s m args below meth c A ls hC hZ hr hI hl hnm
  have hx := hC.1
  have hb := hC.2.1
  have hl : lv_has ls 5 [(0, .ref q), (1, .null), (2, .null), (3, .int 0), (4, .int 0)] := hl
  show W p l e _ s m args below meth c s.heap [] 0 0 (MQ below (va_Qv (fun (_ : Unit) => True) (gw_E G ai (fun (u : Unit) => ([(q, .inr (9, [.null, .null, .null, .null, .null, .int 0, x6]))] ++ tl)) A) A) args s 0 0 A) (F0 m 0 ls [])
  refine lv_aload_n hx hb dJ23_init_2_0 rfl (lv_at hl 0 rfl) ?_
  refine mo_oinit (mo_CN hC) q817 hl.1 (Nat.le_of_ble_eq_true rfl) (Nat.le_of_ble_eq_true rfl) dJ23_init_2_1 ?_
  refine lv_aload_n hx hb dJ23_init_2_4 rfl (lv_at hl 0 rfl) ?_
  refine lv_aload_n hx hb dJ23_init_2_5 rfl (lv_at hl 0 rfl) ?_
  refine va_put (D := G) (ci := 9) (v := .ref q) (ty := (.object "java/lang/Throwable")) (C := RX10) (T := TX10) (N := 7) hx hb hC.2.2.2.2.1 in_X10 tyX10 tyX10_ok nmX10 hC.2.2.2.1 hC.2.2.2.2.2.2.1 hI.1 hI.2.1 hI.2.2 0 rfl rfl 0 (by decide) (hC.2.2.2.2.1 _ q847) (fun _ h9 => h9) rfl (by decide +kernel) rfl rfl (Nat.le_of_ble_eq_true rfl) dJ23_init_2_6 (fun H locs hP hD hS => ?_)
  have hI : mo_I G A s.heap ([(q, .inr (9, [.ref q, .null, .null, .null, .null, .int 0, x6]))] ++ tl) _ _ := ⟨hP, hD, hS⟩
  refine lv_aload_n hx hb dJ23_init_2_9 rfl (lv_at hl 0 rfl) ?_
  rcases zs_us h0 hZ with hum1 | ⟨um1, hum1⟩
  · refine va_gets hx hb hum1 hI.2.2 hC.2.2.2.1 (hC.2.2.2.2.1 _ q818) (fun _ h9 => h9) dJ23_init_2_10 ?_
    refine va_put (D := G) (ci := 9) (v := .null) (ty := (.array (.object "java/lang/StackTraceElement"))) (C := RX10) (T := TX10) (N := 7) hx hb hC.2.2.2.2.1 in_X10 tyX10 tyX10_ok nmX10 hC.2.2.2.1 hC.2.2.2.2.2.2.1 hI.1 hI.2.1 hI.2.2 0 rfl rfl 1 (by decide) (hC.2.2.2.2.1 _ q848) (fun _ h9 => h9) rfl (by decide +kernel) rfl rfl (Nat.le_of_ble_eq_true rfl) dJ23_init_2_13 (fun H locs hP hD hS => ?_)
    have hI : mo_I G A s.heap ([(q, .inr (9, [.ref q, .null, .null, .null, .null, .int 0, x6]))] ++ tl) _ _ := ⟨hP, hD, hS⟩
    refine lv_aload_n hx hb dJ23_init_2_16 rfl (lv_at hl 0 rfl) ?_
    rcases zs_ss h0 hZ with hum2 | ⟨um2, hum2⟩
    · refine va_gets hx hb hum2 hI.2.2 hC.2.2.2.1 (hC.2.2.2.2.1 _ q820) (fun _ h9 => h9) dJ23_init_2_17 ?_
      refine va_put (D := G) (ci := 9) (v := .null) (ty := (.object "java/util/List")) (C := RX10) (T := TX10) (N := 7) hx hb hC.2.2.2.2.1 in_X10 tyX10 tyX10_ok nmX10 hC.2.2.2.1 hC.2.2.2.2.2.2.1 hI.1 hI.2.1 hI.2.2 0 rfl rfl 2 (by decide) (hC.2.2.2.2.1 _ q849) (fun _ h9 => h9) rfl (by decide +kernel) rfl rfl (Nat.le_of_ble_eq_true rfl) dJ23_init_2_20 (fun H locs hP hD hS => ?_)
      have hI : mo_I G A s.heap ([(q, .inr (9, [.ref q, .null, .null, .null, .null, .int 0, x6]))] ++ tl) _ _ := ⟨hP, hD, hS⟩
      refine lv_iload hx hb dJ23_init_2_23 (lv_at hl 4 rfl) ?_
      refine lv_if_eq (tgt := 36) hx hb dJ23_init_2_25 (by decide) (fun h9 => ?_) (fun h9 => ?_)
      · refine lv_aload_n hx hb dJ23_init_2_36 rfl (lv_at hl 0 rfl) ?_
        refine lv_null hx hb dJ23_init_2_37 ?_
        refine va_put (D := G) (ci := 9) (v := .null) (ty := (.array (.object "java/lang/StackTraceElement"))) (C := RX10) (T := TX10) (N := 7) hx hb hC.2.2.2.2.1 in_X10 tyX10 tyX10_ok nmX10 hC.2.2.2.1 hC.2.2.2.2.2.2.1 hI.1 hI.2.1 hI.2.2 0 rfl rfl 1 (by decide) (hC.2.2.2.2.1 _ q848) (fun _ h9 => h9) rfl (by decide +kernel) rfl rfl (Nat.le_of_ble_eq_true rfl) dJ23_init_2_38 (fun H locs hP hD hS => ?_)
        have hI : mo_I G A s.heap ([(q, .inr (9, [.ref q, .null, .null, .null, .null, .int 0, x6]))] ++ tl) _ _ := ⟨hP, hD, hS⟩
        refine lv_aload_n hx hb dJ23_init_2_41 rfl (lv_at hl 0 rfl) ?_
        refine lv_aload_nN hx hb dJ23_init_2_42 rfl (lv_at hl 1 rfl) ?_
        refine va_put (D := G) (ci := 9) (v := .null) (ty := (.object "java/lang/String")) (C := RX10) (T := TX10) (N := 7) hx hb hC.2.2.2.2.1 in_X10 tyX10 tyX10_ok nmX10 hC.2.2.2.1 hC.2.2.2.2.2.2.1 hI.1 hI.2.1 hI.2.2 0 rfl rfl 3 (by decide) (hC.2.2.2.2.1 _ q846) (fun _ h9 => h9) rfl (by decide +kernel) rfl rfl (Nat.le_of_ble_eq_true rfl) dJ23_init_2_43 (fun H locs hP hD hS => ?_)
        have hI : mo_I G A s.heap ([(q, .inr (9, [.ref q, .null, .null, .null, .null, .int 0, x6]))] ++ tl) _ _ := ⟨hP, hD, hS⟩
        refine lv_aload_n hx hb dJ23_init_2_46 rfl (lv_at hl 0 rfl) ?_
        refine lv_aload_nN hx hb dJ23_init_2_47 rfl (lv_at hl 2 rfl) ?_
        refine va_put (D := G) (ci := 9) (v := .null) (ty := (.object "java/lang/Throwable")) (C := RX10) (T := TX10) (N := 7) hx hb hC.2.2.2.2.1 in_X10 tyX10 tyX10_ok nmX10 hC.2.2.2.1 hC.2.2.2.2.2.2.1 hI.1 hI.2.1 hI.2.2 0 rfl rfl 0 (by decide) (hC.2.2.2.2.1 _ q847) (fun _ h9 => h9) rfl (by decide +kernel) rfl rfl (Nat.le_of_ble_eq_true rfl) dJ23_init_2_48 (fun H locs hP hD hS => ?_)
        have hI : mo_I G A s.heap ([(q, .inr (9, [.null, .null, .null, .null, .null, .int 0, x6]))] ++ tl) _ _ := ⟨hP, hD, hS⟩
        refine lv_iload_n hx hb dJ23_init_2_51 rfl (lv_at hl 3 rfl) ?_
        refine lv_if_ne (tgt := 60) hx hb dJ23_init_2_52 (by decide) (fun h9 => ?_) (fun h9 => ?_)
        · exact absurd h9 (by decide)
        · refine lv_aload_n hx hb dJ23_init_2_55 rfl (lv_at hl 0 rfl) ?_
          refine lv_null hx hb dJ23_init_2_56 ?_
          refine va_put (D := G) (ci := 9) (v := .null) (ty := (.object "java/util/List")) (C := RX10) (T := TX10) (N := 7) hx hb hC.2.2.2.2.1 in_X10 tyX10 tyX10_ok nmX10 hC.2.2.2.1 hC.2.2.2.2.2.2.1 hI.1 hI.2.1 hI.2.2 0 rfl rfl 2 (by decide) (hC.2.2.2.2.1 _ q849) (fun _ h9 => h9) rfl (by decide +kernel) rfl rfl (Nat.le_of_ble_eq_true rfl) dJ23_init_2_57 (fun H locs hP hD hS => ?_)
          have hI : mo_I G A s.heap ([(q, .inr (9, [.null, .null, .null, .null, .null, .int 0, x6]))] ++ tl) _ _ := ⟨hP, hD, hS⟩
          refine W.widen (k := 0) (n := 0) (Nat.le_of_ble_eq_true rfl) (Nat.le_of_ble_eq_true rfl) ?_
          exact W.vret hx hb hr (fun t ht hW => ⟨⟨(), rfl, trivial, by rw [ht]; exact hI.1, va_K.moved hW.alike hC.2.2.2.2.2.2.1, hI.2.1⟩, hI.2.2.F ht⟩) hI.2.2.2.2 dJ23_init_2_60 hC.2.2.2.2.2.1
      · exact absurd h9 (by decide)
    · refine va_gets hx hb hum2 hI.2.2 hC.2.2.2.1 (hC.2.2.2.2.1 _ q820) (fun _ h9 => h9) dJ23_init_2_17 ?_
      refine va_put (D := G) (ci := 9) (v := .ref um2) (ty := (.object "java/util/List")) (C := RX10) (T := TX10) (N := 7) hx hb hC.2.2.2.2.1 in_X10 tyX10 tyX10_ok nmX10 hC.2.2.2.1 hC.2.2.2.2.2.2.1 hI.1 hI.2.1 hI.2.2 0 rfl rfl 2 (by decide) (hC.2.2.2.2.1 _ q849) (fun _ h9 => h9) rfl (by decide +kernel) rfl rfl (Nat.le_of_ble_eq_true rfl) dJ23_init_2_20 (fun H locs hP hD hS => ?_)
      have hI : mo_I G A s.heap ([(q, .inr (9, [.ref q, .null, .ref um2, .null, .null, .int 0, x6]))] ++ tl) _ _ := ⟨hP, hD, hS⟩
      refine lv_iload hx hb dJ23_init_2_23 (lv_at hl 4 rfl) ?_
      refine lv_if_eq (tgt := 36) hx hb dJ23_init_2_25 (by decide) (fun h9 => ?_) (fun h9 => ?_)
      · refine lv_aload_n hx hb dJ23_init_2_36 rfl (lv_at hl 0 rfl) ?_
        refine lv_null hx hb dJ23_init_2_37 ?_
        refine va_put (D := G) (ci := 9) (v := .null) (ty := (.array (.object "java/lang/StackTraceElement"))) (C := RX10) (T := TX10) (N := 7) hx hb hC.2.2.2.2.1 in_X10 tyX10 tyX10_ok nmX10 hC.2.2.2.1 hC.2.2.2.2.2.2.1 hI.1 hI.2.1 hI.2.2 0 rfl rfl 1 (by decide) (hC.2.2.2.2.1 _ q848) (fun _ h9 => h9) rfl (by decide +kernel) rfl rfl (Nat.le_of_ble_eq_true rfl) dJ23_init_2_38 (fun H locs hP hD hS => ?_)
        have hI : mo_I G A s.heap ([(q, .inr (9, [.ref q, .null, .ref um2, .null, .null, .int 0, x6]))] ++ tl) _ _ := ⟨hP, hD, hS⟩
        refine lv_aload_n hx hb dJ23_init_2_41 rfl (lv_at hl 0 rfl) ?_
        refine lv_aload_nN hx hb dJ23_init_2_42 rfl (lv_at hl 1 rfl) ?_
        refine va_put (D := G) (ci := 9) (v := .null) (ty := (.object "java/lang/String")) (C := RX10) (T := TX10) (N := 7) hx hb hC.2.2.2.2.1 in_X10 tyX10 tyX10_ok nmX10 hC.2.2.2.1 hC.2.2.2.2.2.2.1 hI.1 hI.2.1 hI.2.2 0 rfl rfl 3 (by decide) (hC.2.2.2.2.1 _ q846) (fun _ h9 => h9) rfl (by decide +kernel) rfl rfl (Nat.le_of_ble_eq_true rfl) dJ23_init_2_43 (fun H locs hP hD hS => ?_)
        have hI : mo_I G A s.heap ([(q, .inr (9, [.ref q, .null, .ref um2, .null, .null, .int 0, x6]))] ++ tl) _ _ := ⟨hP, hD, hS⟩
        refine lv_aload_n hx hb dJ23_init_2_46 rfl (lv_at hl 0 rfl) ?_
        refine lv_aload_nN hx hb dJ23_init_2_47 rfl (lv_at hl 2 rfl) ?_
        refine va_put (D := G) (ci := 9) (v := .null) (ty := (.object "java/lang/Throwable")) (C := RX10) (T := TX10) (N := 7) hx hb hC.2.2.2.2.1 in_X10 tyX10 tyX10_ok nmX10 hC.2.2.2.1 hC.2.2.2.2.2.2.1 hI.1 hI.2.1 hI.2.2 0 rfl rfl 0 (by decide) (hC.2.2.2.2.1 _ q847) (fun _ h9 => h9) rfl (by decide +kernel) rfl rfl (Nat.le_of_ble_eq_true rfl) dJ23_init_2_48 (fun H locs hP hD hS => ?_)
        have hI : mo_I G A s.heap ([(q, .inr (9, [.null, .null, .ref um2, .null, .null, .int 0, x6]))] ++ tl) _ _ := ⟨hP, hD, hS⟩
        refine lv_iload_n hx hb dJ23_init_2_51 rfl (lv_at hl 3 rfl) ?_
        refine lv_if_ne (tgt := 60) hx hb dJ23_init_2_52 (by decide) (fun h9 => ?_) (fun h9 => ?_)
        · exact absurd h9 (by decide)
        · refine lv_aload_n hx hb dJ23_init_2_55 rfl (lv_at hl 0 rfl) ?_
          refine lv_null hx hb dJ23_init_2_56 ?_
          refine va_put (D := G) (ci := 9) (v := .null) (ty := (.object "java/util/List")) (C := RX10) (T := TX10) (N := 7) hx hb hC.2.2.2.2.1 in_X10 tyX10 tyX10_ok nmX10 hC.2.2.2.1 hC.2.2.2.2.2.2.1 hI.1 hI.2.1 hI.2.2 0 rfl rfl 2 (by decide) (hC.2.2.2.2.1 _ q849) (fun _ h9 => h9) rfl (by decide +kernel) rfl rfl (Nat.le_of_ble_eq_true rfl) dJ23_init_2_57 (fun H locs hP hD hS => ?_)
          have hI : mo_I G A s.heap ([(q, .inr (9, [.null, .null, .null, .null, .null, .int 0, x6]))] ++ tl) _ _ := ⟨hP, hD, hS⟩
          refine W.widen (k := 0) (n := 0) (Nat.le_of_ble_eq_true rfl) (Nat.le_of_ble_eq_true rfl) ?_
          exact W.vret hx hb hr (fun t ht hW => ⟨⟨(), rfl, trivial, by rw [ht]; exact hI.1, va_K.moved hW.alike hC.2.2.2.2.2.2.1, hI.2.1⟩, hI.2.2.F ht⟩) hI.2.2.2.2 dJ23_init_2_60 hC.2.2.2.2.2.1
      · exact absurd h9 (by decide)
  · refine va_gets hx hb hum1 hI.2.2 hC.2.2.2.1 (hC.2.2.2.2.1 _ q818) (fun _ h9 => h9) dJ23_init_2_10 ?_
    refine va_put (D := G) (ci := 9) (v := .ref um1) (ty := (.array (.object "java/lang/StackTraceElement"))) (C := RX10) (T := TX10) (N := 7) hx hb hC.2.2.2.2.1 in_X10 tyX10 tyX10_ok nmX10 hC.2.2.2.1 hC.2.2.2.2.2.2.1 hI.1 hI.2.1 hI.2.2 0 rfl rfl 1 (by decide) (hC.2.2.2.2.1 _ q848) (fun _ h9 => h9) rfl (by decide +kernel) rfl rfl (Nat.le_of_ble_eq_true rfl) dJ23_init_2_13 (fun H locs hP hD hS => ?_)
    have hI : mo_I G A s.heap ([(q, .inr (9, [.ref q, .ref um1, .null, .null, .null, .int 0, x6]))] ++ tl) _ _ := ⟨hP, hD, hS⟩
    refine lv_aload_n hx hb dJ23_init_2_16 rfl (lv_at hl 0 rfl) ?_
    rcases zs_ss h0 hZ with hum3 | ⟨um3, hum3⟩
    · refine va_gets hx hb hum3 hI.2.2 hC.2.2.2.1 (hC.2.2.2.2.1 _ q820) (fun _ h9 => h9) dJ23_init_2_17 ?_
      refine va_put (D := G) (ci := 9) (v := .null) (ty := (.object "java/util/List")) (C := RX10) (T := TX10) (N := 7) hx hb hC.2.2.2.2.1 in_X10 tyX10 tyX10_ok nmX10 hC.2.2.2.1 hC.2.2.2.2.2.2.1 hI.1 hI.2.1 hI.2.2 0 rfl rfl 2 (by decide) (hC.2.2.2.2.1 _ q849) (fun _ h9 => h9) rfl (by decide +kernel) rfl rfl (Nat.le_of_ble_eq_true rfl) dJ23_init_2_20 (fun H locs hP hD hS => ?_)
      have hI : mo_I G A s.heap ([(q, .inr (9, [.ref q, .ref um1, .null, .null, .null, .int 0, x6]))] ++ tl) _ _ := ⟨hP, hD, hS⟩
      refine lv_iload hx hb dJ23_init_2_23 (lv_at hl 4 rfl) ?_
      refine lv_if_eq (tgt := 36) hx hb dJ23_init_2_25 (by decide) (fun h9 => ?_) (fun h9 => ?_)
      · refine lv_aload_n hx hb dJ23_init_2_36 rfl (lv_at hl 0 rfl) ?_
        refine lv_null hx hb dJ23_init_2_37 ?_
        refine va_put (D := G) (ci := 9) (v := .null) (ty := (.array (.object "java/lang/StackTraceElement"))) (C := RX10) (T := TX10) (N := 7) hx hb hC.2.2.2.2.1 in_X10 tyX10 tyX10_ok nmX10 hC.2.2.2.1 hC.2.2.2.2.2.2.1 hI.1 hI.2.1 hI.2.2 0 rfl rfl 1 (by decide) (hC.2.2.2.2.1 _ q848) (fun _ h9 => h9) rfl (by decide +kernel) rfl rfl (Nat.le_of_ble_eq_true rfl) dJ23_init_2_38 (fun H locs hP hD hS => ?_)
        have hI : mo_I G A s.heap ([(q, .inr (9, [.ref q, .null, .null, .null, .null, .int 0, x6]))] ++ tl) _ _ := ⟨hP, hD, hS⟩
        refine lv_aload_n hx hb dJ23_init_2_41 rfl (lv_at hl 0 rfl) ?_
        refine lv_aload_nN hx hb dJ23_init_2_42 rfl (lv_at hl 1 rfl) ?_
        refine va_put (D := G) (ci := 9) (v := .null) (ty := (.object "java/lang/String")) (C := RX10) (T := TX10) (N := 7) hx hb hC.2.2.2.2.1 in_X10 tyX10 tyX10_ok nmX10 hC.2.2.2.1 hC.2.2.2.2.2.2.1 hI.1 hI.2.1 hI.2.2 0 rfl rfl 3 (by decide) (hC.2.2.2.2.1 _ q846) (fun _ h9 => h9) rfl (by decide +kernel) rfl rfl (Nat.le_of_ble_eq_true rfl) dJ23_init_2_43 (fun H locs hP hD hS => ?_)
        have hI : mo_I G A s.heap ([(q, .inr (9, [.ref q, .null, .null, .null, .null, .int 0, x6]))] ++ tl) _ _ := ⟨hP, hD, hS⟩
        refine lv_aload_n hx hb dJ23_init_2_46 rfl (lv_at hl 0 rfl) ?_
        refine lv_aload_nN hx hb dJ23_init_2_47 rfl (lv_at hl 2 rfl) ?_
        refine va_put (D := G) (ci := 9) (v := .null) (ty := (.object "java/lang/Throwable")) (C := RX10) (T := TX10) (N := 7) hx hb hC.2.2.2.2.1 in_X10 tyX10 tyX10_ok nmX10 hC.2.2.2.1 hC.2.2.2.2.2.2.1 hI.1 hI.2.1 hI.2.2 0 rfl rfl 0 (by decide) (hC.2.2.2.2.1 _ q847) (fun _ h9 => h9) rfl (by decide +kernel) rfl rfl (Nat.le_of_ble_eq_true rfl) dJ23_init_2_48 (fun H locs hP hD hS => ?_)
        have hI : mo_I G A s.heap ([(q, .inr (9, [.null, .null, .null, .null, .null, .int 0, x6]))] ++ tl) _ _ := ⟨hP, hD, hS⟩
        refine lv_iload_n hx hb dJ23_init_2_51 rfl (lv_at hl 3 rfl) ?_
        refine lv_if_ne (tgt := 60) hx hb dJ23_init_2_52 (by decide) (fun h9 => ?_) (fun h9 => ?_)
        · exact absurd h9 (by decide)
        · refine lv_aload_n hx hb dJ23_init_2_55 rfl (lv_at hl 0 rfl) ?_
          refine lv_null hx hb dJ23_init_2_56 ?_
          refine va_put (D := G) (ci := 9) (v := .null) (ty := (.object "java/util/List")) (C := RX10) (T := TX10) (N := 7) hx hb hC.2.2.2.2.1 in_X10 tyX10 tyX10_ok nmX10 hC.2.2.2.1 hC.2.2.2.2.2.2.1 hI.1 hI.2.1 hI.2.2 0 rfl rfl 2 (by decide) (hC.2.2.2.2.1 _ q849) (fun _ h9 => h9) rfl (by decide +kernel) rfl rfl (Nat.le_of_ble_eq_true rfl) dJ23_init_2_57 (fun H locs hP hD hS => ?_)
          have hI : mo_I G A s.heap ([(q, .inr (9, [.null, .null, .null, .null, .null, .int 0, x6]))] ++ tl) _ _ := ⟨hP, hD, hS⟩
          refine W.widen (k := 0) (n := 0) (Nat.le_of_ble_eq_true rfl) (Nat.le_of_ble_eq_true rfl) ?_
          exact W.vret hx hb hr (fun t ht hW => ⟨⟨(), rfl, trivial, by rw [ht]; exact hI.1, va_K.moved hW.alike hC.2.2.2.2.2.2.1, hI.2.1⟩, hI.2.2.F ht⟩) hI.2.2.2.2 dJ23_init_2_60 hC.2.2.2.2.2.1
      · exact absurd h9 (by decide)
    · refine va_gets hx hb hum3 hI.2.2 hC.2.2.2.1 (hC.2.2.2.2.1 _ q820) (fun _ h9 => h9) dJ23_init_2_17 ?_
      refine va_put (D := G) (ci := 9) (v := .ref um3) (ty := (.object "java/util/List")) (C := RX10) (T := TX10) (N := 7) hx hb hC.2.2.2.2.1 in_X10 tyX10 tyX10_ok nmX10 hC.2.2.2.1 hC.2.2.2.2.2.2.1 hI.1 hI.2.1 hI.2.2 0 rfl rfl 2 (by decide) (hC.2.2.2.2.1 _ q849) (fun _ h9 => h9) rfl (by decide +kernel) rfl rfl (Nat.le_of_ble_eq_true rfl) dJ23_init_2_20 (fun H locs hP hD hS => ?_)
      have hI : mo_I G A s.heap ([(q, .inr (9, [.ref q, .ref um1, .ref um3, .null, .null, .int 0, x6]))] ++ tl) _ _ := ⟨hP, hD, hS⟩
      refine lv_iload hx hb dJ23_init_2_23 (lv_at hl 4 rfl) ?_
      refine lv_if_eq (tgt := 36) hx hb dJ23_init_2_25 (by decide) (fun h9 => ?_) (fun h9 => ?_)
      · refine lv_aload_n hx hb dJ23_init_2_36 rfl (lv_at hl 0 rfl) ?_
        refine lv_null hx hb dJ23_init_2_37 ?_
        refine va_put (D := G) (ci := 9) (v := .null) (ty := (.array (.object "java/lang/StackTraceElement"))) (C := RX10) (T := TX10) (N := 7) hx hb hC.2.2.2.2.1 in_X10 tyX10 tyX10_ok nmX10 hC.2.2.2.1 hC.2.2.2.2.2.2.1 hI.1 hI.2.1 hI.2.2 0 rfl rfl 1 (by decide) (hC.2.2.2.2.1 _ q848) (fun _ h9 => h9) rfl (by decide +kernel) rfl rfl (Nat.le_of_ble_eq_true rfl) dJ23_init_2_38 (fun H locs hP hD hS => ?_)
        have hI : mo_I G A s.heap ([(q, .inr (9, [.ref q, .null, .ref um3, .null, .null, .int 0, x6]))] ++ tl) _ _ := ⟨hP, hD, hS⟩
        refine lv_aload_n hx hb dJ23_init_2_41 rfl (lv_at hl 0 rfl) ?_
        refine lv_aload_nN hx hb dJ23_init_2_42 rfl (lv_at hl 1 rfl) ?_
        refine va_put (D := G) (ci := 9) (v := .null) (ty := (.object "java/lang/String")) (C := RX10) (T := TX10) (N := 7) hx hb hC.2.2.2.2.1 in_X10 tyX10 tyX10_ok nmX10 hC.2.2.2.1 hC.2.2.2.2.2.2.1 hI.1 hI.2.1 hI.2.2 0 rfl rfl 3 (by decide) (hC.2.2.2.2.1 _ q846) (fun _ h9 => h9) rfl (by decide +kernel) rfl rfl (Nat.le_of_ble_eq_true rfl) dJ23_init_2_43 (fun H locs hP hD hS => ?_)
        have hI : mo_I G A s.heap ([(q, .inr (9, [.ref q, .null, .ref um3, .null, .null, .int 0, x6]))] ++ tl) _ _ := ⟨hP, hD, hS⟩
        refine lv_aload_n hx hb dJ23_init_2_46 rfl (lv_at hl 0 rfl) ?_
        refine lv_aload_nN hx hb dJ23_init_2_47 rfl (lv_at hl 2 rfl) ?_
        refine va_put (D := G) (ci := 9) (v := .null) (ty := (.object "java/lang/Throwable")) (C := RX10) (T := TX10) (N := 7) hx hb hC.2.2.2.2.1 in_X10 tyX10 tyX10_ok nmX10 hC.2.2.2.1 hC.2.2.2.2.2.2.1 hI.1 hI.2.1 hI.2.2 0 rfl rfl 0 (by decide) (hC.2.2.2.2.1 _ q847) (fun _ h9 => h9) rfl (by decide +kernel) rfl rfl (Nat.le_of_ble_eq_true rfl) dJ23_init_2_48 (fun H locs hP hD hS => ?_)
        have hI : mo_I G A s.heap ([(q, .inr (9, [.null, .null, .ref um3, .null, .null, .int 0, x6]))] ++ tl) _ _ := ⟨hP, hD, hS⟩
        refine lv_iload_n hx hb dJ23_init_2_51 rfl (lv_at hl 3 rfl) ?_
        refine lv_if_ne (tgt := 60) hx hb dJ23_init_2_52 (by decide) (fun h9 => ?_) (fun h9 => ?_)
        · exact absurd h9 (by decide)
        · refine lv_aload_n hx hb dJ23_init_2_55 rfl (lv_at hl 0 rfl) ?_
          refine lv_null hx hb dJ23_init_2_56 ?_
          refine va_put (D := G) (ci := 9) (v := .null) (ty := (.object "java/util/List")) (C := RX10) (T := TX10) (N := 7) hx hb hC.2.2.2.2.1 in_X10 tyX10 tyX10_ok nmX10 hC.2.2.2.1 hC.2.2.2.2.2.2.1 hI.1 hI.2.1 hI.2.2 0 rfl rfl 2 (by decide) (hC.2.2.2.2.1 _ q849) (fun _ h9 => h9) rfl (by decide +kernel) rfl rfl (Nat.le_of_ble_eq_true rfl) dJ23_init_2_57 (fun H locs hP hD hS => ?_)
          have hI : mo_I G A s.heap ([(q, .inr (9, [.null, .null, .null, .null, .null, .int 0, x6]))] ++ tl) _ _ := ⟨hP, hD, hS⟩
          refine W.widen (k := 0) (n := 0) (Nat.le_of_ble_eq_true rfl) (Nat.le_of_ble_eq_true rfl) ?_
          exact W.vret hx hb hr (fun t ht hW => ⟨⟨(), rfl, trivial, by rw [ht]; exact hI.1, va_K.moved hW.alike hC.2.2.2.2.2.2.1, hI.2.1⟩, hI.2.2.F ht⟩) hI.2.2.2.2 dJ23_init_2_60 hC.2.2.2.2.2.1
      · exact absurd h9 (by decide)
theorem k_J24_thX10N {p : Program} {l : Launch} {e : Env} {R : Room} {s s0 : State} {b0 : Addr} {m : MethodId} {args : Array Value} {below : List Frame} {meth : Method} {c : Code} {H : Heap} {locs : List Loc} {cells slots : Nat} {Q : State → Prop} {pc : Nat} {ls : Array Slot} {rest : List Value} {G : va_G} {ai : Nat → ClassId} {A : Nat → Prop} {cc : ByteArray} {nL f L kc ks : Nat} {tl : va_W} {q : Nat} {x6 : Value} (hC : mo_C p R s m args meth c G ai A RJ24 cc nL f L kc ks) (h0 : mo_S0 s0 b0) (hZ : mo_Z s0 A s) (hI : mo_I G A s.heap ([(q, .inr (9, [.null, .null, .null, .null, .null, .int 0, x6]))] ++ tl) H locs) (hf : 1 + 1 ≤ f) (hL : 8 + (5 + 11) + 20 ≤ L) (hsz : ls.size = nL) (hW : (rest.map fun v => v.category).sum ≤ 8) (hdg : decode cc pc = .ok (.invokespecial 16, 3)) (kk : ∀ (u : Unit) (H1 : Heap) (locs1 : List Loc), mo_I G A s.heap ([(q, .inr (9, [.null, .null, .null, .null, .null, .int 0, x6]))] ++ tl) H1 locs1 → W p l e R s m args below meth c H1 locs1 (cells + 0) (slots + 0) Q (F0 m (pc + 3) ls (rest))) (hc0 : cells + 0 ≤ kc := by first | exact Nat.le_of_ble_eq_true rfl | exact Nat.zero_le _ | assumption | omega) (hs0 : slots + 0 ≤ ks := by first | exact Nat.le_of_ble_eq_true rfl | exact Nat.zero_le _ | assumption | omega) : W p l e R s m args below meth c H locs cells slots Q (F0 m pc ls (.int 0 :: .int 0 :: .null :: .null :: .ref q :: rest)) :=
  gz_usev0 hC.2.2.2.2.2.2.2.1 hI (va_runI (As := [.null, .null, .int 0, .int 0]) (rest := rest) ⟨hC.1, hC.2.1, hC.2.2.1, hC.2.2.2.1, hC.2.2.2.2.1⟩ (w_thX10N l G ai h0 q x6 H.size) (cwI 4 hC.2.2.2.2.1 (lw_meth q842) rfl rfl rfl (hC.2.2.2.2.1 _ q150) (hC.2.2.2.2.1 _ q840) (hC.2.2.2.2.1 _ q841) rfl (by decide +kernel) ⟨Nat.le_trans hf hC.2.2.2.2.2.2.2.2.1, Nat.le_trans hL hC.2.2.2.2.2.2.2.2.2.1⟩) ⟨gz_blind, gz_pre0 hC hZ hI⟩ rfl rfl hsz rfl (lv_room hW) hdg ⟨Nat.le_trans hc0 hC.2.2.2.2.2.2.2.2.2.2.1, Nat.le_trans hs0 hC.2.2.2.2.2.2.2.2.2.2.2⟩) (fun u H1 locs1 hp hI1 => kk u H1 locs1 hI1)
set_option maxHeartbeats 4000000 in
theorem w_thX11N (l : Launch) (G : va_G) (ai : Nat → ClassId) {s0 : State} {b0 : Addr} (h0 : mo_S0 s0 b0) {tl : va_W} (q : Nat) (x6 : Value) (x7 : Value) : gz_Mv l G ai s0 (fun (u : Unit) => ([(q, .inr (10, [.null, .null, .null, .null, .null, .int 0, x6, x7]))] ++ tl)) yJ23_init_2 cJ23_init_2 5 ({ frames := 1, cells := 0, slots := 0, locals := 20 } : Room) [.ref q, .null, .null, .int 0, .int 0] ([(q, .inr (10, [.null, .null, .null, .null, .null, .int 0, x6, x7]))] ++ tl) (fun (_ : Unit) => True) 0 0 := by
  refine gz_body (y := yJ23_init_2) (cc := cJ23_init_2) (nL := 5) (As := [.ref q, .null, .null, .int 0, .int 0]) (w0 := ([(q, .inr (10, [.null, .null, .null, .null, .null, .int 0, x6, x7]))] ++ tl)) (Qc := fun A => va_Qv (fun (_ : Unit) => True) (gw_E G ai (fun (u : Unit) => ([(q, .inr (10, [.null, .null, .null, .null, .null, .int 0, x6, x7]))] ++ tl)) A) A) (fr := fun A => A) (by decide) (Nat.le_of_ble_eq_true rfl) ?_
  intro p e s m args below meth c A ls hC hZ hr hI hl hnm
  have hx := hC.1
  have hb := hC.2.1
  have hl : lv_has ls 5 [(0, .ref q), (1, .null), (2, .null), (3, .int 0), (4, .int 0)] := hl
  show W p l e _ s m args below meth c s.heap [] 0 0 (MQ below (va_Qv (fun (_ : Unit) => True) (gw_E G ai (fun (u : Unit) => ([(q, .inr (10, [.null, .null, .null, .null, .null, .int 0, x6, x7]))] ++ tl)) A) A) args s 0 0 A) (F0 m 0 ls [])
  refine lv_aload_n hx hb dJ23_init_2_0 rfl (lv_at hl 0 rfl) ?_
  refine mo_oinit (mo_CN hC) q817 hl.1 (Nat.le_of_ble_eq_true rfl) (Nat.le_of_ble_eq_true rfl) dJ23_init_2_1 ?_
  refine lv_aload_n hx hb dJ23_init_2_4 rfl (lv_at hl 0 rfl) ?_
  refine lv_aload_n hx hb dJ23_init_2_5 rfl (lv_at hl 0 rfl) ?_
  refine va_put (D := G) (ci := 10) (v := .ref q) (ty := (.object "java/lang/Throwable")) (C := RX11) (T := TX11) (N := 8) hx hb hC.2.2.2.2.1 in_X11 tyX11 tyX11_ok nmX11 hC.2.2.2.1 hC.2.2.2.2.2.2.1 hI.1 hI.2.1 hI.2.2 0 rfl rfl 0 (by decide) (hC.2.2.2.2.1 _ q847) (fun _ h9 => h9) rfl (by decide +kernel) rfl rfl (Nat.le_of_ble_eq_true rfl) dJ23_init_2_6 (fun H locs hP hD hS => ?_)
  have hI : mo_I G A s.heap ([(q, .inr (10, [.ref q, .null, .null, .null, .null, .int 0, x6, x7]))] ++ tl) _ _ := ⟨hP, hD, hS⟩
  refine lv_aload_n hx hb dJ23_init_2_9 rfl (lv_at hl 0 rfl) ?_
  rcases zs_us h0 hZ with hum1 | ⟨um1, hum1⟩
  · refine va_gets hx hb hum1 hI.2.2 hC.2.2.2.1 (hC.2.2.2.2.1 _ q818) (fun _ h9 => h9) dJ23_init_2_10 ?_
    refine va_put (D := G) (ci := 10) (v := .null) (ty := (.array (.object "java/lang/StackTraceElement"))) (C := RX11) (T := TX11) (N := 8) hx hb hC.2.2.2.2.1 in_X11 tyX11 tyX11_ok nmX11 hC.2.2.2.1 hC.2.2.2.2.2.2.1 hI.1 hI.2.1 hI.2.2 0 rfl rfl 1 (by decide) (hC.2.2.2.2.1 _ q848) (fun _ h9 => h9) rfl (by decide +kernel) rfl rfl (Nat.le_of_ble_eq_true rfl) dJ23_init_2_13 (fun H locs hP hD hS => ?_)
    have hI : mo_I G A s.heap ([(q, .inr (10, [.ref q, .null, .null, .null, .null, .int 0, x6, x7]))] ++ tl) _ _ := ⟨hP, hD, hS⟩
    refine lv_aload_n hx hb dJ23_init_2_16 rfl (lv_at hl 0 rfl) ?_
    rcases zs_ss h0 hZ with hum2 | ⟨um2, hum2⟩
    · refine va_gets hx hb hum2 hI.2.2 hC.2.2.2.1 (hC.2.2.2.2.1 _ q820) (fun _ h9 => h9) dJ23_init_2_17 ?_
      refine va_put (D := G) (ci := 10) (v := .null) (ty := (.object "java/util/List")) (C := RX11) (T := TX11) (N := 8) hx hb hC.2.2.2.2.1 in_X11 tyX11 tyX11_ok nmX11 hC.2.2.2.1 hC.2.2.2.2.2.2.1 hI.1 hI.2.1 hI.2.2 0 rfl rfl 2 (by decide) (hC.2.2.2.2.1 _ q849) (fun _ h9 => h9) rfl (by decide +kernel) rfl rfl (Nat.le_of_ble_eq_true rfl) dJ23_init_2_20 (fun H locs hP hD hS => ?_)
      have hI : mo_I G A s.heap ([(q, .inr (10, [.ref q, .null, .null, .null, .null, .int 0, x6, x7]))] ++ tl) _ _ := ⟨hP, hD, hS⟩
      refine lv_iload hx hb dJ23_init_2_23 (lv_at hl 4 rfl) ?_
      refine lv_if_eq (tgt := 36) hx hb dJ23_init_2_25 (by decide) (fun h9 => ?_) (fun h9 => ?_)
      · refine lv_aload_n hx hb dJ23_init_2_36 rfl (lv_at hl 0 rfl) ?_
        refine lv_null hx hb dJ23_init_2_37 ?_
        refine va_put (D := G) (ci := 10) (v := .null) (ty := (.array (.object "java/lang/StackTraceElement"))) (C := RX11) (T := TX11) (N := 8) hx hb hC.2.2.2.2.1 in_X11 tyX11 tyX11_ok nmX11 hC.2.2.2.1 hC.2.2.2.2.2.2.1 hI.1 hI.2.1 hI.2.2 0 rfl rfl 1 (by decide) (hC.2.2.2.2.1 _ q848) (fun _ h9 => h9) rfl (by decide +kernel) rfl rfl (Nat.le_of_ble_eq_true rfl) dJ23_init_2_38 (fun H locs hP hD hS => ?_)
        have hI : mo_I G A s.heap ([(q, .inr (10, [.ref q, .null, .null, .null, .null, .int 0, x6, x7]))] ++ tl) _ _ := ⟨hP, hD, hS⟩
        refine lv_aload_n hx hb dJ23_init_2_41 rfl (lv_at hl 0 rfl) ?_
        refine lv_aload_nN hx hb dJ23_init_2_42 rfl (lv_at hl 1 rfl) ?_
        refine va_put (D := G) (ci := 10) (v := .null) (ty := (.object "java/lang/String")) (C := RX11) (T := TX11) (N := 8) hx hb hC.2.2.2.2.1 in_X11 tyX11 tyX11_ok nmX11 hC.2.2.2.1 hC.2.2.2.2.2.2.1 hI.1 hI.2.1 hI.2.2 0 rfl rfl 3 (by decide) (hC.2.2.2.2.1 _ q846) (fun _ h9 => h9) rfl (by decide +kernel) rfl rfl (Nat.le_of_ble_eq_true rfl) dJ23_init_2_43 (fun H locs hP hD hS => ?_)
        have hI : mo_I G A s.heap ([(q, .inr (10, [.ref q, .null, .null, .null, .null, .int 0, x6, x7]))] ++ tl) _ _ := ⟨hP, hD, hS⟩
        refine lv_aload_n hx hb dJ23_init_2_46 rfl (lv_at hl 0 rfl) ?_
        refine lv_aload_nN hx hb dJ23_init_2_47 rfl (lv_at hl 2 rfl) ?_
        refine va_put (D := G) (ci := 10) (v := .null) (ty := (.object "java/lang/Throwable")) (C := RX11) (T := TX11) (N := 8) hx hb hC.2.2.2.2.1 in_X11 tyX11 tyX11_ok nmX11 hC.2.2.2.1 hC.2.2.2.2.2.2.1 hI.1 hI.2.1 hI.2.2 0 rfl rfl 0 (by decide) (hC.2.2.2.2.1 _ q847) (fun _ h9 => h9) rfl (by decide +kernel) rfl rfl (Nat.le_of_ble_eq_true rfl) dJ23_init_2_48 (fun H locs hP hD hS => ?_)
        have hI : mo_I G A s.heap ([(q, .inr (10, [.null, .null, .null, .null, .null, .int 0, x6, x7]))] ++ tl) _ _ := ⟨hP, hD, hS⟩
        refine lv_iload_n hx hb dJ23_init_2_51 rfl (lv_at hl 3 rfl) ?_
        refine lv_if_ne (tgt := 60) hx hb dJ23_init_2_52 (by decide) (fun h9 => ?_) (fun h9 => ?_)
        · exact absurd h9 (by decide)
        · refine lv_aload_n hx hb dJ23_init_2_55 rfl (lv_at hl 0 rfl) ?_
          refine lv_null hx hb dJ23_init_2_56 ?_
          refine va_put (D := G) (ci := 10) (v := .null) (ty := (.object "java/util/List")) (C := RX11) (T := TX11) (N := 8) hx hb hC.2.2.2.2.1 in_X11 tyX11 tyX11_ok nmX11 hC.2.2.2.1 hC.2.2.2.2.2.2.1 hI.1 hI.2.1 hI.2.2 0 rfl rfl 2 (by decide) (hC.2.2.2.2.1 _ q849) (fun _ h9 => h9) rfl (by decide +kernel) rfl rfl (Nat.le_of_ble_eq_true rfl) dJ23_init_2_57 (fun H locs hP hD hS => ?_)
          have hI : mo_I G A s.heap ([(q, .inr (10, [.null, .null, .null, .null, .null, .int 0, x6, x7]))] ++ tl) _ _ := ⟨hP, hD, hS⟩
          refine W.widen (k := 0) (n := 0) (Nat.le_of_ble_eq_true rfl) (Nat.le_of_ble_eq_true rfl) ?_
          exact W.vret hx hb hr (fun t ht hW => ⟨⟨(), rfl, trivial, by rw [ht]; exact hI.1, va_K.moved hW.alike hC.2.2.2.2.2.2.1, hI.2.1⟩, hI.2.2.F ht⟩) hI.2.2.2.2 dJ23_init_2_60 hC.2.2.2.2.2.1
      · exact absurd h9 (by decide)
    · refine va_gets hx hb hum2 hI.2.2 hC.2.2.2.1 (hC.2.2.2.2.1 _ q820) (fun _ h9 => h9) dJ23_init_2_17 ?_
      refine va_put (D := G) (ci := 10) (v := .ref um2) (ty := (.object "java/util/List")) (C := RX11) (T := TX11) (N := 8) hx hb hC.2.2.2.2.1 in_X11 tyX11 tyX11_ok nmX11 hC.2.2.2.1 hC.2.2.2.2.2.2.1 hI.1 hI.2.1 hI.2.2 0 rfl rfl 2 (by decide) (hC.2.2.2.2.1 _ q849) (fun _ h9 => h9) rfl (by decide +kernel) rfl rfl (Nat.le_of_ble_eq_true rfl) dJ23_init_2_20 (fun H locs hP hD hS => ?_)
      have hI : mo_I G A s.heap ([(q, .inr (10, [.ref q, .null, .ref um2, .null, .null, .int 0, x6, x7]))] ++ tl) _ _ := ⟨hP, hD, hS⟩
      refine lv_iload hx hb dJ23_init_2_23 (lv_at hl 4 rfl) ?_
      refine lv_if_eq (tgt := 36) hx hb dJ23_init_2_25 (by decide) (fun h9 => ?_) (fun h9 => ?_)
      · refine lv_aload_n hx hb dJ23_init_2_36 rfl (lv_at hl 0 rfl) ?_
        refine lv_null hx hb dJ23_init_2_37 ?_
        refine va_put (D := G) (ci := 10) (v := .null) (ty := (.array (.object "java/lang/StackTraceElement"))) (C := RX11) (T := TX11) (N := 8) hx hb hC.2.2.2.2.1 in_X11 tyX11 tyX11_ok nmX11 hC.2.2.2.1 hC.2.2.2.2.2.2.1 hI.1 hI.2.1 hI.2.2 0 rfl rfl 1 (by decide) (hC.2.2.2.2.1 _ q848) (fun _ h9 => h9) rfl (by decide +kernel) rfl rfl (Nat.le_of_ble_eq_true rfl) dJ23_init_2_38 (fun H locs hP hD hS => ?_)
        have hI : mo_I G A s.heap ([(q, .inr (10, [.ref q, .null, .ref um2, .null, .null, .int 0, x6, x7]))] ++ tl) _ _ := ⟨hP, hD, hS⟩
        refine lv_aload_n hx hb dJ23_init_2_41 rfl (lv_at hl 0 rfl) ?_
        refine lv_aload_nN hx hb dJ23_init_2_42 rfl (lv_at hl 1 rfl) ?_
        refine va_put (D := G) (ci := 10) (v := .null) (ty := (.object "java/lang/String")) (C := RX11) (T := TX11) (N := 8) hx hb hC.2.2.2.2.1 in_X11 tyX11 tyX11_ok nmX11 hC.2.2.2.1 hC.2.2.2.2.2.2.1 hI.1 hI.2.1 hI.2.2 0 rfl rfl 3 (by decide) (hC.2.2.2.2.1 _ q846) (fun _ h9 => h9) rfl (by decide +kernel) rfl rfl (Nat.le_of_ble_eq_true rfl) dJ23_init_2_43 (fun H locs hP hD hS => ?_)
        have hI : mo_I G A s.heap ([(q, .inr (10, [.ref q, .null, .ref um2, .null, .null, .int 0, x6, x7]))] ++ tl) _ _ := ⟨hP, hD, hS⟩
        refine lv_aload_n hx hb dJ23_init_2_46 rfl (lv_at hl 0 rfl) ?_
        refine lv_aload_nN hx hb dJ23_init_2_47 rfl (lv_at hl 2 rfl) ?_
        refine va_put (D := G) (ci := 10) (v := .null) (ty := (.object "java/lang/Throwable")) (C := RX11) (T := TX11) (N := 8) hx hb hC.2.2.2.2.1 in_X11 tyX11 tyX11_ok nmX11 hC.2.2.2.1 hC.2.2.2.2.2.2.1 hI.1 hI.2.1 hI.2.2 0 rfl rfl 0 (by decide) (hC.2.2.2.2.1 _ q847) (fun _ h9 => h9) rfl (by decide +kernel) rfl rfl (Nat.le_of_ble_eq_true rfl) dJ23_init_2_48 (fun H locs hP hD hS => ?_)
        have hI : mo_I G A s.heap ([(q, .inr (10, [.null, .null, .ref um2, .null, .null, .int 0, x6, x7]))] ++ tl) _ _ := ⟨hP, hD, hS⟩
        refine lv_iload_n hx hb dJ23_init_2_51 rfl (lv_at hl 3 rfl) ?_
        refine lv_if_ne (tgt := 60) hx hb dJ23_init_2_52 (by decide) (fun h9 => ?_) (fun h9 => ?_)
        · exact absurd h9 (by decide)
        · refine lv_aload_n hx hb dJ23_init_2_55 rfl (lv_at hl 0 rfl) ?_
          refine lv_null hx hb dJ23_init_2_56 ?_
          refine va_put (D := G) (ci := 10) (v := .null) (ty := (.object "java/util/List")) (C := RX11) (T := TX11) (N := 8) hx hb hC.2.2.2.2.1 in_X11 tyX11 tyX11_ok nmX11 hC.2.2.2.1 hC.2.2.2.2.2.2.1 hI.1 hI.2.1 hI.2.2 0 rfl rfl 2 (by decide) (hC.2.2.2.2.1 _ q849) (fun _ h9 => h9) rfl (by decide +kernel) rfl rfl (Nat.le_of_ble_eq_true rfl) dJ23_init_2_57 (fun H locs hP hD hS => ?_)
          have hI : mo_I G A s.heap ([(q, .inr (10, [.null, .null, .null, .null, .null, .int 0, x6, x7]))] ++ tl) _ _ := ⟨hP, hD, hS⟩
          refine W.widen (k := 0) (n := 0) (Nat.le_of_ble_eq_true rfl) (Nat.le_of_ble_eq_true rfl) ?_
          exact W.vret hx hb hr (fun t ht hW => ⟨⟨(), rfl, trivial, by rw [ht]; exact hI.1, va_K.moved hW.alike hC.2.2.2.2.2.2.1, hI.2.1⟩, hI.2.2.F ht⟩) hI.2.2.2.2 dJ23_init_2_60 hC.2.2.2.2.2.1
      · exact absurd h9 (by decide)
  · refine va_gets hx hb hum1 hI.2.2 hC.2.2.2.1 (hC.2.2.2.2.1 _ q818) (fun _ h9 => h9) dJ23_init_2_10 ?_
    refine va_put (D := G) (ci := 10) (v := .ref um1) (ty := (.array (.object "java/lang/StackTraceElement"))) (C := RX11) (T := TX11) (N := 8) hx hb hC.2.2.2.2.1 in_X11 tyX11 tyX11_ok nmX11 hC.2.2.2.1 hC.2.2.2.2.2.2.1 hI.1 hI.2.1 hI.2.2 0 rfl rfl 1 (by decide) (hC.2.2.2.2.1 _ q848) (fun _ h9 => h9) rfl (by decide +kernel) rfl rfl (Nat.le_of_ble_eq_true rfl) dJ23_init_2_13 (fun H locs hP hD hS => ?_)
    have hI : mo_I G A s.heap ([(q, .inr (10, [.ref q, .ref um1, .null, .null, .null, .int 0, x6, x7]))] ++ tl) _ _ := ⟨hP, hD, hS⟩
    refine lv_aload_n hx hb dJ23_init_2_16 rfl (lv_at hl 0 rfl) ?_
    rcases zs_ss h0 hZ with hum3 | ⟨um3, hum3⟩
    · refine va_gets hx hb hum3 hI.2.2 hC.2.2.2.1 (hC.2.2.2.2.1 _ q820) (fun _ h9 => h9) dJ23_init_2_17 ?_
      refine va_put (D := G) (ci := 10) (v := .null) (ty := (.object "java/util/List")) (C := RX11) (T := TX11) (N := 8) hx hb hC.2.2.2.2.1 in_X11 tyX11 tyX11_ok nmX11 hC.2.2.2.1 hC.2.2.2.2.2.2.1 hI.1 hI.2.1 hI.2.2 0 rfl rfl 2 (by decide) (hC.2.2.2.2.1 _ q849) (fun _ h9 => h9) rfl (by decide +kernel) rfl rfl (Nat.le_of_ble_eq_true rfl) dJ23_init_2_20 (fun H locs hP hD hS => ?_)
      have hI : mo_I G A s.heap ([(q, .inr (10, [.ref q, .ref um1, .null, .null, .null, .int 0, x6, x7]))] ++ tl) _ _ := ⟨hP, hD, hS⟩
      refine lv_iload hx hb dJ23_init_2_23 (lv_at hl 4 rfl) ?_
      refine lv_if_eq (tgt := 36) hx hb dJ23_init_2_25 (by decide) (fun h9 => ?_) (fun h9 => ?_)
      · refine lv_aload_n hx hb dJ23_init_2_36 rfl (lv_at hl 0 rfl) ?_
        refine lv_null hx hb dJ23_init_2_37 ?_
        refine va_put (D := G) (ci := 10) (v := .null) (ty := (.array (.object "java/lang/StackTraceElement"))) (C := RX11) (T := TX11) (N := 8) hx hb hC.2.2.2.2.1 in_X11 tyX11 tyX11_ok nmX11 hC.2.2.2.1 hC.2.2.2.2.2.2.1 hI.1 hI.2.1 hI.2.2 0 rfl rfl 1 (by decide) (hC.2.2.2.2.1 _ q848) (fun _ h9 => h9) rfl (by decide +kernel) rfl rfl (Nat.le_of_ble_eq_true rfl) dJ23_init_2_38 (fun H locs hP hD hS => ?_)
        have hI : mo_I G A s.heap ([(q, .inr (10, [.ref q, .null, .null, .null, .null, .int 0, x6, x7]))] ++ tl) _ _ := ⟨hP, hD, hS⟩
        refine lv_aload_n hx hb dJ23_init_2_41 rfl (lv_at hl 0 rfl) ?_
        refine lv_aload_nN hx hb dJ23_init_2_42 rfl (lv_at hl 1 rfl) ?_
        refine va_put (D := G) (ci := 10) (v := .null) (ty := (.object "java/lang/String")) (C := RX11) (T := TX11) (N := 8) hx hb hC.2.2.2.2.1 in_X11 tyX11 tyX11_ok nmX11 hC.2.2.2.1 hC.2.2.2.2.2.2.1 hI.1 hI.2.1 hI.2.2 0 rfl rfl 3 (by decide) (hC.2.2.2.2.1 _ q846) (fun _ h9 => h9) rfl (by decide +kernel) rfl rfl (Nat.le_of_ble_eq_true rfl) dJ23_init_2_43 (fun H locs hP hD hS => ?_)
        have hI : mo_I G A s.heap ([(q, .inr (10, [.ref q, .null, .null, .null, .null, .int 0, x6, x7]))] ++ tl) _ _ := ⟨hP, hD, hS⟩
        refine lv_aload_n hx hb dJ23_init_2_46 rfl (lv_at hl 0 rfl) ?_
        refine lv_aload_nN hx hb dJ23_init_2_47 rfl (lv_at hl 2 rfl) ?_
        refine va_put (D := G) (ci := 10) (v := .null) (ty := (.object "java/lang/Throwable")) (C := RX11) (T := TX11) (N := 8) hx hb hC.2.2.2.2.1 in_X11 tyX11 tyX11_ok nmX11 hC.2.2.2.1 hC.2.2.2.2.2.2.1 hI.1 hI.2.1 hI.2.2 0 rfl rfl 0 (by decide) (hC.2.2.2.2.1 _ q847) (fun _ h9 => h9) rfl (by decide +kernel) rfl rfl (Nat.le_of_ble_eq_true rfl) dJ23_init_2_48 (fun H locs hP hD hS => ?_)
        have hI : mo_I G A s.heap ([(q, .inr (10, [.null, .null, .null, .null, .null, .int 0, x6, x7]))] ++ tl) _ _ := ⟨hP, hD, hS⟩
        refine lv_iload_n hx hb dJ23_init_2_51 rfl (lv_at hl 3 rfl) ?_
        refine lv_if_ne (tgt := 60) hx hb dJ23_init_2_52 (by decide) (fun h9 => ?_) (fun h9 => ?_)
        · exact absurd h9 (by decide)
        · refine lv_aload_n hx hb dJ23_init_2_55 rfl (lv_at hl 0 rfl) ?_
          refine lv_null hx hb dJ23_init_2_56 ?_
          refine va_put (D := G) (ci := 10) (v := .null) (ty := (.object "java/util/List")) (C := RX11) (T := TX11) (N := 8) hx hb hC.2.2.2.2.1 in_X11 tyX11 tyX11_ok nmX11 hC.2.2.2.1 hC.2.2.2.2.2.2.1 hI.1 hI.2.1 hI.2.2 0 rfl rfl 2 (by decide) (hC.2.2.2.2.1 _ q849) (fun _ h9 => h9) rfl (by decide +kernel) rfl rfl (Nat.le_of_ble_eq_true rfl) dJ23_init_2_57 (fun H locs hP hD hS => ?_)
          have hI : mo_I G A s.heap ([(q, .inr (10, [.null, .null, .null, .null, .null, .int 0, x6, x7]))] ++ tl) _ _ := ⟨hP, hD, hS⟩
          refine W.widen (k := 0) (n := 0) (Nat.le_of_ble_eq_true rfl) (Nat.le_of_ble_eq_true rfl) ?_
          exact W.vret hx hb hr (fun t ht hW => ⟨⟨(), rfl, trivial, by rw [ht]; exact hI.1, va_K.moved hW.alike hC.2.2.2.2.2.2.1, hI.2.1⟩, hI.2.2.F ht⟩) hI.2.2.2.2 dJ23_init_2_60 hC.2.2.2.2.2.1
      · exact absurd h9 (by decide)
    · refine va_gets hx hb hum3 hI.2.2 hC.2.2.2.1 (hC.2.2.2.2.1 _ q820) (fun _ h9 => h9) dJ23_init_2_17 ?_
      refine va_put (D := G) (ci := 10) (v := .ref um3) (ty := (.object "java/util/List")) (C := RX11) (T := TX11) (N := 8) hx hb hC.2.2.2.2.1 in_X11 tyX11 tyX11_ok nmX11 hC.2.2.2.1 hC.2.2.2.2.2.2.1 hI.1 hI.2.1 hI.2.2 0 rfl rfl 2 (by decide) (hC.2.2.2.2.1 _ q849) (fun _ h9 => h9) rfl (by decide +kernel) rfl rfl (Nat.le_of_ble_eq_true rfl) dJ23_init_2_20 (fun H locs hP hD hS => ?_)
      have hI : mo_I G A s.heap ([(q, .inr (10, [.ref q, .ref um1, .ref um3, .null, .null, .int 0, x6, x7]))] ++ tl) _ _ := ⟨hP, hD, hS⟩
      refine lv_iload hx hb dJ23_init_2_23 (lv_at hl 4 rfl) ?_
      refine lv_if_eq (tgt := 36) hx hb dJ23_init_2_25 (by decide) (fun h9 => ?_) (fun h9 => ?_)
      · refine lv_aload_n hx hb dJ23_init_2_36 rfl (lv_at hl 0 rfl) ?_
        refine lv_null hx hb dJ23_init_2_37 ?_
        refine va_put (D := G) (ci := 10) (v := .null) (ty := (.array (.object "java/lang/StackTraceElement"))) (C := RX11) (T := TX11) (N := 8) hx hb hC.2.2.2.2.1 in_X11 tyX11 tyX11_ok nmX11 hC.2.2.2.1 hC.2.2.2.2.2.2.1 hI.1 hI.2.1 hI.2.2 0 rfl rfl 1 (by decide) (hC.2.2.2.2.1 _ q848) (fun _ h9 => h9) rfl (by decide +kernel) rfl rfl (Nat.le_of_ble_eq_true rfl) dJ23_init_2_38 (fun H locs hP hD hS => ?_)
        have hI : mo_I G A s.heap ([(q, .inr (10, [.ref q, .null, .ref um3, .null, .null, .int 0, x6, x7]))] ++ tl) _ _ := ⟨hP, hD, hS⟩
        refine lv_aload_n hx hb dJ23_init_2_41 rfl (lv_at hl 0 rfl) ?_
        refine lv_aload_nN hx hb dJ23_init_2_42 rfl (lv_at hl 1 rfl) ?_
        refine va_put (D := G) (ci := 10) (v := .null) (ty := (.object "java/lang/String")) (C := RX11) (T := TX11) (N := 8) hx hb hC.2.2.2.2.1 in_X11 tyX11 tyX11_ok nmX11 hC.2.2.2.1 hC.2.2.2.2.2.2.1 hI.1 hI.2.1 hI.2.2 0 rfl rfl 3 (by decide) (hC.2.2.2.2.1 _ q846) (fun _ h9 => h9) rfl (by decide +kernel) rfl rfl (Nat.le_of_ble_eq_true rfl) dJ23_init_2_43 (fun H locs hP hD hS => ?_)
        have hI : mo_I G A s.heap ([(q, .inr (10, [.ref q, .null, .ref um3, .null, .null, .int 0, x6, x7]))] ++ tl) _ _ := ⟨hP, hD, hS⟩
        refine lv_aload_n hx hb dJ23_init_2_46 rfl (lv_at hl 0 rfl) ?_
        refine lv_aload_nN hx hb dJ23_init_2_47 rfl (lv_at hl 2 rfl) ?_
        refine va_put (D := G) (ci := 10) (v := .null) (ty := (.object "java/lang/Throwable")) (C := RX11) (T := TX11) (N := 8) hx hb hC.2.2.2.2.1 in_X11 tyX11 tyX11_ok nmX11 hC.2.2.2.1 hC.2.2.2.2.2.2.1 hI.1 hI.2.1 hI.2.2 0 rfl rfl 0 (by decide) (hC.2.2.2.2.1 _ q847) (fun _ h9 => h9) rfl (by decide +kernel) rfl rfl (Nat.le_of_ble_eq_true rfl) dJ23_init_2_48 (fun H locs hP hD hS => ?_)
        have hI : mo_I G A s.heap ([(q, .inr (10, [.null, .null, .ref um3, .null, .null, .int 0, x6, x7]))] ++ tl) _ _ := ⟨hP, hD, hS⟩
        refine lv_iload_n hx hb dJ23_init_2_51 rfl (lv_at hl 3 rfl) ?_
        refine lv_if_ne (tgt := 60) hx hb dJ23_init_2_52 (by decide) (fun h9 => ?_) (fun h9 => ?_)
        · exact absurd h9 (by decide)
        · refine lv_aload_n hx hb dJ23_init_2_55 rfl (lv_at hl 0 rfl) ?_
          refine lv_null hx hb dJ23_init_2_56 ?_
          refine va_put (D := G) (ci := 10) (v := .null) (ty := (.object "java/util/List")) (C := RX11) (T := TX11) (N := 8) hx hb hC.2.2.2.2.1 in_X11 tyX11 tyX11_ok nmX11 hC.2.2.2.1 hC.2.2.2.2.2.2.1 hI.1 hI.2.1 hI.2.2 0 rfl rfl 2 (by decide) (hC.2.2.2.2.1 _ q849) (fun _ h9 => h9) rfl (by decide +kernel) rfl rfl (Nat.le_of_ble_eq_true rfl) dJ23_init_2_57 (fun H locs hP hD hS => ?_)
          have hI : mo_I G A s.heap ([(q, .inr (10, [.null, .null, .null, .null, .null, .int 0, x6, x7]))] ++ tl) _ _ := ⟨hP, hD, hS⟩
          refine W.widen (k := 0) (n := 0) (Nat.le_of_ble_eq_true rfl) (Nat.le_of_ble_eq_true rfl) ?_
          exact W.vret hx hb hr (fun t ht hW => ⟨⟨(), rfl, trivial, by rw [ht]; exact hI.1, va_K.moved hW.alike hC.2.2.2.2.2.2.1, hI.2.1⟩, hI.2.2.F ht⟩) hI.2.2.2.2 dJ23_init_2_60 hC.2.2.2.2.2.1
      · exact absurd h9 (by decide)
theorem k_J24_thX11N {p : Program} {l : Launch} {e : Env} {R : Room} {s s0 : State} {b0 : Addr} {m : MethodId} {args : Array Value} {below : List Frame} {meth : Method} {c : Code} {H : Heap} {locs : List Loc} {cells slots : Nat} {Q : State → Prop} {pc : Nat} {ls : Array Slot} {rest : List Value} {G : va_G} {ai : Nat → ClassId} {A : Nat → Prop} {cc : ByteArray} {nL f L kc ks : Nat} {tl : va_W} {q : Nat} {x6 : Value} {x7 : Value} (hC : mo_C p R s m args meth c G ai A RJ24 cc nL f L kc ks) (h0 : mo_S0 s0 b0) (hZ : mo_Z s0 A s) (hI : mo_I G A s.heap ([(q, .inr (10, [.null, .null, .null, .null, .null, .int 0, x6, x7]))] ++ tl) H locs) (hf : 1 + 1 ≤ f) (hL : 8 + (5 + 11) + 20 ≤ L) (hsz : ls.size = nL) (hW : (rest.map fun v => v.category).sum ≤ 8) (hdg : decode cc pc = .ok (.invokespecial 16, 3)) (kk : ∀ (u : Unit) (H1 : Heap) (locs1 : List Loc), mo_I G A s.heap ([(q, .inr (10, [.null, .null, .null, .null, .null, .int 0, x6, x7]))] ++ tl) H1 locs1 → W p l e R s m args below meth c H1 locs1 (cells + 0) (slots + 0) Q (F0 m (pc + 3) ls (rest))) (hc0 : cells + 0 ≤ kc := by first | exact Nat.le_of_ble_eq_true rfl | exact Nat.zero_le _ | assumption | omega) (hs0 : slots + 0 ≤ ks := by first | exact Nat.le_of_ble_eq_true rfl | exact Nat.zero_le _ | assumption | omega) : W p l e R s m args below meth c H locs cells slots Q (F0 m pc ls (.int 0 :: .int 0 :: .null :: .null :: .ref q :: rest)) :=
  gz_usev0 hC.2.2.2.2.2.2.2.1 hI (va_runI (As := [.null, .null, .int 0, .int 0]) (rest := rest) ⟨hC.1, hC.2.1, hC.2.2.1, hC.2.2.2.1, hC.2.2.2.2.1⟩ (w_thX11N l G ai h0 q x6 x7 H.size) (cwI 4 hC.2.2.2.2.1 (lw_meth q842) rfl rfl rfl (hC.2.2.2.2.1 _ q150) (hC.2.2.2.2.1 _ q840) (hC.2.2.2.2.1 _ q841) rfl (by decide +kernel) ⟨Nat.le_trans hf hC.2.2.2.2.2.2.2.2.1, Nat.le_trans hL hC.2.2.2.2.2.2.2.2.2.1⟩) ⟨gz_blind, gz_pre0 hC hZ hI⟩ rfl rfl hsz rfl (lv_room hW) hdg ⟨Nat.le_trans hc0 hC.2.2.2.2.2.2.2.2.2.2.1, Nat.le_trans hs0 hC.2.2.2.2.2.2.2.2.2.2.2⟩) (fun u H1 locs1 hp hI1 => kk u H1 locs1 hI1)
set_option maxHeartbeats 4000000 in
theorem w_thX11R (l : Launch) (G : va_G) (ai : Nat → ClassId) {s0 : State} {b0 : Addr} (h0 : mo_S0 s0 b0) {tl : va_W} (q : Nat) (cq : Nat) (x6 : Value) (x7 : Value) : gz_Mv l G ai s0 (fun (u : Unit) => ([(q, .inr (10, [.ref cq, .null, .null, .null, .null, .int 0, x6, x7]))] ++ tl)) yJ23_init_2 cJ23_init_2 5 ({ frames := 1, cells := 0, slots := 0, locals := 20 } : Room) [.ref q, .null, .ref cq, .int 0, .int 0] ([(q, .inr (10, [.null, .null, .null, .null, .null, .int 0, x6, x7]))] ++ tl) (fun (_ : Unit) => True) 0 0 := by
  refine gz_body (y := yJ23_init_2) (cc := cJ23_init_2) (nL := 5) (As := [.ref q, .null, .ref cq, .int 0, .int 0]) (w0 := ([(q, .inr (10, [.null, .null, .null, .null, .null, .int 0, x6, x7]))] ++ tl)) (Qc := fun A => va_Qv (fun (_ : Unit) => True) (gw_E G ai (fun (u : Unit) => ([(q, .inr (10, [.ref cq, .null, .null, .null, .null, .int 0, x6, x7]))] ++ tl)) A) A) (fr := fun A => A) (by decide) (Nat.le_of_ble_eq_true rfl) ?_
  intro p e s m args below meth c A ls hC hZ hr hI hl hnm
  have hx := hC.1
  have hb := hC.2.1
  have hl : lv_has ls 5 [(0, .ref q), (1, .null), (2, .ref cq), (3, .int 0), (4, .int 0)] := hl
  show W p l e _ s m args below meth c s.heap [] 0 0 (MQ below (va_Qv (fun (_ : Unit) => True) (gw_E G ai (fun (u : Unit) => ([(q, .inr (10, [.ref cq, .null, .null, .null, .null, .int 0, x6, x7]))] ++ tl)) A) A) args s 0 0 A) (F0 m 0 ls [])
  refine lv_aload_n hx hb dJ23_init_2_0 rfl (lv_at hl 0 rfl) ?_
  refine mo_oinit (mo_CN hC) q817 hl.1 (Nat.le_of_ble_eq_true rfl) (Nat.le_of_ble_eq_true rfl) dJ23_init_2_1 ?_
  refine lv_aload_n hx hb dJ23_init_2_4 rfl (lv_at hl 0 rfl) ?_
  refine lv_aload_n hx hb dJ23_init_2_5 rfl (lv_at hl 0 rfl) ?_
  refine va_put (D := G) (ci := 10) (v := .ref q) (ty := (.object "java/lang/Throwable")) (C := RX11) (T := TX11) (N := 8) hx hb hC.2.2.2.2.1 in_X11 tyX11 tyX11_ok nmX11 hC.2.2.2.1 hC.2.2.2.2.2.2.1 hI.1 hI.2.1 hI.2.2 0 rfl rfl 0 (by decide) (hC.2.2.2.2.1 _ q847) (fun _ h9 => h9) rfl (by decide +kernel) rfl rfl (Nat.le_of_ble_eq_true rfl) dJ23_init_2_6 (fun H locs hP hD hS => ?_)
  have hI : mo_I G A s.heap ([(q, .inr (10, [.ref q, .null, .null, .null, .null, .int 0, x6, x7]))] ++ tl) _ _ := ⟨hP, hD, hS⟩
  refine lv_aload_n hx hb dJ23_init_2_9 rfl (lv_at hl 0 rfl) ?_
  rcases zs_us h0 hZ with hum1 | ⟨um1, hum1⟩
  · refine va_gets hx hb hum1 hI.2.2 hC.2.2.2.1 (hC.2.2.2.2.1 _ q818) (fun _ h9 => h9) dJ23_init_2_10 ?_
    refine va_put (D := G) (ci := 10) (v := .null) (ty := (.array (.object "java/lang/StackTraceElement"))) (C := RX11) (T := TX11) (N := 8) hx hb hC.2.2.2.2.1 in_X11 tyX11 tyX11_ok nmX11 hC.2.2.2.1 hC.2.2.2.2.2.2.1 hI.1 hI.2.1 hI.2.2 0 rfl rfl 1 (by decide) (hC.2.2.2.2.1 _ q848) (fun _ h9 => h9) rfl (by decide +kernel) rfl rfl (Nat.le_of_ble_eq_true rfl) dJ23_init_2_13 (fun H locs hP hD hS => ?_)
    have hI : mo_I G A s.heap ([(q, .inr (10, [.ref q, .null, .null, .null, .null, .int 0, x6, x7]))] ++ tl) _ _ := ⟨hP, hD, hS⟩
    refine lv_aload_n hx hb dJ23_init_2_16 rfl (lv_at hl 0 rfl) ?_
    rcases zs_ss h0 hZ with hum2 | ⟨um2, hum2⟩
    · refine va_gets hx hb hum2 hI.2.2 hC.2.2.2.1 (hC.2.2.2.2.1 _ q820) (fun _ h9 => h9) dJ23_init_2_17 ?_
      refine va_put (D := G) (ci := 10) (v := .null) (ty := (.object "java/util/List")) (C := RX11) (T := TX11) (N := 8) hx hb hC.2.2.2.2.1 in_X11 tyX11 tyX11_ok nmX11 hC.2.2.2.1 hC.2.2.2.2.2.2.1 hI.1 hI.2.1 hI.2.2 0 rfl rfl 2 (by decide) (hC.2.2.2.2.1 _ q849) (fun _ h9 => h9) rfl (by decide +kernel) rfl rfl (Nat.le_of_ble_eq_true rfl) dJ23_init_2_20 (fun H locs hP hD hS => ?_)
      have hI : mo_I G A s.heap ([(q, .inr (10, [.ref q, .null, .null, .null, .null, .int 0, x6, x7]))] ++ tl) _ _ := ⟨hP, hD, hS⟩
      refine lv_iload hx hb dJ23_init_2_23 (lv_at hl 4 rfl) ?_
      refine lv_if_eq (tgt := 36) hx hb dJ23_init_2_25 (by decide) (fun h9 => ?_) (fun h9 => ?_)
      · refine lv_aload_n hx hb dJ23_init_2_36 rfl (lv_at hl 0 rfl) ?_
        refine lv_null hx hb dJ23_init_2_37 ?_
        refine va_put (D := G) (ci := 10) (v := .null) (ty := (.array (.object "java/lang/StackTraceElement"))) (C := RX11) (T := TX11) (N := 8) hx hb hC.2.2.2.2.1 in_X11 tyX11 tyX11_ok nmX11 hC.2.2.2.1 hC.2.2.2.2.2.2.1 hI.1 hI.2.1 hI.2.2 0 rfl rfl 1 (by decide) (hC.2.2.2.2.1 _ q848) (fun _ h9 => h9) rfl (by decide +kernel) rfl rfl (Nat.le_of_ble_eq_true rfl) dJ23_init_2_38 (fun H locs hP hD hS => ?_)
        have hI : mo_I G A s.heap ([(q, .inr (10, [.ref q, .null, .null, .null, .null, .int 0, x6, x7]))] ++ tl) _ _ := ⟨hP, hD, hS⟩
        refine lv_aload_n hx hb dJ23_init_2_41 rfl (lv_at hl 0 rfl) ?_
        refine lv_aload_nN hx hb dJ23_init_2_42 rfl (lv_at hl 1 rfl) ?_
        refine va_put (D := G) (ci := 10) (v := .null) (ty := (.object "java/lang/String")) (C := RX11) (T := TX11) (N := 8) hx hb hC.2.2.2.2.1 in_X11 tyX11 tyX11_ok nmX11 hC.2.2.2.1 hC.2.2.2.2.2.2.1 hI.1 hI.2.1 hI.2.2 0 rfl rfl 3 (by decide) (hC.2.2.2.2.1 _ q846) (fun _ h9 => h9) rfl (by decide +kernel) rfl rfl (Nat.le_of_ble_eq_true rfl) dJ23_init_2_43 (fun H locs hP hD hS => ?_)
        have hI : mo_I G A s.heap ([(q, .inr (10, [.ref q, .null, .null, .null, .null, .int 0, x6, x7]))] ++ tl) _ _ := ⟨hP, hD, hS⟩
        refine lv_aload_n hx hb dJ23_init_2_46 rfl (lv_at hl 0 rfl) ?_
        refine lv_aload_n hx hb dJ23_init_2_47 rfl (lv_at hl 2 rfl) ?_
        refine va_put (D := G) (ci := 10) (v := .ref cq) (ty := (.object "java/lang/Throwable")) (C := RX11) (T := TX11) (N := 8) hx hb hC.2.2.2.2.1 in_X11 tyX11 tyX11_ok nmX11 hC.2.2.2.1 hC.2.2.2.2.2.2.1 hI.1 hI.2.1 hI.2.2 0 rfl rfl 0 (by decide) (hC.2.2.2.2.1 _ q847) (fun _ h9 => h9) rfl (by decide +kernel) rfl rfl (Nat.le_of_ble_eq_true rfl) dJ23_init_2_48 (fun H locs hP hD hS => ?_)
        have hI : mo_I G A s.heap ([(q, .inr (10, [.ref cq, .null, .null, .null, .null, .int 0, x6, x7]))] ++ tl) _ _ := ⟨hP, hD, hS⟩
        refine lv_iload_n hx hb dJ23_init_2_51 rfl (lv_at hl 3 rfl) ?_
        refine lv_if_ne (tgt := 60) hx hb dJ23_init_2_52 (by decide) (fun h9 => ?_) (fun h9 => ?_)
        · exact absurd h9 (by decide)
        · refine lv_aload_n hx hb dJ23_init_2_55 rfl (lv_at hl 0 rfl) ?_
          refine lv_null hx hb dJ23_init_2_56 ?_
          refine va_put (D := G) (ci := 10) (v := .null) (ty := (.object "java/util/List")) (C := RX11) (T := TX11) (N := 8) hx hb hC.2.2.2.2.1 in_X11 tyX11 tyX11_ok nmX11 hC.2.2.2.1 hC.2.2.2.2.2.2.1 hI.1 hI.2.1 hI.2.2 0 rfl rfl 2 (by decide) (hC.2.2.2.2.1 _ q849) (fun _ h9 => h9) rfl (by decide +kernel) rfl rfl (Nat.le_of_ble_eq_true rfl) dJ23_init_2_57 (fun H locs hP hD hS => ?_)
          have hI : mo_I G A s.heap ([(q, .inr (10, [.ref cq, .null, .null, .null, .null, .int 0, x6, x7]))] ++ tl) _ _ := ⟨hP, hD, hS⟩
          refine W.widen (k := 0) (n := 0) (Nat.le_of_ble_eq_true rfl) (Nat.le_of_ble_eq_true rfl) ?_
          exact W.vret hx hb hr (fun t ht hW => ⟨⟨(), rfl, trivial, by rw [ht]; exact hI.1, va_K.moved hW.alike hC.2.2.2.2.2.2.1, hI.2.1⟩, hI.2.2.F ht⟩) hI.2.2.2.2 dJ23_init_2_60 hC.2.2.2.2.2.1
      · exact absurd h9 (by decide)
    · refine va_gets hx hb hum2 hI.2.2 hC.2.2.2.1 (hC.2.2.2.2.1 _ q820) (fun _ h9 => h9) dJ23_init_2_17 ?_
      refine va_put (D := G) (ci := 10) (v := .ref um2) (ty := (.object "java/util/List")) (C := RX11) (T := TX11) (N := 8) hx hb hC.2.2.2.2.1 in_X11 tyX11 tyX11_ok nmX11 hC.2.2.2.1 hC.2.2.2.2.2.2.1 hI.1 hI.2.1 hI.2.2 0 rfl rfl 2 (by decide) (hC.2.2.2.2.1 _ q849) (fun _ h9 => h9) rfl (by decide +kernel) rfl rfl (Nat.le_of_ble_eq_true rfl) dJ23_init_2_20 (fun H locs hP hD hS => ?_)
      have hI : mo_I G A s.heap ([(q, .inr (10, [.ref q, .null, .ref um2, .null, .null, .int 0, x6, x7]))] ++ tl) _ _ := ⟨hP, hD, hS⟩
      refine lv_iload hx hb dJ23_init_2_23 (lv_at hl 4 rfl) ?_
      refine lv_if_eq (tgt := 36) hx hb dJ23_init_2_25 (by decide) (fun h9 => ?_) (fun h9 => ?_)
      · refine lv_aload_n hx hb dJ23_init_2_36 rfl (lv_at hl 0 rfl) ?_
        refine lv_null hx hb dJ23_init_2_37 ?_
        refine va_put (D := G) (ci := 10) (v := .null) (ty := (.array (.object "java/lang/StackTraceElement"))) (C := RX11) (T := TX11) (N := 8) hx hb hC.2.2.2.2.1 in_X11 tyX11 tyX11_ok nmX11 hC.2.2.2.1 hC.2.2.2.2.2.2.1 hI.1 hI.2.1 hI.2.2 0 rfl rfl 1 (by decide) (hC.2.2.2.2.1 _ q848) (fun _ h9 => h9) rfl (by decide +kernel) rfl rfl (Nat.le_of_ble_eq_true rfl) dJ23_init_2_38 (fun H locs hP hD hS => ?_)
        have hI : mo_I G A s.heap ([(q, .inr (10, [.ref q, .null, .ref um2, .null, .null, .int 0, x6, x7]))] ++ tl) _ _ := ⟨hP, hD, hS⟩
        refine lv_aload_n hx hb dJ23_init_2_41 rfl (lv_at hl 0 rfl) ?_
        refine lv_aload_nN hx hb dJ23_init_2_42 rfl (lv_at hl 1 rfl) ?_
        refine va_put (D := G) (ci := 10) (v := .null) (ty := (.object "java/lang/String")) (C := RX11) (T := TX11) (N := 8) hx hb hC.2.2.2.2.1 in_X11 tyX11 tyX11_ok nmX11 hC.2.2.2.1 hC.2.2.2.2.2.2.1 hI.1 hI.2.1 hI.2.2 0 rfl rfl 3 (by decide) (hC.2.2.2.2.1 _ q846) (fun _ h9 => h9) rfl (by decide +kernel) rfl rfl (Nat.le_of_ble_eq_true rfl) dJ23_init_2_43 (fun H locs hP hD hS => ?_)
        have hI : mo_I G A s.heap ([(q, .inr (10, [.ref q, .null, .ref um2, .null, .null, .int 0, x6, x7]))] ++ tl) _ _ := ⟨hP, hD, hS⟩
        refine lv_aload_n hx hb dJ23_init_2_46 rfl (lv_at hl 0 rfl) ?_
        refine lv_aload_n hx hb dJ23_init_2_47 rfl (lv_at hl 2 rfl) ?_
        refine va_put (D := G) (ci := 10) (v := .ref cq) (ty := (.object "java/lang/Throwable")) (C := RX11) (T := TX11) (N := 8) hx hb hC.2.2.2.2.1 in_X11 tyX11 tyX11_ok nmX11 hC.2.2.2.1 hC.2.2.2.2.2.2.1 hI.1 hI.2.1 hI.2.2 0 rfl rfl 0 (by decide) (hC.2.2.2.2.1 _ q847) (fun _ h9 => h9) rfl (by decide +kernel) rfl rfl (Nat.le_of_ble_eq_true rfl) dJ23_init_2_48 (fun H locs hP hD hS => ?_)
        have hI : mo_I G A s.heap ([(q, .inr (10, [.ref cq, .null, .ref um2, .null, .null, .int 0, x6, x7]))] ++ tl) _ _ := ⟨hP, hD, hS⟩
        refine lv_iload_n hx hb dJ23_init_2_51 rfl (lv_at hl 3 rfl) ?_
        refine lv_if_ne (tgt := 60) hx hb dJ23_init_2_52 (by decide) (fun h9 => ?_) (fun h9 => ?_)
        · exact absurd h9 (by decide)
        · refine lv_aload_n hx hb dJ23_init_2_55 rfl (lv_at hl 0 rfl) ?_
          refine lv_null hx hb dJ23_init_2_56 ?_
          refine va_put (D := G) (ci := 10) (v := .null) (ty := (.object "java/util/List")) (C := RX11) (T := TX11) (N := 8) hx hb hC.2.2.2.2.1 in_X11 tyX11 tyX11_ok nmX11 hC.2.2.2.1 hC.2.2.2.2.2.2.1 hI.1 hI.2.1 hI.2.2 0 rfl rfl 2 (by decide) (hC.2.2.2.2.1 _ q849) (fun _ h9 => h9) rfl (by decide +kernel) rfl rfl (Nat.le_of_ble_eq_true rfl) dJ23_init_2_57 (fun H locs hP hD hS => ?_)
          have hI : mo_I G A s.heap ([(q, .inr (10, [.ref cq, .null, .null, .null, .null, .int 0, x6, x7]))] ++ tl) _ _ := ⟨hP, hD, hS⟩
          refine W.widen (k := 0) (n := 0) (Nat.le_of_ble_eq_true rfl) (Nat.le_of_ble_eq_true rfl) ?_
          exact W.vret hx hb hr (fun t ht hW => ⟨⟨(), rfl, trivial, by rw [ht]; exact hI.1, va_K.moved hW.alike hC.2.2.2.2.2.2.1, hI.2.1⟩, hI.2.2.F ht⟩) hI.2.2.2.2 dJ23_init_2_60 hC.2.2.2.2.2.1
      · exact absurd h9 (by decide)
  · refine va_gets hx hb hum1 hI.2.2 hC.2.2.2.1 (hC.2.2.2.2.1 _ q818) (fun _ h9 => h9) dJ23_init_2_10 ?_
    refine va_put (D := G) (ci := 10) (v := .ref um1) (ty := (.array (.object "java/lang/StackTraceElement"))) (C := RX11) (T := TX11) (N := 8) hx hb hC.2.2.2.2.1 in_X11 tyX11 tyX11_ok nmX11 hC.2.2.2.1 hC.2.2.2.2.2.2.1 hI.1 hI.2.1 hI.2.2 0 rfl rfl 1 (by decide) (hC.2.2.2.2.1 _ q848) (fun _ h9 => h9) rfl (by decide +kernel) rfl rfl (Nat.le_of_ble_eq_true rfl) dJ23_init_2_13 (fun H locs hP hD hS => ?_)
    have hI : mo_I G A s.heap ([(q, .inr (10, [.ref q, .ref um1, .null, .null, .null, .int 0, x6, x7]))] ++ tl) _ _ := ⟨hP, hD, hS⟩
    refine lv_aload_n hx hb dJ23_init_2_16 rfl (lv_at hl 0 rfl) ?_
    rcases zs_ss h0 hZ with hum3 | ⟨um3, hum3⟩
    · refine va_gets hx hb hum3 hI.2.2 hC.2.2.2.1 (hC.2.2.2.2.1 _ q820) (fun _ h9 => h9) dJ23_init_2_17 ?_
      refine va_put (D := G) (ci := 10) (v := .null) (ty := (.object "java/util/List")) (C := RX11) (T := TX11) (N := 8) hx hb hC.2.2.2.2.1 in_X11 tyX11 tyX11_ok nmX11 hC.2.2.2.1 hC.2.2.2.2.2.2.1 hI.1 hI.2.1 hI.2.2 0 rfl rfl 2 (by decide) (hC.2.2.2.2.1 _ q849) (fun _ h9 => h9) rfl (by decide +kernel) rfl rfl (Nat.le_of_ble_eq_true rfl) dJ23_init_2_20 (fun H locs hP hD hS => ?_)
      have hI : mo_I G A s.heap ([(q, .inr (10, [.ref q, .ref um1, .null, .null, .null, .int 0, x6, x7]))] ++ tl) _ _ := ⟨hP, hD, hS⟩
      refine lv_iload hx hb dJ23_init_2_23 (lv_at hl 4 rfl) ?_
      refine lv_if_eq (tgt := 36) hx hb dJ23_init_2_25 (by decide) (fun h9 => ?_) (fun h9 => ?_)
      · refine lv_aload_n hx hb dJ23_init_2_36 rfl (lv_at hl 0 rfl) ?_
        refine lv_null hx hb dJ23_init_2_37 ?_
        refine va_put (D := G) (ci := 10) (v := .null) (ty := (.array (.object "java/lang/StackTraceElement"))) (C := RX11) (T := TX11) (N := 8) hx hb hC.2.2.2.2.1 in_X11 tyX11 tyX11_ok nmX11 hC.2.2.2.1 hC.2.2.2.2.2.2.1 hI.1 hI.2.1 hI.2.2 0 rfl rfl 1 (by decide) (hC.2.2.2.2.1 _ q848) (fun _ h9 => h9) rfl (by decide +kernel) rfl rfl (Nat.le_of_ble_eq_true rfl) dJ23_init_2_38 (fun H locs hP hD hS => ?_)
        have hI : mo_I G A s.heap ([(q, .inr (10, [.ref q, .null, .null, .null, .null, .int 0, x6, x7]))] ++ tl) _ _ := ⟨hP, hD, hS⟩
        refine lv_aload_n hx hb dJ23_init_2_41 rfl (lv_at hl 0 rfl) ?_
        refine lv_aload_nN hx hb dJ23_init_2_42 rfl (lv_at hl 1 rfl) ?_
        refine va_put (D := G) (ci := 10) (v := .null) (ty := (.object "java/lang/String")) (C := RX11) (T := TX11) (N := 8) hx hb hC.2.2.2.2.1 in_X11 tyX11 tyX11_ok nmX11 hC.2.2.2.1 hC.2.2.2.2.2.2.1 hI.1 hI.2.1 hI.2.2 0 rfl rfl 3 (by decide) (hC.2.2.2.2.1 _ q846) (fun _ h9 => h9) rfl (by decide +kernel) rfl rfl (Nat.le_of_ble_eq_true rfl) dJ23_init_2_43 (fun H locs hP hD hS => ?_)
        have hI : mo_I G A s.heap ([(q, .inr (10, [.ref q, .null, .null, .null, .null, .int 0, x6, x7]))] ++ tl) _ _ := ⟨hP, hD, hS⟩
        refine lv_aload_n hx hb dJ23_init_2_46 rfl (lv_at hl 0 rfl) ?_
        refine lv_aload_n hx hb dJ23_init_2_47 rfl (lv_at hl 2 rfl) ?_
        refine va_put (D := G) (ci := 10) (v := .ref cq) (ty := (.object "java/lang/Throwable")) (C := RX11) (T := TX11) (N := 8) hx hb hC.2.2.2.2.1 in_X11 tyX11 tyX11_ok nmX11 hC.2.2.2.1 hC.2.2.2.2.2.2.1 hI.1 hI.2.1 hI.2.2 0 rfl rfl 0 (by decide) (hC.2.2.2.2.1 _ q847) (fun _ h9 => h9) rfl (by decide +kernel) rfl rfl (Nat.le_of_ble_eq_true rfl) dJ23_init_2_48 (fun H locs hP hD hS => ?_)
        have hI : mo_I G A s.heap ([(q, .inr (10, [.ref cq, .null, .null, .null, .null, .int 0, x6, x7]))] ++ tl) _ _ := ⟨hP, hD, hS⟩
        refine lv_iload_n hx hb dJ23_init_2_51 rfl (lv_at hl 3 rfl) ?_
        refine lv_if_ne (tgt := 60) hx hb dJ23_init_2_52 (by decide) (fun h9 => ?_) (fun h9 => ?_)
        · exact absurd h9 (by decide)
        · refine lv_aload_n hx hb dJ23_init_2_55 rfl (lv_at hl 0 rfl) ?_
          refine lv_null hx hb dJ23_init_2_56 ?_
          refine va_put (D := G) (ci := 10) (v := .null) (ty := (.object "java/util/List")) (C := RX11) (T := TX11) (N := 8) hx hb hC.2.2.2.2.1 in_X11 tyX11 tyX11_ok nmX11 hC.2.2.2.1 hC.2.2.2.2.2.2.1 hI.1 hI.2.1 hI.2.2 0 rfl rfl 2 (by decide) (hC.2.2.2.2.1 _ q849) (fun _ h9 => h9) rfl (by decide +kernel) rfl rfl (Nat.le_of_ble_eq_true rfl) dJ23_init_2_57 (fun H locs hP hD hS => ?_)
          have hI : mo_I G A s.heap ([(q, .inr (10, [.ref cq, .null, .null, .null, .null, .int 0, x6, x7]))] ++ tl) _ _ := ⟨hP, hD, hS⟩
          refine W.widen (k := 0) (n := 0) (Nat.le_of_ble_eq_true rfl) (Nat.le_of_ble_eq_true rfl) ?_
          exact W.vret hx hb hr (fun t ht hW => ⟨⟨(), rfl, trivial, by rw [ht]; exact hI.1, va_K.moved hW.alike hC.2.2.2.2.2.2.1, hI.2.1⟩, hI.2.2.F ht⟩) hI.2.2.2.2 dJ23_init_2_60 hC.2.2.2.2.2.1
      · exact absurd h9 (by decide)
    · refine va_gets hx hb hum3 hI.2.2 hC.2.2.2.1 (hC.2.2.2.2.1 _ q820) (fun _ h9 => h9) dJ23_init_2_17 ?_
      refine va_put (D := G) (ci := 10) (v := .ref um3) (ty := (.object "java/util/List")) (C := RX11) (T := TX11) (N := 8) hx hb hC.2.2.2.2.1 in_X11 tyX11 tyX11_ok nmX11 hC.2.2.2.1 hC.2.2.2.2.2.2.1 hI.1 hI.2.1 hI.2.2 0 rfl rfl 2 (by decide) (hC.2.2.2.2.1 _ q849) (fun _ h9 => h9) rfl (by decide +kernel) rfl rfl (Nat.le_of_ble_eq_true rfl) dJ23_init_2_20 (fun H locs hP hD hS => ?_)
      have hI : mo_I G A s.heap ([(q, .inr (10, [.ref q, .ref um1, .ref um3, .null, .null, .int 0, x6, x7]))] ++ tl) _ _ := ⟨hP, hD, hS⟩
      refine lv_iload hx hb dJ23_init_2_23 (lv_at hl 4 rfl) ?_
      refine lv_if_eq (tgt := 36) hx hb dJ23_init_2_25 (by decide) (fun h9 => ?_) (fun h9 => ?_)
      · refine lv_aload_n hx hb dJ23_init_2_36 rfl (lv_at hl 0 rfl) ?_
        refine lv_null hx hb dJ23_init_2_37 ?_
        refine va_put (D := G) (ci := 10) (v := .null) (ty := (.array (.object "java/lang/StackTraceElement"))) (C := RX11) (T := TX11) (N := 8) hx hb hC.2.2.2.2.1 in_X11 tyX11 tyX11_ok nmX11 hC.2.2.2.1 hC.2.2.2.2.2.2.1 hI.1 hI.2.1 hI.2.2 0 rfl rfl 1 (by decide) (hC.2.2.2.2.1 _ q848) (fun _ h9 => h9) rfl (by decide +kernel) rfl rfl (Nat.le_of_ble_eq_true rfl) dJ23_init_2_38 (fun H locs hP hD hS => ?_)
        have hI : mo_I G A s.heap ([(q, .inr (10, [.ref q, .null, .ref um3, .null, .null, .int 0, x6, x7]))] ++ tl) _ _ := ⟨hP, hD, hS⟩
        refine lv_aload_n hx hb dJ23_init_2_41 rfl (lv_at hl 0 rfl) ?_
        refine lv_aload_nN hx hb dJ23_init_2_42 rfl (lv_at hl 1 rfl) ?_
        refine va_put (D := G) (ci := 10) (v := .null) (ty := (.object "java/lang/String")) (C := RX11) (T := TX11) (N := 8) hx hb hC.2.2.2.2.1 in_X11 tyX11 tyX11_ok nmX11 hC.2.2.2.1 hC.2.2.2.2.2.2.1 hI.1 hI.2.1 hI.2.2 0 rfl rfl 3 (by decide) (hC.2.2.2.2.1 _ q846) (fun _ h9 => h9) rfl (by decide +kernel) rfl rfl (Nat.le_of_ble_eq_true rfl) dJ23_init_2_43 (fun H locs hP hD hS => ?_)
        have hI : mo_I G A s.heap ([(q, .inr (10, [.ref q, .null, .ref um3, .null, .null, .int 0, x6, x7]))] ++ tl) _ _ := ⟨hP, hD, hS⟩
        refine lv_aload_n hx hb dJ23_init_2_46 rfl (lv_at hl 0 rfl) ?_
        refine lv_aload_n hx hb dJ23_init_2_47 rfl (lv_at hl 2 rfl) ?_
        refine va_put (D := G) (ci := 10) (v := .ref cq) (ty := (.object "java/lang/Throwable")) (C := RX11) (T := TX11) (N := 8) hx hb hC.2.2.2.2.1 in_X11 tyX11 tyX11_ok nmX11 hC.2.2.2.1 hC.2.2.2.2.2.2.1 hI.1 hI.2.1 hI.2.2 0 rfl rfl 0 (by decide) (hC.2.2.2.2.1 _ q847) (fun _ h9 => h9) rfl (by decide +kernel) rfl rfl (Nat.le_of_ble_eq_true rfl) dJ23_init_2_48 (fun H locs hP hD hS => ?_)
        have hI : mo_I G A s.heap ([(q, .inr (10, [.ref cq, .null, .ref um3, .null, .null, .int 0, x6, x7]))] ++ tl) _ _ := ⟨hP, hD, hS⟩
        refine lv_iload_n hx hb dJ23_init_2_51 rfl (lv_at hl 3 rfl) ?_
        refine lv_if_ne (tgt := 60) hx hb dJ23_init_2_52 (by decide) (fun h9 => ?_) (fun h9 => ?_)
        · exact absurd h9 (by decide)
        · refine lv_aload_n hx hb dJ23_init_2_55 rfl (lv_at hl 0 rfl) ?_
          refine lv_null hx hb dJ23_init_2_56 ?_
          refine va_put (D := G) (ci := 10) (v := .null) (ty := (.object "java/util/List")) (C := RX11) (T := TX11) (N := 8) hx hb hC.2.2.2.2.1 in_X11 tyX11 tyX11_ok nmX11 hC.2.2.2.1 hC.2.2.2.2.2.2.1 hI.1 hI.2.1 hI.2.2 0 rfl rfl 2 (by decide) (hC.2.2.2.2.1 _ q849) (fun _ h9 => h9) rfl (by decide +kernel) rfl rfl (Nat.le_of_ble_eq_true rfl) dJ23_init_2_57 (fun H locs hP hD hS => ?_)
          have hI : mo_I G A s.heap ([(q, .inr (10, [.ref cq, .null, .null, .null, .null, .int 0, x6, x7]))] ++ tl) _ _ := ⟨hP, hD, hS⟩
          refine W.widen (k := 0) (n := 0) (Nat.le_of_ble_eq_true rfl) (Nat.le_of_ble_eq_true rfl) ?_
          exact W.vret hx hb hr (fun t ht hW => ⟨⟨(), rfl, trivial, by rw [ht]; exact hI.1, va_K.moved hW.alike hC.2.2.2.2.2.2.1, hI.2.1⟩, hI.2.2.F ht⟩) hI.2.2.2.2 dJ23_init_2_60 hC.2.2.2.2.2.1
      · exact absurd h9 (by decide)
theorem k_J24_thX11R {p : Program} {l : Launch} {e : Env} {R : Room} {s s0 : State} {b0 : Addr} {m : MethodId} {args : Array Value} {below : List Frame} {meth : Method} {c : Code} {H : Heap} {locs : List Loc} {cells slots : Nat} {Q : State → Prop} {pc : Nat} {ls : Array Slot} {rest : List Value} {G : va_G} {ai : Nat → ClassId} {A : Nat → Prop} {cc : ByteArray} {nL f L kc ks : Nat} {tl : va_W} {q : Nat} {cq : Nat} {x6 : Value} {x7 : Value} (hC : mo_C p R s m args meth c G ai A RJ24 cc nL f L kc ks) (h0 : mo_S0 s0 b0) (hZ : mo_Z s0 A s) (hI : mo_I G A s.heap ([(q, .inr (10, [.null, .null, .null, .null, .null, .int 0, x6, x7]))] ++ tl) H locs) (hf : 1 + 1 ≤ f) (hL : 8 + (5 + 11) + 20 ≤ L) (hsz : ls.size = nL) (hW : (rest.map fun v => v.category).sum ≤ 8) (hdg : decode cc pc = .ok (.invokespecial 16, 3)) (kk : ∀ (u : Unit) (H1 : Heap) (locs1 : List Loc), mo_I G A s.heap ([(q, .inr (10, [.ref cq, .null, .null, .null, .null, .int 0, x6, x7]))] ++ tl) H1 locs1 → W p l e R s m args below meth c H1 locs1 (cells + 0) (slots + 0) Q (F0 m (pc + 3) ls (rest))) (hc0 : cells + 0 ≤ kc := by first | exact Nat.le_of_ble_eq_true rfl | exact Nat.zero_le _ | assumption | omega) (hs0 : slots + 0 ≤ ks := by first | exact Nat.le_of_ble_eq_true rfl | exact Nat.zero_le _ | assumption | omega) : W p l e R s m args below meth c H locs cells slots Q (F0 m pc ls (.int 0 :: .int 0 :: .ref cq :: .null :: .ref q :: rest)) :=
  gz_usev0 hC.2.2.2.2.2.2.2.1 hI (va_runI (As := [.null, .ref cq, .int 0, .int 0]) (rest := rest) ⟨hC.1, hC.2.1, hC.2.2.1, hC.2.2.2.1, hC.2.2.2.2.1⟩ (w_thX11R l G ai h0 q cq x6 x7 H.size) (cwI 4 hC.2.2.2.2.1 (lw_meth q842) rfl rfl rfl (hC.2.2.2.2.1 _ q150) (hC.2.2.2.2.1 _ q840) (hC.2.2.2.2.1 _ q841) rfl (by decide +kernel) ⟨Nat.le_trans hf hC.2.2.2.2.2.2.2.2.1, Nat.le_trans hL hC.2.2.2.2.2.2.2.2.2.1⟩) ⟨gz_blind, gz_pre0 hC hZ hI⟩ rfl rfl hsz rfl (lv_room hW) hdg ⟨Nat.le_trans hc0 hC.2.2.2.2.2.2.2.2.2.2.1, Nat.le_trans hs0 hC.2.2.2.2.2.2.2.2.2.2.2⟩) (fun u H1 locs1 hp hI1 => kk u H1 locs1 hI1)
set_option maxHeartbeats 4000000 in
theorem w_thX13N (l : Launch) (G : va_G) (ai : Nat → ClassId) {s0 : State} {b0 : Addr} (h0 : mo_S0 s0 b0) {tl : va_W} (q : Nat) : gz_Mv l G ai s0 (fun (u : Unit) => ([(q, .inr (12, [.null, .null, .null, .null, .null, .int 0]))] ++ tl)) yJ23_init_2 cJ23_init_2 5 ({ frames := 1, cells := 0, slots := 0, locals := 20 } : Room) [.ref q, .null, .null, .int 0, .int 0] ([(q, .inr (12, [.null, .null, .null, .null, .null, .int 0]))] ++ tl) (fun (_ : Unit) => True) 0 0 := by
  refine gz_body (y := yJ23_init_2) (cc := cJ23_init_2) (nL := 5) (As := [.ref q, .null, .null, .int 0, .int 0]) (w0 := ([(q, .inr (12, [.null, .null, .null, .null, .null, .int 0]))] ++ tl)) (Qc := fun A => va_Qv (fun (_ : Unit) => True) (gw_E G ai (fun (u : Unit) => ([(q, .inr (12, [.null, .null, .null, .null, .null, .int 0]))] ++ tl)) A) A) (fr := fun A => A) (by decide) (Nat.le_of_ble_eq_true rfl) ?_
  intro p e s m args below meth c A ls hC hZ hr hI hl hnm
  have hx := hC.1
  have hb := hC.2.1
  have hl : lv_has ls 5 [(0, .ref q), (1, .null), (2, .null), (3, .int 0), (4, .int 0)] := hl
  show W p l e _ s m args below meth c s.heap [] 0 0 (MQ below (va_Qv (fun (_ : Unit) => True) (gw_E G ai (fun (u : Unit) => ([(q, .inr (12, [.null, .null, .null, .null, .null, .int 0]))] ++ tl)) A) A) args s 0 0 A) (F0 m 0 ls [])
  refine lv_aload_n hx hb dJ23_init_2_0 rfl (lv_at hl 0 rfl) ?_
  refine mo_oinit (mo_CN hC) q817 hl.1 (Nat.le_of_ble_eq_true rfl) (Nat.le_of_ble_eq_true rfl) dJ23_init_2_1 ?_
  refine lv_aload_n hx hb dJ23_init_2_4 rfl (lv_at hl 0 rfl) ?_
  refine lv_aload_n hx hb dJ23_init_2_5 rfl (lv_at hl 0 rfl) ?_
  refine va_put (D := G) (ci := 12) (v := .ref q) (ty := (.object "java/lang/Throwable")) (C := RX13) (T := TX13) (N := 6) hx hb hC.2.2.2.2.1 in_X13 tyX13 tyX13_ok nmX13 hC.2.2.2.1 hC.2.2.2.2.2.2.1 hI.1 hI.2.1 hI.2.2 0 rfl rfl 0 (by decide) (hC.2.2.2.2.1 _ q847) (fun _ h9 => h9) rfl (by decide +kernel) rfl rfl (Nat.le_of_ble_eq_true rfl) dJ23_init_2_6 (fun H locs hP hD hS => ?_)
  have hI : mo_I G A s.heap ([(q, .inr (12, [.ref q, .null, .null, .null, .null, .int 0]))] ++ tl) _ _ := ⟨hP, hD, hS⟩
  refine lv_aload_n hx hb dJ23_init_2_9 rfl (lv_at hl 0 rfl) ?_
  rcases zs_us h0 hZ with hum1 | ⟨um1, hum1⟩
  · refine va_gets hx hb hum1 hI.2.2 hC.2.2.2.1 (hC.2.2.2.2.1 _ q818) (fun _ h9 => h9) dJ23_init_2_10 ?_
    refine va_put (D := G) (ci := 12) (v := .null) (ty := (.array (.object "java/lang/StackTraceElement"))) (C := RX13) (T := TX13) (N := 6) hx hb hC.2.2.2.2.1 in_X13 tyX13 tyX13_ok nmX13 hC.2.2.2.1 hC.2.2.2.2.2.2.1 hI.1 hI.2.1 hI.2.2 0 rfl rfl 1 (by decide) (hC.2.2.2.2.1 _ q848) (fun _ h9 => h9) rfl (by decide +kernel) rfl rfl (Nat.le_of_ble_eq_true rfl) dJ23_init_2_13 (fun H locs hP hD hS => ?_)
    have hI : mo_I G A s.heap ([(q, .inr (12, [.ref q, .null, .null, .null, .null, .int 0]))] ++ tl) _ _ := ⟨hP, hD, hS⟩
    refine lv_aload_n hx hb dJ23_init_2_16 rfl (lv_at hl 0 rfl) ?_
    rcases zs_ss h0 hZ with hum2 | ⟨um2, hum2⟩
    · refine va_gets hx hb hum2 hI.2.2 hC.2.2.2.1 (hC.2.2.2.2.1 _ q820) (fun _ h9 => h9) dJ23_init_2_17 ?_
      refine va_put (D := G) (ci := 12) (v := .null) (ty := (.object "java/util/List")) (C := RX13) (T := TX13) (N := 6) hx hb hC.2.2.2.2.1 in_X13 tyX13 tyX13_ok nmX13 hC.2.2.2.1 hC.2.2.2.2.2.2.1 hI.1 hI.2.1 hI.2.2 0 rfl rfl 2 (by decide) (hC.2.2.2.2.1 _ q849) (fun _ h9 => h9) rfl (by decide +kernel) rfl rfl (Nat.le_of_ble_eq_true rfl) dJ23_init_2_20 (fun H locs hP hD hS => ?_)
      have hI : mo_I G A s.heap ([(q, .inr (12, [.ref q, .null, .null, .null, .null, .int 0]))] ++ tl) _ _ := ⟨hP, hD, hS⟩
      refine lv_iload hx hb dJ23_init_2_23 (lv_at hl 4 rfl) ?_
      refine lv_if_eq (tgt := 36) hx hb dJ23_init_2_25 (by decide) (fun h9 => ?_) (fun h9 => ?_)
      · refine lv_aload_n hx hb dJ23_init_2_36 rfl (lv_at hl 0 rfl) ?_
        refine lv_null hx hb dJ23_init_2_37 ?_
        refine va_put (D := G) (ci := 12) (v := .null) (ty := (.array (.object "java/lang/StackTraceElement"))) (C := RX13) (T := TX13) (N := 6) hx hb hC.2.2.2.2.1 in_X13 tyX13 tyX13_ok nmX13 hC.2.2.2.1 hC.2.2.2.2.2.2.1 hI.1 hI.2.1 hI.2.2 0 rfl rfl 1 (by decide) (hC.2.2.2.2.1 _ q848) (fun _ h9 => h9) rfl (by decide +kernel) rfl rfl (Nat.le_of_ble_eq_true rfl) dJ23_init_2_38 (fun H locs hP hD hS => ?_)
        have hI : mo_I G A s.heap ([(q, .inr (12, [.ref q, .null, .null, .null, .null, .int 0]))] ++ tl) _ _ := ⟨hP, hD, hS⟩
        refine lv_aload_n hx hb dJ23_init_2_41 rfl (lv_at hl 0 rfl) ?_
        refine lv_aload_nN hx hb dJ23_init_2_42 rfl (lv_at hl 1 rfl) ?_
        refine va_put (D := G) (ci := 12) (v := .null) (ty := (.object "java/lang/String")) (C := RX13) (T := TX13) (N := 6) hx hb hC.2.2.2.2.1 in_X13 tyX13 tyX13_ok nmX13 hC.2.2.2.1 hC.2.2.2.2.2.2.1 hI.1 hI.2.1 hI.2.2 0 rfl rfl 3 (by decide) (hC.2.2.2.2.1 _ q846) (fun _ h9 => h9) rfl (by decide +kernel) rfl rfl (Nat.le_of_ble_eq_true rfl) dJ23_init_2_43 (fun H locs hP hD hS => ?_)
        have hI : mo_I G A s.heap ([(q, .inr (12, [.ref q, .null, .null, .null, .null, .int 0]))] ++ tl) _ _ := ⟨hP, hD, hS⟩
        refine lv_aload_n hx hb dJ23_init_2_46 rfl (lv_at hl 0 rfl) ?_
        refine lv_aload_nN hx hb dJ23_init_2_47 rfl (lv_at hl 2 rfl) ?_
        refine va_put (D := G) (ci := 12) (v := .null) (ty := (.object "java/lang/Throwable")) (C := RX13) (T := TX13) (N := 6) hx hb hC.2.2.2.2.1 in_X13 tyX13 tyX13_ok nmX13 hC.2.2.2.1 hC.2.2.2.2.2.2.1 hI.1 hI.2.1 hI.2.2 0 rfl rfl 0 (by decide) (hC.2.2.2.2.1 _ q847) (fun _ h9 => h9) rfl (by decide +kernel) rfl rfl (Nat.le_of_ble_eq_true rfl) dJ23_init_2_48 (fun H locs hP hD hS => ?_)
        have hI : mo_I G A s.heap ([(q, .inr (12, [.null, .null, .null, .null, .null, .int 0]))] ++ tl) _ _ := ⟨hP, hD, hS⟩
        refine lv_iload_n hx hb dJ23_init_2_51 rfl (lv_at hl 3 rfl) ?_
        refine lv_if_ne (tgt := 60) hx hb dJ23_init_2_52 (by decide) (fun h9 => ?_) (fun h9 => ?_)
        · exact absurd h9 (by decide)
        · refine lv_aload_n hx hb dJ23_init_2_55 rfl (lv_at hl 0 rfl) ?_
          refine lv_null hx hb dJ23_init_2_56 ?_
          refine va_put (D := G) (ci := 12) (v := .null) (ty := (.object "java/util/List")) (C := RX13) (T := TX13) (N := 6) hx hb hC.2.2.2.2.1 in_X13 tyX13 tyX13_ok nmX13 hC.2.2.2.1 hC.2.2.2.2.2.2.1 hI.1 hI.2.1 hI.2.2 0 rfl rfl 2 (by decide) (hC.2.2.2.2.1 _ q849) (fun _ h9 => h9) rfl (by decide +kernel) rfl rfl (Nat.le_of_ble_eq_true rfl) dJ23_init_2_57 (fun H locs hP hD hS => ?_)
          have hI : mo_I G A s.heap ([(q, .inr (12, [.null, .null, .null, .null, .null, .int 0]))] ++ tl) _ _ := ⟨hP, hD, hS⟩
          refine W.widen (k := 0) (n := 0) (Nat.le_of_ble_eq_true rfl) (Nat.le_of_ble_eq_true rfl) ?_
          exact W.vret hx hb hr (fun t ht hW => ⟨⟨(), rfl, trivial, by rw [ht]; exact hI.1, va_K.moved hW.alike hC.2.2.2.2.2.2.1, hI.2.1⟩, hI.2.2.F ht⟩) hI.2.2.2.2 dJ23_init_2_60 hC.2.2.2.2.2.1
      · exact absurd h9 (by decide)
    · refine va_gets hx hb hum2 hI.2.2 hC.2.2.2.1 (hC.2.2.2.2.1 _ q820) (fun _ h9 => h9) dJ23_init_2_17 ?_
      refine va_put (D := G) (ci := 12) (v := .ref um2) (ty := (.object "java/util/List")) (C := RX13) (T := TX13) (N := 6) hx hb hC.2.2.2.2.1 in_X13 tyX13 tyX13_ok nmX13 hC.2.2.2.1 hC.2.2.2.2.2.2.1 hI.1 hI.2.1 hI.2.2 0 rfl rfl 2 (by decide) (hC.2.2.2.2.1 _ q849) (fun _ h9 => h9) rfl (by decide +kernel) rfl rfl (Nat.le_of_ble_eq_true rfl) dJ23_init_2_20 (fun H locs hP hD hS => ?_)
      have hI : mo_I G A s.heap ([(q, .inr (12, [.ref q, .null, .ref um2, .null, .null, .int 0]))] ++ tl) _ _ := ⟨hP, hD, hS⟩
      refine lv_iload hx hb dJ23_init_2_23 (lv_at hl 4 rfl) ?_
      refine lv_if_eq (tgt := 36) hx hb dJ23_init_2_25 (by decide) (fun h9 => ?_) (fun h9 => ?_)
      · refine lv_aload_n hx hb dJ23_init_2_36 rfl (lv_at hl 0 rfl) ?_
        refine lv_null hx hb dJ23_init_2_37 ?_
        refine va_put (D := G) (ci := 12) (v := .null) (ty := (.array (.object "java/lang/StackTraceElement"))) (C := RX13) (T := TX13) (N := 6) hx hb hC.2.2.2.2.1 in_X13 tyX13 tyX13_ok nmX13 hC.2.2.2.1 hC.2.2.2.2.2.2.1 hI.1 hI.2.1 hI.2.2 0 rfl rfl 1 (by decide) (hC.2.2.2.2.1 _ q848) (fun _ h9 => h9) rfl (by decide +kernel) rfl rfl (Nat.le_of_ble_eq_true rfl) dJ23_init_2_38 (fun H locs hP hD hS => ?_)
        have hI : mo_I G A s.heap ([(q, .inr (12, [.ref q, .null, .ref um2, .null, .null, .int 0]))] ++ tl) _ _ := ⟨hP, hD, hS⟩
        refine lv_aload_n hx hb dJ23_init_2_41 rfl (lv_at hl 0 rfl) ?_
        refine lv_aload_nN hx hb dJ23_init_2_42 rfl (lv_at hl 1 rfl) ?_
        refine va_put (D := G) (ci := 12) (v := .null) (ty := (.object "java/lang/String")) (C := RX13) (T := TX13) (N := 6) hx hb hC.2.2.2.2.1 in_X13 tyX13 tyX13_ok nmX13 hC.2.2.2.1 hC.2.2.2.2.2.2.1 hI.1 hI.2.1 hI.2.2 0 rfl rfl 3 (by decide) (hC.2.2.2.2.1 _ q846) (fun _ h9 => h9) rfl (by decide +kernel) rfl rfl (Nat.le_of_ble_eq_true rfl) dJ23_init_2_43 (fun H locs hP hD hS => ?_)
        have hI : mo_I G A s.heap ([(q, .inr (12, [.ref q, .null, .ref um2, .null, .null, .int 0]))] ++ tl) _ _ := ⟨hP, hD, hS⟩
        refine lv_aload_n hx hb dJ23_init_2_46 rfl (lv_at hl 0 rfl) ?_
        refine lv_aload_nN hx hb dJ23_init_2_47 rfl (lv_at hl 2 rfl) ?_
        refine va_put (D := G) (ci := 12) (v := .null) (ty := (.object "java/lang/Throwable")) (C := RX13) (T := TX13) (N := 6) hx hb hC.2.2.2.2.1 in_X13 tyX13 tyX13_ok nmX13 hC.2.2.2.1 hC.2.2.2.2.2.2.1 hI.1 hI.2.1 hI.2.2 0 rfl rfl 0 (by decide) (hC.2.2.2.2.1 _ q847) (fun _ h9 => h9) rfl (by decide +kernel) rfl rfl (Nat.le_of_ble_eq_true rfl) dJ23_init_2_48 (fun H locs hP hD hS => ?_)
        have hI : mo_I G A s.heap ([(q, .inr (12, [.null, .null, .ref um2, .null, .null, .int 0]))] ++ tl) _ _ := ⟨hP, hD, hS⟩
        refine lv_iload_n hx hb dJ23_init_2_51 rfl (lv_at hl 3 rfl) ?_
        refine lv_if_ne (tgt := 60) hx hb dJ23_init_2_52 (by decide) (fun h9 => ?_) (fun h9 => ?_)
        · exact absurd h9 (by decide)
        · refine lv_aload_n hx hb dJ23_init_2_55 rfl (lv_at hl 0 rfl) ?_
          refine lv_null hx hb dJ23_init_2_56 ?_
          refine va_put (D := G) (ci := 12) (v := .null) (ty := (.object "java/util/List")) (C := RX13) (T := TX13) (N := 6) hx hb hC.2.2.2.2.1 in_X13 tyX13 tyX13_ok nmX13 hC.2.2.2.1 hC.2.2.2.2.2.2.1 hI.1 hI.2.1 hI.2.2 0 rfl rfl 2 (by decide) (hC.2.2.2.2.1 _ q849) (fun _ h9 => h9) rfl (by decide +kernel) rfl rfl (Nat.le_of_ble_eq_true rfl) dJ23_init_2_57 (fun H locs hP hD hS => ?_)
          have hI : mo_I G A s.heap ([(q, .inr (12, [.null, .null, .null, .null, .null, .int 0]))] ++ tl) _ _ := ⟨hP, hD, hS⟩
          refine W.widen (k := 0) (n := 0) (Nat.le_of_ble_eq_true rfl) (Nat.le_of_ble_eq_true rfl) ?_
          exact W.vret hx hb hr (fun t ht hW => ⟨⟨(), rfl, trivial, by rw [ht]; exact hI.1, va_K.moved hW.alike hC.2.2.2.2.2.2.1, hI.2.1⟩, hI.2.2.F ht⟩) hI.2.2.2.2 dJ23_init_2_60 hC.2.2.2.2.2.1
      · exact absurd h9 (by decide)
  · refine va_gets hx hb hum1 hI.2.2 hC.2.2.2.1 (hC.2.2.2.2.1 _ q818) (fun _ h9 => h9) dJ23_init_2_10 ?_
    refine va_put (D := G) (ci := 12) (v := .ref um1) (ty := (.array (.object "java/lang/StackTraceElement"))) (C := RX13) (T := TX13) (N := 6) hx hb hC.2.2.2.2.1 in_X13 tyX13 tyX13_ok nmX13 hC.2.2.2.1 hC.2.2.2.2.2.2.1 hI.1 hI.2.1 hI.2.2 0 rfl rfl 1 (by decide) (hC.2.2.2.2.1 _ q848) (fun _ h9 => h9) rfl (by decide +kernel) rfl rfl (Nat.le_of_ble_eq_true rfl) dJ23_init_2_13 (fun H locs hP hD hS => ?_)
    have hI : mo_I G A s.heap ([(q, .inr (12, [.ref q, .ref um1, .null, .null, .null, .int 0]))] ++ tl) _ _ := ⟨hP, hD, hS⟩
    refine lv_aload_n hx hb dJ23_init_2_16 rfl (lv_at hl 0 rfl) ?_
    rcases zs_ss h0 hZ with hum3 | ⟨um3, hum3⟩
    · refine va_gets hx hb hum3 hI.2.2 hC.2.2.2.1 (hC.2.2.2.2.1 _ q820) (fun _ h9 => h9) dJ23_init_2_17 ?_
      refine va_put (D := G) (ci := 12) (v := .null) (ty := (.object "java/util/List")) (C := RX13) (T := TX13) (N := 6) hx hb hC.2.2.2.2.1 in_X13 tyX13 tyX13_ok nmX13 hC.2.2.2.1 hC.2.2.2.2.2.2.1 hI.1 hI.2.1 hI.2.2 0 rfl rfl 2 (by decide) (hC.2.2.2.2.1 _ q849) (fun _ h9 => h9) rfl (by decide +kernel) rfl rfl (Nat.le_of_ble_eq_true rfl) dJ23_init_2_20 (fun H locs hP hD hS => ?_)
      have hI : mo_I G A s.heap ([(q, .inr (12, [.ref q, .ref um1, .null, .null, .null, .int 0]))] ++ tl) _ _ := ⟨hP, hD, hS⟩
      refine lv_iload hx hb dJ23_init_2_23 (lv_at hl 4 rfl) ?_
      refine lv_if_eq (tgt := 36) hx hb dJ23_init_2_25 (by decide) (fun h9 => ?_) (fun h9 => ?_)
      · refine lv_aload_n hx hb dJ23_init_2_36 rfl (lv_at hl 0 rfl) ?_
        refine lv_null hx hb dJ23_init_2_37 ?_
        refine va_put (D := G) (ci := 12) (v := .null) (ty := (.array (.object "java/lang/StackTraceElement"))) (C := RX13) (T := TX13) (N := 6) hx hb hC.2.2.2.2.1 in_X13 tyX13 tyX13_ok nmX13 hC.2.2.2.1 hC.2.2.2.2.2.2.1 hI.1 hI.2.1 hI.2.2 0 rfl rfl 1 (by decide) (hC.2.2.2.2.1 _ q848) (fun _ h9 => h9) rfl (by decide +kernel) rfl rfl (Nat.le_of_ble_eq_true rfl) dJ23_init_2_38 (fun H locs hP hD hS => ?_)
        have hI : mo_I G A s.heap ([(q, .inr (12, [.ref q, .null, .null, .null, .null, .int 0]))] ++ tl) _ _ := ⟨hP, hD, hS⟩
        refine lv_aload_n hx hb dJ23_init_2_41 rfl (lv_at hl 0 rfl) ?_
        refine lv_aload_nN hx hb dJ23_init_2_42 rfl (lv_at hl 1 rfl) ?_
        refine va_put (D := G) (ci := 12) (v := .null) (ty := (.object "java/lang/String")) (C := RX13) (T := TX13) (N := 6) hx hb hC.2.2.2.2.1 in_X13 tyX13 tyX13_ok nmX13 hC.2.2.2.1 hC.2.2.2.2.2.2.1 hI.1 hI.2.1 hI.2.2 0 rfl rfl 3 (by decide) (hC.2.2.2.2.1 _ q846) (fun _ h9 => h9) rfl (by decide +kernel) rfl rfl (Nat.le_of_ble_eq_true rfl) dJ23_init_2_43 (fun H locs hP hD hS => ?_)
        have hI : mo_I G A s.heap ([(q, .inr (12, [.ref q, .null, .null, .null, .null, .int 0]))] ++ tl) _ _ := ⟨hP, hD, hS⟩
        refine lv_aload_n hx hb dJ23_init_2_46 rfl (lv_at hl 0 rfl) ?_
        refine lv_aload_nN hx hb dJ23_init_2_47 rfl (lv_at hl 2 rfl) ?_
        refine va_put (D := G) (ci := 12) (v := .null) (ty := (.object "java/lang/Throwable")) (C := RX13) (T := TX13) (N := 6) hx hb hC.2.2.2.2.1 in_X13 tyX13 tyX13_ok nmX13 hC.2.2.2.1 hC.2.2.2.2.2.2.1 hI.1 hI.2.1 hI.2.2 0 rfl rfl 0 (by decide) (hC.2.2.2.2.1 _ q847) (fun _ h9 => h9) rfl (by decide +kernel) rfl rfl (Nat.le_of_ble_eq_true rfl) dJ23_init_2_48 (fun H locs hP hD hS => ?_)
        have hI : mo_I G A s.heap ([(q, .inr (12, [.null, .null, .null, .null, .null, .int 0]))] ++ tl) _ _ := ⟨hP, hD, hS⟩
        refine lv_iload_n hx hb dJ23_init_2_51 rfl (lv_at hl 3 rfl) ?_
        refine lv_if_ne (tgt := 60) hx hb dJ23_init_2_52 (by decide) (fun h9 => ?_) (fun h9 => ?_)
        · exact absurd h9 (by decide)
        · refine lv_aload_n hx hb dJ23_init_2_55 rfl (lv_at hl 0 rfl) ?_
          refine lv_null hx hb dJ23_init_2_56 ?_
          refine va_put (D := G) (ci := 12) (v := .null) (ty := (.object "java/util/List")) (C := RX13) (T := TX13) (N := 6) hx hb hC.2.2.2.2.1 in_X13 tyX13 tyX13_ok nmX13 hC.2.2.2.1 hC.2.2.2.2.2.2.1 hI.1 hI.2.1 hI.2.2 0 rfl rfl 2 (by decide) (hC.2.2.2.2.1 _ q849) (fun _ h9 => h9) rfl (by decide +kernel) rfl rfl (Nat.le_of_ble_eq_true rfl) dJ23_init_2_57 (fun H locs hP hD hS => ?_)
          have hI : mo_I G A s.heap ([(q, .inr (12, [.null, .null, .null, .null, .null, .int 0]))] ++ tl) _ _ := ⟨hP, hD, hS⟩
          refine W.widen (k := 0) (n := 0) (Nat.le_of_ble_eq_true rfl) (Nat.le_of_ble_eq_true rfl) ?_
          exact W.vret hx hb hr (fun t ht hW => ⟨⟨(), rfl, trivial, by rw [ht]; exact hI.1, va_K.moved hW.alike hC.2.2.2.2.2.2.1, hI.2.1⟩, hI.2.2.F ht⟩) hI.2.2.2.2 dJ23_init_2_60 hC.2.2.2.2.2.1
      · exact absurd h9 (by decide)
    · refine va_gets hx hb hum3 hI.2.2 hC.2.2.2.1 (hC.2.2.2.2.1 _ q820) (fun _ h9 => h9) dJ23_init_2_17 ?_
      refine va_put (D := G) (ci := 12) (v := .ref um3) (ty := (.object "java/util/List")) (C := RX13) (T := TX13) (N := 6) hx hb hC.2.2.2.2.1 in_X13 tyX13 tyX13_ok nmX13 hC.2.2.2.1 hC.2.2.2.2.2.2.1 hI.1 hI.2.1 hI.2.2 0 rfl rfl 2 (by decide) (hC.2.2.2.2.1 _ q849) (fun _ h9 => h9) rfl (by decide +kernel) rfl rfl (Nat.le_of_ble_eq_true rfl) dJ23_init_2_20 (fun H locs hP hD hS => ?_)
      have hI : mo_I G A s.heap ([(q, .inr (12, [.ref q, .ref um1, .ref um3, .null, .null, .int 0]))] ++ tl) _ _ := ⟨hP, hD, hS⟩
      refine lv_iload hx hb dJ23_init_2_23 (lv_at hl 4 rfl) ?_
      refine lv_if_eq (tgt := 36) hx hb dJ23_init_2_25 (by decide) (fun h9 => ?_) (fun h9 => ?_)
      · refine lv_aload_n hx hb dJ23_init_2_36 rfl (lv_at hl 0 rfl) ?_
        refine lv_null hx hb dJ23_init_2_37 ?_
        refine va_put (D := G) (ci := 12) (v := .null) (ty := (.array (.object "java/lang/StackTraceElement"))) (C := RX13) (T := TX13) (N := 6) hx hb hC.2.2.2.2.1 in_X13 tyX13 tyX13_ok nmX13 hC.2.2.2.1 hC.2.2.2.2.2.2.1 hI.1 hI.2.1 hI.2.2 0 rfl rfl 1 (by decide) (hC.2.2.2.2.1 _ q848) (fun _ h9 => h9) rfl (by decide +kernel) rfl rfl (Nat.le_of_ble_eq_true rfl) dJ23_init_2_38 (fun H locs hP hD hS => ?_)
        have hI : mo_I G A s.heap ([(q, .inr (12, [.ref q, .null, .ref um3, .null, .null, .int 0]))] ++ tl) _ _ := ⟨hP, hD, hS⟩
        refine lv_aload_n hx hb dJ23_init_2_41 rfl (lv_at hl 0 rfl) ?_
        refine lv_aload_nN hx hb dJ23_init_2_42 rfl (lv_at hl 1 rfl) ?_
        refine va_put (D := G) (ci := 12) (v := .null) (ty := (.object "java/lang/String")) (C := RX13) (T := TX13) (N := 6) hx hb hC.2.2.2.2.1 in_X13 tyX13 tyX13_ok nmX13 hC.2.2.2.1 hC.2.2.2.2.2.2.1 hI.1 hI.2.1 hI.2.2 0 rfl rfl 3 (by decide) (hC.2.2.2.2.1 _ q846) (fun _ h9 => h9) rfl (by decide +kernel) rfl rfl (Nat.le_of_ble_eq_true rfl) dJ23_init_2_43 (fun H locs hP hD hS => ?_)
        have hI : mo_I G A s.heap ([(q, .inr (12, [.ref q, .null, .ref um3, .null, .null, .int 0]))] ++ tl) _ _ := ⟨hP, hD, hS⟩
        refine lv_aload_n hx hb dJ23_init_2_46 rfl (lv_at hl 0 rfl) ?_
        refine lv_aload_nN hx hb dJ23_init_2_47 rfl (lv_at hl 2 rfl) ?_
        refine va_put (D := G) (ci := 12) (v := .null) (ty := (.object "java/lang/Throwable")) (C := RX13) (T := TX13) (N := 6) hx hb hC.2.2.2.2.1 in_X13 tyX13 tyX13_ok nmX13 hC.2.2.2.1 hC.2.2.2.2.2.2.1 hI.1 hI.2.1 hI.2.2 0 rfl rfl 0 (by decide) (hC.2.2.2.2.1 _ q847) (fun _ h9 => h9) rfl (by decide +kernel) rfl rfl (Nat.le_of_ble_eq_true rfl) dJ23_init_2_48 (fun H locs hP hD hS => ?_)
        have hI : mo_I G A s.heap ([(q, .inr (12, [.null, .null, .ref um3, .null, .null, .int 0]))] ++ tl) _ _ := ⟨hP, hD, hS⟩
        refine lv_iload_n hx hb dJ23_init_2_51 rfl (lv_at hl 3 rfl) ?_
        refine lv_if_ne (tgt := 60) hx hb dJ23_init_2_52 (by decide) (fun h9 => ?_) (fun h9 => ?_)
        · exact absurd h9 (by decide)
        · refine lv_aload_n hx hb dJ23_init_2_55 rfl (lv_at hl 0 rfl) ?_
          refine lv_null hx hb dJ23_init_2_56 ?_
          refine va_put (D := G) (ci := 12) (v := .null) (ty := (.object "java/util/List")) (C := RX13) (T := TX13) (N := 6) hx hb hC.2.2.2.2.1 in_X13 tyX13 tyX13_ok nmX13 hC.2.2.2.1 hC.2.2.2.2.2.2.1 hI.1 hI.2.1 hI.2.2 0 rfl rfl 2 (by decide) (hC.2.2.2.2.1 _ q849) (fun _ h9 => h9) rfl (by decide +kernel) rfl rfl (Nat.le_of_ble_eq_true rfl) dJ23_init_2_57 (fun H locs hP hD hS => ?_)
          have hI : mo_I G A s.heap ([(q, .inr (12, [.null, .null, .null, .null, .null, .int 0]))] ++ tl) _ _ := ⟨hP, hD, hS⟩
          refine W.widen (k := 0) (n := 0) (Nat.le_of_ble_eq_true rfl) (Nat.le_of_ble_eq_true rfl) ?_
          exact W.vret hx hb hr (fun t ht hW => ⟨⟨(), rfl, trivial, by rw [ht]; exact hI.1, va_K.moved hW.alike hC.2.2.2.2.2.2.1, hI.2.1⟩, hI.2.2.F ht⟩) hI.2.2.2.2 dJ23_init_2_60 hC.2.2.2.2.2.1
      · exact absurd h9 (by decide)
theorem k_J24_thX13N {p : Program} {l : Launch} {e : Env} {R : Room} {s s0 : State} {b0 : Addr} {m : MethodId} {args : Array Value} {below : List Frame} {meth : Method} {c : Code} {H : Heap} {locs : List Loc} {cells slots : Nat} {Q : State → Prop} {pc : Nat} {ls : Array Slot} {rest : List Value} {G : va_G} {ai : Nat → ClassId} {A : Nat → Prop} {cc : ByteArray} {nL f L kc ks : Nat} {tl : va_W} {q : Nat} (hC : mo_C p R s m args meth c G ai A RJ24 cc nL f L kc ks) (h0 : mo_S0 s0 b0) (hZ : mo_Z s0 A s) (hI : mo_I G A s.heap ([(q, .inr (12, [.null, .null, .null, .null, .null, .int 0]))] ++ tl) H locs) (hf : 1 + 1 ≤ f) (hL : 8 + (5 + 11) + 20 ≤ L) (hsz : ls.size = nL) (hW : (rest.map fun v => v.category).sum ≤ 8) (hdg : decode cc pc = .ok (.invokespecial 16, 3)) (kk : ∀ (u : Unit) (H1 : Heap) (locs1 : List Loc), mo_I G A s.heap ([(q, .inr (12, [.null, .null, .null, .null, .null, .int 0]))] ++ tl) H1 locs1 → W p l e R s m args below meth c H1 locs1 (cells + 0) (slots + 0) Q (F0 m (pc + 3) ls (rest))) (hc0 : cells + 0 ≤ kc := by first | exact Nat.le_of_ble_eq_true rfl | exact Nat.zero_le _ | assumption | omega) (hs0 : slots + 0 ≤ ks := by first | exact Nat.le_of_ble_eq_true rfl | exact Nat.zero_le _ | assumption | omega) : W p l e R s m args below meth c H locs cells slots Q (F0 m pc ls (.int 0 :: .int 0 :: .null :: .null :: .ref q :: rest)) :=
  gz_usev0 hC.2.2.2.2.2.2.2.1 hI (va_runI (As := [.null, .null, .int 0, .int 0]) (rest := rest) ⟨hC.1, hC.2.1, hC.2.2.1, hC.2.2.2.1, hC.2.2.2.2.1⟩ (w_thX13N l G ai h0 q H.size) (cwI 4 hC.2.2.2.2.1 (lw_meth q842) rfl rfl rfl (hC.2.2.2.2.1 _ q150) (hC.2.2.2.2.1 _ q840) (hC.2.2.2.2.1 _ q841) rfl (by decide +kernel) ⟨Nat.le_trans hf hC.2.2.2.2.2.2.2.2.1, Nat.le_trans hL hC.2.2.2.2.2.2.2.2.2.1⟩) ⟨gz_blind, gz_pre0 hC hZ hI⟩ rfl rfl hsz rfl (lv_room hW) hdg ⟨Nat.le_trans hc0 hC.2.2.2.2.2.2.2.2.2.2.1, Nat.le_trans hs0 hC.2.2.2.2.2.2.2.2.2.2.2⟩) (fun u H1 locs1 hp hI1 => kk u H1 locs1 hI1)
set_option maxHeartbeats 4000000 in
theorem w_exX10N (l : Launch) (G : va_G) (ai : Nat → ClassId) {s0 : State} {b0 : Addr} (h0 : mo_S0 s0 b0) {tl : va_W} (q : Nat) (x6 : Value) : gz_Mv l G ai s0 (fun (u : Unit) => ([(q, .inr (9, [.null, .null, .null, .null, .null, .int 0, x6]))] ++ tl)) yJ24_init cJ24_init 5 ({ frames := 2, cells := 0, slots := 0, locals := 44 } : Room) [.ref q, .null, .null, .int 0, .int 0] ([(q, .inr (9, [.null, .null, .null, .null, .null, .int 0, x6]))] ++ tl) (fun (_ : Unit) => True) 0 0 := by
  refine gz_body (y := yJ24_init) (cc := cJ24_init) (nL := 5) (As := [.ref q, .null, .null, .int 0, .int 0]) (w0 := ([(q, .inr (9, [.null, .null, .null, .null, .null, .int 0, x6]))] ++ tl)) (Qc := fun A => va_Qv (fun (_ : Unit) => True) (gw_E G ai (fun (u : Unit) => ([(q, .inr (9, [.null, .null, .null, .null, .null, .int 0, x6]))] ++ tl)) A) A) (fr := fun A => A) (by decide) (Nat.le_of_ble_eq_true rfl) ?_
  intro p e s m args below meth c A ls hC hZ hr hI hl hnm
  have hx := hC.1
  have hb := hC.2.1
  have hl : lv_has ls 5 [(0, .ref q), (1, .null), (2, .null), (3, .int 0), (4, .int 0)] := hl
  show W p l e _ s m args below meth c s.heap [] 0 0 (MQ below (va_Qv (fun (_ : Unit) => True) (gw_E G ai (fun (u : Unit) => ([(q, .inr (9, [.null, .null, .null, .null, .null, .int 0, x6]))] ++ tl)) A) A) args s 0 0 A) (F0 m 0 ls [])
  refine lv_aload_n hx hb dJ24_init_0 rfl (lv_at hl 0 rfl) ?_
  refine lv_aload_nN hx hb dJ24_init_1 rfl (lv_at hl 1 rfl) ?_
  refine lv_aload_nN hx hb dJ24_init_2 rfl (lv_at hl 2 rfl) ?_
  refine lv_iload_n hx hb dJ24_init_3 rfl (lv_at hl 3 rfl) ?_
  refine lv_iload hx hb dJ24_init_4 (lv_at hl 4 rfl) ?_
  refine k_J24_thX10N (q := q) (x6 := x6) hC h0 hZ hI (Nat.le_of_ble_eq_true rfl) (Nat.le_of_ble_eq_true rfl) hl.1 (Nat.le_of_ble_eq_true rfl) dJ24_init_6 (fun _ H locs hI => ?_)
  have hI : mo_I G A s.heap ([(q, .inr (9, [.null, .null, .null, .null, .null, .int 0, x6]))] ++ tl) _ _ := hI
  refine W.widen (k := 0) (n := 0) (Nat.le_of_ble_eq_true rfl) (Nat.le_of_ble_eq_true rfl) ?_
  exact W.vret hx hb hr (fun t ht hW => ⟨⟨(), rfl, trivial, by rw [ht]; exact hI.1, va_K.moved hW.alike hC.2.2.2.2.2.2.1, hI.2.1⟩, hI.2.2.F ht⟩) hI.2.2.2.2 dJ24_init_9 hC.2.2.2.2.2.1
theorem k_X10_exX10N {p : Program} {l : Launch} {e : Env} {R : Room} {s s0 : State} {b0 : Addr} {m : MethodId} {args : Array Value} {below : List Frame} {meth : Method} {c : Code} {H : Heap} {locs : List Loc} {cells slots : Nat} {Q : State → Prop} {pc : Nat} {ls : Array Slot} {rest : List Value} {G : va_G} {ai : Nat → ClassId} {A : Nat → Prop} {cc : ByteArray} {nL f L kc ks : Nat} {tl : va_W} {q : Nat} {x6 : Value} (hC : mo_C p R s m args meth c G ai A RX10 cc nL f L kc ks) (h0 : mo_S0 s0 b0) (hZ : mo_Z s0 A s) (hI : mo_I G A s.heap ([(q, .inr (9, [.null, .null, .null, .null, .null, .int 0, x6]))] ++ tl) H locs) (hf : 2 + 1 ≤ f) (hL : 8 + (5 + 11) + 44 ≤ L) (hsz : ls.size = nL) (hW : (rest.map fun v => v.category).sum ≤ 8) (hdg : decode cc pc = .ok (.invokespecial 1, 3)) (kk : ∀ (u : Unit) (H1 : Heap) (locs1 : List Loc), mo_I G A s.heap ([(q, .inr (9, [.null, .null, .null, .null, .null, .int 0, x6]))] ++ tl) H1 locs1 → W p l e R s m args below meth c H1 locs1 (cells + 0) (slots + 0) Q (F0 m (pc + 3) ls (rest))) (hc0 : cells + 0 ≤ kc := by first | exact Nat.le_of_ble_eq_true rfl | exact Nat.zero_le _ | assumption | omega) (hs0 : slots + 0 ≤ ks := by first | exact Nat.le_of_ble_eq_true rfl | exact Nat.zero_le _ | assumption | omega) : W p l e R s m args below meth c H locs cells slots Q (F0 m pc ls (.int 0 :: .int 0 :: .null :: .null :: .ref q :: rest)) :=
  gz_usev0 hC.2.2.2.2.2.2.2.1 hI (va_runI (As := [.null, .null, .int 0, .int 0]) (rest := rest) ⟨hC.1, hC.2.1, hC.2.2.1, hC.2.2.2.1, hC.2.2.2.2.1⟩ (w_exX10N l G ai h0 q x6 H.size) (cwI 4 hC.2.2.2.2.1 (lw_meth q839) rfl rfl rfl (hC.2.2.2.2.1 _ q151) (hC.2.2.2.2.1 _ q837) (hC.2.2.2.2.1 _ q838) rfl (by decide +kernel) ⟨Nat.le_trans hf hC.2.2.2.2.2.2.2.2.1, Nat.le_trans hL hC.2.2.2.2.2.2.2.2.2.1⟩) ⟨gz_blind, gz_pre0 hC hZ hI⟩ rfl rfl hsz rfl (lv_room hW) hdg ⟨Nat.le_trans hc0 hC.2.2.2.2.2.2.2.2.2.2.1, Nat.le_trans hs0 hC.2.2.2.2.2.2.2.2.2.2.2⟩) (fun u H1 locs1 hp hI1 => kk u H1 locs1 hI1)
set_option maxHeartbeats 4000000 in
theorem w_exX11N (l : Launch) (G : va_G) (ai : Nat → ClassId) {s0 : State} {b0 : Addr} (h0 : mo_S0 s0 b0) {tl : va_W} (q : Nat) (x6 : Value) (x7 : Value) : gz_Mv l G ai s0 (fun (u : Unit) => ([(q, .inr (10, [.null, .null, .null, .null, .null, .int 0, x6, x7]))] ++ tl)) yJ24_init cJ24_init 5 ({ frames := 2, cells := 0, slots := 0, locals := 44 } : Room) [.ref q, .null, .null, .int 0, .int 0] ([(q, .inr (10, [.null, .null, .null, .null, .null, .int 0, x6, x7]))] ++ tl) (fun (_ : Unit) => True) 0 0 := by
  refine gz_body (y := yJ24_init) (cc := cJ24_init) (nL := 5) (As := [.ref q, .null, .null, .int 0, .int 0]) (w0 := ([(q, .inr (10, [.null, .null, .null, .null, .null, .int 0, x6, x7]))] ++ tl)) (Qc := fun A => va_Qv (fun (_ : Unit) => True) (gw_E G ai (fun (u : Unit) => ([(q, .inr (10, [.null, .null, .null, .null, .null, .int 0, x6, x7]))] ++ tl)) A) A) (fr := fun A => A) (by decide) (Nat.le_of_ble_eq_true rfl) ?_
  intro p e s m args below meth c A ls hC hZ hr hI hl hnm
  have hx := hC.1
  have hb := hC.2.1
  have hl : lv_has ls 5 [(0, .ref q), (1, .null), (2, .null), (3, .int 0), (4, .int 0)] := hl
  show W p l e _ s m args below meth c s.heap [] 0 0 (MQ below (va_Qv (fun (_ : Unit) => True) (gw_E G ai (fun (u : Unit) => ([(q, .inr (10, [.null, .null, .null, .null, .null, .int 0, x6, x7]))] ++ tl)) A) A) args s 0 0 A) (F0 m 0 ls [])
  refine lv_aload_n hx hb dJ24_init_0 rfl (lv_at hl 0 rfl) ?_
  refine lv_aload_nN hx hb dJ24_init_1 rfl (lv_at hl 1 rfl) ?_
  refine lv_aload_nN hx hb dJ24_init_2 rfl (lv_at hl 2 rfl) ?_
  refine lv_iload_n hx hb dJ24_init_3 rfl (lv_at hl 3 rfl) ?_
  refine lv_iload hx hb dJ24_init_4 (lv_at hl 4 rfl) ?_
  refine k_J24_thX11N (q := q) (x6 := x6) (x7 := x7) hC h0 hZ hI (Nat.le_of_ble_eq_true rfl) (Nat.le_of_ble_eq_true rfl) hl.1 (Nat.le_of_ble_eq_true rfl) dJ24_init_6 (fun _ H locs hI => ?_)
  have hI : mo_I G A s.heap ([(q, .inr (10, [.null, .null, .null, .null, .null, .int 0, x6, x7]))] ++ tl) _ _ := hI
  refine W.widen (k := 0) (n := 0) (Nat.le_of_ble_eq_true rfl) (Nat.le_of_ble_eq_true rfl) ?_
  exact W.vret hx hb hr (fun t ht hW => ⟨⟨(), rfl, trivial, by rw [ht]; exact hI.1, va_K.moved hW.alike hC.2.2.2.2.2.2.1, hI.2.1⟩, hI.2.2.F ht⟩) hI.2.2.2.2 dJ24_init_9 hC.2.2.2.2.2.1
theorem k_X11_exX11N {p : Program} {l : Launch} {e : Env} {R : Room} {s s0 : State} {b0 : Addr} {m : MethodId} {args : Array Value} {below : List Frame} {meth : Method} {c : Code} {H : Heap} {locs : List Loc} {cells slots : Nat} {Q : State → Prop} {pc : Nat} {ls : Array Slot} {rest : List Value} {G : va_G} {ai : Nat → ClassId} {A : Nat → Prop} {cc : ByteArray} {nL f L kc ks : Nat} {tl : va_W} {q : Nat} {x6 : Value} {x7 : Value} (hC : mo_C p R s m args meth c G ai A RX11 cc nL f L kc ks) (h0 : mo_S0 s0 b0) (hZ : mo_Z s0 A s) (hI : mo_I G A s.heap ([(q, .inr (10, [.null, .null, .null, .null, .null, .int 0, x6, x7]))] ++ tl) H locs) (hf : 2 + 1 ≤ f) (hL : 8 + (5 + 11) + 44 ≤ L) (hsz : ls.size = nL) (hW : (rest.map fun v => v.category).sum ≤ 8) (hdg : decode cc pc = .ok (.invokespecial 7, 3)) (kk : ∀ (u : Unit) (H1 : Heap) (locs1 : List Loc), mo_I G A s.heap ([(q, .inr (10, [.null, .null, .null, .null, .null, .int 0, x6, x7]))] ++ tl) H1 locs1 → W p l e R s m args below meth c H1 locs1 (cells + 0) (slots + 0) Q (F0 m (pc + 3) ls (rest))) (hc0 : cells + 0 ≤ kc := by first | exact Nat.le_of_ble_eq_true rfl | exact Nat.zero_le _ | assumption | omega) (hs0 : slots + 0 ≤ ks := by first | exact Nat.le_of_ble_eq_true rfl | exact Nat.zero_le _ | assumption | omega) : W p l e R s m args below meth c H locs cells slots Q (F0 m pc ls (.int 0 :: .int 0 :: .null :: .null :: .ref q :: rest)) :=
  gz_usev0 hC.2.2.2.2.2.2.2.1 hI (va_runI (As := [.null, .null, .int 0, .int 0]) (rest := rest) ⟨hC.1, hC.2.1, hC.2.2.1, hC.2.2.2.1, hC.2.2.2.2.1⟩ (w_exX11N l G ai h0 q x6 x7 H.size) (cwI 4 hC.2.2.2.2.1 (lw_meth q839) rfl rfl rfl (hC.2.2.2.2.1 _ q151) (hC.2.2.2.2.1 _ q881) (hC.2.2.2.2.1 _ q838) rfl (by decide +kernel) ⟨Nat.le_trans hf hC.2.2.2.2.2.2.2.2.1, Nat.le_trans hL hC.2.2.2.2.2.2.2.2.2.1⟩) ⟨gz_blind, gz_pre0 hC hZ hI⟩ rfl rfl hsz rfl (lv_room hW) hdg ⟨Nat.le_trans hc0 hC.2.2.2.2.2.2.2.2.2.2.1, Nat.le_trans hs0 hC.2.2.2.2.2.2.2.2.2.2.2⟩) (fun u H1 locs1 hp hI1 => kk u H1 locs1 hI1)
set_option maxHeartbeats 4000000 in
theorem w_exX11R (l : Launch) (G : va_G) (ai : Nat → ClassId) {s0 : State} {b0 : Addr} (h0 : mo_S0 s0 b0) {tl : va_W} (q : Nat) (cq : Nat) (x6 : Value) (x7 : Value) : gz_Mv l G ai s0 (fun (u : Unit) => ([(q, .inr (10, [.ref cq, .null, .null, .null, .null, .int 0, x6, x7]))] ++ tl)) yJ24_init cJ24_init 5 ({ frames := 2, cells := 0, slots := 0, locals := 44 } : Room) [.ref q, .null, .ref cq, .int 0, .int 0] ([(q, .inr (10, [.null, .null, .null, .null, .null, .int 0, x6, x7]))] ++ tl) (fun (_ : Unit) => True) 0 0 := by
  refine gz_body (y := yJ24_init) (cc := cJ24_init) (nL := 5) (As := [.ref q, .null, .ref cq, .int 0, .int 0]) (w0 := ([(q, .inr (10, [.null, .null, .null, .null, .null, .int 0, x6, x7]))] ++ tl)) (Qc := fun A => va_Qv (fun (_ : Unit) => True) (gw_E G ai (fun (u : Unit) => ([(q, .inr (10, [.ref cq, .null, .null, .null, .null, .int 0, x6, x7]))] ++ tl)) A) A) (fr := fun A => A) (by decide) (Nat.le_of_ble_eq_true rfl) ?_
  intro p e s m args below meth c A ls hC hZ hr hI hl hnm
  have hx := hC.1
  have hb := hC.2.1
  have hl : lv_has ls 5 [(0, .ref q), (1, .null), (2, .ref cq), (3, .int 0), (4, .int 0)] := hl
  show W p l e _ s m args below meth c s.heap [] 0 0 (MQ below (va_Qv (fun (_ : Unit) => True) (gw_E G ai (fun (u : Unit) => ([(q, .inr (10, [.ref cq, .null, .null, .null, .null, .int 0, x6, x7]))] ++ tl)) A) A) args s 0 0 A) (F0 m 0 ls [])
  refine lv_aload_n hx hb dJ24_init_0 rfl (lv_at hl 0 rfl) ?_
  refine lv_aload_nN hx hb dJ24_init_1 rfl (lv_at hl 1 rfl) ?_
  refine lv_aload_n hx hb dJ24_init_2 rfl (lv_at hl 2 rfl) ?_
  refine lv_iload_n hx hb dJ24_init_3 rfl (lv_at hl 3 rfl) ?_
  refine lv_iload hx hb dJ24_init_4 (lv_at hl 4 rfl) ?_
  refine k_J24_thX11R (q := q) (cq := cq) (x6 := x6) (x7 := x7) hC h0 hZ hI (Nat.le_of_ble_eq_true rfl) (Nat.le_of_ble_eq_true rfl) hl.1 (Nat.le_of_ble_eq_true rfl) dJ24_init_6 (fun _ H locs hI => ?_)
  have hI : mo_I G A s.heap ([(q, .inr (10, [.ref cq, .null, .null, .null, .null, .int 0, x6, x7]))] ++ tl) _ _ := hI
  refine W.widen (k := 0) (n := 0) (Nat.le_of_ble_eq_true rfl) (Nat.le_of_ble_eq_true rfl) ?_
  exact W.vret hx hb hr (fun t ht hW => ⟨⟨(), rfl, trivial, by rw [ht]; exact hI.1, va_K.moved hW.alike hC.2.2.2.2.2.2.1, hI.2.1⟩, hI.2.2.F ht⟩) hI.2.2.2.2 dJ24_init_9 hC.2.2.2.2.2.1
theorem k_X11_exX11R {p : Program} {l : Launch} {e : Env} {R : Room} {s s0 : State} {b0 : Addr} {m : MethodId} {args : Array Value} {below : List Frame} {meth : Method} {c : Code} {H : Heap} {locs : List Loc} {cells slots : Nat} {Q : State → Prop} {pc : Nat} {ls : Array Slot} {rest : List Value} {G : va_G} {ai : Nat → ClassId} {A : Nat → Prop} {cc : ByteArray} {nL f L kc ks : Nat} {tl : va_W} {q : Nat} {cq : Nat} {x6 : Value} {x7 : Value} (hC : mo_C p R s m args meth c G ai A RX11 cc nL f L kc ks) (h0 : mo_S0 s0 b0) (hZ : mo_Z s0 A s) (hI : mo_I G A s.heap ([(q, .inr (10, [.null, .null, .null, .null, .null, .int 0, x6, x7]))] ++ tl) H locs) (hf : 2 + 1 ≤ f) (hL : 8 + (5 + 11) + 44 ≤ L) (hsz : ls.size = nL) (hW : (rest.map fun v => v.category).sum ≤ 8) (hdg : decode cc pc = .ok (.invokespecial 7, 3)) (kk : ∀ (u : Unit) (H1 : Heap) (locs1 : List Loc), mo_I G A s.heap ([(q, .inr (10, [.ref cq, .null, .null, .null, .null, .int 0, x6, x7]))] ++ tl) H1 locs1 → W p l e R s m args below meth c H1 locs1 (cells + 0) (slots + 0) Q (F0 m (pc + 3) ls (rest))) (hc0 : cells + 0 ≤ kc := by first | exact Nat.le_of_ble_eq_true rfl | exact Nat.zero_le _ | assumption | omega) (hs0 : slots + 0 ≤ ks := by first | exact Nat.le_of_ble_eq_true rfl | exact Nat.zero_le _ | assumption | omega) : W p l e R s m args below meth c H locs cells slots Q (F0 m pc ls (.int 0 :: .int 0 :: .ref cq :: .null :: .ref q :: rest)) :=
  gz_usev0 hC.2.2.2.2.2.2.2.1 hI (va_runI (As := [.null, .ref cq, .int 0, .int 0]) (rest := rest) ⟨hC.1, hC.2.1, hC.2.2.1, hC.2.2.2.1, hC.2.2.2.2.1⟩ (w_exX11R l G ai h0 q cq x6 x7 H.size) (cwI 4 hC.2.2.2.2.1 (lw_meth q839) rfl rfl rfl (hC.2.2.2.2.1 _ q151) (hC.2.2.2.2.1 _ q881) (hC.2.2.2.2.1 _ q838) rfl (by decide +kernel) ⟨Nat.le_trans hf hC.2.2.2.2.2.2.2.2.1, Nat.le_trans hL hC.2.2.2.2.2.2.2.2.2.1⟩) ⟨gz_blind, gz_pre0 hC hZ hI⟩ rfl rfl hsz rfl (lv_room hW) hdg ⟨Nat.le_trans hc0 hC.2.2.2.2.2.2.2.2.2.2.1, Nat.le_trans hs0 hC.2.2.2.2.2.2.2.2.2.2.2⟩) (fun u H1 locs1 hp hI1 => kk u H1 locs1 hI1)
set_option maxHeartbeats 4000000 in
theorem w_exX13N (l : Launch) (G : va_G) (ai : Nat → ClassId) {s0 : State} {b0 : Addr} (h0 : mo_S0 s0 b0) {tl : va_W} (q : Nat) : gz_Mv l G ai s0 (fun (u : Unit) => ([(q, .inr (12, [.null, .null, .null, .null, .null, .int 0]))] ++ tl)) yJ24_init cJ24_init 5 ({ frames := 2, cells := 0, slots := 0, locals := 44 } : Room) [.ref q, .null, .null, .int 0, .int 0] ([(q, .inr (12, [.null, .null, .null, .null, .null, .int 0]))] ++ tl) (fun (_ : Unit) => True) 0 0 := by
  refine gz_body (y := yJ24_init) (cc := cJ24_init) (nL := 5) (As := [.ref q, .null, .null, .int 0, .int 0]) (w0 := ([(q, .inr (12, [.null, .null, .null, .null, .null, .int 0]))] ++ tl)) (Qc := fun A => va_Qv (fun (_ : Unit) => True) (gw_E G ai (fun (u : Unit) => ([(q, .inr (12, [.null, .null, .null, .null, .null, .int 0]))] ++ tl)) A) A) (fr := fun A => A) (by decide) (Nat.le_of_ble_eq_true rfl) ?_
  intro p e s m args below meth c A ls hC hZ hr hI hl hnm
  have hx := hC.1
  have hb := hC.2.1
  have hl : lv_has ls 5 [(0, .ref q), (1, .null), (2, .null), (3, .int 0), (4, .int 0)] := hl
  show W p l e _ s m args below meth c s.heap [] 0 0 (MQ below (va_Qv (fun (_ : Unit) => True) (gw_E G ai (fun (u : Unit) => ([(q, .inr (12, [.null, .null, .null, .null, .null, .int 0]))] ++ tl)) A) A) args s 0 0 A) (F0 m 0 ls [])
  refine lv_aload_n hx hb dJ24_init_0 rfl (lv_at hl 0 rfl) ?_
  refine lv_aload_nN hx hb dJ24_init_1 rfl (lv_at hl 1 rfl) ?_
  refine lv_aload_nN hx hb dJ24_init_2 rfl (lv_at hl 2 rfl) ?_
  refine lv_iload_n hx hb dJ24_init_3 rfl (lv_at hl 3 rfl) ?_
  refine lv_iload hx hb dJ24_init_4 (lv_at hl 4 rfl) ?_
  refine k_J24_thX13N (q := q) hC h0 hZ hI (Nat.le_of_ble_eq_true rfl) (Nat.le_of_ble_eq_true rfl) hl.1 (Nat.le_of_ble_eq_true rfl) dJ24_init_6 (fun _ H locs hI => ?_)
  have hI : mo_I G A s.heap ([(q, .inr (12, [.null, .null, .null, .null, .null, .int 0]))] ++ tl) _ _ := hI
  refine W.widen (k := 0) (n := 0) (Nat.le_of_ble_eq_true rfl) (Nat.le_of_ble_eq_true rfl) ?_
  exact W.vret hx hb hr (fun t ht hW => ⟨⟨(), rfl, trivial, by rw [ht]; exact hI.1, va_K.moved hW.alike hC.2.2.2.2.2.2.1, hI.2.1⟩, hI.2.2.F ht⟩) hI.2.2.2.2 dJ24_init_9 hC.2.2.2.2.2.1
theorem k_X13_exX13N {p : Program} {l : Launch} {e : Env} {R : Room} {s s0 : State} {b0 : Addr} {m : MethodId} {args : Array Value} {below : List Frame} {meth : Method} {c : Code} {H : Heap} {locs : List Loc} {cells slots : Nat} {Q : State → Prop} {pc : Nat} {ls : Array Slot} {rest : List Value} {G : va_G} {ai : Nat → ClassId} {A : Nat → Prop} {cc : ByteArray} {nL f L kc ks : Nat} {tl : va_W} {q : Nat} (hC : mo_C p R s m args meth c G ai A RX13 cc nL f L kc ks) (h0 : mo_S0 s0 b0) (hZ : mo_Z s0 A s) (hI : mo_I G A s.heap ([(q, .inr (12, [.null, .null, .null, .null, .null, .int 0]))] ++ tl) H locs) (hf : 2 + 1 ≤ f) (hL : 8 + (5 + 11) + 44 ≤ L) (hsz : ls.size = nL) (hW : (rest.map fun v => v.category).sum ≤ 8) (hdg : decode cc pc = .ok (.invokespecial 1, 3)) (kk : ∀ (u : Unit) (H1 : Heap) (locs1 : List Loc), mo_I G A s.heap ([(q, .inr (12, [.null, .null, .null, .null, .null, .int 0]))] ++ tl) H1 locs1 → W p l e R s m args below meth c H1 locs1 (cells + 0) (slots + 0) Q (F0 m (pc + 3) ls (rest))) (hc0 : cells + 0 ≤ kc := by first | exact Nat.le_of_ble_eq_true rfl | exact Nat.zero_le _ | assumption | omega) (hs0 : slots + 0 ≤ ks := by first | exact Nat.le_of_ble_eq_true rfl | exact Nat.zero_le _ | assumption | omega) : W p l e R s m args below meth c H locs cells slots Q (F0 m pc ls (.int 0 :: .int 0 :: .null :: .null :: .ref q :: rest)) :=
  gz_usev0 hC.2.2.2.2.2.2.2.1 hI (va_runI (As := [.null, .null, .int 0, .int 0]) (rest := rest) ⟨hC.1, hC.2.1, hC.2.2.1, hC.2.2.2.1, hC.2.2.2.2.1⟩ (w_exX13N l G ai h0 q H.size) (cwI 4 hC.2.2.2.2.1 (lw_meth q839) rfl rfl rfl (hC.2.2.2.2.1 _ q151) (hC.2.2.2.2.1 _ q1712) (hC.2.2.2.2.1 _ q838) rfl (by decide +kernel) ⟨Nat.le_trans hf hC.2.2.2.2.2.2.2.2.1, Nat.le_trans hL hC.2.2.2.2.2.2.2.2.2.1⟩) ⟨gz_blind, gz_pre0 hC hZ hI⟩ rfl rfl hsz rfl (lv_room hW) hdg ⟨Nat.le_trans hc0 hC.2.2.2.2.2.2.2.2.2.2.1, Nat.le_trans hs0 hC.2.2.2.2.2.2.2.2.2.2.2⟩) (fun u H1 locs1 hp hI1 => kk u H1 locs1 hI1)
set_option maxHeartbeats 4000000 in
theorem w_xwrong (l : Launch) (G : va_G) (ai : Nat → ClassId) {s0 : State} {b0 : Addr} (h0 : mo_S0 s0 b0) {tl : va_W} (q : Nat) (a : Int32) : gz_Mv l G ai s0 (fun (u : Unit) => ([(q, .inr (9, [.null, .null, .null, .null, .null, .int 0, .int a]))] ++ tl)) yX10_init cX10_init 2 ({ frames := 3, cells := 0, slots := 0, locals := 68 } : Room) [.ref q, .int a] ([(q, .inr (9, [.null, .null, .null, .null, .null, .int 0, .int 0]))] ++ tl) (fun (_ : Unit) => True) 0 0 := by
  refine gz_body (y := yX10_init) (cc := cX10_init) (nL := 2) (As := [.ref q, .int a]) (w0 := ([(q, .inr (9, [.null, .null, .null, .null, .null, .int 0, .int 0]))] ++ tl)) (Qc := fun A => va_Qv (fun (_ : Unit) => True) (gw_E G ai (fun (u : Unit) => ([(q, .inr (9, [.null, .null, .null, .null, .null, .int 0, .int a]))] ++ tl)) A) A) (fr := fun A => A) (by decide) (Nat.le_of_ble_eq_true rfl) ?_
  intro p e s m args below meth c A ls hC hZ hr hI hl hnm
  have hx := hC.1
  have hb := hC.2.1
  have hl : lv_has ls 2 [(0, .ref q), (1, .int a)] := hl
  show W p l e _ s m args below meth c s.heap [] 0 0 (MQ below (va_Qv (fun (_ : Unit) => True) (gw_E G ai (fun (u : Unit) => ([(q, .inr (9, [.null, .null, .null, .null, .null, .int 0, .int a]))] ++ tl)) A) A) args s 0 0 A) (F0 m 0 ls [])
  refine lv_aload_n hx hb dX10_init_0 rfl (lv_at hl 0 rfl) ?_
  refine lv_null hx hb dX10_init_1 ?_
  refine lv_null hx hb dX10_init_2 ?_
  refine lv_iconst (v := 0) hx hb dX10_init_3 (by decide) ?_
  refine lv_iconst (v := 0) hx hb dX10_init_4 (by decide) ?_
  refine k_X10_exX10N (q := q) (x6 := .int 0) hC h0 hZ hI (Nat.le_of_ble_eq_true rfl) (Nat.le_of_ble_eq_true rfl) hl.1 (Nat.le_of_ble_eq_true rfl) dX10_init_5 (fun _ H locs hI => ?_)
  have hI : mo_I G A s.heap ([(q, .inr (9, [.null, .null, .null, .null, .null, .int 0, .int 0]))] ++ tl) _ _ := hI
  refine lv_aload_n hx hb dX10_init_8 rfl (lv_at hl 0 rfl) ?_
  refine lv_iload_n hx hb dX10_init_9 rfl (lv_at hl 1 rfl) ?_
  refine va_putF (D := G) (ci := 9) (v := .int a) (ty := .int) (C := RX10) (T := TX10) (N := 7) hx hb hC.2.2.2.2.1 in_X10 tyX10 tyX10_ok nmX10 hC.2.2.2.1 hC.2.2.2.2.2.2.1 hI.1 hI.2.1 hI.2.2 0 rfl rfl 6 (by decide) (hC.2.2.2.2.1 _ q843) (fun _ h9 => h9) rfl hnm rfl (by decide +kernel) rfl rfl (Nat.le_of_ble_eq_true rfl) dX10_init_10 (fun H locs hP hD hS => ?_)
  have hI : mo_I G A s.heap ([(q, .inr (9, [.null, .null, .null, .null, .null, .int 0, .int a]))] ++ tl) _ _ := ⟨hP, hD, hS⟩
  refine W.widen (k := 0) (n := 0) (Nat.le_of_ble_eq_true rfl) (Nat.le_of_ble_eq_true rfl) ?_
  exact W.vret hx hb hr (fun t ht hW => ⟨⟨(), rfl, trivial, by rw [ht]; exact hI.1, va_K.moved hW.alike hC.2.2.2.2.2.2.1, hI.2.1⟩, hI.2.2.F ht⟩) hI.2.2.2.2 dX10_init_13 hC.2.2.2.2.2.1
theorem k_X0_xwrong {p : Program} {l : Launch} {e : Env} {R : Room} {s s0 : State} {b0 : Addr} {m : MethodId} {args : Array Value} {below : List Frame} {meth : Method} {c : Code} {H : Heap} {locs : List Loc} {cells slots : Nat} {Q : State → Prop} {pc : Nat} {ls : Array Slot} {rest : List Value} {G : va_G} {ai : Nat → ClassId} {A : Nat → Prop} {cc : ByteArray} {nL f L kc ks : Nat} {tl : va_W} {q : Nat} {a : Int32} (hC : mo_C p R s m args meth c G ai A RX0 cc nL f L kc ks) (h0 : mo_S0 s0 b0) (hZ : mo_Z s0 A s) (hI : mo_I G A s.heap ([(q, .inr (9, [.null, .null, .null, .null, .null, .int 0, .int 0]))] ++ tl) H locs) (hf : 3 + 1 ≤ f) (hL : 8 + (2 + 11) + 68 ≤ L) (hsz : ls.size = nL) (hW : (rest.map fun v => v.category).sum ≤ 8) (hdg : decode cc pc = .ok (.invokespecial 3, 3)) (kk : ∀ (u : Unit) (H1 : Heap) (locs1 : List Loc), mo_I G A s.heap ([(q, .inr (9, [.null, .null, .null, .null, .null, .int 0, .int a]))] ++ tl) H1 locs1 → W p l e R s m args below meth c H1 locs1 (cells + 0) (slots + 0) Q (F0 m (pc + 3) ls (rest))) (hc0 : cells + 0 ≤ kc := by first | exact Nat.le_of_ble_eq_true rfl | exact Nat.zero_le _ | assumption | omega) (hs0 : slots + 0 ≤ ks := by first | exact Nat.le_of_ble_eq_true rfl | exact Nat.zero_le _ | assumption | omega) : W p l e R s m args below meth c H locs cells slots Q (F0 m pc ls (.int a :: .ref q :: rest)) :=
  gz_usev0 hC.2.2.2.2.2.2.2.1 hI (va_runI (As := [.int a]) (rest := rest) ⟨hC.1, hC.2.1, hC.2.2.1, hC.2.2.2.1, hC.2.2.2.2.1⟩ (w_xwrong l G ai h0 q a H.size) (cwI 1 hC.2.2.2.2.1 (lw_meth q836) rfl rfl rfl (hC.2.2.2.2.1 _ q152) (hC.2.2.2.2.1 _ q834) (hC.2.2.2.2.1 _ q835) rfl (by decide +kernel) ⟨Nat.le_trans hf hC.2.2.2.2.2.2.2.2.1, Nat.le_trans hL hC.2.2.2.2.2.2.2.2.2.1⟩) ⟨gz_blind, gz_pre0 hC hZ hI⟩ rfl rfl hsz rfl (lv_room hW) hdg ⟨Nat.le_trans hc0 hC.2.2.2.2.2.2.2.2.2.2.1, Nat.le_trans hs0 hC.2.2.2.2.2.2.2.2.2.2.2⟩) (fun u H1 locs1 hp hI1 => kk u H1 locs1 hI1)
set_option maxHeartbeats 4000000 in
theorem w_xfault (l : Launch) (G : va_G) (ai : Nat → ClassId) {s0 : State} {b0 : Addr} (h0 : mo_S0 s0 b0) {tl : va_W} (q : Nat) : gz_Mv l G ai s0 (fun (u : Unit) => ([(q, .inr (12, [.null, .null, .null, .null, .null, .int 0]))] ++ tl)) yX13_init cX13_init 1 ({ frames := 3, cells := 0, slots := 0, locals := 68 } : Room) [.ref q] ([(q, .inr (12, [.null, .null, .null, .null, .null, .int 0]))] ++ tl) (fun (_ : Unit) => True) 0 0 := by
  refine gz_body (y := yX13_init) (cc := cX13_init) (nL := 1) (As := [.ref q]) (w0 := ([(q, .inr (12, [.null, .null, .null, .null, .null, .int 0]))] ++ tl)) (Qc := fun A => va_Qv (fun (_ : Unit) => True) (gw_E G ai (fun (u : Unit) => ([(q, .inr (12, [.null, .null, .null, .null, .null, .int 0]))] ++ tl)) A) A) (fr := fun A => A) (by decide) (Nat.le_of_ble_eq_true rfl) ?_
  intro p e s m args below meth c A ls hC hZ hr hI hl hnm
  have hx := hC.1
  have hb := hC.2.1
  have hl : lv_has ls 1 [(0, .ref q)] := hl
  show W p l e _ s m args below meth c s.heap [] 0 0 (MQ below (va_Qv (fun (_ : Unit) => True) (gw_E G ai (fun (u : Unit) => ([(q, .inr (12, [.null, .null, .null, .null, .null, .int 0]))] ++ tl)) A) A) args s 0 0 A) (F0 m 0 ls [])
  refine lv_aload_n hx hb dX13_init_0 rfl (lv_at hl 0 rfl) ?_
  refine lv_null hx hb dX13_init_1 ?_
  refine lv_null hx hb dX13_init_2 ?_
  refine lv_iconst (v := 0) hx hb dX13_init_3 (by decide) ?_
  refine lv_iconst (v := 0) hx hb dX13_init_4 (by decide) ?_
  refine k_X13_exX13N (q := q) hC h0 hZ hI (Nat.le_of_ble_eq_true rfl) (Nat.le_of_ble_eq_true rfl) hl.1 (Nat.le_of_ble_eq_true rfl) dX13_init_5 (fun _ H locs hI => ?_)
  have hI : mo_I G A s.heap ([(q, .inr (12, [.null, .null, .null, .null, .null, .int 0]))] ++ tl) _ _ := hI
  refine W.widen (k := 0) (n := 0) (Nat.le_of_ble_eq_true rfl) (Nat.le_of_ble_eq_true rfl) ?_
  exact W.vret hx hb hr (fun t ht hW => ⟨⟨(), rfl, trivial, by rw [ht]; exact hI.1, va_K.moved hW.alike hC.2.2.2.2.2.2.1, hI.2.1⟩, hI.2.2.F ht⟩) hI.2.2.2.2 dX13_init_8 hC.2.2.2.2.2.1
theorem k_X0_xfault {p : Program} {l : Launch} {e : Env} {R : Room} {s s0 : State} {b0 : Addr} {m : MethodId} {args : Array Value} {below : List Frame} {meth : Method} {c : Code} {H : Heap} {locs : List Loc} {cells slots : Nat} {Q : State → Prop} {pc : Nat} {ls : Array Slot} {rest : List Value} {G : va_G} {ai : Nat → ClassId} {A : Nat → Prop} {cc : ByteArray} {nL f L kc ks : Nat} {tl : va_W} {q : Nat} (hC : mo_C p R s m args meth c G ai A RX0 cc nL f L kc ks) (h0 : mo_S0 s0 b0) (hZ : mo_Z s0 A s) (hI : mo_I G A s.heap ([(q, .inr (12, [.null, .null, .null, .null, .null, .int 0]))] ++ tl) H locs) (hf : 3 + 1 ≤ f) (hL : 8 + (1 + 11) + 68 ≤ L) (hsz : ls.size = nL) (hW : (rest.map fun v => v.category).sum ≤ 8) (hdg : decode cc pc = .ok (.invokespecial 439, 3)) (kk : ∀ (u : Unit) (H1 : Heap) (locs1 : List Loc), mo_I G A s.heap ([(q, .inr (12, [.null, .null, .null, .null, .null, .int 0]))] ++ tl) H1 locs1 → W p l e R s m args below meth c H1 locs1 (cells + 0) (slots + 0) Q (F0 m (pc + 3) ls (rest))) (hc0 : cells + 0 ≤ kc := by first | exact Nat.le_of_ble_eq_true rfl | exact Nat.zero_le _ | assumption | omega) (hs0 : slots + 0 ≤ ks := by first | exact Nat.le_of_ble_eq_true rfl | exact Nat.zero_le _ | assumption | omega) : W p l e R s m args below meth c H locs cells slots Q (F0 m pc ls (.ref q :: rest)) :=
  gz_usev0 hC.2.2.2.2.2.2.2.1 hI (va_runI (As := []) (rest := rest) ⟨hC.1, hC.2.1, hC.2.2.1, hC.2.2.2.1, hC.2.2.2.2.1⟩ (w_xfault l G ai h0 q H.size) (cwI 0 hC.2.2.2.2.1 (lw_meth q1711) rfl rfl rfl (hC.2.2.2.2.1 _ q164) (hC.2.2.2.2.1 _ q1709) (hC.2.2.2.2.1 _ q1710) rfl (by decide +kernel) ⟨Nat.le_trans hf hC.2.2.2.2.2.2.2.2.1, Nat.le_trans hL hC.2.2.2.2.2.2.2.2.2.1⟩) ⟨gz_blind, gz_pre0 hC hZ hI⟩ rfl rfl hsz rfl (lv_room hW) hdg ⟨Nat.le_trans hc0 hC.2.2.2.2.2.2.2.2.2.2.1, Nat.le_trans hs0 hC.2.2.2.2.2.2.2.2.2.2.2⟩) (fun u H1 locs1 hp hI1 => kk u H1 locs1 hI1)
set_option maxHeartbeats 4000000 in
theorem w_xrefuN (l : Launch) (G : va_G) (ai : Nat → ClassId) {s0 : State} {b0 : Addr} (h0 : mo_S0 s0 b0) {tl : va_W} (q : Nat) (a : Int32) (b : Int32) : gz_Mv l G ai s0 (fun (u : Unit) => ([(q, .inr (10, [.null, .null, .null, .null, .null, .int 0, .int a, .int b]))] ++ tl)) yX11_init_2 cX11_init_2 4 ({ frames := 3, cells := 0, slots := 0, locals := 68 } : Room) [.ref q, .int a, .int b, .null] ([(q, .inr (10, [.null, .null, .null, .null, .null, .int 0, .int 0, .int 0]))] ++ tl) (fun (_ : Unit) => True) 0 0 := by
  refine gz_body (y := yX11_init_2) (cc := cX11_init_2) (nL := 4) (As := [.ref q, .int a, .int b, .null]) (w0 := ([(q, .inr (10, [.null, .null, .null, .null, .null, .int 0, .int 0, .int 0]))] ++ tl)) (Qc := fun A => va_Qv (fun (_ : Unit) => True) (gw_E G ai (fun (u : Unit) => ([(q, .inr (10, [.null, .null, .null, .null, .null, .int 0, .int a, .int b]))] ++ tl)) A) A) (fr := fun A => A) (by decide) (Nat.le_of_ble_eq_true rfl) ?_
  intro p e s m args below meth c A ls hC hZ hr hI hl hnm
  have hx := hC.1
  have hb := hC.2.1
  have hl : lv_has ls 4 [(0, .ref q), (1, .int a), (2, .int b), (3, .null)] := hl
  show W p l e _ s m args below meth c s.heap [] 0 0 (MQ below (va_Qv (fun (_ : Unit) => True) (gw_E G ai (fun (u : Unit) => ([(q, .inr (10, [.null, .null, .null, .null, .null, .int 0, .int a, .int b]))] ++ tl)) A) A) args s 0 0 A) (F0 m 0 ls [])
  refine lv_aload_n hx hb dX11_init_2_0 rfl (lv_at hl 0 rfl) ?_
  refine lv_null hx hb dX11_init_2_1 ?_
  refine lv_aload_nN hx hb dX11_init_2_2 rfl (lv_at hl 3 rfl) ?_
  refine lv_iconst (v := 0) hx hb dX11_init_2_3 (by decide) ?_
  refine lv_iconst (v := 0) hx hb dX11_init_2_4 (by decide) ?_
  refine k_X11_exX11N (q := q) (x6 := .int 0) (x7 := .int 0) hC h0 hZ hI (Nat.le_of_ble_eq_true rfl) (Nat.le_of_ble_eq_true rfl) hl.1 (Nat.le_of_ble_eq_true rfl) dX11_init_2_5 (fun _ H locs hI => ?_)
  have hI : mo_I G A s.heap ([(q, .inr (10, [.null, .null, .null, .null, .null, .int 0, .int 0, .int 0]))] ++ tl) _ _ := hI
  refine lv_aload_n hx hb dX11_init_2_8 rfl (lv_at hl 0 rfl) ?_
  refine lv_iload_n hx hb dX11_init_2_9 rfl (lv_at hl 1 rfl) ?_
  refine va_putF (D := G) (ci := 10) (v := .int a) (ty := .int) (C := RX11) (T := TX11) (N := 8) hx hb hC.2.2.2.2.1 in_X11 tyX11 tyX11_ok nmX11 hC.2.2.2.1 hC.2.2.2.2.2.2.1 hI.1 hI.2.1 hI.2.2 0 rfl rfl 6 (by decide) (hC.2.2.2.2.1 _ q882) (fun _ h9 => h9) rfl hnm rfl (by decide +kernel) rfl rfl (Nat.le_of_ble_eq_true rfl) dX11_init_2_10 (fun H locs hP hD hS => ?_)
  have hI : mo_I G A s.heap ([(q, .inr (10, [.null, .null, .null, .null, .null, .int 0, .int a, .int 0]))] ++ tl) _ _ := ⟨hP, hD, hS⟩
  refine lv_aload_n hx hb dX11_init_2_13 rfl (lv_at hl 0 rfl) ?_
  refine lv_iload_n hx hb dX11_init_2_14 rfl (lv_at hl 2 rfl) ?_
  refine va_putF (D := G) (ci := 10) (v := .int b) (ty := .int) (C := RX11) (T := TX11) (N := 8) hx hb hC.2.2.2.2.1 in_X11 tyX11 tyX11_ok nmX11 hC.2.2.2.1 hC.2.2.2.2.2.2.1 hI.1 hI.2.1 hI.2.2 0 rfl rfl 7 (by decide) (hC.2.2.2.2.1 _ q884) (fun _ h9 => h9) rfl hnm rfl (by decide +kernel) rfl rfl (Nat.le_of_ble_eq_true rfl) dX11_init_2_15 (fun H locs hP hD hS => ?_)
  have hI : mo_I G A s.heap ([(q, .inr (10, [.null, .null, .null, .null, .null, .int 0, .int a, .int b]))] ++ tl) _ _ := ⟨hP, hD, hS⟩
  refine W.widen (k := 0) (n := 0) (Nat.le_of_ble_eq_true rfl) (Nat.le_of_ble_eq_true rfl) ?_
  exact W.vret hx hb hr (fun t ht hW => ⟨⟨(), rfl, trivial, by rw [ht]; exact hI.1, va_K.moved hW.alike hC.2.2.2.2.2.2.1, hI.2.1⟩, hI.2.2.F ht⟩) hI.2.2.2.2 dX11_init_2_18 hC.2.2.2.2.2.1
theorem k_X0_xrefuN {p : Program} {l : Launch} {e : Env} {R : Room} {s s0 : State} {b0 : Addr} {m : MethodId} {args : Array Value} {below : List Frame} {meth : Method} {c : Code} {H : Heap} {locs : List Loc} {cells slots : Nat} {Q : State → Prop} {pc : Nat} {ls : Array Slot} {rest : List Value} {G : va_G} {ai : Nat → ClassId} {A : Nat → Prop} {cc : ByteArray} {nL f L kc ks : Nat} {tl : va_W} {q : Nat} {a : Int32} {b : Int32} (hC : mo_C p R s m args meth c G ai A RX0 cc nL f L kc ks) (h0 : mo_S0 s0 b0) (hZ : mo_Z s0 A s) (hI : mo_I G A s.heap ([(q, .inr (10, [.null, .null, .null, .null, .null, .int 0, .int 0, .int 0]))] ++ tl) H locs) (hf : 3 + 1 ≤ f) (hL : 8 + (4 + 11) + 68 ≤ L) (hsz : ls.size = nL) (hW : (rest.map fun v => v.category).sum ≤ 8) (hdg : decode cc pc = .ok (.invokespecial 238, 3)) (kk : ∀ (u : Unit) (H1 : Heap) (locs1 : List Loc), mo_I G A s.heap ([(q, .inr (10, [.null, .null, .null, .null, .null, .int 0, .int a, .int b]))] ++ tl) H1 locs1 → W p l e R s m args below meth c H1 locs1 (cells + 0) (slots + 0) Q (F0 m (pc + 3) ls (rest))) (hc0 : cells + 0 ≤ kc := by first | exact Nat.le_of_ble_eq_true rfl | exact Nat.zero_le _ | assumption | omega) (hs0 : slots + 0 ≤ ks := by first | exact Nat.le_of_ble_eq_true rfl | exact Nat.zero_le _ | assumption | omega) : W p l e R s m args below meth c H locs cells slots Q (F0 m pc ls (.null :: .int b :: .int a :: .ref q :: rest)) :=
  gz_usev0 hC.2.2.2.2.2.2.2.1 hI (va_runI (As := [.int a, .int b, .null]) (rest := rest) ⟨hC.1, hC.2.1, hC.2.2.1, hC.2.2.2.1, hC.2.2.2.2.1⟩ (w_xrefuN l G ai h0 q a b H.size) (cwI 3 hC.2.2.2.2.1 (lw_meth q880) rfl rfl rfl (hC.2.2.2.2.1 _ q153) (hC.2.2.2.2.1 _ q957) (hC.2.2.2.2.1 _ q879) rfl (by decide +kernel) ⟨Nat.le_trans hf hC.2.2.2.2.2.2.2.2.1, Nat.le_trans hL hC.2.2.2.2.2.2.2.2.2.1⟩) ⟨gz_blind, gz_pre0 hC hZ hI⟩ rfl rfl hsz rfl (lv_room hW) hdg ⟨Nat.le_trans hc0 hC.2.2.2.2.2.2.2.2.2.2.1, Nat.le_trans hs0 hC.2.2.2.2.2.2.2.2.2.2.2⟩) (fun u H1 locs1 hp hI1 => kk u H1 locs1 hI1)
theorem k_X11_xrefuN {p : Program} {l : Launch} {e : Env} {R : Room} {s s0 : State} {b0 : Addr} {m : MethodId} {args : Array Value} {below : List Frame} {meth : Method} {c : Code} {H : Heap} {locs : List Loc} {cells slots : Nat} {Q : State → Prop} {pc : Nat} {ls : Array Slot} {rest : List Value} {G : va_G} {ai : Nat → ClassId} {A : Nat → Prop} {cc : ByteArray} {nL f L kc ks : Nat} {tl : va_W} {q : Nat} {a : Int32} {b : Int32} (hC : mo_C p R s m args meth c G ai A RX11 cc nL f L kc ks) (h0 : mo_S0 s0 b0) (hZ : mo_Z s0 A s) (hI : mo_I G A s.heap ([(q, .inr (10, [.null, .null, .null, .null, .null, .int 0, .int 0, .int 0]))] ++ tl) H locs) (hf : 3 + 1 ≤ f) (hL : 8 + (4 + 11) + 68 ≤ L) (hsz : ls.size = nL) (hW : (rest.map fun v => v.category).sum ≤ 8) (hdg : decode cc pc = .ok (.invokespecial 1, 3)) (kk : ∀ (u : Unit) (H1 : Heap) (locs1 : List Loc), mo_I G A s.heap ([(q, .inr (10, [.null, .null, .null, .null, .null, .int 0, .int a, .int b]))] ++ tl) H1 locs1 → W p l e R s m args below meth c H1 locs1 (cells + 0) (slots + 0) Q (F0 m (pc + 3) ls (rest))) (hc0 : cells + 0 ≤ kc := by first | exact Nat.le_of_ble_eq_true rfl | exact Nat.zero_le _ | assumption | omega) (hs0 : slots + 0 ≤ ks := by first | exact Nat.le_of_ble_eq_true rfl | exact Nat.zero_le _ | assumption | omega) : W p l e R s m args below meth c H locs cells slots Q (F0 m pc ls (.null :: .int b :: .int a :: .ref q :: rest)) :=
  gz_usev0 hC.2.2.2.2.2.2.2.1 hI (va_runI (As := [.int a, .int b, .null]) (rest := rest) ⟨hC.1, hC.2.1, hC.2.2.1, hC.2.2.2.1, hC.2.2.2.2.1⟩ (w_xrefuN l G ai h0 q a b H.size) (cwI 3 hC.2.2.2.2.1 (lw_meth q880) rfl rfl rfl (hC.2.2.2.2.1 _ q153) (hC.2.2.2.2.1 _ q878) (hC.2.2.2.2.1 _ q879) rfl (by decide +kernel) ⟨Nat.le_trans hf hC.2.2.2.2.2.2.2.2.1, Nat.le_trans hL hC.2.2.2.2.2.2.2.2.2.1⟩) ⟨gz_blind, gz_pre0 hC hZ hI⟩ rfl rfl hsz rfl (lv_room hW) hdg ⟨Nat.le_trans hc0 hC.2.2.2.2.2.2.2.2.2.2.1, Nat.le_trans hs0 hC.2.2.2.2.2.2.2.2.2.2.2⟩) (fun u H1 locs1 hp hI1 => kk u H1 locs1 hI1)
set_option maxHeartbeats 4000000 in
theorem w_xrefuR (l : Launch) (G : va_G) (ai : Nat → ClassId) {s0 : State} {b0 : Addr} (h0 : mo_S0 s0 b0) {tl : va_W} (q : Nat) (cq : Nat) (a : Int32) (b : Int32) : gz_Mv l G ai s0 (fun (u : Unit) => ([(q, .inr (10, [.ref cq, .null, .null, .null, .null, .int 0, .int a, .int b]))] ++ tl)) yX11_init_2 cX11_init_2 4 ({ frames := 3, cells := 0, slots := 0, locals := 68 } : Room) [.ref q, .int a, .int b, .ref cq] ([(q, .inr (10, [.null, .null, .null, .null, .null, .int 0, .int 0, .int 0]))] ++ tl) (fun (_ : Unit) => True) 0 0 := by
  refine gz_body (y := yX11_init_2) (cc := cX11_init_2) (nL := 4) (As := [.ref q, .int a, .int b, .ref cq]) (w0 := ([(q, .inr (10, [.null, .null, .null, .null, .null, .int 0, .int 0, .int 0]))] ++ tl)) (Qc := fun A => va_Qv (fun (_ : Unit) => True) (gw_E G ai (fun (u : Unit) => ([(q, .inr (10, [.ref cq, .null, .null, .null, .null, .int 0, .int a, .int b]))] ++ tl)) A) A) (fr := fun A => A) (by decide) (Nat.le_of_ble_eq_true rfl) ?_
  intro p e s m args below meth c A ls hC hZ hr hI hl hnm
  have hx := hC.1
  have hb := hC.2.1
  have hl : lv_has ls 4 [(0, .ref q), (1, .int a), (2, .int b), (3, .ref cq)] := hl
  show W p l e _ s m args below meth c s.heap [] 0 0 (MQ below (va_Qv (fun (_ : Unit) => True) (gw_E G ai (fun (u : Unit) => ([(q, .inr (10, [.ref cq, .null, .null, .null, .null, .int 0, .int a, .int b]))] ++ tl)) A) A) args s 0 0 A) (F0 m 0 ls [])
  refine lv_aload_n hx hb dX11_init_2_0 rfl (lv_at hl 0 rfl) ?_
  refine lv_null hx hb dX11_init_2_1 ?_
  refine lv_aload_n hx hb dX11_init_2_2 rfl (lv_at hl 3 rfl) ?_
  refine lv_iconst (v := 0) hx hb dX11_init_2_3 (by decide) ?_
  refine lv_iconst (v := 0) hx hb dX11_init_2_4 (by decide) ?_
  refine k_X11_exX11R (q := q) (cq := cq) (x6 := .int 0) (x7 := .int 0) hC h0 hZ hI (Nat.le_of_ble_eq_true rfl) (Nat.le_of_ble_eq_true rfl) hl.1 (Nat.le_of_ble_eq_true rfl) dX11_init_2_5 (fun _ H locs hI => ?_)
  have hI : mo_I G A s.heap ([(q, .inr (10, [.ref cq, .null, .null, .null, .null, .int 0, .int 0, .int 0]))] ++ tl) _ _ := hI
  refine lv_aload_n hx hb dX11_init_2_8 rfl (lv_at hl 0 rfl) ?_
  refine lv_iload_n hx hb dX11_init_2_9 rfl (lv_at hl 1 rfl) ?_
  refine va_putF (D := G) (ci := 10) (v := .int a) (ty := .int) (C := RX11) (T := TX11) (N := 8) hx hb hC.2.2.2.2.1 in_X11 tyX11 tyX11_ok nmX11 hC.2.2.2.1 hC.2.2.2.2.2.2.1 hI.1 hI.2.1 hI.2.2 0 rfl rfl 6 (by decide) (hC.2.2.2.2.1 _ q882) (fun _ h9 => h9) rfl hnm rfl (by decide +kernel) rfl rfl (Nat.le_of_ble_eq_true rfl) dX11_init_2_10 (fun H locs hP hD hS => ?_)
  have hI : mo_I G A s.heap ([(q, .inr (10, [.ref cq, .null, .null, .null, .null, .int 0, .int a, .int 0]))] ++ tl) _ _ := ⟨hP, hD, hS⟩
  refine lv_aload_n hx hb dX11_init_2_13 rfl (lv_at hl 0 rfl) ?_
  refine lv_iload_n hx hb dX11_init_2_14 rfl (lv_at hl 2 rfl) ?_
  refine va_putF (D := G) (ci := 10) (v := .int b) (ty := .int) (C := RX11) (T := TX11) (N := 8) hx hb hC.2.2.2.2.1 in_X11 tyX11 tyX11_ok nmX11 hC.2.2.2.1 hC.2.2.2.2.2.2.1 hI.1 hI.2.1 hI.2.2 0 rfl rfl 7 (by decide) (hC.2.2.2.2.1 _ q884) (fun _ h9 => h9) rfl hnm rfl (by decide +kernel) rfl rfl (Nat.le_of_ble_eq_true rfl) dX11_init_2_15 (fun H locs hP hD hS => ?_)
  have hI : mo_I G A s.heap ([(q, .inr (10, [.ref cq, .null, .null, .null, .null, .int 0, .int a, .int b]))] ++ tl) _ _ := ⟨hP, hD, hS⟩
  refine W.widen (k := 0) (n := 0) (Nat.le_of_ble_eq_true rfl) (Nat.le_of_ble_eq_true rfl) ?_
  exact W.vret hx hb hr (fun t ht hW => ⟨⟨(), rfl, trivial, by rw [ht]; exact hI.1, va_K.moved hW.alike hC.2.2.2.2.2.2.1, hI.2.1⟩, hI.2.2.F ht⟩) hI.2.2.2.2 dX11_init_2_18 hC.2.2.2.2.2.1
theorem k_X0_xrefuR {p : Program} {l : Launch} {e : Env} {R : Room} {s s0 : State} {b0 : Addr} {m : MethodId} {args : Array Value} {below : List Frame} {meth : Method} {c : Code} {H : Heap} {locs : List Loc} {cells slots : Nat} {Q : State → Prop} {pc : Nat} {ls : Array Slot} {rest : List Value} {G : va_G} {ai : Nat → ClassId} {A : Nat → Prop} {cc : ByteArray} {nL f L kc ks : Nat} {tl : va_W} {q : Nat} {cq : Nat} {a : Int32} {b : Int32} (hC : mo_C p R s m args meth c G ai A RX0 cc nL f L kc ks) (h0 : mo_S0 s0 b0) (hZ : mo_Z s0 A s) (hI : mo_I G A s.heap ([(q, .inr (10, [.null, .null, .null, .null, .null, .int 0, .int 0, .int 0]))] ++ tl) H locs) (hf : 3 + 1 ≤ f) (hL : 8 + (4 + 11) + 68 ≤ L) (hsz : ls.size = nL) (hW : (rest.map fun v => v.category).sum ≤ 8) (hdg : decode cc pc = .ok (.invokespecial 238, 3)) (kk : ∀ (u : Unit) (H1 : Heap) (locs1 : List Loc), mo_I G A s.heap ([(q, .inr (10, [.ref cq, .null, .null, .null, .null, .int 0, .int a, .int b]))] ++ tl) H1 locs1 → W p l e R s m args below meth c H1 locs1 (cells + 0) (slots + 0) Q (F0 m (pc + 3) ls (rest))) (hc0 : cells + 0 ≤ kc := by first | exact Nat.le_of_ble_eq_true rfl | exact Nat.zero_le _ | assumption | omega) (hs0 : slots + 0 ≤ ks := by first | exact Nat.le_of_ble_eq_true rfl | exact Nat.zero_le _ | assumption | omega) : W p l e R s m args below meth c H locs cells slots Q (F0 m pc ls (.ref cq :: .int b :: .int a :: .ref q :: rest)) :=
  gz_usev0 hC.2.2.2.2.2.2.2.1 hI (va_runI (As := [.int a, .int b, .ref cq]) (rest := rest) ⟨hC.1, hC.2.1, hC.2.2.1, hC.2.2.2.1, hC.2.2.2.2.1⟩ (w_xrefuR l G ai h0 q cq a b H.size) (cwI 3 hC.2.2.2.2.1 (lw_meth q880) rfl rfl rfl (hC.2.2.2.2.1 _ q153) (hC.2.2.2.2.1 _ q957) (hC.2.2.2.2.1 _ q879) rfl (by decide +kernel) ⟨Nat.le_trans hf hC.2.2.2.2.2.2.2.2.1, Nat.le_trans hL hC.2.2.2.2.2.2.2.2.2.1⟩) ⟨gz_blind, gz_pre0 hC hZ hI⟩ rfl rfl hsz rfl (lv_room hW) hdg ⟨Nat.le_trans hc0 hC.2.2.2.2.2.2.2.2.2.2.1, Nat.le_trans hs0 hC.2.2.2.2.2.2.2.2.2.2.2⟩) (fun u H1 locs1 hp hI1 => kk u H1 locs1 hI1)
theorem k_X11_xrefuR {p : Program} {l : Launch} {e : Env} {R : Room} {s s0 : State} {b0 : Addr} {m : MethodId} {args : Array Value} {below : List Frame} {meth : Method} {c : Code} {H : Heap} {locs : List Loc} {cells slots : Nat} {Q : State → Prop} {pc : Nat} {ls : Array Slot} {rest : List Value} {G : va_G} {ai : Nat → ClassId} {A : Nat → Prop} {cc : ByteArray} {nL f L kc ks : Nat} {tl : va_W} {q : Nat} {cq : Nat} {a : Int32} {b : Int32} (hC : mo_C p R s m args meth c G ai A RX11 cc nL f L kc ks) (h0 : mo_S0 s0 b0) (hZ : mo_Z s0 A s) (hI : mo_I G A s.heap ([(q, .inr (10, [.null, .null, .null, .null, .null, .int 0, .int 0, .int 0]))] ++ tl) H locs) (hf : 3 + 1 ≤ f) (hL : 8 + (4 + 11) + 68 ≤ L) (hsz : ls.size = nL) (hW : (rest.map fun v => v.category).sum ≤ 8) (hdg : decode cc pc = .ok (.invokespecial 1, 3)) (kk : ∀ (u : Unit) (H1 : Heap) (locs1 : List Loc), mo_I G A s.heap ([(q, .inr (10, [.ref cq, .null, .null, .null, .null, .int 0, .int a, .int b]))] ++ tl) H1 locs1 → W p l e R s m args below meth c H1 locs1 (cells + 0) (slots + 0) Q (F0 m (pc + 3) ls (rest))) (hc0 : cells + 0 ≤ kc := by first | exact Nat.le_of_ble_eq_true rfl | exact Nat.zero_le _ | assumption | omega) (hs0 : slots + 0 ≤ ks := by first | exact Nat.le_of_ble_eq_true rfl | exact Nat.zero_le _ | assumption | omega) : W p l e R s m args below meth c H locs cells slots Q (F0 m pc ls (.ref cq :: .int b :: .int a :: .ref q :: rest)) :=
  gz_usev0 hC.2.2.2.2.2.2.2.1 hI (va_runI (As := [.int a, .int b, .ref cq]) (rest := rest) ⟨hC.1, hC.2.1, hC.2.2.1, hC.2.2.2.1, hC.2.2.2.2.1⟩ (w_xrefuR l G ai h0 q cq a b H.size) (cwI 3 hC.2.2.2.2.1 (lw_meth q880) rfl rfl rfl (hC.2.2.2.2.1 _ q153) (hC.2.2.2.2.1 _ q878) (hC.2.2.2.2.1 _ q879) rfl (by decide +kernel) ⟨Nat.le_trans hf hC.2.2.2.2.2.2.2.2.1, Nat.le_trans hL hC.2.2.2.2.2.2.2.2.2.1⟩) ⟨gz_blind, gz_pre0 hC hZ hI⟩ rfl rfl hsz rfl (lv_room hW) hdg ⟨Nat.le_trans hc0 hC.2.2.2.2.2.2.2.2.2.2.1, Nat.le_trans hs0 hC.2.2.2.2.2.2.2.2.2.2.2⟩) (fun u H1 locs1 hp hI1 => kk u H1 locs1 hI1)
set_option maxHeartbeats 4000000 in
theorem w_xrefused (l : Launch) (G : va_G) (ai : Nat → ClassId) {s0 : State} {b0 : Addr} (h0 : mo_S0 s0 b0) {tl : va_W} (q : Nat) (a : Int32) (b : Int32) : gz_Mv l G ai s0 (fun (u : Unit) => ([(q, .inr (10, [.null, .null, .null, .null, .null, .int 0, .int a, .int b]))] ++ tl)) yX11_init cX11_init 3 ({ frames := 4, cells := 0, slots := 0, locals := 91 } : Room) [.ref q, .int a, .int b] ([(q, .inr (10, [.null, .null, .null, .null, .null, .int 0, .int 0, .int 0]))] ++ tl) (fun (_ : Unit) => True) 0 0 := by
  refine gz_body (y := yX11_init) (cc := cX11_init) (nL := 3) (As := [.ref q, .int a, .int b]) (w0 := ([(q, .inr (10, [.null, .null, .null, .null, .null, .int 0, .int 0, .int 0]))] ++ tl)) (Qc := fun A => va_Qv (fun (_ : Unit) => True) (gw_E G ai (fun (u : Unit) => ([(q, .inr (10, [.null, .null, .null, .null, .null, .int 0, .int a, .int b]))] ++ tl)) A) A) (fr := fun A => A) (by decide) (Nat.le_of_ble_eq_true rfl) ?_
  intro p e s m args below meth c A ls hC hZ hr hI hl hnm
  have hx := hC.1
  have hb := hC.2.1
  have hl : lv_has ls 3 [(0, .ref q), (1, .int a), (2, .int b)] := hl
  show W p l e _ s m args below meth c s.heap [] 0 0 (MQ below (va_Qv (fun (_ : Unit) => True) (gw_E G ai (fun (u : Unit) => ([(q, .inr (10, [.null, .null, .null, .null, .null, .int 0, .int a, .int b]))] ++ tl)) A) A) args s 0 0 A) (F0 m 0 ls [])
  refine lv_aload_n hx hb dX11_init_0 rfl (lv_at hl 0 rfl) ?_
  refine lv_iload_n hx hb dX11_init_1 rfl (lv_at hl 1 rfl) ?_
  refine lv_iload_n hx hb dX11_init_2 rfl (lv_at hl 2 rfl) ?_
  refine lv_null hx hb dX11_init_3 ?_
  refine k_X11_xrefuN (q := q) (a := a) (b := b) hC h0 hZ hI (Nat.le_of_ble_eq_true rfl) (Nat.le_of_ble_eq_true rfl) hl.1 (Nat.le_of_ble_eq_true rfl) dX11_init_4 (fun _ H locs hI => ?_)
  have hI : mo_I G A s.heap ([(q, .inr (10, [.null, .null, .null, .null, .null, .int 0, .int a, .int b]))] ++ tl) _ _ := hI
  refine W.widen (k := 0) (n := 0) (Nat.le_of_ble_eq_true rfl) (Nat.le_of_ble_eq_true rfl) ?_
  exact W.vret hx hb hr (fun t ht hW => ⟨⟨(), rfl, trivial, by rw [ht]; exact hI.1, va_K.moved hW.alike hC.2.2.2.2.2.2.1, hI.2.1⟩, hI.2.2.F ht⟩) hI.2.2.2.2 dX11_init_7 hC.2.2.2.2.2.1
theorem k_X0_xrefused {p : Program} {l : Launch} {e : Env} {R : Room} {s s0 : State} {b0 : Addr} {m : MethodId} {args : Array Value} {below : List Frame} {meth : Method} {c : Code} {H : Heap} {locs : List Loc} {cells slots : Nat} {Q : State → Prop} {pc : Nat} {ls : Array Slot} {rest : List Value} {G : va_G} {ai : Nat → ClassId} {A : Nat → Prop} {cc : ByteArray} {nL f L kc ks : Nat} {tl : va_W} {q : Nat} {a : Int32} {b : Int32} (hC : mo_C p R s m args meth c G ai A RX0 cc nL f L kc ks) (h0 : mo_S0 s0 b0) (hZ : mo_Z s0 A s) (hI : mo_I G A s.heap ([(q, .inr (10, [.null, .null, .null, .null, .null, .int 0, .int 0, .int 0]))] ++ tl) H locs) (hf : 4 + 1 ≤ f) (hL : 8 + (3 + 11) + 91 ≤ L) (hsz : ls.size = nL) (hW : (rest.map fun v => v.category).sum ≤ 8) (hdg : decode cc pc = .ok (.invokespecial 9, 3)) (kk : ∀ (u : Unit) (H1 : Heap) (locs1 : List Loc), mo_I G A s.heap ([(q, .inr (10, [.null, .null, .null, .null, .null, .int 0, .int a, .int b]))] ++ tl) H1 locs1 → W p l e R s m args below meth c H1 locs1 (cells + 0) (slots + 0) Q (F0 m (pc + 3) ls (rest))) (hc0 : cells + 0 ≤ kc := by first | exact Nat.le_of_ble_eq_true rfl | exact Nat.zero_le _ | assumption | omega) (hs0 : slots + 0 ≤ ks := by first | exact Nat.le_of_ble_eq_true rfl | exact Nat.zero_le _ | assumption | omega) : W p l e R s m args below meth c H locs cells slots Q (F0 m pc ls (.int b :: .int a :: .ref q :: rest)) :=
  gz_usev0 hC.2.2.2.2.2.2.2.1 hI (va_runI (As := [.int a, .int b]) (rest := rest) ⟨hC.1, hC.2.1, hC.2.2.1, hC.2.2.2.1, hC.2.2.2.2.1⟩ (w_xrefused l G ai h0 q a b H.size) (cwI 2 hC.2.2.2.2.1 (lw_meth q877) rfl rfl rfl (hC.2.2.2.2.1 _ q153) (hC.2.2.2.2.1 _ q875) (hC.2.2.2.2.1 _ q876) rfl (by decide +kernel) ⟨Nat.le_trans hf hC.2.2.2.2.2.2.2.2.1, Nat.le_trans hL hC.2.2.2.2.2.2.2.2.2.1⟩) ⟨gz_blind, gz_pre0 hC hZ hI⟩ rfl rfl hsz rfl (lv_room hW) hdg ⟨Nat.le_trans hc0 hC.2.2.2.2.2.2.2.2.2.2.1, Nat.le_trans hs0 hC.2.2.2.2.2.2.2.2.2.2.2⟩) (fun u H1 locs1 hp hI1 => kk u H1 locs1 hI1)

/-! The lambdas that read only: their methods, the calls through the interface, setOf and sum; printed by tools/gen_lamr.py -/
set_option maxRecDepth 100000
theorem la_face {s0 s : State} {b0 : Addr} {A : Nat → Prop} {args : Array Value} {x : MethodName} (h0 : mo_S0 s0 b0) (hZ : mo_Z s0 A s) (hx : x.cls ≠ "java/lang/invoke/MethodHandle" ∧ x.cls ≠ "java/lang/invoke/VarHandle") (h1 : Cond.declares x ∈ lw_tbl) (h2 : Cond.interfaceMethod x.cls x.cls x.name x.desc ∈ lw_tbl) :
    (Cond.declares x).before args s = true ∧ (Cond.interfaceMethod x.cls x.cls x.name x.desc).before args s = true := by
  have g1 := h0.1 _ h1
  have g2 : (Cond.interfaceMethod x.cls x.cls x.name x.desc).before #[] s0 = true := va_any rfl (h0.1 _ h2)
  obtain ⟨r, meth, hn, -⟩ := Cond.declares_spec g1
  refine ⟨va_Nw.use rfl (mo_nD h0 hZ h1), va_any (A := #[]) rfl ?_⟩
  have e := Cond.onTables_vm (A := #[]) (A' := #[]) (U := s0) (U' := s) s.vm (Cond.interfaceMethod x.cls x.cls x.name x.desc) rfl
  have hU : s.setVm s.vm = s := rfl
  rw [hU] at e
  rw [← e, Cond.interfaceMethod_setVm hZ.1.alike (r := r) hn hx]
  exact g2
theorem la_hts {s s9 : State} {args a9 : Array Value} (hts : ∀ w ∈ lw_all, w.before args s = true) (hW : s.WarmedH s9.vm) : ∀ w ∈ lw_all, w.before a9 s9 = true := fun w hw => word_at hW (good_of_word (List.mem_filter.mp hw).2) (hts w hw)
def f_ml_lambda_gardenersOn_0 (v : MS) (ml : MS) (a1 : Int32) (a2 : Int32) : Option Int32 := gd (gi a2 4) (if (v (6 + a2.toNatClampNeg) 0) = a1 then (some 1) else (some 0))
set_option maxHeartbeats 4000000 in
theorem w_ml_lambda_gardenersOn_0 (l : Launch) (G : va_G) (ai : Nat → ClassId) {s0 : State} {b0 : Addr} (h0 : mo_S0 s0 b0) {sa ma : Nat → Nat} {rf : Value} {tl : va_W} (v : MS) (ml : MS) (a1 : Int32) (a2 : Int32) (r0 : Int32) (hF : f_ml_lambda_gardenersOn_0 v ml a1 a2 = some r0) : rd_Met l G ai s0 yX0_lambda_gardenersOn_0 cX0_lambda_gardenersOn_0 3 (some .boolean) ({ frames := 0, cells := 0, slots := 0, locals := 0 } : Room) [.ref (ma 0), .int a1, .int a2] (st_W ai sa v (ml_C ai s0 b0 sa ma rf ml ++ tl)) (.int r0) := by
  refine gz_body (Qc := fun _ => rd_Q (.int r0)) (fr := fun _ _ => False) (by decide) (Nat.le_of_ble_eq_true rfl) ?_
  intro p e s m args below meth c A ls hC hZ hr hI hl hnm
  have hx := hC.1
  have hb := hC.2.1
  have hl : lv_has ls 3 [(0, .ref (ma 0)), (1, .int a1), (2, .int a2)] := hl
  show W p l e _ s m args below meth c s.heap [] 0 0 (MQ below (rd_Q (.int r0)) args s 0 0 (fun _ => False)) (F0 m 0 ls [])
  rw [f_ml_lambda_gardenersOn_0] at hF
  refine lv_aload_n hx hb dX0_lambda_gardenersOn_0_0 rfl (lv_at hl 0 rfl) ?_
  refine ml_X0_g_ml_now hC h0 hZ hI dX0_lambda_gardenersOn_0_1 ?_
  refine st_X0_g_st_gardeners hC h0 hZ hI dX0_lambda_gardenersOn_0_4 ?_
  refine lv_iload_n hx hb dX0_lambda_gardenersOn_0_7 rfl (lv_at hl 2 rfl) ?_
  obtain ⟨hg1, hF⟩ := gd_some hF
  refine st_l_gards hC hI hg1 dX0_lambda_gardenersOn_0_8 ?_
  refine st_X0_g_gard_square hC h0 hZ hI hg1 dX0_lambda_gardenersOn_0_9 ?_
  refine lv_iload_n hx hb dX0_lambda_gardenersOn_0_12 rfl (lv_at hl 1 rfl) ?_
  refine lv_icmp_ne (tgt := 20) hx hb dX0_lambda_gardenersOn_0_13 (by decide) (fun c2 => ?_) (fun c2 => ?_)
  · have hF := if_f hF c2
    refine lv_iconst (v := 0) hx hb dX0_lambda_gardenersOn_0_20 (by decide) ?_
    have hF := Option.some.inj hF
    subst hF
    exact rd_iret hC hr rfl dX0_lambda_gardenersOn_0_21
  · have hF := if_t hF c2
    refine lv_iconst (v := 1) hx hb dX0_lambda_gardenersOn_0_16 (by decide) ?_
    refine lv_goto (tgt := 21) hx hb dX0_lambda_gardenersOn_0_17 (by decide) ?_
    have hF := Option.some.inj hF
    subst hF
    exact rd_iret hC hr rfl dX0_lambda_gardenersOn_0_21
theorem z_ml_lambda_gardenersOn_0 {v ml : MS} {b1 k1 : Int32} : ∀ r1, f_ml_lambda_gardenersOn_0 v ml b1 k1 = some r1 → narrow .boolean (.int r1) = .int r1 := by
  intro r1 hz
  have h : r1 = 0 ∨ r1 = 1 := by
    unfold f_ml_lambda_gardenersOn_0 at hz
    obtain ⟨_, hz⟩ := gd_some hz
    split at hz <;> (cases hz; simp)
  rcases h with h | h <;> (rw [h]; rfl)
set_option maxHeartbeats 4000000 in
theorem c_1 {p : Program} {l : Launch} {e : Env} {R : Room} {s s0 : State} {b0 : Addr} {m : MethodId} {args : Array Value} {below : List Frame} {meth : Method} {c : Code} {H : Heap} {locs : List Loc} {cells slots : Nat} {Q : State → Prop} {pc : Nat} {ls : Array Slot} {rest : List Value} {G : va_G} {ai : Nat → ClassId} {A : Nat → Prop} {cc : ByteArray} {nL f L kc ks : Nat} {sa ma : Nat → Nat} {rf : Value} {tl : va_W} {v ml : MS} {b1 : Int32} {q9 : Nat} {k1 r1 : Int32} (hC : mo_C p R s m args meth c G ai A RX0 cc nL f L kc ks) (h0 : mo_S0 s0 b0) (hZ : mo_Z s0 A s) (hI : mo_I G A s.heap (st_W ai sa v (ml_C ai s0 b0 sa ma rf ml ++ tl)) H locs) (hq9 : H[q9]? = some { cls := laK s0 sx_1 9 184 sg_1, slots := #[.ref (ma 0), .int b1], vm := .none }) (hz : f_ml_lambda_gardenersOn_0 v ml b1 k1 = some r1) (hf : 1 + 1 ≤ f) (hL : 8 + (2 + 11) + 22 ≤ L) (hsz : ls.size = nL) (hW : (rest.map fun v => v.category).sum ≤ 8) (hdg : decode cc pc = .ok (.invokeinterface 176 2, 5)) (kk : W p l e R s m args below meth c H locs cells slots Q (F0 m (pc + 5) ls (.int r1 :: rest))) (hc0 : cells ≤ kc := by first | exact Nat.zero_le _ | exact Nat.le_of_ble_eq_true rfl | assumption | omega) (hs0 : slots ≤ ks := by first | exact Nat.zero_le _ | exact Nat.le_of_ble_eq_true rfl | assumption | omega) : W p l e R s m args below meth c H locs cells slots Q (F0 m pc ls (.int k1 :: .ref q9 :: rest)) := by
  obtain ⟨m0, dk, hd1, hd2, hmade⟩ := la_later h0 sq_1 scap_1 rfl hZ.1
  have hface := la_face (args := args) (x := ⟨"MossLawn$Chosen", "is", "(I)Z"⟩) h0 hZ ⟨by decide, by decide⟩ q905 q904
  refine la_rd (rm := ({ frames := 1, cells := 0, slots := 0, locals := 22 } : Room)) (σ := sg_1) (D := sD_1) (fs := sL_1.1) (ow := sL_1.2.1) (cf9 := sc_1) (nL9 := 2) (As := [.int k1]) (v := .int r1) (n := 1) hC.1 hC.2.1 hC.2.2.1 hC.2.2.2.1 hC.2.2.2.2.1 q903 hface.1 hface.2 ⟨by decide, by decide⟩ rfl rfl (by decide +kernel) hmade (la_can h0 sq_1 scap_1 hZ.1) (fun vm hW => sis_1 h0 vm (State.WarmedH.trans hZ.1 hW)) hq9 rfl rfl (Nat.le_trans hf hC.2.2.2.2.2.2.2.2.1) (Nat.le_trans hL hC.2.2.2.2.2.2.2.2.2.1) rfl rfl hsz (by decide +kernel) rfl hW hdg (Nat.le_trans hc0 hC.2.2.2.2.2.2.2.2.2.2.1) (Nat.le_trans hs0 hC.2.2.2.2.2.2.2.2.2.2.2) ?_ kk
  intro s9 below9 meth9 c9 h9 hW9 hb9 hml9 hr9 hlk9
  have hts9 : ∀ w ∈ lw_all, w.before (Value.ref q9 :: [.int k1]).toArray s9 = true := la_hts hC.2.2.2.2.1 hW9
  have hK9 : va_K G mo_cl (mo_ty ai) s9 := va_K.moved hW9.alike hC.2.2.2.2.2.2.1
  have hZ9 : mo_Z s0 A s9 := ⟨State.WarmedH.trans hZ.1 hW9, by rw [h9]; exact Nat.le_trans hZ.2.1 hI.2.2.1, fun q hq => by rw [h9]; exact mo_Zold hZ hI.2.2 hq, hZ.2.2.2⟩
  have hI9 : mo_I G A s9.heap (st_W ai sa v (ml_C ai s0 b0 sa ma rf ml ++ tl)) s9.heap [] := by rw [h9]; exact ⟨hI.1, hI.2.1, va_S.rf⟩
  have hIs9 : ∀ vm, s9.WarmedH vm → la_Is sg_1 sD_1 sL_1.1 sL_1.2.1 sc_1 2 vm (laK s0 sx_1 9 184 sg_1) := fun vm hW => sis_1 h0 vm (State.WarmedH.trans hZ9.1 hW)
  have hbool := z_ml_lambda_gardenersOn_0 (v := v) (ml := ml) (b1 := b1) (k1 := k1)
  have hl := lv_entry [Value.ref q9, Value.int k1] (n := 2) (Nat.le_of_ble_eq_true rfl)
  rw [lg_entry_eq]
  generalize (lg_sl [Value.ref q9, Value.int k1] ++ List.replicate (2 - (lg_sl [Value.ref q9, Value.int k1]).length) Slot.unset).toArray = ls9 at hl ⊢
  have hl : lv_has ls9 2 [(0, .ref q9), (1, .int k1)] := hl
  show W p l e _ s9 _ _ below9 meth9 c9 s9.heap [] 0 0 _ (F0 _ 0 ls9 [])
  refine lv_aload_n hC.1 hb9 sd_1_0 rfl (lv_at hl 0 rfl) ?_
  obtain ⟨f1, hf1, hp1⟩ := Option.map_eq_some_iff.mp sf_1_0.2.2.2
  simp only [Prod.mk.injEq] at hp1
  refine hw_get hC.1 hb9 hIs9 sf_1_0.1 sf_1_0.2.1 sf_1_0.2.2.1 hf1 hp1.1 hp1.2 (by rw [h9]; exact hq9) rfl rfl sd_1_1 ?_
  refine lv_aload_n hC.1 hb9 sd_1_4 rfl (lv_at hl 0 rfl) ?_
  obtain ⟨f5, hf5, hp5⟩ := Option.map_eq_some_iff.mp sf_1_1.2.2.2
  simp only [Prod.mk.injEq] at hp5
  refine hw_get hC.1 hb9 hIs9 sf_1_1.1 sf_1_1.2.1 sf_1_1.2.2.1 hf5 hp5.1 hp5.2 (by rw [h9]; exact hq9) rfl rfl sd_1_5 ?_
  refine lv_iload_n hC.1 hb9 sd_1_8 rfl (lv_at hl 1 rfl) ?_
  refine hw_rd (y := yX0_lambda_gardenersOn_0) (As := [.int b1, .int k1]) (q0 := 18) hC.1 hb9 hml9 hts9 hK9 hZ9 hI9 hIs9 sm_1.1 sm_1.2.1 sm_1.2.2.1 sm_1.2.2.2.1 sm_1.2.2.2.2.1 sm_1.2.2.2.2.2.1 rfl sm_1.2.2.2.2.2.2.1 sm_1.2.2.2.2.2.2.2 (w_ml_lambda_gardenersOn_0 l G ai h0 v ml b1 k1 r1 hz) rfl rfl (Nat.le_of_ble_eq_true rfl) (Nat.le_of_ble_eq_true rfl) q898 q897 qs11 q115 rfl hl.1 (n := 2) (by decide +kernel) rfl (Nat.le_of_ble_eq_true rfl) sd_1_9 (Nat.zero_le _) (Nat.zero_le _) ?_
  exact W.zret hC.1 hb9 hr9 (hbool r1 hz) (fun t ht hW => ⟨rfl, ht⟩) (fun q hq => by cases hq) sd_1_12 hlk9
def f_ml_lambda_molesOn_1 (v : MS) (ml : MS) (a1 : Int32) (a2 : Int32) : Option Int32 := gd (gi a2 3) (ov (f_mol_isOn v a2 a1) (fun r2 => gd (gb r2) (some r2)))
set_option maxHeartbeats 4000000 in
theorem w_ml_lambda_molesOn_1 (l : Launch) (G : va_G) (ai : Nat → ClassId) {s0 : State} {b0 : Addr} (h0 : mo_S0 s0 b0) {sa ma : Nat → Nat} {rf : Value} {tl : va_W} (v : MS) (ml : MS) (a1 : Int32) (a2 : Int32) (r0 : Int32) (hF : f_ml_lambda_molesOn_1 v ml a1 a2 = some r0) : rd_Met l G ai s0 yX0_lambda_molesOn_1 cX0_lambda_molesOn_1 3 (some .boolean) ({ frames := 1, cells := 0, slots := 0, locals := 21 } : Room) [.ref (ma 0), .int a1, .int a2] (st_W ai sa v (ml_C ai s0 b0 sa ma rf ml ++ tl)) (.int r0) := by
  refine gz_body (Qc := fun _ => rd_Q (.int r0)) (fr := fun _ _ => False) (by decide) (Nat.le_of_ble_eq_true rfl) ?_
  intro p e s m args below meth c A ls hC hZ hr hI hl hnm
  have hx := hC.1
  have hb := hC.2.1
  have hl : lv_has ls 3 [(0, .ref (ma 0)), (1, .int a1), (2, .int a2)] := hl
  show W p l e _ s m args below meth c s.heap [] 0 0 (MQ below (rd_Q (.int r0)) args s 0 0 (fun _ => False)) (F0 m 0 ls [])
  rw [f_ml_lambda_molesOn_1] at hF
  refine lv_aload_n hx hb dX0_lambda_molesOn_1_0 rfl (lv_at hl 0 rfl) ?_
  refine ml_X0_g_ml_now hC h0 hZ hI dX0_lambda_molesOn_1_1 ?_
  refine st_X0_g_st_moles hC h0 hZ hI dX0_lambda_molesOn_1_4 ?_
  refine lv_iload_n hx hb dX0_lambda_molesOn_1_7 rfl (lv_at hl 2 rfl) ?_
  obtain ⟨hg1, hF⟩ := gd_some hF
  refine st_l_moles hC hI hg1 dX0_lambda_molesOn_1_8 ?_
  refine lv_iload_n hx hb dX0_lambda_molesOn_1_9 rfl (lv_at hl 1 rfl) ?_
  obtain ⟨r2, hz3, hF⟩ := ov_some hF
  refine k_X0_mol_isOn hC h0 hZ hI hg1 hz3 (Nat.le_of_ble_eq_true rfl) (Nat.le_of_ble_eq_true rfl) hl.1 (Nat.le_of_ble_eq_true rfl) dX0_lambda_molesOn_1_10 ?_
  obtain ⟨hg, hF⟩ := gd_some hF
  have hF := Option.some.inj hF
  subst hF
  exact rd_iret hC hr (by rcases gb_or hg with h | h <;> (rw [h]; rfl)) dX0_lambda_molesOn_1_13
theorem z_ml_lambda_molesOn_1 {v ml : MS} {b1 k1 : Int32} : ∀ r1, f_ml_lambda_molesOn_1 v ml b1 k1 = some r1 → narrow .boolean (.int r1) = .int r1 := by
  intro r1 hz
  have h : r1 = 0 ∨ r1 = 1 := by
    unfold f_ml_lambda_molesOn_1 at hz
    obtain ⟨_, hz⟩ := gd_some hz
    obtain ⟨r, _, hz⟩ := ov_some hz
    obtain ⟨hg, hz⟩ := gd_some hz
    cases hz
    exact gb_or hg
  rcases h with h | h <;> (rw [h]; rfl)
set_option maxHeartbeats 4000000 in
theorem c_2 {p : Program} {l : Launch} {e : Env} {R : Room} {s s0 : State} {b0 : Addr} {m : MethodId} {args : Array Value} {below : List Frame} {meth : Method} {c : Code} {H : Heap} {locs : List Loc} {cells slots : Nat} {Q : State → Prop} {pc : Nat} {ls : Array Slot} {rest : List Value} {G : va_G} {ai : Nat → ClassId} {A : Nat → Prop} {cc : ByteArray} {nL f L kc ks : Nat} {sa ma : Nat → Nat} {rf : Value} {tl : va_W} {v ml : MS} {b1 : Int32} {q9 : Nat} {k1 r1 : Int32} (hC : mo_C p R s m args meth c G ai A RX0 cc nL f L kc ks) (h0 : mo_S0 s0 b0) (hZ : mo_Z s0 A s) (hI : mo_I G A s.heap (st_W ai sa v (ml_C ai s0 b0 sa ma rf ml ++ tl)) H locs) (hq9 : H[q9]? = some { cls := laK s0 sx_2 9 194 sg_2, slots := #[.ref (ma 0), .int b1], vm := .none }) (hz : f_ml_lambda_molesOn_1 v ml b1 k1 = some r1) (hf : 2 + 1 ≤ f) (hL : 8 + (2 + 11) + 43 ≤ L) (hsz : ls.size = nL) (hW : (rest.map fun v => v.category).sum ≤ 8) (hdg : decode cc pc = .ok (.invokeinterface 176 2, 5)) (kk : W p l e R s m args below meth c H locs cells slots Q (F0 m (pc + 5) ls (.int r1 :: rest))) (hc0 : cells ≤ kc := by first | exact Nat.zero_le _ | exact Nat.le_of_ble_eq_true rfl | assumption | omega) (hs0 : slots ≤ ks := by first | exact Nat.zero_le _ | exact Nat.le_of_ble_eq_true rfl | assumption | omega) : W p l e R s m args below meth c H locs cells slots Q (F0 m pc ls (.int k1 :: .ref q9 :: rest)) := by
  obtain ⟨m0, dk, hd1, hd2, hmade⟩ := la_later h0 sq_2 scap_2 rfl hZ.1
  have hface := la_face (args := args) (x := ⟨"MossLawn$Chosen", "is", "(I)Z"⟩) h0 hZ ⟨by decide, by decide⟩ q905 q904
  refine la_rd (rm := ({ frames := 2, cells := 0, slots := 0, locals := 43 } : Room)) (σ := sg_2) (D := sD_2) (fs := sL_2.1) (ow := sL_2.2.1) (cf9 := sc_2) (nL9 := 2) (As := [.int k1]) (v := .int r1) (n := 1) hC.1 hC.2.1 hC.2.2.1 hC.2.2.2.1 hC.2.2.2.2.1 q903 hface.1 hface.2 ⟨by decide, by decide⟩ rfl rfl (by decide +kernel) hmade (la_can h0 sq_2 scap_2 hZ.1) (fun vm hW => sis_2 h0 vm (State.WarmedH.trans hZ.1 hW)) hq9 rfl rfl (Nat.le_trans hf hC.2.2.2.2.2.2.2.2.1) (Nat.le_trans hL hC.2.2.2.2.2.2.2.2.2.1) rfl rfl hsz (by decide +kernel) rfl hW hdg (Nat.le_trans hc0 hC.2.2.2.2.2.2.2.2.2.2.1) (Nat.le_trans hs0 hC.2.2.2.2.2.2.2.2.2.2.2) ?_ kk
  intro s9 below9 meth9 c9 h9 hW9 hb9 hml9 hr9 hlk9
  have hts9 : ∀ w ∈ lw_all, w.before (Value.ref q9 :: [.int k1]).toArray s9 = true := la_hts hC.2.2.2.2.1 hW9
  have hK9 : va_K G mo_cl (mo_ty ai) s9 := va_K.moved hW9.alike hC.2.2.2.2.2.2.1
  have hZ9 : mo_Z s0 A s9 := ⟨State.WarmedH.trans hZ.1 hW9, by rw [h9]; exact Nat.le_trans hZ.2.1 hI.2.2.1, fun q hq => by rw [h9]; exact mo_Zold hZ hI.2.2 hq, hZ.2.2.2⟩
  have hI9 : mo_I G A s9.heap (st_W ai sa v (ml_C ai s0 b0 sa ma rf ml ++ tl)) s9.heap [] := by rw [h9]; exact ⟨hI.1, hI.2.1, va_S.rf⟩
  have hIs9 : ∀ vm, s9.WarmedH vm → la_Is sg_2 sD_2 sL_2.1 sL_2.2.1 sc_2 2 vm (laK s0 sx_2 9 194 sg_2) := fun vm hW => sis_2 h0 vm (State.WarmedH.trans hZ9.1 hW)
  have hbool := z_ml_lambda_molesOn_1 (v := v) (ml := ml) (b1 := b1) (k1 := k1)
  have hl := lv_entry [Value.ref q9, Value.int k1] (n := 2) (Nat.le_of_ble_eq_true rfl)
  rw [lg_entry_eq]
  generalize (lg_sl [Value.ref q9, Value.int k1] ++ List.replicate (2 - (lg_sl [Value.ref q9, Value.int k1]).length) Slot.unset).toArray = ls9 at hl ⊢
  have hl : lv_has ls9 2 [(0, .ref q9), (1, .int k1)] := hl
  show W p l e _ s9 _ _ below9 meth9 c9 s9.heap [] 0 0 _ (F0 _ 0 ls9 [])
  refine lv_aload_n hC.1 hb9 sd_2_0 rfl (lv_at hl 0 rfl) ?_
  obtain ⟨f1, hf1, hp1⟩ := Option.map_eq_some_iff.mp sf_2_0.2.2.2
  simp only [Prod.mk.injEq] at hp1
  refine hw_get hC.1 hb9 hIs9 sf_2_0.1 sf_2_0.2.1 sf_2_0.2.2.1 hf1 hp1.1 hp1.2 (by rw [h9]; exact hq9) rfl rfl sd_2_1 ?_
  refine lv_aload_n hC.1 hb9 sd_2_4 rfl (lv_at hl 0 rfl) ?_
  obtain ⟨f5, hf5, hp5⟩ := Option.map_eq_some_iff.mp sf_2_1.2.2.2
  simp only [Prod.mk.injEq] at hp5
  refine hw_get hC.1 hb9 hIs9 sf_2_1.1 sf_2_1.2.1 sf_2_1.2.2.1 hf5 hp5.1 hp5.2 (by rw [h9]; exact hq9) rfl rfl sd_2_5 ?_
  refine lv_iload_n hC.1 hb9 sd_2_8 rfl (lv_at hl 1 rfl) ?_
  refine hw_rd (y := yX0_lambda_molesOn_1) (As := [.int b1, .int k1]) (q0 := 18) hC.1 hb9 hml9 hts9 hK9 hZ9 hI9 hIs9 sm_2.1 sm_2.2.1 sm_2.2.2.1 sm_2.2.2.2.1 sm_2.2.2.2.2.1 sm_2.2.2.2.2.2.1 rfl sm_2.2.2.2.2.2.2.1 sm_2.2.2.2.2.2.2.2 (w_ml_lambda_molesOn_1 l G ai h0 v ml b1 k1 r1 hz) rfl rfl (Nat.le_of_ble_eq_true rfl) (Nat.le_of_ble_eq_true rfl) q912 q911 qs13 q115 rfl hl.1 (n := 2) (by decide +kernel) rfl (Nat.le_of_ble_eq_true rfl) sd_2_9 (Nat.zero_le _) (Nat.zero_le _) ?_
  exact W.zret hC.1 hb9 hr9 (hbool r1 hz) (fun t ht hW => ⟨rfl, ht⟩) (fun q hq => by cases hq) sd_2_12 hlk9
def f_ml_lambda_young_10 (v : MS) (ml : MS) (a1 : Int32) : Option Int32 := ov (f_ml_groundOf v ml a1) (fun r1 => gd (gi r1 4) (gd (gb (gr_is r1 2)) (some (gr_is r1 2))))
set_option maxHeartbeats 4000000 in
theorem w_ml_lambda_young_10 (l : Launch) (G : va_G) (ai : Nat → ClassId) {s0 : State} {b0 : Addr} (h0 : mo_S0 s0 b0) {sa ma : Nat → Nat} {rf : Value} {tl : va_W} (v : MS) (ml : MS) (a1 : Int32) (r0 : Int32) (hF : f_ml_lambda_young_10 v ml a1 = some r0) : rd_Met l G ai s0 yX0_lambda_young_10 cX0_lambda_young_10 2 (some .boolean) ({ frames := 3, cells := 0, slots := 0, locals := 64 } : Room) [.ref (ma 0), .int a1] (st_W ai sa v (ml_C ai s0 b0 sa ma rf ml ++ tl)) (.int r0) := by
  refine gz_body (Qc := fun _ => rd_Q (.int r0)) (fr := fun _ _ => False) (by decide) (Nat.le_of_ble_eq_true rfl) ?_
  intro p e s m args below meth c A ls hC hZ hr hI hl hnm
  have hx := hC.1
  have hb := hC.2.1
  have hl : lv_has ls 2 [(0, .ref (ma 0)), (1, .int a1)] := hl
  show W p l e _ s m args below meth c s.heap [] 0 0 (MQ below (rd_Q (.int r0)) args s 0 0 (fun _ => False)) (F0 m 0 ls [])
  rw [f_ml_lambda_young_10] at hF
  refine lv_aload_n hx hb dX0_lambda_young_10_0 rfl (lv_at hl 0 rfl) ?_
  refine lv_iload_n hx hb dX0_lambda_young_10_1 rfl (lv_at hl 1 rfl) ?_
  obtain ⟨r1, hz2, hF⟩ := ov_some hF
  refine k_X0_ml_groundOf hC h0 hZ hI hz2 (Nat.le_of_ble_eq_true rfl) (Nat.le_of_ble_eq_true rfl) hl.1 (Nat.le_of_ble_eq_true rfl) dX0_lambda_young_10_2 ?_
  obtain ⟨hg3, hF⟩ := gd_some hF
  refine gr_young hC h0 hZ hI hg3 dX0_lambda_young_10_5 ?_
  obtain ⟨hg, hF⟩ := gd_some hF
  have hF := Option.some.inj hF
  subst hF
  exact rd_iret hC hr (by rcases gb_or hg with h | h <;> (rw [h]; rfl)) dX0_lambda_young_10_8
theorem z_ml_lambda_young_10 {v ml : MS} {k1 : Int32} : ∀ r1, f_ml_lambda_young_10 v ml k1 = some r1 → narrow .boolean (.int r1) = .int r1 := by
  intro r1 hz
  have h : r1 = 0 ∨ r1 = 1 := by
    unfold f_ml_lambda_young_10 at hz
    obtain ⟨r, _, hz⟩ := ov_some hz
    obtain ⟨_, hz⟩ := gd_some hz
    obtain ⟨hg, hz⟩ := gd_some hz
    cases hz
    exact gb_or hg
  rcases h with h | h <;> (rw [h]; rfl)
set_option maxHeartbeats 4000000 in
theorem c_11 {p : Program} {l : Launch} {e : Env} {R : Room} {s s0 : State} {b0 : Addr} {m : MethodId} {args : Array Value} {below : List Frame} {meth : Method} {c : Code} {H : Heap} {locs : List Loc} {cells slots : Nat} {Q : State → Prop} {pc : Nat} {ls : Array Slot} {rest : List Value} {G : va_G} {ai : Nat → ClassId} {A : Nat → Prop} {cc : ByteArray} {nL f L kc ks : Nat} {sa ma : Nat → Nat} {rf : Value} {tl : va_W} {v ml : MS}  {q9 : Nat} {k1 r1 : Int32} (hC : mo_C p R s m args meth c G ai A RX0 cc nL f L kc ks) (h0 : mo_S0 s0 b0) (hZ : mo_Z s0 A s) (hI : mo_I G A s.heap (st_W ai sa v (ml_C ai s0 b0 sa ma rf ml ++ tl)) H locs) (hq9 : H[q9]? = some { cls := laK s0 sx_11 3 537 sg_11, slots := #[.ref (ma 0)], vm := .none }) (hz : f_ml_lambda_young_10 v ml k1 = some r1) (hf : 4 + 1 ≤ f) (hL : 8 + (2 + 11) + 85 ≤ L) (hsz : ls.size = nL) (hW : (rest.map fun v => v.category).sum ≤ 8) (hdg : decode cc pc = .ok (.invokeinterface 176 2, 5)) (kk : W p l e R s m args below meth c H locs cells slots Q (F0 m (pc + 5) ls (.int r1 :: rest))) (hc0 : cells ≤ kc := by first | exact Nat.zero_le _ | exact Nat.le_of_ble_eq_true rfl | assumption | omega) (hs0 : slots ≤ ks := by first | exact Nat.zero_le _ | exact Nat.le_of_ble_eq_true rfl | assumption | omega) : W p l e R s m args below meth c H locs cells slots Q (F0 m pc ls (.int k1 :: .ref q9 :: rest)) := by
  obtain ⟨m0, dk, hd1, hd2, hmade⟩ := la_later h0 sq_11 scap_11 rfl hZ.1
  have hface := la_face (args := args) (x := ⟨"MossLawn$Chosen", "is", "(I)Z"⟩) h0 hZ ⟨by decide, by decide⟩ q905 q904
  refine la_rd (rm := ({ frames := 4, cells := 0, slots := 0, locals := 85 } : Room)) (σ := sg_11) (D := sD_11) (fs := sL_11.1) (ow := sL_11.2.1) (cf9 := sc_11) (nL9 := 2) (As := [.int k1]) (v := .int r1) (n := 1) hC.1 hC.2.1 hC.2.2.1 hC.2.2.2.1 hC.2.2.2.2.1 q903 hface.1 hface.2 ⟨by decide, by decide⟩ rfl rfl (by decide +kernel) hmade (la_can h0 sq_11 scap_11 hZ.1) (fun vm hW => sis_11 h0 vm (State.WarmedH.trans hZ.1 hW)) hq9 rfl rfl (Nat.le_trans hf hC.2.2.2.2.2.2.2.2.1) (Nat.le_trans hL hC.2.2.2.2.2.2.2.2.2.1) rfl rfl hsz (by decide +kernel) rfl hW hdg (Nat.le_trans hc0 hC.2.2.2.2.2.2.2.2.2.2.1) (Nat.le_trans hs0 hC.2.2.2.2.2.2.2.2.2.2.2) ?_ kk
  intro s9 below9 meth9 c9 h9 hW9 hb9 hml9 hr9 hlk9
  have hts9 : ∀ w ∈ lw_all, w.before (Value.ref q9 :: [.int k1]).toArray s9 = true := la_hts hC.2.2.2.2.1 hW9
  have hK9 : va_K G mo_cl (mo_ty ai) s9 := va_K.moved hW9.alike hC.2.2.2.2.2.2.1
  have hZ9 : mo_Z s0 A s9 := ⟨State.WarmedH.trans hZ.1 hW9, by rw [h9]; exact Nat.le_trans hZ.2.1 hI.2.2.1, fun q hq => by rw [h9]; exact mo_Zold hZ hI.2.2 hq, hZ.2.2.2⟩
  have hI9 : mo_I G A s9.heap (st_W ai sa v (ml_C ai s0 b0 sa ma rf ml ++ tl)) s9.heap [] := by rw [h9]; exact ⟨hI.1, hI.2.1, va_S.rf⟩
  have hIs9 : ∀ vm, s9.WarmedH vm → la_Is sg_11 sD_11 sL_11.1 sL_11.2.1 sc_11 2 vm (laK s0 sx_11 3 537 sg_11) := fun vm hW => sis_11 h0 vm (State.WarmedH.trans hZ9.1 hW)
  have hbool := z_ml_lambda_young_10 (v := v) (ml := ml) (k1 := k1)
  have hl := lv_entry [Value.ref q9, Value.int k1] (n := 2) (Nat.le_of_ble_eq_true rfl)
  rw [lg_entry_eq]
  generalize (lg_sl [Value.ref q9, Value.int k1] ++ List.replicate (2 - (lg_sl [Value.ref q9, Value.int k1]).length) Slot.unset).toArray = ls9 at hl ⊢
  have hl : lv_has ls9 2 [(0, .ref q9), (1, .int k1)] := hl
  show W p l e _ s9 _ _ below9 meth9 c9 s9.heap [] 0 0 _ (F0 _ 0 ls9 [])
  refine lv_aload_n hC.1 hb9 sd_11_0 rfl (lv_at hl 0 rfl) ?_
  obtain ⟨f1, hf1, hp1⟩ := Option.map_eq_some_iff.mp sf_11_0.2.2.2
  simp only [Prod.mk.injEq] at hp1
  refine hw_get hC.1 hb9 hIs9 sf_11_0.1 sf_11_0.2.1 sf_11_0.2.2.1 hf1 hp1.1 hp1.2 (by rw [h9]; exact hq9) rfl rfl sd_11_1 ?_
  refine lv_iload_n hC.1 hb9 sd_11_4 rfl (lv_at hl 1 rfl) ?_
  refine hw_rd (y := yX0_lambda_young_10) (As := [.int k1]) (q0 := 18) hC.1 hb9 hml9 hts9 hK9 hZ9 hI9 hIs9 sm_11.1 sm_11.2.1 sm_11.2.2.1 sm_11.2.2.2.1 sm_11.2.2.2.2.1 sm_11.2.2.2.2.2.1 rfl sm_11.2.2.2.2.2.2.1 sm_11.2.2.2.2.2.2.2 (w_ml_lambda_young_10 l G ai h0 v ml k1 r1 hz) rfl rfl (Nat.le_of_ble_eq_true rfl) (Nat.le_of_ble_eq_true rfl) q1878 q1877 qs64 q115 rfl hl.1 (n := 1) (by decide +kernel) rfl (Nat.le_of_ble_eq_true rfl) sd_11_5 (Nat.zero_le _) (Nat.zero_le _) ?_
  exact W.zret hC.1 hb9 hr9 (hbool r1 hz) (fun t ht hW => ⟨rfl, ht⟩) (fun q hq => by cases hq) sd_11_8 hlk9
def f_ml_lambda_oldShare_11 (v : MS) (ml : MS) (a1 : Int32) : Option Int32 := ov (f_ml_groundOf v ml a1) (fun r1 => gd (gi r1 4) (gd (gb (gr_is r1 3)) (some (gr_is r1 3))))
set_option maxHeartbeats 4000000 in
theorem w_ml_lambda_oldShare_11 (l : Launch) (G : va_G) (ai : Nat → ClassId) {s0 : State} {b0 : Addr} (h0 : mo_S0 s0 b0) {sa ma : Nat → Nat} {rf : Value} {tl : va_W} (v : MS) (ml : MS) (a1 : Int32) (r0 : Int32) (hF : f_ml_lambda_oldShare_11 v ml a1 = some r0) : rd_Met l G ai s0 yX0_lambda_oldShare_11 cX0_lambda_oldShare_11 2 (some .boolean) ({ frames := 3, cells := 0, slots := 0, locals := 64 } : Room) [.ref (ma 0), .int a1] (st_W ai sa v (ml_C ai s0 b0 sa ma rf ml ++ tl)) (.int r0) := by
  refine gz_body (Qc := fun _ => rd_Q (.int r0)) (fr := fun _ _ => False) (by decide) (Nat.le_of_ble_eq_true rfl) ?_
  intro p e s m args below meth c A ls hC hZ hr hI hl hnm
  have hx := hC.1
  have hb := hC.2.1
  have hl : lv_has ls 2 [(0, .ref (ma 0)), (1, .int a1)] := hl
  show W p l e _ s m args below meth c s.heap [] 0 0 (MQ below (rd_Q (.int r0)) args s 0 0 (fun _ => False)) (F0 m 0 ls [])
  rw [f_ml_lambda_oldShare_11] at hF
  refine lv_aload_n hx hb dX0_lambda_oldShare_11_0 rfl (lv_at hl 0 rfl) ?_
  refine lv_iload_n hx hb dX0_lambda_oldShare_11_1 rfl (lv_at hl 1 rfl) ?_
  obtain ⟨r1, hz2, hF⟩ := ov_some hF
  refine k_X0_ml_groundOf hC h0 hZ hI hz2 (Nat.le_of_ble_eq_true rfl) (Nat.le_of_ble_eq_true rfl) hl.1 (Nat.le_of_ble_eq_true rfl) dX0_lambda_oldShare_11_2 ?_
  obtain ⟨hg3, hF⟩ := gd_some hF
  refine gr_old hC h0 hZ hI hg3 dX0_lambda_oldShare_11_5 ?_
  obtain ⟨hg, hF⟩ := gd_some hF
  have hF := Option.some.inj hF
  subst hF
  exact rd_iret hC hr (by rcases gb_or hg with h | h <;> (rw [h]; rfl)) dX0_lambda_oldShare_11_8
theorem z_ml_lambda_oldShare_11 {v ml : MS} {k1 : Int32} : ∀ r1, f_ml_lambda_oldShare_11 v ml k1 = some r1 → narrow .boolean (.int r1) = .int r1 := by
  intro r1 hz
  have h : r1 = 0 ∨ r1 = 1 := by
    unfold f_ml_lambda_oldShare_11 at hz
    obtain ⟨r, _, hz⟩ := ov_some hz
    obtain ⟨_, hz⟩ := gd_some hz
    obtain ⟨hg, hz⟩ := gd_some hz
    cases hz
    exact gb_or hg
  rcases h with h | h <;> (rw [h]; rfl)
set_option maxHeartbeats 4000000 in
theorem c_12 {p : Program} {l : Launch} {e : Env} {R : Room} {s s0 : State} {b0 : Addr} {m : MethodId} {args : Array Value} {below : List Frame} {meth : Method} {c : Code} {H : Heap} {locs : List Loc} {cells slots : Nat} {Q : State → Prop} {pc : Nat} {ls : Array Slot} {rest : List Value} {G : va_G} {ai : Nat → ClassId} {A : Nat → Prop} {cc : ByteArray} {nL f L kc ks : Nat} {sa ma : Nat → Nat} {rf : Value} {tl : va_W} {v ml : MS}  {q9 : Nat} {k1 r1 : Int32} (hC : mo_C p R s m args meth c G ai A RX0 cc nL f L kc ks) (h0 : mo_S0 s0 b0) (hZ : mo_Z s0 A s) (hI : mo_I G A s.heap (st_W ai sa v (ml_C ai s0 b0 sa ma rf ml ++ tl)) H locs) (hq9 : H[q9]? = some { cls := laK s0 sx_12 3 557 sg_12, slots := #[.ref (ma 0)], vm := .none }) (hz : f_ml_lambda_oldShare_11 v ml k1 = some r1) (hf : 4 + 1 ≤ f) (hL : 8 + (2 + 11) + 85 ≤ L) (hsz : ls.size = nL) (hW : (rest.map fun v => v.category).sum ≤ 8) (hdg : decode cc pc = .ok (.invokeinterface 176 2, 5)) (kk : W p l e R s m args below meth c H locs cells slots Q (F0 m (pc + 5) ls (.int r1 :: rest))) (hc0 : cells ≤ kc := by first | exact Nat.zero_le _ | exact Nat.le_of_ble_eq_true rfl | assumption | omega) (hs0 : slots ≤ ks := by first | exact Nat.zero_le _ | exact Nat.le_of_ble_eq_true rfl | assumption | omega) : W p l e R s m args below meth c H locs cells slots Q (F0 m pc ls (.int k1 :: .ref q9 :: rest)) := by
  obtain ⟨m0, dk, hd1, hd2, hmade⟩ := la_later h0 sq_12 scap_12 rfl hZ.1
  have hface := la_face (args := args) (x := ⟨"MossLawn$Chosen", "is", "(I)Z"⟩) h0 hZ ⟨by decide, by decide⟩ q905 q904
  refine la_rd (rm := ({ frames := 4, cells := 0, slots := 0, locals := 85 } : Room)) (σ := sg_12) (D := sD_12) (fs := sL_12.1) (ow := sL_12.2.1) (cf9 := sc_12) (nL9 := 2) (As := [.int k1]) (v := .int r1) (n := 1) hC.1 hC.2.1 hC.2.2.1 hC.2.2.2.1 hC.2.2.2.2.1 q903 hface.1 hface.2 ⟨by decide, by decide⟩ rfl rfl (by decide +kernel) hmade (la_can h0 sq_12 scap_12 hZ.1) (fun vm hW => sis_12 h0 vm (State.WarmedH.trans hZ.1 hW)) hq9 rfl rfl (Nat.le_trans hf hC.2.2.2.2.2.2.2.2.1) (Nat.le_trans hL hC.2.2.2.2.2.2.2.2.2.1) rfl rfl hsz (by decide +kernel) rfl hW hdg (Nat.le_trans hc0 hC.2.2.2.2.2.2.2.2.2.2.1) (Nat.le_trans hs0 hC.2.2.2.2.2.2.2.2.2.2.2) ?_ kk
  intro s9 below9 meth9 c9 h9 hW9 hb9 hml9 hr9 hlk9
  have hts9 : ∀ w ∈ lw_all, w.before (Value.ref q9 :: [.int k1]).toArray s9 = true := la_hts hC.2.2.2.2.1 hW9
  have hK9 : va_K G mo_cl (mo_ty ai) s9 := va_K.moved hW9.alike hC.2.2.2.2.2.2.1
  have hZ9 : mo_Z s0 A s9 := ⟨State.WarmedH.trans hZ.1 hW9, by rw [h9]; exact Nat.le_trans hZ.2.1 hI.2.2.1, fun q hq => by rw [h9]; exact mo_Zold hZ hI.2.2 hq, hZ.2.2.2⟩
  have hI9 : mo_I G A s9.heap (st_W ai sa v (ml_C ai s0 b0 sa ma rf ml ++ tl)) s9.heap [] := by rw [h9]; exact ⟨hI.1, hI.2.1, va_S.rf⟩
  have hIs9 : ∀ vm, s9.WarmedH vm → la_Is sg_12 sD_12 sL_12.1 sL_12.2.1 sc_12 2 vm (laK s0 sx_12 3 557 sg_12) := fun vm hW => sis_12 h0 vm (State.WarmedH.trans hZ9.1 hW)
  have hbool := z_ml_lambda_oldShare_11 (v := v) (ml := ml) (k1 := k1)
  have hl := lv_entry [Value.ref q9, Value.int k1] (n := 2) (Nat.le_of_ble_eq_true rfl)
  rw [lg_entry_eq]
  generalize (lg_sl [Value.ref q9, Value.int k1] ++ List.replicate (2 - (lg_sl [Value.ref q9, Value.int k1]).length) Slot.unset).toArray = ls9 at hl ⊢
  have hl : lv_has ls9 2 [(0, .ref q9), (1, .int k1)] := hl
  show W p l e _ s9 _ _ below9 meth9 c9 s9.heap [] 0 0 _ (F0 _ 0 ls9 [])
  refine lv_aload_n hC.1 hb9 sd_12_0 rfl (lv_at hl 0 rfl) ?_
  obtain ⟨f1, hf1, hp1⟩ := Option.map_eq_some_iff.mp sf_12_0.2.2.2
  simp only [Prod.mk.injEq] at hp1
  refine hw_get hC.1 hb9 hIs9 sf_12_0.1 sf_12_0.2.1 sf_12_0.2.2.1 hf1 hp1.1 hp1.2 (by rw [h9]; exact hq9) rfl rfl sd_12_1 ?_
  refine lv_iload_n hC.1 hb9 sd_12_4 rfl (lv_at hl 1 rfl) ?_
  refine hw_rd (y := yX0_lambda_oldShare_11) (As := [.int k1]) (q0 := 18) hC.1 hb9 hml9 hts9 hK9 hZ9 hI9 hIs9 sm_12.1 sm_12.2.1 sm_12.2.2.1 sm_12.2.2.2.1 sm_12.2.2.2.2.1 sm_12.2.2.2.2.2.1 rfl sm_12.2.2.2.2.2.2.1 sm_12.2.2.2.2.2.2.2 (w_ml_lambda_oldShare_11 l G ai h0 v ml k1 r1 hz) rfl rfl (Nat.le_of_ble_eq_true rfl) (Nat.le_of_ble_eq_true rfl) q1952 q1951 qs65 q115 rfl hl.1 (n := 1) (by decide +kernel) rfl (Nat.le_of_ble_eq_true rfl) sd_12_5 (Nat.zero_le _) (Nat.zero_le _) ?_
  exact W.zret hC.1 hb9 hr9 (hbool r1 hz) (fun t ht hW => ⟨rfl, ht⟩) (fun q hq => by cases hq) sd_12_8 hlk9
def f_ml_lambda_caughtMany_12 (v : MS) (ml : MS) (a1 : Int32) : Option Int32 := gd (gi a1 3) (if (v (10 + a1.toNatClampNeg) 1) = 0 then (some 0) else (some 1))
set_option maxHeartbeats 4000000 in
theorem w_ml_lambda_caughtMany_12 (l : Launch) (G : va_G) (ai : Nat → ClassId) {s0 : State} {b0 : Addr} (h0 : mo_S0 s0 b0) {sa ma : Nat → Nat} {rf : Value} {tl : va_W} (v : MS) (ml : MS) (a1 : Int32) (r0 : Int32) (hF : f_ml_lambda_caughtMany_12 v ml a1 = some r0) : rd_Met l G ai s0 yX0_lambda_caughtMany_12 cX0_lambda_caughtMany_12 2 (some .int) ({ frames := 0, cells := 0, slots := 0, locals := 0 } : Room) [.ref (ma 0), .int a1] (st_W ai sa v (ml_C ai s0 b0 sa ma rf ml ++ tl)) (.int r0) := by
  refine gz_body (Qc := fun _ => rd_Q (.int r0)) (fr := fun _ _ => False) (by decide) (Nat.le_of_ble_eq_true rfl) ?_
  intro p e s m args below meth c A ls hC hZ hr hI hl hnm
  have hx := hC.1
  have hb := hC.2.1
  have hl : lv_has ls 2 [(0, .ref (ma 0)), (1, .int a1)] := hl
  show W p l e _ s m args below meth c s.heap [] 0 0 (MQ below (rd_Q (.int r0)) args s 0 0 (fun _ => False)) (F0 m 0 ls [])
  rw [f_ml_lambda_caughtMany_12] at hF
  refine lv_aload_n hx hb dX0_lambda_caughtMany_12_0 rfl (lv_at hl 0 rfl) ?_
  refine ml_X0_g_ml_now hC h0 hZ hI dX0_lambda_caughtMany_12_1 ?_
  refine st_X0_g_st_moles hC h0 hZ hI dX0_lambda_caughtMany_12_4 ?_
  refine lv_iload_n hx hb dX0_lambda_caughtMany_12_7 rfl (lv_at hl 1 rfl) ?_
  obtain ⟨hg1, hF⟩ := gd_some hF
  refine st_l_moles hC hI hg1 dX0_lambda_caughtMany_12_8 ?_
  refine st_X0_g_mole_isCaught hC h0 hZ hI hg1 dX0_lambda_caughtMany_12_9 ?_
  refine lv_if_eq (tgt := 19) hx hb dX0_lambda_caughtMany_12_12 (by decide) (fun c2 => ?_) (fun c2 => ?_)
  · have hF := if_t hF c2
    refine lv_iconst (v := 0) hx hb dX0_lambda_caughtMany_12_19 (by decide) ?_
    have hF := Option.some.inj hF
    subst hF
    exact rd_iret hC hr rfl dX0_lambda_caughtMany_12_20
  · have hF := if_f hF c2
    refine lv_iconst (v := 1) hx hb dX0_lambda_caughtMany_12_15 (by decide) ?_
    refine lv_goto (tgt := 20) hx hb dX0_lambda_caughtMany_12_16 (by decide) ?_
    have hF := Option.some.inj hF
    subst hF
    exact rd_iret hC hr rfl dX0_lambda_caughtMany_12_20
set_option maxHeartbeats 4000000 in
theorem c_13 {p : Program} {l : Launch} {e : Env} {R : Room} {s s0 : State} {b0 : Addr} {m : MethodId} {args : Array Value} {below : List Frame} {meth : Method} {c : Code} {H : Heap} {locs : List Loc} {cells slots : Nat} {Q : State → Prop} {pc : Nat} {ls : Array Slot} {rest : List Value} {G : va_G} {ai : Nat → ClassId} {A : Nat → Prop} {cc : ByteArray} {nL f L kc ks : Nat} {sa ma : Nat → Nat} {rf : Value} {tl : va_W} {v ml : MS}  {q9 : Nat} {k1 r1 : Int32} (hC : mo_C p R s m args meth c G ai A RX0 cc nL f L kc ks) (h0 : mo_S0 s0 b0) (hZ : mo_Z s0 A s) (hI : mo_I G A s.heap (st_W ai sa v (ml_C ai s0 b0 sa ma rf ml ++ tl)) H locs) (hq9 : H[q9]? = some { cls := laK s0 sx_13 8 568 sg_13, slots := #[.ref (ma 0)], vm := .none }) (hz : f_ml_lambda_caughtMany_12 v ml k1 = some r1) (hf : 1 + 1 ≤ f) (hL : 8 + (2 + 11) + 21 ≤ L) (hsz : ls.size = nL) (hW : (rest.map fun v => v.category).sum ≤ 8) (hdg : decode cc pc = .ok (.invokeinterface 564 2, 5)) (kk : W p l e R s m args below meth c H locs cells slots Q (F0 m (pc + 5) ls (.int r1 :: rest))) (hc0 : cells ≤ kc := by first | exact Nat.zero_le _ | exact Nat.le_of_ble_eq_true rfl | assumption | omega) (hs0 : slots ≤ ks := by first | exact Nat.zero_le _ | exact Nat.le_of_ble_eq_true rfl | assumption | omega) : W p l e R s m args below meth c H locs cells slots Q (F0 m pc ls (.int k1 :: .ref q9 :: rest)) := by
  obtain ⟨m0, dk, hd1, hd2, hmade⟩ := la_later h0 sq_13 scap_13 rfl hZ.1
  have hface := la_face (args := args) (x := ⟨"MossLawn$Counted", "of", "(I)I"⟩) h0 hZ ⟨by decide, by decide⟩ q1977 q1976
  refine la_rd (rm := ({ frames := 1, cells := 0, slots := 0, locals := 21 } : Room)) (σ := sg_13) (D := sD_13) (fs := sL_13.1) (ow := sL_13.2.1) (cf9 := sc_13) (nL9 := 2) (As := [.int k1]) (v := .int r1) (n := 1) hC.1 hC.2.1 hC.2.2.1 hC.2.2.2.1 hC.2.2.2.2.1 q1975 hface.1 hface.2 ⟨by decide, by decide⟩ rfl rfl (by decide +kernel) hmade (la_can h0 sq_13 scap_13 hZ.1) (fun vm hW => sis_13 h0 vm (State.WarmedH.trans hZ.1 hW)) hq9 rfl rfl (Nat.le_trans hf hC.2.2.2.2.2.2.2.2.1) (Nat.le_trans hL hC.2.2.2.2.2.2.2.2.2.1) rfl rfl hsz (by decide +kernel) rfl hW hdg (Nat.le_trans hc0 hC.2.2.2.2.2.2.2.2.2.2.1) (Nat.le_trans hs0 hC.2.2.2.2.2.2.2.2.2.2.2) ?_ kk
  intro s9 below9 meth9 c9 h9 hW9 hb9 hml9 hr9 hlk9
  have hts9 : ∀ w ∈ lw_all, w.before (Value.ref q9 :: [.int k1]).toArray s9 = true := la_hts hC.2.2.2.2.1 hW9
  have hK9 : va_K G mo_cl (mo_ty ai) s9 := va_K.moved hW9.alike hC.2.2.2.2.2.2.1
  have hZ9 : mo_Z s0 A s9 := ⟨State.WarmedH.trans hZ.1 hW9, by rw [h9]; exact Nat.le_trans hZ.2.1 hI.2.2.1, fun q hq => by rw [h9]; exact mo_Zold hZ hI.2.2 hq, hZ.2.2.2⟩
  have hI9 : mo_I G A s9.heap (st_W ai sa v (ml_C ai s0 b0 sa ma rf ml ++ tl)) s9.heap [] := by rw [h9]; exact ⟨hI.1, hI.2.1, va_S.rf⟩
  have hIs9 : ∀ vm, s9.WarmedH vm → la_Is sg_13 sD_13 sL_13.1 sL_13.2.1 sc_13 2 vm (laK s0 sx_13 8 568 sg_13) := fun vm hW => sis_13 h0 vm (State.WarmedH.trans hZ9.1 hW)
  have hl := lv_entry [Value.ref q9, Value.int k1] (n := 2) (Nat.le_of_ble_eq_true rfl)
  rw [lg_entry_eq]
  generalize (lg_sl [Value.ref q9, Value.int k1] ++ List.replicate (2 - (lg_sl [Value.ref q9, Value.int k1]).length) Slot.unset).toArray = ls9 at hl ⊢
  have hl : lv_has ls9 2 [(0, .ref q9), (1, .int k1)] := hl
  show W p l e _ s9 _ _ below9 meth9 c9 s9.heap [] 0 0 _ (F0 _ 0 ls9 [])
  refine lv_aload_n hC.1 hb9 sd_13_0 rfl (lv_at hl 0 rfl) ?_
  obtain ⟨f1, hf1, hp1⟩ := Option.map_eq_some_iff.mp sf_13_0.2.2.2
  simp only [Prod.mk.injEq] at hp1
  refine hw_get hC.1 hb9 hIs9 sf_13_0.1 sf_13_0.2.1 sf_13_0.2.2.1 hf1 hp1.1 hp1.2 (by rw [h9]; exact hq9) rfl rfl sd_13_1 ?_
  refine lv_iload_n hC.1 hb9 sd_13_4 rfl (lv_at hl 1 rfl) ?_
  refine hw_rd (y := yX0_lambda_caughtMany_12) (As := [.int k1]) (q0 := 18) hC.1 hb9 hml9 hts9 hK9 hZ9 hI9 hIs9 sm_13.1 sm_13.2.1 sm_13.2.2.1 sm_13.2.2.2.1 sm_13.2.2.2.2.1 sm_13.2.2.2.2.2.1 rfl sm_13.2.2.2.2.2.2.1 sm_13.2.2.2.2.2.2.2 (w_ml_lambda_caughtMany_12 l G ai h0 v ml k1 r1 hz) rfl rfl (Nat.le_of_ble_eq_true rfl) (Nat.le_of_ble_eq_true rfl) q1970 q1969 qs67 q115 rfl hl.1 (n := 1) (by decide +kernel) rfl (Nat.le_of_ble_eq_true rfl) sd_13_5 (Nat.zero_le _) (Nat.zero_le _) ?_
  exact W.iret hC.1 hb9 hr9 (fun t ht hW => ⟨rfl, ht⟩) (fun q hq => by cases hq) sd_13_8 hlk9
def f_ml_lambda_account_13 (v : MS) (ml : MS) (a1 : Int32) : Option Int32 := gd (gi a1 30) (some (v 3 a1.toNatClampNeg))
set_option maxHeartbeats 4000000 in
theorem w_ml_lambda_account_13 (l : Launch) (G : va_G) (ai : Nat → ClassId) {s0 : State} {b0 : Addr} (h0 : mo_S0 s0 b0) {sa ma : Nat → Nat} {rf : Value} {tl : va_W} (v : MS) (ml : MS) (a1 : Int32) (r0 : Int32) (hF : f_ml_lambda_account_13 v ml a1 = some r0) : rd_Met l G ai s0 yX0_lambda_account_13 cX0_lambda_account_13 2 (some .int) ({ frames := 0, cells := 0, slots := 0, locals := 0 } : Room) [.ref (ma 0), .int a1] (st_W ai sa v (ml_C ai s0 b0 sa ma rf ml ++ tl)) (.int r0) := by
  refine gz_body (Qc := fun _ => rd_Q (.int r0)) (fr := fun _ _ => False) (by decide) (Nat.le_of_ble_eq_true rfl) ?_
  intro p e s m args below meth c A ls hC hZ hr hI hl hnm
  have hx := hC.1
  have hb := hC.2.1
  have hl : lv_has ls 2 [(0, .ref (ma 0)), (1, .int a1)] := hl
  show W p l e _ s m args below meth c s.heap [] 0 0 (MQ below (rd_Q (.int r0)) args s 0 0 (fun _ => False)) (F0 m 0 ls [])
  rw [f_ml_lambda_account_13] at hF
  refine lv_aload_n hx hb dX0_lambda_account_13_0 rfl (lv_at hl 0 rfl) ?_
  refine ml_X0_g_ml_now hC h0 hZ hI dX0_lambda_account_13_1 ?_
  refine st_X0_g_st_leaves hC h0 hZ hI dX0_lambda_account_13_4 ?_
  refine lv_iload_n hx hb dX0_lambda_account_13_7 rfl (lv_at hl 1 rfl) ?_
  obtain ⟨hg1, hF⟩ := gd_some hF
  refine st_l_leaves hC hI hg1 dX0_lambda_account_13_8 ?_
  have hF := Option.some.inj hF
  subst hF
  exact rd_iret hC hr rfl dX0_lambda_account_13_9
set_option maxHeartbeats 4000000 in
theorem c_14 {p : Program} {l : Launch} {e : Env} {R : Room} {s s0 : State} {b0 : Addr} {m : MethodId} {args : Array Value} {below : List Frame} {meth : Method} {c : Code} {H : Heap} {locs : List Loc} {cells slots : Nat} {Q : State → Prop} {pc : Nat} {ls : Array Slot} {rest : List Value} {G : va_G} {ai : Nat → ClassId} {A : Nat → Prop} {cc : ByteArray} {nL f L kc ks : Nat} {sa ma : Nat → Nat} {rf : Value} {tl : va_W} {v ml : MS}  {q9 : Nat} {k1 r1 : Int32} (hC : mo_C p R s m args meth c G ai A RX0 cc nL f L kc ks) (h0 : mo_S0 s0 b0) (hZ : mo_Z s0 A s) (hI : mo_I G A s.heap (st_W ai sa v (ml_C ai s0 b0 sa ma rf ml ++ tl)) H locs) (hq9 : H[q9]? = some { cls := laK s0 sx_14 159 578 sg_14, slots := #[.ref (ma 0)], vm := .none }) (hz : f_ml_lambda_account_13 v ml k1 = some r1) (hf : 1 + 1 ≤ f) (hL : 8 + (2 + 11) + 21 ≤ L) (hsz : ls.size = nL) (hW : (rest.map fun v => v.category).sum ≤ 8) (hdg : decode cc pc = .ok (.invokeinterface 564 2, 5)) (kk : W p l e R s m args below meth c H locs cells slots Q (F0 m (pc + 5) ls (.int r1 :: rest))) (hc0 : cells ≤ kc := by first | exact Nat.zero_le _ | exact Nat.le_of_ble_eq_true rfl | assumption | omega) (hs0 : slots ≤ ks := by first | exact Nat.zero_le _ | exact Nat.le_of_ble_eq_true rfl | assumption | omega) : W p l e R s m args below meth c H locs cells slots Q (F0 m pc ls (.int k1 :: .ref q9 :: rest)) := by
  obtain ⟨m0, dk, hd1, hd2, hmade⟩ := la_later h0 sq_14 scap_14 rfl hZ.1
  have hface := la_face (args := args) (x := ⟨"MossLawn$Counted", "of", "(I)I"⟩) h0 hZ ⟨by decide, by decide⟩ q1977 q1976
  refine la_rd (rm := ({ frames := 1, cells := 0, slots := 0, locals := 21 } : Room)) (σ := sg_14) (D := sD_14) (fs := sL_14.1) (ow := sL_14.2.1) (cf9 := sc_14) (nL9 := 2) (As := [.int k1]) (v := .int r1) (n := 1) hC.1 hC.2.1 hC.2.2.1 hC.2.2.2.1 hC.2.2.2.2.1 q1975 hface.1 hface.2 ⟨by decide, by decide⟩ rfl rfl (by decide +kernel) hmade (la_can h0 sq_14 scap_14 hZ.1) (fun vm hW => sis_14 h0 vm (State.WarmedH.trans hZ.1 hW)) hq9 rfl rfl (Nat.le_trans hf hC.2.2.2.2.2.2.2.2.1) (Nat.le_trans hL hC.2.2.2.2.2.2.2.2.2.1) rfl rfl hsz (by decide +kernel) rfl hW hdg (Nat.le_trans hc0 hC.2.2.2.2.2.2.2.2.2.2.1) (Nat.le_trans hs0 hC.2.2.2.2.2.2.2.2.2.2.2) ?_ kk
  intro s9 below9 meth9 c9 h9 hW9 hb9 hml9 hr9 hlk9
  have hts9 : ∀ w ∈ lw_all, w.before (Value.ref q9 :: [.int k1]).toArray s9 = true := la_hts hC.2.2.2.2.1 hW9
  have hK9 : va_K G mo_cl (mo_ty ai) s9 := va_K.moved hW9.alike hC.2.2.2.2.2.2.1
  have hZ9 : mo_Z s0 A s9 := ⟨State.WarmedH.trans hZ.1 hW9, by rw [h9]; exact Nat.le_trans hZ.2.1 hI.2.2.1, fun q hq => by rw [h9]; exact mo_Zold hZ hI.2.2 hq, hZ.2.2.2⟩
  have hI9 : mo_I G A s9.heap (st_W ai sa v (ml_C ai s0 b0 sa ma rf ml ++ tl)) s9.heap [] := by rw [h9]; exact ⟨hI.1, hI.2.1, va_S.rf⟩
  have hIs9 : ∀ vm, s9.WarmedH vm → la_Is sg_14 sD_14 sL_14.1 sL_14.2.1 sc_14 2 vm (laK s0 sx_14 159 578 sg_14) := fun vm hW => sis_14 h0 vm (State.WarmedH.trans hZ9.1 hW)
  have hl := lv_entry [Value.ref q9, Value.int k1] (n := 2) (Nat.le_of_ble_eq_true rfl)
  rw [lg_entry_eq]
  generalize (lg_sl [Value.ref q9, Value.int k1] ++ List.replicate (2 - (lg_sl [Value.ref q9, Value.int k1]).length) Slot.unset).toArray = ls9 at hl ⊢
  have hl : lv_has ls9 2 [(0, .ref q9), (1, .int k1)] := hl
  show W p l e _ s9 _ _ below9 meth9 c9 s9.heap [] 0 0 _ (F0 _ 0 ls9 [])
  refine lv_aload_n hC.1 hb9 sd_14_0 rfl (lv_at hl 0 rfl) ?_
  obtain ⟨f1, hf1, hp1⟩ := Option.map_eq_some_iff.mp sf_14_0.2.2.2
  simp only [Prod.mk.injEq] at hp1
  refine hw_get hC.1 hb9 hIs9 sf_14_0.1 sf_14_0.2.1 sf_14_0.2.2.1 hf1 hp1.1 hp1.2 (by rw [h9]; exact hq9) rfl rfl sd_14_1 ?_
  refine lv_iload_n hC.1 hb9 sd_14_4 rfl (lv_at hl 1 rfl) ?_
  refine hw_rd (y := yX0_lambda_account_13) (As := [.int k1]) (q0 := 18) hC.1 hb9 hml9 hts9 hK9 hZ9 hI9 hIs9 sm_14.1 sm_14.2.1 sm_14.2.2.1 sm_14.2.2.2.1 sm_14.2.2.2.2.1 sm_14.2.2.2.2.2.1 rfl sm_14.2.2.2.2.2.2.1 sm_14.2.2.2.2.2.2.2 (w_ml_lambda_account_13 l G ai h0 v ml k1 r1 hz) rfl rfl (Nat.le_of_ble_eq_true rfl) (Nat.le_of_ble_eq_true rfl) q1980 q1979 qs68 q115 rfl hl.1 (n := 1) (by decide +kernel) rfl (Nat.le_of_ble_eq_true rfl) sd_14_5 (Nat.zero_le _) (Nat.zero_le _) ?_
  exact W.iret hC.1 hb9 hr9 (fun t ht hW => ⟨rfl, ht⟩) (fun q hq => by cases hq) sd_14_8 hlk9
def f_ml_lambda_account_14 (v : MS) (ml : MS) (a1 : Int32) : Option Int32 := gd (gi a1 4) (some (v (6 + a1.toNatClampNeg) 3))
set_option maxHeartbeats 4000000 in
theorem w_ml_lambda_account_14 (l : Launch) (G : va_G) (ai : Nat → ClassId) {s0 : State} {b0 : Addr} (h0 : mo_S0 s0 b0) {sa ma : Nat → Nat} {rf : Value} {tl : va_W} (v : MS) (ml : MS) (a1 : Int32) (r0 : Int32) (hF : f_ml_lambda_account_14 v ml a1 = some r0) : rd_Met l G ai s0 yX0_lambda_account_14 cX0_lambda_account_14 2 (some .int) ({ frames := 0, cells := 0, slots := 0, locals := 0 } : Room) [.ref (ma 0), .int a1] (st_W ai sa v (ml_C ai s0 b0 sa ma rf ml ++ tl)) (.int r0) := by
  refine gz_body (Qc := fun _ => rd_Q (.int r0)) (fr := fun _ _ => False) (by decide) (Nat.le_of_ble_eq_true rfl) ?_
  intro p e s m args below meth c A ls hC hZ hr hI hl hnm
  have hx := hC.1
  have hb := hC.2.1
  have hl : lv_has ls 2 [(0, .ref (ma 0)), (1, .int a1)] := hl
  show W p l e _ s m args below meth c s.heap [] 0 0 (MQ below (rd_Q (.int r0)) args s 0 0 (fun _ => False)) (F0 m 0 ls [])
  rw [f_ml_lambda_account_14] at hF
  refine lv_aload_n hx hb dX0_lambda_account_14_0 rfl (lv_at hl 0 rfl) ?_
  refine ml_X0_g_ml_now hC h0 hZ hI dX0_lambda_account_14_1 ?_
  refine st_X0_g_st_gardeners hC h0 hZ hI dX0_lambda_account_14_4 ?_
  refine lv_iload_n hx hb dX0_lambda_account_14_7 rfl (lv_at hl 1 rfl) ?_
  obtain ⟨hg1, hF⟩ := gd_some hF
  refine st_l_gards hC hI hg1 dX0_lambda_account_14_8 ?_
  refine st_X0_g_gard_swept hC h0 hZ hI hg1 dX0_lambda_account_14_9 ?_
  have hF := Option.some.inj hF
  subst hF
  exact rd_iret hC hr rfl dX0_lambda_account_14_12
set_option maxHeartbeats 4000000 in
theorem c_15 {p : Program} {l : Launch} {e : Env} {R : Room} {s s0 : State} {b0 : Addr} {m : MethodId} {args : Array Value} {below : List Frame} {meth : Method} {c : Code} {H : Heap} {locs : List Loc} {cells slots : Nat} {Q : State → Prop} {pc : Nat} {ls : Array Slot} {rest : List Value} {G : va_G} {ai : Nat → ClassId} {A : Nat → Prop} {cc : ByteArray} {nL f L kc ks : Nat} {sa ma : Nat → Nat} {rf : Value} {tl : va_W} {v ml : MS}  {q9 : Nat} {k1 r1 : Int32} (hC : mo_C p R s m args meth c G ai A RX0 cc nL f L kc ks) (h0 : mo_S0 s0 b0) (hZ : mo_Z s0 A s) (hI : mo_I G A s.heap (st_W ai sa v (ml_C ai s0 b0 sa ma rf ml ++ tl)) H locs) (hq9 : H[q9]? = some { cls := laK s0 sx_15 176 579 sg_15, slots := #[.ref (ma 0)], vm := .none }) (hz : f_ml_lambda_account_14 v ml k1 = some r1) (hf : 1 + 1 ≤ f) (hL : 8 + (2 + 11) + 21 ≤ L) (hsz : ls.size = nL) (hW : (rest.map fun v => v.category).sum ≤ 8) (hdg : decode cc pc = .ok (.invokeinterface 564 2, 5)) (kk : W p l e R s m args below meth c H locs cells slots Q (F0 m (pc + 5) ls (.int r1 :: rest))) (hc0 : cells ≤ kc := by first | exact Nat.zero_le _ | exact Nat.le_of_ble_eq_true rfl | assumption | omega) (hs0 : slots ≤ ks := by first | exact Nat.zero_le _ | exact Nat.le_of_ble_eq_true rfl | assumption | omega) : W p l e R s m args below meth c H locs cells slots Q (F0 m pc ls (.int k1 :: .ref q9 :: rest)) := by
  obtain ⟨m0, dk, hd1, hd2, hmade⟩ := la_later h0 sq_15 scap_15 rfl hZ.1
  have hface := la_face (args := args) (x := ⟨"MossLawn$Counted", "of", "(I)I"⟩) h0 hZ ⟨by decide, by decide⟩ q1977 q1976
  refine la_rd (rm := ({ frames := 1, cells := 0, slots := 0, locals := 21 } : Room)) (σ := sg_15) (D := sD_15) (fs := sL_15.1) (ow := sL_15.2.1) (cf9 := sc_15) (nL9 := 2) (As := [.int k1]) (v := .int r1) (n := 1) hC.1 hC.2.1 hC.2.2.1 hC.2.2.2.1 hC.2.2.2.2.1 q1975 hface.1 hface.2 ⟨by decide, by decide⟩ rfl rfl (by decide +kernel) hmade (la_can h0 sq_15 scap_15 hZ.1) (fun vm hW => sis_15 h0 vm (State.WarmedH.trans hZ.1 hW)) hq9 rfl rfl (Nat.le_trans hf hC.2.2.2.2.2.2.2.2.1) (Nat.le_trans hL hC.2.2.2.2.2.2.2.2.2.1) rfl rfl hsz (by decide +kernel) rfl hW hdg (Nat.le_trans hc0 hC.2.2.2.2.2.2.2.2.2.2.1) (Nat.le_trans hs0 hC.2.2.2.2.2.2.2.2.2.2.2) ?_ kk
  intro s9 below9 meth9 c9 h9 hW9 hb9 hml9 hr9 hlk9
  have hts9 : ∀ w ∈ lw_all, w.before (Value.ref q9 :: [.int k1]).toArray s9 = true := la_hts hC.2.2.2.2.1 hW9
  have hK9 : va_K G mo_cl (mo_ty ai) s9 := va_K.moved hW9.alike hC.2.2.2.2.2.2.1
  have hZ9 : mo_Z s0 A s9 := ⟨State.WarmedH.trans hZ.1 hW9, by rw [h9]; exact Nat.le_trans hZ.2.1 hI.2.2.1, fun q hq => by rw [h9]; exact mo_Zold hZ hI.2.2 hq, hZ.2.2.2⟩
  have hI9 : mo_I G A s9.heap (st_W ai sa v (ml_C ai s0 b0 sa ma rf ml ++ tl)) s9.heap [] := by rw [h9]; exact ⟨hI.1, hI.2.1, va_S.rf⟩
  have hIs9 : ∀ vm, s9.WarmedH vm → la_Is sg_15 sD_15 sL_15.1 sL_15.2.1 sc_15 2 vm (laK s0 sx_15 176 579 sg_15) := fun vm hW => sis_15 h0 vm (State.WarmedH.trans hZ9.1 hW)
  have hl := lv_entry [Value.ref q9, Value.int k1] (n := 2) (Nat.le_of_ble_eq_true rfl)
  rw [lg_entry_eq]
  generalize (lg_sl [Value.ref q9, Value.int k1] ++ List.replicate (2 - (lg_sl [Value.ref q9, Value.int k1]).length) Slot.unset).toArray = ls9 at hl ⊢
  have hl : lv_has ls9 2 [(0, .ref q9), (1, .int k1)] := hl
  show W p l e _ s9 _ _ below9 meth9 c9 s9.heap [] 0 0 _ (F0 _ 0 ls9 [])
  refine lv_aload_n hC.1 hb9 sd_15_0 rfl (lv_at hl 0 rfl) ?_
  obtain ⟨f1, hf1, hp1⟩ := Option.map_eq_some_iff.mp sf_15_0.2.2.2
  simp only [Prod.mk.injEq] at hp1
  refine hw_get hC.1 hb9 hIs9 sf_15_0.1 sf_15_0.2.1 sf_15_0.2.2.1 hf1 hp1.1 hp1.2 (by rw [h9]; exact hq9) rfl rfl sd_15_1 ?_
  refine lv_iload_n hC.1 hb9 sd_15_4 rfl (lv_at hl 1 rfl) ?_
  refine hw_rd (y := yX0_lambda_account_14) (As := [.int k1]) (q0 := 18) hC.1 hb9 hml9 hts9 hK9 hZ9 hI9 hIs9 sm_15.1 sm_15.2.1 sm_15.2.2.1 sm_15.2.2.2.1 sm_15.2.2.2.2.1 sm_15.2.2.2.2.2.1 rfl sm_15.2.2.2.2.2.2.1 sm_15.2.2.2.2.2.2.2 (w_ml_lambda_account_14 l G ai h0 v ml k1 r1 hz) rfl rfl (Nat.le_of_ble_eq_true rfl) (Nat.le_of_ble_eq_true rfl) q1983 q1982 qs69 q115 rfl hl.1 (n := 1) (by decide +kernel) rfl (Nat.le_of_ble_eq_true rfl) sd_15_5 (Nat.zero_le _) (Nat.zero_le _) ?_
  exact W.iret hC.1 hb9 hr9 (fun t ht hW => ⟨rfl, ht⟩) (fun q hq => by cases hq) sd_15_8 hlk9

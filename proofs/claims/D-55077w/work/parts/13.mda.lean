/-! printed by tools/gen_md.py -/
set_option maxRecDepth 100000
def f_lays_2_1_L2 (kont : MS → Option (Int32 × MS)) : Nat → MS → Int32 → Option (Int32 × MS)
  | 0, _, _ => none
  | n + 1, M, x2 => if 216 ≤ x2 then (kont M) else (gd (gi x2 216) (gd (gi x2 216) (lt (rup M 2 (upd (M 2) x2.toNatClampNeg (M 1 x2.toNatClampNeg))) (fun M4 => lt (x2 + 1) (fun x2_5 => f_lays_2_1_L2 kont n M4 x2_5)))))
def f_lays_2_1 (M : MS) : Option (Int32 × MS) := f_lays_2_1_L2 (fun M6 => some (0, M6)) 2000 M 0
set_option maxHeartbeats 4000000 in
theorem w_lays_2_1_L2 {p : Program} {l : Launch} {e : Env} {R : Room} {s : State} {m : MethodId} {args : Array Value} {below : List Frame} {meth : Method} {c : Code} {G : va_G} {ai : Nat → ClassId} {A : Nat → Prop} {o : Nat} {ar : Nat → Nat} {r0 : Int32} {M0 : MS} (hC : mo_C p R s m args meth c G ai A RX9 cX9_lays 3 0 0 0 0) (hr : meth.sig.returnType = none) (kont : MS → Option (Int32 × MS)) (K : ∀ (M : MS) (H : Heap) (locs : List Loc) (ls : Array Slot), kont M = some (r0, M0) → mo_I G A s.heap (md_W ai o ar M) H locs → lv_has ls 3 [] → W p l e R s m args below meth c H locs 0 0 (md_Qv below G ai o ar A args s M0) (F0 m 21 ls [])) :
    ∀ (n : Nat) (M : MS) (x2 : Int32) (H : Heap) (locs : List Loc) (ls : Array Slot), f_lays_2_1_L2 kont n M x2 = some (r0, M0) → mo_I G A s.heap (md_W ai o ar M) H locs → lv_has ls 3 [(2, .int x2), (0, .ref (ar 2)), (1, .ref (ar 1))] → W p l e R s m args below meth c H locs 0 0 (md_Qv below G ai o ar A args s M0) (F0 m 2 ls []) := by
  have hx := hC.1
  have hb := hC.2.1
  intro n
  induction n with
  | zero =>
    intro M x2 H locs ls hF
    have h0 : (none : Option (Int32 × MS)) = some (r0, M0) := hF
    cases h0
  | succ n ih =>
    intro M x2 H locs ls hF hI hl
    rw [f_lays_2_1_L2] at hF
    refine lv_iload_n hx hb dX9_lays_2 rfl (lv_at hl 0 rfl) ?_
    refine lv_sipush (v := 216) hx hb dX9_lays_3 (by decide) ?_
    refine lv_icmp_ge (tgt := 21) hx hb dX9_lays_6 (by decide) (fun c1 => ?_) (fun c1 => ?_)
    · have hF := if_t hF c1
      exact K _ _ _ _ hF hI (lv_sub hl [] rfl)
    · have hF := if_f hF c1
      refine lv_aload_n hx hb dX9_lays_9 rfl (lv_at hl 1 rfl) ?_
      refine lv_iload_n hx hb dX9_lays_10 rfl (lv_at hl 0 rfl) ?_
      refine lv_aload_n hx hb dX9_lays_11 rfl (lv_at hl 2 rfl) ?_
      refine lv_iload_n hx hb dX9_lays_12 rfl (lv_at hl 0 rfl) ?_
      obtain ⟨hg2, hF⟩ := gd_some hF
      refine md_l1 hC hI hg2 dX9_lays_13 ?_
      obtain ⟨hg3, hF⟩ := gd_some hF
      obtain ⟨M4, hM4, hF⟩ := lt_some hF
      refine md_s2 hC hI hg3 hM4 dX9_lays_14 (fun H locs hI => ?_)
      obtain ⟨x2_5, hx2_5, hF⟩ := lt_some hF
      refine mo_inc (k := 0) (lv' := [(2, .int x2_5), (0, .ref (ar 2)), (1, .ref (ar 1))]) hx hb hx2_5 (by decide) dX9_lays_15 hl rfl (by decide) rfl (fun ls hl => ?_)
      refine lv_goto (tgt := 2) hx hb dX9_lays_18 (by decide) ?_
      exact ih _ _ _ _ _ hF hI (lv_sub hl [0, 1, 2] rfl)
set_option maxHeartbeats 4000000 in
theorem w_lays_2_1 (l : Launch) (G : va_G) (ai : Nat → ClassId) (o : Nat) (ar : Nat → Nat) (M : MS) (r0 : Int32) (M0 : MS) (hF : f_lays_2_1 M = some (r0, M0)) : md_Mv l G ai o ar yX9_lays cX9_lays 3 ({ frames := 0, cells := 0, slots := 0, locals := 0 } : Room) [.ref (ar 2), .ref (ar 1)] M M0 := by
  refine mo_body (Qc := fun A => va_Qv (fun (M2 : MS) => M2 = M0) (gw_E G ai (md_W ai o ar) A) A) (by decide) (Nat.le_of_ble_eq_true rfl) ?_
  intro p e s m args below meth c A ls hC hr hI hl _
  have hx := hC.1
  have hb := hC.2.1
  have hl : lv_has ls 3 [(0, .ref (ar 2)), (1, .ref (ar 1))] := hl
  show W p l e _ s m args below meth c s.heap [] 0 0 (md_Qv below G ai o ar A args s M0) (F0 m 0 ls [])
  rw [f_lays_2_1] at hF
  refine lv_iconst (v := 0) hx hb dX9_lays_0 (by decide) ?_
  refine mo_ist (lv' := [(2, .int 0), (0, .ref (ar 2)), (1, .ref (ar 1))]) hx hb rfl dX9_lays_1 rfl hl (by decide) rfl (fun ls hl => ?_)
  refine w_lays_2_1_L2 hC hr _ (fun M6 H locs ls hF hI hl => ?_) 2000 _ _ _ _ _ hF hI (lv_sub hl [0, 1, 2] rfl)
  exact md_vret hC hI hr hF dX9_lays_21
theorem k_lays_2_1 {p : Program} {l : Launch} {e : Env} {R : Room} {s : State} {m : MethodId} {args : Array Value} {below : List Frame} {meth : Method} {c : Code} {H : Heap} {locs : List Loc} {cells slots : Nat} {Q : State → Prop} {pc : Nat} {ls : Array Slot} {rest : List Value} {G : va_G} {ai : Nat → ClassId} {A : Nat → Prop} {cc : ByteArray} {nL f L kc ks o : Nat} {ar : Nat → Nat} {M M1 : MS} {r1 : Int32} (hC : mo_C p R s m args meth c G ai A RX9 cc nL f L kc ks) (hI : mo_I G A s.heap (md_W ai o ar M) H locs) (hz : f_lays_2_1 M = some (r1, M1)) (hf : 0 + 1 ≤ f) (hL : 8 + (3 + 11) + 0 ≤ L) (hsz : ls.size = nL) (hW : (rest.map fun v => v.category).sum ≤ 8) (hdg : decode cc pc = .ok (.invokestatic 64, 3)) (kk : ∀ (H1 : Heap) (locs1 : List Loc), mo_I G A s.heap (md_W ai o ar M1) H1 locs1 → W p l e R s m args below meth c H1 locs1 cells slots Q (F0 m (pc + 3) ls (rest))) (hc0 : cells ≤ kc := by first | exact Nat.zero_le _ | assumption) (hs0 : slots ≤ ks := by first | exact Nat.zero_le _ | assumption) : W p l e R s m args below meth c H locs cells slots Q (F0 m pc ls (.ref (ar 1) :: .ref (ar 2) :: rest)) := by
  have hI : mo_I G A s.heap (md_W ai o ar M ++ []) H locs := by rw [List.append_nil]; exact hI
  refine gw_cSv (As := [.ref (ar 2), .ref (ar 1)]) (mc := 0) (ms := 0) hC 2 hI (w_lays_2_1 l G ai o ar M r1 M1 hz) q2085 q2086 q142 q2087 rfl rfl (by decide +kernel) rfl hf hL hc0 hs0 hsz rfl hW hdg (fun u H1 locs1 hp hI1 => ?_)
  obtain rfl := hp
  rw [List.append_nil] at hI1
  exact kk H1 locs1 hI1
def f_lays_1_2_L2 (kont : MS → Option (Int32 × MS)) : Nat → MS → Int32 → Option (Int32 × MS)
  | 0, _, _ => none
  | n + 1, M, x2 => if 216 ≤ x2 then (kont M) else (gd (gi x2 216) (gd (gi x2 216) (lt (rup M 1 (upd (M 1) x2.toNatClampNeg (M 2 x2.toNatClampNeg))) (fun M4 => lt (x2 + 1) (fun x2_5 => f_lays_1_2_L2 kont n M4 x2_5)))))
def f_lays_1_2 (M : MS) : Option (Int32 × MS) := f_lays_1_2_L2 (fun M6 => some (0, M6)) 2000 M 0
set_option maxHeartbeats 4000000 in
theorem w_lays_1_2_L2 {p : Program} {l : Launch} {e : Env} {R : Room} {s : State} {m : MethodId} {args : Array Value} {below : List Frame} {meth : Method} {c : Code} {G : va_G} {ai : Nat → ClassId} {A : Nat → Prop} {o : Nat} {ar : Nat → Nat} {r0 : Int32} {M0 : MS} (hC : mo_C p R s m args meth c G ai A RX9 cX9_lays 3 0 0 0 0) (hr : meth.sig.returnType = none) (kont : MS → Option (Int32 × MS)) (K : ∀ (M : MS) (H : Heap) (locs : List Loc) (ls : Array Slot), kont M = some (r0, M0) → mo_I G A s.heap (md_W ai o ar M) H locs → lv_has ls 3 [] → W p l e R s m args below meth c H locs 0 0 (md_Qv below G ai o ar A args s M0) (F0 m 21 ls [])) :
    ∀ (n : Nat) (M : MS) (x2 : Int32) (H : Heap) (locs : List Loc) (ls : Array Slot), f_lays_1_2_L2 kont n M x2 = some (r0, M0) → mo_I G A s.heap (md_W ai o ar M) H locs → lv_has ls 3 [(2, .int x2), (0, .ref (ar 1)), (1, .ref (ar 2))] → W p l e R s m args below meth c H locs 0 0 (md_Qv below G ai o ar A args s M0) (F0 m 2 ls []) := by
  have hx := hC.1
  have hb := hC.2.1
  intro n
  induction n with
  | zero =>
    intro M x2 H locs ls hF
    have h0 : (none : Option (Int32 × MS)) = some (r0, M0) := hF
    cases h0
  | succ n ih =>
    intro M x2 H locs ls hF hI hl
    rw [f_lays_1_2_L2] at hF
    refine lv_iload_n hx hb dX9_lays_2 rfl (lv_at hl 0 rfl) ?_
    refine lv_sipush (v := 216) hx hb dX9_lays_3 (by decide) ?_
    refine lv_icmp_ge (tgt := 21) hx hb dX9_lays_6 (by decide) (fun c1 => ?_) (fun c1 => ?_)
    · have hF := if_t hF c1
      exact K _ _ _ _ hF hI (lv_sub hl [] rfl)
    · have hF := if_f hF c1
      refine lv_aload_n hx hb dX9_lays_9 rfl (lv_at hl 1 rfl) ?_
      refine lv_iload_n hx hb dX9_lays_10 rfl (lv_at hl 0 rfl) ?_
      refine lv_aload_n hx hb dX9_lays_11 rfl (lv_at hl 2 rfl) ?_
      refine lv_iload_n hx hb dX9_lays_12 rfl (lv_at hl 0 rfl) ?_
      obtain ⟨hg2, hF⟩ := gd_some hF
      refine md_l2 hC hI hg2 dX9_lays_13 ?_
      obtain ⟨hg3, hF⟩ := gd_some hF
      obtain ⟨M4, hM4, hF⟩ := lt_some hF
      refine md_s1 hC hI hg3 hM4 dX9_lays_14 (fun H locs hI => ?_)
      obtain ⟨x2_5, hx2_5, hF⟩ := lt_some hF
      refine mo_inc (k := 0) (lv' := [(2, .int x2_5), (0, .ref (ar 1)), (1, .ref (ar 2))]) hx hb hx2_5 (by decide) dX9_lays_15 hl rfl (by decide) rfl (fun ls hl => ?_)
      refine lv_goto (tgt := 2) hx hb dX9_lays_18 (by decide) ?_
      exact ih _ _ _ _ _ hF hI (lv_sub hl [0, 1, 2] rfl)
set_option maxHeartbeats 4000000 in
theorem w_lays_1_2 (l : Launch) (G : va_G) (ai : Nat → ClassId) (o : Nat) (ar : Nat → Nat) (M : MS) (r0 : Int32) (M0 : MS) (hF : f_lays_1_2 M = some (r0, M0)) : md_Mv l G ai o ar yX9_lays cX9_lays 3 ({ frames := 0, cells := 0, slots := 0, locals := 0 } : Room) [.ref (ar 1), .ref (ar 2)] M M0 := by
  refine mo_body (Qc := fun A => va_Qv (fun (M2 : MS) => M2 = M0) (gw_E G ai (md_W ai o ar) A) A) (by decide) (Nat.le_of_ble_eq_true rfl) ?_
  intro p e s m args below meth c A ls hC hr hI hl _
  have hx := hC.1
  have hb := hC.2.1
  have hl : lv_has ls 3 [(0, .ref (ar 1)), (1, .ref (ar 2))] := hl
  show W p l e _ s m args below meth c s.heap [] 0 0 (md_Qv below G ai o ar A args s M0) (F0 m 0 ls [])
  rw [f_lays_1_2] at hF
  refine lv_iconst (v := 0) hx hb dX9_lays_0 (by decide) ?_
  refine mo_ist (lv' := [(2, .int 0), (0, .ref (ar 1)), (1, .ref (ar 2))]) hx hb rfl dX9_lays_1 rfl hl (by decide) rfl (fun ls hl => ?_)
  refine w_lays_1_2_L2 hC hr _ (fun M6 H locs ls hF hI hl => ?_) 2000 _ _ _ _ _ hF hI (lv_sub hl [0, 1, 2] rfl)
  exact md_vret hC hI hr hF dX9_lays_21
theorem k_lays_1_2 {p : Program} {l : Launch} {e : Env} {R : Room} {s : State} {m : MethodId} {args : Array Value} {below : List Frame} {meth : Method} {c : Code} {H : Heap} {locs : List Loc} {cells slots : Nat} {Q : State → Prop} {pc : Nat} {ls : Array Slot} {rest : List Value} {G : va_G} {ai : Nat → ClassId} {A : Nat → Prop} {cc : ByteArray} {nL f L kc ks o : Nat} {ar : Nat → Nat} {M M1 : MS} {r1 : Int32} (hC : mo_C p R s m args meth c G ai A RX9 cc nL f L kc ks) (hI : mo_I G A s.heap (md_W ai o ar M) H locs) (hz : f_lays_1_2 M = some (r1, M1)) (hf : 0 + 1 ≤ f) (hL : 8 + (3 + 11) + 0 ≤ L) (hsz : ls.size = nL) (hW : (rest.map fun v => v.category).sum ≤ 8) (hdg : decode cc pc = .ok (.invokestatic 64, 3)) (kk : ∀ (H1 : Heap) (locs1 : List Loc), mo_I G A s.heap (md_W ai o ar M1) H1 locs1 → W p l e R s m args below meth c H1 locs1 cells slots Q (F0 m (pc + 3) ls (rest))) (hc0 : cells ≤ kc := by first | exact Nat.zero_le _ | assumption) (hs0 : slots ≤ ks := by first | exact Nat.zero_le _ | assumption) : W p l e R s m args below meth c H locs cells slots Q (F0 m pc ls (.ref (ar 2) :: .ref (ar 1) :: rest)) := by
  have hI : mo_I G A s.heap (md_W ai o ar M ++ []) H locs := by rw [List.append_nil]; exact hI
  refine gw_cSv (As := [.ref (ar 1), .ref (ar 2)]) (mc := 0) (ms := 0) hC 2 hI (w_lays_1_2 l G ai o ar M r1 M1 hz) q2085 q2086 q142 q2087 rfl rfl (by decide +kernel) rfl hf hL hc0 hs0 hsz rfl hW hdg (fun u H1 locs1 hp hI1 => ?_)
  obtain rfl := hp
  rw [List.append_nil] at hI1
  exact kk H1 locs1 hI1
def f_lays_3_1_L2 (kont : MS → Option (Int32 × MS)) : Nat → MS → Int32 → Option (Int32 × MS)
  | 0, _, _ => none
  | n + 1, M, x2 => if 216 ≤ x2 then (kont M) else (gd (gi x2 216) (gd (gi x2 216) (lt (rup M 3 (upd (M 3) x2.toNatClampNeg (M 1 x2.toNatClampNeg))) (fun M4 => lt (x2 + 1) (fun x2_5 => f_lays_3_1_L2 kont n M4 x2_5)))))
def f_lays_3_1 (M : MS) : Option (Int32 × MS) := f_lays_3_1_L2 (fun M6 => some (0, M6)) 2000 M 0
set_option maxHeartbeats 4000000 in
theorem w_lays_3_1_L2 {p : Program} {l : Launch} {e : Env} {R : Room} {s : State} {m : MethodId} {args : Array Value} {below : List Frame} {meth : Method} {c : Code} {G : va_G} {ai : Nat → ClassId} {A : Nat → Prop} {o : Nat} {ar : Nat → Nat} {r0 : Int32} {M0 : MS} (hC : mo_C p R s m args meth c G ai A RX9 cX9_lays 3 0 0 0 0) (hr : meth.sig.returnType = none) (kont : MS → Option (Int32 × MS)) (K : ∀ (M : MS) (H : Heap) (locs : List Loc) (ls : Array Slot), kont M = some (r0, M0) → mo_I G A s.heap (md_W ai o ar M) H locs → lv_has ls 3 [] → W p l e R s m args below meth c H locs 0 0 (md_Qv below G ai o ar A args s M0) (F0 m 21 ls [])) :
    ∀ (n : Nat) (M : MS) (x2 : Int32) (H : Heap) (locs : List Loc) (ls : Array Slot), f_lays_3_1_L2 kont n M x2 = some (r0, M0) → mo_I G A s.heap (md_W ai o ar M) H locs → lv_has ls 3 [(2, .int x2), (0, .ref (ar 3)), (1, .ref (ar 1))] → W p l e R s m args below meth c H locs 0 0 (md_Qv below G ai o ar A args s M0) (F0 m 2 ls []) := by
  have hx := hC.1
  have hb := hC.2.1
  intro n
  induction n with
  | zero =>
    intro M x2 H locs ls hF
    have h0 : (none : Option (Int32 × MS)) = some (r0, M0) := hF
    cases h0
  | succ n ih =>
    intro M x2 H locs ls hF hI hl
    rw [f_lays_3_1_L2] at hF
    refine lv_iload_n hx hb dX9_lays_2 rfl (lv_at hl 0 rfl) ?_
    refine lv_sipush (v := 216) hx hb dX9_lays_3 (by decide) ?_
    refine lv_icmp_ge (tgt := 21) hx hb dX9_lays_6 (by decide) (fun c1 => ?_) (fun c1 => ?_)
    · have hF := if_t hF c1
      exact K _ _ _ _ hF hI (lv_sub hl [] rfl)
    · have hF := if_f hF c1
      refine lv_aload_n hx hb dX9_lays_9 rfl (lv_at hl 1 rfl) ?_
      refine lv_iload_n hx hb dX9_lays_10 rfl (lv_at hl 0 rfl) ?_
      refine lv_aload_n hx hb dX9_lays_11 rfl (lv_at hl 2 rfl) ?_
      refine lv_iload_n hx hb dX9_lays_12 rfl (lv_at hl 0 rfl) ?_
      obtain ⟨hg2, hF⟩ := gd_some hF
      refine md_l1 hC hI hg2 dX9_lays_13 ?_
      obtain ⟨hg3, hF⟩ := gd_some hF
      obtain ⟨M4, hM4, hF⟩ := lt_some hF
      refine md_s3 hC hI hg3 hM4 dX9_lays_14 (fun H locs hI => ?_)
      obtain ⟨x2_5, hx2_5, hF⟩ := lt_some hF
      refine mo_inc (k := 0) (lv' := [(2, .int x2_5), (0, .ref (ar 3)), (1, .ref (ar 1))]) hx hb hx2_5 (by decide) dX9_lays_15 hl rfl (by decide) rfl (fun ls hl => ?_)
      refine lv_goto (tgt := 2) hx hb dX9_lays_18 (by decide) ?_
      exact ih _ _ _ _ _ hF hI (lv_sub hl [0, 1, 2] rfl)
set_option maxHeartbeats 4000000 in
theorem w_lays_3_1 (l : Launch) (G : va_G) (ai : Nat → ClassId) (o : Nat) (ar : Nat → Nat) (M : MS) (r0 : Int32) (M0 : MS) (hF : f_lays_3_1 M = some (r0, M0)) : md_Mv l G ai o ar yX9_lays cX9_lays 3 ({ frames := 0, cells := 0, slots := 0, locals := 0 } : Room) [.ref (ar 3), .ref (ar 1)] M M0 := by
  refine mo_body (Qc := fun A => va_Qv (fun (M2 : MS) => M2 = M0) (gw_E G ai (md_W ai o ar) A) A) (by decide) (Nat.le_of_ble_eq_true rfl) ?_
  intro p e s m args below meth c A ls hC hr hI hl _
  have hx := hC.1
  have hb := hC.2.1
  have hl : lv_has ls 3 [(0, .ref (ar 3)), (1, .ref (ar 1))] := hl
  show W p l e _ s m args below meth c s.heap [] 0 0 (md_Qv below G ai o ar A args s M0) (F0 m 0 ls [])
  rw [f_lays_3_1] at hF
  refine lv_iconst (v := 0) hx hb dX9_lays_0 (by decide) ?_
  refine mo_ist (lv' := [(2, .int 0), (0, .ref (ar 3)), (1, .ref (ar 1))]) hx hb rfl dX9_lays_1 rfl hl (by decide) rfl (fun ls hl => ?_)
  refine w_lays_3_1_L2 hC hr _ (fun M6 H locs ls hF hI hl => ?_) 2000 _ _ _ _ _ hF hI (lv_sub hl [0, 1, 2] rfl)
  exact md_vret hC hI hr hF dX9_lays_21
theorem k_lays_3_1 {p : Program} {l : Launch} {e : Env} {R : Room} {s : State} {m : MethodId} {args : Array Value} {below : List Frame} {meth : Method} {c : Code} {H : Heap} {locs : List Loc} {cells slots : Nat} {Q : State → Prop} {pc : Nat} {ls : Array Slot} {rest : List Value} {G : va_G} {ai : Nat → ClassId} {A : Nat → Prop} {cc : ByteArray} {nL f L kc ks o : Nat} {ar : Nat → Nat} {M M1 : MS} {r1 : Int32} (hC : mo_C p R s m args meth c G ai A RX9 cc nL f L kc ks) (hI : mo_I G A s.heap (md_W ai o ar M) H locs) (hz : f_lays_3_1 M = some (r1, M1)) (hf : 0 + 1 ≤ f) (hL : 8 + (3 + 11) + 0 ≤ L) (hsz : ls.size = nL) (hW : (rest.map fun v => v.category).sum ≤ 8) (hdg : decode cc pc = .ok (.invokestatic 64, 3)) (kk : ∀ (H1 : Heap) (locs1 : List Loc), mo_I G A s.heap (md_W ai o ar M1) H1 locs1 → W p l e R s m args below meth c H1 locs1 cells slots Q (F0 m (pc + 3) ls (rest))) (hc0 : cells ≤ kc := by first | exact Nat.zero_le _ | assumption) (hs0 : slots ≤ ks := by first | exact Nat.zero_le _ | assumption) : W p l e R s m args below meth c H locs cells slots Q (F0 m pc ls (.ref (ar 1) :: .ref (ar 3) :: rest)) := by
  have hI : mo_I G A s.heap (md_W ai o ar M ++ []) H locs := by rw [List.append_nil]; exact hI
  refine gw_cSv (As := [.ref (ar 3), .ref (ar 1)]) (mc := 0) (ms := 0) hC 2 hI (w_lays_3_1 l G ai o ar M r1 M1 hz) q2085 q2086 q142 q2087 rfl rfl (by decide +kernel) rfl hf hL hc0 hs0 hsz rfl hW hdg (fun u H1 locs1 hp hI1 => ?_)
  obtain rfl := hp
  rw [List.append_nil] at hI1
  exact kk H1 locs1 hI1
def f_lays_1_3_L2 (kont : MS → Option (Int32 × MS)) : Nat → MS → Int32 → Option (Int32 × MS)
  | 0, _, _ => none
  | n + 1, M, x2 => if 216 ≤ x2 then (kont M) else (gd (gi x2 216) (gd (gi x2 216) (lt (rup M 1 (upd (M 1) x2.toNatClampNeg (M 3 x2.toNatClampNeg))) (fun M4 => lt (x2 + 1) (fun x2_5 => f_lays_1_3_L2 kont n M4 x2_5)))))
def f_lays_1_3 (M : MS) : Option (Int32 × MS) := f_lays_1_3_L2 (fun M6 => some (0, M6)) 2000 M 0
set_option maxHeartbeats 4000000 in
theorem w_lays_1_3_L2 {p : Program} {l : Launch} {e : Env} {R : Room} {s : State} {m : MethodId} {args : Array Value} {below : List Frame} {meth : Method} {c : Code} {G : va_G} {ai : Nat → ClassId} {A : Nat → Prop} {o : Nat} {ar : Nat → Nat} {r0 : Int32} {M0 : MS} (hC : mo_C p R s m args meth c G ai A RX9 cX9_lays 3 0 0 0 0) (hr : meth.sig.returnType = none) (kont : MS → Option (Int32 × MS)) (K : ∀ (M : MS) (H : Heap) (locs : List Loc) (ls : Array Slot), kont M = some (r0, M0) → mo_I G A s.heap (md_W ai o ar M) H locs → lv_has ls 3 [] → W p l e R s m args below meth c H locs 0 0 (md_Qv below G ai o ar A args s M0) (F0 m 21 ls [])) :
    ∀ (n : Nat) (M : MS) (x2 : Int32) (H : Heap) (locs : List Loc) (ls : Array Slot), f_lays_1_3_L2 kont n M x2 = some (r0, M0) → mo_I G A s.heap (md_W ai o ar M) H locs → lv_has ls 3 [(2, .int x2), (0, .ref (ar 1)), (1, .ref (ar 3))] → W p l e R s m args below meth c H locs 0 0 (md_Qv below G ai o ar A args s M0) (F0 m 2 ls []) := by
  have hx := hC.1
  have hb := hC.2.1
  intro n
  induction n with
  | zero =>
    intro M x2 H locs ls hF
    have h0 : (none : Option (Int32 × MS)) = some (r0, M0) := hF
    cases h0
  | succ n ih =>
    intro M x2 H locs ls hF hI hl
    rw [f_lays_1_3_L2] at hF
    refine lv_iload_n hx hb dX9_lays_2 rfl (lv_at hl 0 rfl) ?_
    refine lv_sipush (v := 216) hx hb dX9_lays_3 (by decide) ?_
    refine lv_icmp_ge (tgt := 21) hx hb dX9_lays_6 (by decide) (fun c1 => ?_) (fun c1 => ?_)
    · have hF := if_t hF c1
      exact K _ _ _ _ hF hI (lv_sub hl [] rfl)
    · have hF := if_f hF c1
      refine lv_aload_n hx hb dX9_lays_9 rfl (lv_at hl 1 rfl) ?_
      refine lv_iload_n hx hb dX9_lays_10 rfl (lv_at hl 0 rfl) ?_
      refine lv_aload_n hx hb dX9_lays_11 rfl (lv_at hl 2 rfl) ?_
      refine lv_iload_n hx hb dX9_lays_12 rfl (lv_at hl 0 rfl) ?_
      obtain ⟨hg2, hF⟩ := gd_some hF
      refine md_l3 hC hI hg2 dX9_lays_13 ?_
      obtain ⟨hg3, hF⟩ := gd_some hF
      obtain ⟨M4, hM4, hF⟩ := lt_some hF
      refine md_s1 hC hI hg3 hM4 dX9_lays_14 (fun H locs hI => ?_)
      obtain ⟨x2_5, hx2_5, hF⟩ := lt_some hF
      refine mo_inc (k := 0) (lv' := [(2, .int x2_5), (0, .ref (ar 1)), (1, .ref (ar 3))]) hx hb hx2_5 (by decide) dX9_lays_15 hl rfl (by decide) rfl (fun ls hl => ?_)
      refine lv_goto (tgt := 2) hx hb dX9_lays_18 (by decide) ?_
      exact ih _ _ _ _ _ hF hI (lv_sub hl [0, 1, 2] rfl)
set_option maxHeartbeats 4000000 in
theorem w_lays_1_3 (l : Launch) (G : va_G) (ai : Nat → ClassId) (o : Nat) (ar : Nat → Nat) (M : MS) (r0 : Int32) (M0 : MS) (hF : f_lays_1_3 M = some (r0, M0)) : md_Mv l G ai o ar yX9_lays cX9_lays 3 ({ frames := 0, cells := 0, slots := 0, locals := 0 } : Room) [.ref (ar 1), .ref (ar 3)] M M0 := by
  refine mo_body (Qc := fun A => va_Qv (fun (M2 : MS) => M2 = M0) (gw_E G ai (md_W ai o ar) A) A) (by decide) (Nat.le_of_ble_eq_true rfl) ?_
  intro p e s m args below meth c A ls hC hr hI hl _
  have hx := hC.1
  have hb := hC.2.1
  have hl : lv_has ls 3 [(0, .ref (ar 1)), (1, .ref (ar 3))] := hl
  show W p l e _ s m args below meth c s.heap [] 0 0 (md_Qv below G ai o ar A args s M0) (F0 m 0 ls [])
  rw [f_lays_1_3] at hF
  refine lv_iconst (v := 0) hx hb dX9_lays_0 (by decide) ?_
  refine mo_ist (lv' := [(2, .int 0), (0, .ref (ar 1)), (1, .ref (ar 3))]) hx hb rfl dX9_lays_1 rfl hl (by decide) rfl (fun ls hl => ?_)
  refine w_lays_1_3_L2 hC hr _ (fun M6 H locs ls hF hI hl => ?_) 2000 _ _ _ _ _ hF hI (lv_sub hl [0, 1, 2] rfl)
  exact md_vret hC hI hr hF dX9_lays_21
theorem k_lays_1_3 {p : Program} {l : Launch} {e : Env} {R : Room} {s : State} {m : MethodId} {args : Array Value} {below : List Frame} {meth : Method} {c : Code} {H : Heap} {locs : List Loc} {cells slots : Nat} {Q : State → Prop} {pc : Nat} {ls : Array Slot} {rest : List Value} {G : va_G} {ai : Nat → ClassId} {A : Nat → Prop} {cc : ByteArray} {nL f L kc ks o : Nat} {ar : Nat → Nat} {M M1 : MS} {r1 : Int32} (hC : mo_C p R s m args meth c G ai A RX9 cc nL f L kc ks) (hI : mo_I G A s.heap (md_W ai o ar M) H locs) (hz : f_lays_1_3 M = some (r1, M1)) (hf : 0 + 1 ≤ f) (hL : 8 + (3 + 11) + 0 ≤ L) (hsz : ls.size = nL) (hW : (rest.map fun v => v.category).sum ≤ 8) (hdg : decode cc pc = .ok (.invokestatic 64, 3)) (kk : ∀ (H1 : Heap) (locs1 : List Loc), mo_I G A s.heap (md_W ai o ar M1) H1 locs1 → W p l e R s m args below meth c H1 locs1 cells slots Q (F0 m (pc + 3) ls (rest))) (hc0 : cells ≤ kc := by first | exact Nat.zero_le _ | assumption) (hs0 : slots ≤ ks := by first | exact Nat.zero_le _ | assumption) : W p l e R s m args below meth c H locs cells slots Q (F0 m pc ls (.ref (ar 3) :: .ref (ar 1) :: rest)) := by
  have hI : mo_I G A s.heap (md_W ai o ar M ++ []) H locs := by rw [List.append_nil]; exact hI
  refine gw_cSv (As := [.ref (ar 1), .ref (ar 3)]) (mc := 0) (ms := 0) hC 2 hI (w_lays_1_3 l G ai o ar M r1 M1 hz) q2085 q2086 q142 q2087 rfl rfl (by decide +kernel) rfl hf hL hc0 hs0 hsz rfl hW hdg (fun u H1 locs1 hp hI1 => ?_)
  obtain rfl := hp
  rw [List.append_nil] at hI1
  exact kk H1 locs1 hI1
def f_lays_4_1_L2 (kont : MS → Option (Int32 × MS)) : Nat → MS → Int32 → Option (Int32 × MS)
  | 0, _, _ => none
  | n + 1, M, x2 => if 216 ≤ x2 then (kont M) else (gd (gi x2 216) (gd (gi x2 216) (lt (rup M 4 (upd (M 4) x2.toNatClampNeg (M 1 x2.toNatClampNeg))) (fun M4 => lt (x2 + 1) (fun x2_5 => f_lays_4_1_L2 kont n M4 x2_5)))))
def f_lays_4_1 (M : MS) : Option (Int32 × MS) := f_lays_4_1_L2 (fun M6 => some (0, M6)) 2000 M 0
set_option maxHeartbeats 4000000 in
theorem w_lays_4_1_L2 {p : Program} {l : Launch} {e : Env} {R : Room} {s : State} {m : MethodId} {args : Array Value} {below : List Frame} {meth : Method} {c : Code} {G : va_G} {ai : Nat → ClassId} {A : Nat → Prop} {o : Nat} {ar : Nat → Nat} {r0 : Int32} {M0 : MS} (hC : mo_C p R s m args meth c G ai A RX9 cX9_lays 3 0 0 0 0) (hr : meth.sig.returnType = none) (kont : MS → Option (Int32 × MS)) (K : ∀ (M : MS) (H : Heap) (locs : List Loc) (ls : Array Slot), kont M = some (r0, M0) → mo_I G A s.heap (md_W ai o ar M) H locs → lv_has ls 3 [] → W p l e R s m args below meth c H locs 0 0 (md_Qv below G ai o ar A args s M0) (F0 m 21 ls [])) :
    ∀ (n : Nat) (M : MS) (x2 : Int32) (H : Heap) (locs : List Loc) (ls : Array Slot), f_lays_4_1_L2 kont n M x2 = some (r0, M0) → mo_I G A s.heap (md_W ai o ar M) H locs → lv_has ls 3 [(2, .int x2), (0, .ref (ar 4)), (1, .ref (ar 1))] → W p l e R s m args below meth c H locs 0 0 (md_Qv below G ai o ar A args s M0) (F0 m 2 ls []) := by
  have hx := hC.1
  have hb := hC.2.1
  intro n
  induction n with
  | zero =>
    intro M x2 H locs ls hF
    have h0 : (none : Option (Int32 × MS)) = some (r0, M0) := hF
    cases h0
  | succ n ih =>
    intro M x2 H locs ls hF hI hl
    rw [f_lays_4_1_L2] at hF
    refine lv_iload_n hx hb dX9_lays_2 rfl (lv_at hl 0 rfl) ?_
    refine lv_sipush (v := 216) hx hb dX9_lays_3 (by decide) ?_
    refine lv_icmp_ge (tgt := 21) hx hb dX9_lays_6 (by decide) (fun c1 => ?_) (fun c1 => ?_)
    · have hF := if_t hF c1
      exact K _ _ _ _ hF hI (lv_sub hl [] rfl)
    · have hF := if_f hF c1
      refine lv_aload_n hx hb dX9_lays_9 rfl (lv_at hl 1 rfl) ?_
      refine lv_iload_n hx hb dX9_lays_10 rfl (lv_at hl 0 rfl) ?_
      refine lv_aload_n hx hb dX9_lays_11 rfl (lv_at hl 2 rfl) ?_
      refine lv_iload_n hx hb dX9_lays_12 rfl (lv_at hl 0 rfl) ?_
      obtain ⟨hg2, hF⟩ := gd_some hF
      refine md_l1 hC hI hg2 dX9_lays_13 ?_
      obtain ⟨hg3, hF⟩ := gd_some hF
      obtain ⟨M4, hM4, hF⟩ := lt_some hF
      refine md_s4 hC hI hg3 hM4 dX9_lays_14 (fun H locs hI => ?_)
      obtain ⟨x2_5, hx2_5, hF⟩ := lt_some hF
      refine mo_inc (k := 0) (lv' := [(2, .int x2_5), (0, .ref (ar 4)), (1, .ref (ar 1))]) hx hb hx2_5 (by decide) dX9_lays_15 hl rfl (by decide) rfl (fun ls hl => ?_)
      refine lv_goto (tgt := 2) hx hb dX9_lays_18 (by decide) ?_
      exact ih _ _ _ _ _ hF hI (lv_sub hl [0, 1, 2] rfl)
set_option maxHeartbeats 4000000 in
theorem w_lays_4_1 (l : Launch) (G : va_G) (ai : Nat → ClassId) (o : Nat) (ar : Nat → Nat) (M : MS) (r0 : Int32) (M0 : MS) (hF : f_lays_4_1 M = some (r0, M0)) : md_Mv l G ai o ar yX9_lays cX9_lays 3 ({ frames := 0, cells := 0, slots := 0, locals := 0 } : Room) [.ref (ar 4), .ref (ar 1)] M M0 := by
  refine mo_body (Qc := fun A => va_Qv (fun (M2 : MS) => M2 = M0) (gw_E G ai (md_W ai o ar) A) A) (by decide) (Nat.le_of_ble_eq_true rfl) ?_
  intro p e s m args below meth c A ls hC hr hI hl _
  have hx := hC.1
  have hb := hC.2.1
  have hl : lv_has ls 3 [(0, .ref (ar 4)), (1, .ref (ar 1))] := hl
  show W p l e _ s m args below meth c s.heap [] 0 0 (md_Qv below G ai o ar A args s M0) (F0 m 0 ls [])
  rw [f_lays_4_1] at hF
  refine lv_iconst (v := 0) hx hb dX9_lays_0 (by decide) ?_
  refine mo_ist (lv' := [(2, .int 0), (0, .ref (ar 4)), (1, .ref (ar 1))]) hx hb rfl dX9_lays_1 rfl hl (by decide) rfl (fun ls hl => ?_)
  refine w_lays_4_1_L2 hC hr _ (fun M6 H locs ls hF hI hl => ?_) 2000 _ _ _ _ _ hF hI (lv_sub hl [0, 1, 2] rfl)
  exact md_vret hC hI hr hF dX9_lays_21
theorem k_lays_4_1 {p : Program} {l : Launch} {e : Env} {R : Room} {s : State} {m : MethodId} {args : Array Value} {below : List Frame} {meth : Method} {c : Code} {H : Heap} {locs : List Loc} {cells slots : Nat} {Q : State → Prop} {pc : Nat} {ls : Array Slot} {rest : List Value} {G : va_G} {ai : Nat → ClassId} {A : Nat → Prop} {cc : ByteArray} {nL f L kc ks o : Nat} {ar : Nat → Nat} {M M1 : MS} {r1 : Int32} (hC : mo_C p R s m args meth c G ai A RX9 cc nL f L kc ks) (hI : mo_I G A s.heap (md_W ai o ar M) H locs) (hz : f_lays_4_1 M = some (r1, M1)) (hf : 0 + 1 ≤ f) (hL : 8 + (3 + 11) + 0 ≤ L) (hsz : ls.size = nL) (hW : (rest.map fun v => v.category).sum ≤ 8) (hdg : decode cc pc = .ok (.invokestatic 64, 3)) (kk : ∀ (H1 : Heap) (locs1 : List Loc), mo_I G A s.heap (md_W ai o ar M1) H1 locs1 → W p l e R s m args below meth c H1 locs1 cells slots Q (F0 m (pc + 3) ls (rest))) (hc0 : cells ≤ kc := by first | exact Nat.zero_le _ | assumption) (hs0 : slots ≤ ks := by first | exact Nat.zero_le _ | assumption) : W p l e R s m args below meth c H locs cells slots Q (F0 m pc ls (.ref (ar 1) :: .ref (ar 4) :: rest)) := by
  have hI : mo_I G A s.heap (md_W ai o ar M ++ []) H locs := by rw [List.append_nil]; exact hI
  refine gw_cSv (As := [.ref (ar 4), .ref (ar 1)]) (mc := 0) (ms := 0) hC 2 hI (w_lays_4_1 l G ai o ar M r1 M1 hz) q2085 q2086 q142 q2087 rfl rfl (by decide +kernel) rfl hf hL hc0 hs0 hsz rfl hW hdg (fun u H1 locs1 hp hI1 => ?_)
  obtain rfl := hp
  rw [List.append_nil] at hI1
  exact kk H1 locs1 hI1
def f_lays_1_4_L2 (kont : MS → Option (Int32 × MS)) : Nat → MS → Int32 → Option (Int32 × MS)
  | 0, _, _ => none
  | n + 1, M, x2 => if 216 ≤ x2 then (kont M) else (gd (gi x2 216) (gd (gi x2 216) (lt (rup M 1 (upd (M 1) x2.toNatClampNeg (M 4 x2.toNatClampNeg))) (fun M4 => lt (x2 + 1) (fun x2_5 => f_lays_1_4_L2 kont n M4 x2_5)))))
def f_lays_1_4 (M : MS) : Option (Int32 × MS) := f_lays_1_4_L2 (fun M6 => some (0, M6)) 2000 M 0
set_option maxHeartbeats 4000000 in
theorem w_lays_1_4_L2 {p : Program} {l : Launch} {e : Env} {R : Room} {s : State} {m : MethodId} {args : Array Value} {below : List Frame} {meth : Method} {c : Code} {G : va_G} {ai : Nat → ClassId} {A : Nat → Prop} {o : Nat} {ar : Nat → Nat} {r0 : Int32} {M0 : MS} (hC : mo_C p R s m args meth c G ai A RX9 cX9_lays 3 0 0 0 0) (hr : meth.sig.returnType = none) (kont : MS → Option (Int32 × MS)) (K : ∀ (M : MS) (H : Heap) (locs : List Loc) (ls : Array Slot), kont M = some (r0, M0) → mo_I G A s.heap (md_W ai o ar M) H locs → lv_has ls 3 [] → W p l e R s m args below meth c H locs 0 0 (md_Qv below G ai o ar A args s M0) (F0 m 21 ls [])) :
    ∀ (n : Nat) (M : MS) (x2 : Int32) (H : Heap) (locs : List Loc) (ls : Array Slot), f_lays_1_4_L2 kont n M x2 = some (r0, M0) → mo_I G A s.heap (md_W ai o ar M) H locs → lv_has ls 3 [(2, .int x2), (0, .ref (ar 1)), (1, .ref (ar 4))] → W p l e R s m args below meth c H locs 0 0 (md_Qv below G ai o ar A args s M0) (F0 m 2 ls []) := by
  have hx := hC.1
  have hb := hC.2.1
  intro n
  induction n with
  | zero =>
    intro M x2 H locs ls hF
    have h0 : (none : Option (Int32 × MS)) = some (r0, M0) := hF
    cases h0
  | succ n ih =>
    intro M x2 H locs ls hF hI hl
    rw [f_lays_1_4_L2] at hF
    refine lv_iload_n hx hb dX9_lays_2 rfl (lv_at hl 0 rfl) ?_
    refine lv_sipush (v := 216) hx hb dX9_lays_3 (by decide) ?_
    refine lv_icmp_ge (tgt := 21) hx hb dX9_lays_6 (by decide) (fun c1 => ?_) (fun c1 => ?_)
    · have hF := if_t hF c1
      exact K _ _ _ _ hF hI (lv_sub hl [] rfl)
    · have hF := if_f hF c1
      refine lv_aload_n hx hb dX9_lays_9 rfl (lv_at hl 1 rfl) ?_
      refine lv_iload_n hx hb dX9_lays_10 rfl (lv_at hl 0 rfl) ?_
      refine lv_aload_n hx hb dX9_lays_11 rfl (lv_at hl 2 rfl) ?_
      refine lv_iload_n hx hb dX9_lays_12 rfl (lv_at hl 0 rfl) ?_
      obtain ⟨hg2, hF⟩ := gd_some hF
      refine md_l4 hC hI hg2 dX9_lays_13 ?_
      obtain ⟨hg3, hF⟩ := gd_some hF
      obtain ⟨M4, hM4, hF⟩ := lt_some hF
      refine md_s1 hC hI hg3 hM4 dX9_lays_14 (fun H locs hI => ?_)
      obtain ⟨x2_5, hx2_5, hF⟩ := lt_some hF
      refine mo_inc (k := 0) (lv' := [(2, .int x2_5), (0, .ref (ar 1)), (1, .ref (ar 4))]) hx hb hx2_5 (by decide) dX9_lays_15 hl rfl (by decide) rfl (fun ls hl => ?_)
      refine lv_goto (tgt := 2) hx hb dX9_lays_18 (by decide) ?_
      exact ih _ _ _ _ _ hF hI (lv_sub hl [0, 1, 2] rfl)
set_option maxHeartbeats 4000000 in
theorem w_lays_1_4 (l : Launch) (G : va_G) (ai : Nat → ClassId) (o : Nat) (ar : Nat → Nat) (M : MS) (r0 : Int32) (M0 : MS) (hF : f_lays_1_4 M = some (r0, M0)) : md_Mv l G ai o ar yX9_lays cX9_lays 3 ({ frames := 0, cells := 0, slots := 0, locals := 0 } : Room) [.ref (ar 1), .ref (ar 4)] M M0 := by
  refine mo_body (Qc := fun A => va_Qv (fun (M2 : MS) => M2 = M0) (gw_E G ai (md_W ai o ar) A) A) (by decide) (Nat.le_of_ble_eq_true rfl) ?_
  intro p e s m args below meth c A ls hC hr hI hl _
  have hx := hC.1
  have hb := hC.2.1
  have hl : lv_has ls 3 [(0, .ref (ar 1)), (1, .ref (ar 4))] := hl
  show W p l e _ s m args below meth c s.heap [] 0 0 (md_Qv below G ai o ar A args s M0) (F0 m 0 ls [])
  rw [f_lays_1_4] at hF
  refine lv_iconst (v := 0) hx hb dX9_lays_0 (by decide) ?_
  refine mo_ist (lv' := [(2, .int 0), (0, .ref (ar 1)), (1, .ref (ar 4))]) hx hb rfl dX9_lays_1 rfl hl (by decide) rfl (fun ls hl => ?_)
  refine w_lays_1_4_L2 hC hr _ (fun M6 H locs ls hF hI hl => ?_) 2000 _ _ _ _ _ hF hI (lv_sub hl [0, 1, 2] rfl)
  exact md_vret hC hI hr hF dX9_lays_21
theorem k_lays_1_4 {p : Program} {l : Launch} {e : Env} {R : Room} {s : State} {m : MethodId} {args : Array Value} {below : List Frame} {meth : Method} {c : Code} {H : Heap} {locs : List Loc} {cells slots : Nat} {Q : State → Prop} {pc : Nat} {ls : Array Slot} {rest : List Value} {G : va_G} {ai : Nat → ClassId} {A : Nat → Prop} {cc : ByteArray} {nL f L kc ks o : Nat} {ar : Nat → Nat} {M M1 : MS} {r1 : Int32} (hC : mo_C p R s m args meth c G ai A RX9 cc nL f L kc ks) (hI : mo_I G A s.heap (md_W ai o ar M) H locs) (hz : f_lays_1_4 M = some (r1, M1)) (hf : 0 + 1 ≤ f) (hL : 8 + (3 + 11) + 0 ≤ L) (hsz : ls.size = nL) (hW : (rest.map fun v => v.category).sum ≤ 8) (hdg : decode cc pc = .ok (.invokestatic 64, 3)) (kk : ∀ (H1 : Heap) (locs1 : List Loc), mo_I G A s.heap (md_W ai o ar M1) H1 locs1 → W p l e R s m args below meth c H1 locs1 cells slots Q (F0 m (pc + 3) ls (rest))) (hc0 : cells ≤ kc := by first | exact Nat.zero_le _ | assumption) (hs0 : slots ≤ ks := by first | exact Nat.zero_le _ | assumption) : W p l e R s m args below meth c H locs cells slots Q (F0 m pc ls (.ref (ar 4) :: .ref (ar 1) :: rest)) := by
  have hI : mo_I G A s.heap (md_W ai o ar M ++ []) H locs := by rw [List.append_nil]; exact hI
  refine gw_cSv (As := [.ref (ar 1), .ref (ar 4)]) (mc := 0) (ms := 0) hC 2 hI (w_lays_1_4 l G ai o ar M r1 M1 hz) q2085 q2086 q142 q2087 rfl rfl (by decide +kernel) rfl hf hL hc0 hs0 hsz rfl hW hdg (fun u H1 locs1 hp hI1 => ?_)
  obtain rfl := hp
  rw [List.append_nil] at hI1
  exact kk H1 locs1 hI1
def f_makes_L2 (kont : MS → Option (Int32 × MS)) : Nat → MS → Int32 → Option (Int32 × MS)
  | 0, _, _ => none
  | n + 1, M, x1 => if 216 ≤ x1 then (kont M) else (gd (gi x1 216) (lt (rup M 1 (upd (M 1) x1.toNatClampNeg 0)) (fun M3 => lt (x1 + 1) (fun x1_4 => f_makes_L2 kont n M3 x1_4))))
def f_makes_L38 (kont : MS → Option (Int32 × MS)) : Nat → MS → Int32 → Option (Int32 × MS)
  | 0, _, _ => none
  | n + 1, M, x1 => if 30 ≤ x1 then (kont M) else (gd (gi (12 + x1) 216) (lt (rup M 1 (upd (M 1) (12 + x1).toNatClampNeg 2)) (fun M10 => gd (gi (42 + x1) 216) (lt (rup M10 1 (upd (M10 1) (42 + x1).toNatClampNeg 10)) (fun M12 => lt (x1 + 1) (fun x1_13 => f_makes_L38 kont n M12 x1_13))))))
def f_makes_L73 (kont : MS → Option (Int32 × MS)) : Nat → MS → Int32 → Option (Int32 × MS)
  | 0, _, _ => none
  | n + 1, M, x1 => if 5 ≤ x1 then (kont M) else (gd (gi (191 + x1) 216) (lt (rup M 1 (upd (M 1) (191 + x1).toNatClampNeg 3)) (fun M17 => lt (x1 + 1) (fun x1_18 => f_makes_L73 kont n M17 x1_18))))
def f_makes (M : MS) : Option (Int32 × MS) := f_makes_L2 (fun M5 => lt (rup M5 1 (upd (M5 1) (1 : Int32).toNatClampNeg 1)) (fun M6 => lt (rup M6 1 (upd (M6 1) (4 : Int32).toNatClampNeg 5)) (fun M7 => f_makes_L38 (fun M14 => f_makes_L73 (fun M19 => some (0, M19)) 2000 M14 0) 2000 M7 0))) 2000 M 0
set_option maxHeartbeats 4000000 in
theorem w_makes_L2 {p : Program} {l : Launch} {e : Env} {R : Room} {s : State} {m : MethodId} {args : Array Value} {below : List Frame} {meth : Method} {c : Code} {G : va_G} {ai : Nat → ClassId} {A : Nat → Prop} {o : Nat} {ar : Nat → Nat} {r0 : Int32} {M0 : MS} (hC : mo_C p R s m args meth c G ai A RX9 cX9_makes 2 0 0 0 0) (hr : meth.sig.returnType = none) (kont : MS → Option (Int32 × MS)) (K : ∀ (M : MS) (H : Heap) (locs : List Loc) (ls : Array Slot), kont M = some (r0, M0) → mo_I G A s.heap (md_W ai o ar M) H locs → lv_has ls 2 [(0, .ref o)] → W p l e R s m args below meth c H locs 0 0 (md_Qv below G ai o ar A args s M0) (F0 m 22 ls [])) :
    ∀ (n : Nat) (M : MS) (x1 : Int32) (H : Heap) (locs : List Loc) (ls : Array Slot), f_makes_L2 kont n M x1 = some (r0, M0) → mo_I G A s.heap (md_W ai o ar M) H locs → lv_has ls 2 [(1, .int x1), (0, .ref o)] → W p l e R s m args below meth c H locs 0 0 (md_Qv below G ai o ar A args s M0) (F0 m 2 ls []) := by
  have hx := hC.1
  have hb := hC.2.1
  intro n
  induction n with
  | zero =>
    intro M x1 H locs ls hF
    have h0 : (none : Option (Int32 × MS)) = some (r0, M0) := hF
    cases h0
  | succ n ih =>
    intro M x1 H locs ls hF hI hl
    rw [f_makes_L2] at hF
    refine lv_iload_n hx hb dX9_makes_2 rfl (lv_at hl 0 rfl) ?_
    refine lv_sipush (v := 216) hx hb dX9_makes_3 (by decide) ?_
    refine lv_icmp_ge (tgt := 22) hx hb dX9_makes_6 (by decide) (fun c1 => ?_) (fun c1 => ?_)
    · have hF := if_t hF c1
      exact K _ _ _ _ hF hI (lv_sub hl [1] rfl)
    · have hF := if_f hF c1
      refine lv_aload_n hx hb dX9_makes_9 rfl (lv_at hl 1 rfl) ?_
      refine md_g6 hC hI dX9_makes_10 ?_
      refine lv_iload_n hx hb dX9_makes_13 rfl (lv_at hl 0 rfl) ?_
      refine lv_iconst (v := 0) hx hb dX9_makes_14 (by decide) ?_
      obtain ⟨hg2, hF⟩ := gd_some hF
      obtain ⟨M3, hM3, hF⟩ := lt_some hF
      refine md_s1 hC hI hg2 hM3 dX9_makes_15 (fun H locs hI => ?_)
      obtain ⟨x1_4, hx1_4, hF⟩ := lt_some hF
      refine mo_inc (k := 0) (lv' := [(1, .int x1_4), (0, .ref o)]) hx hb hx1_4 (by decide) dX9_makes_16 hl rfl (by decide) rfl (fun ls hl => ?_)
      refine lv_goto (tgt := 2) hx hb dX9_makes_19 (by decide) ?_
      exact ih _ _ _ _ _ hF hI (lv_sub hl [0, 1] rfl)
set_option maxHeartbeats 4000000 in
theorem w_makes_L38 {p : Program} {l : Launch} {e : Env} {R : Room} {s : State} {m : MethodId} {args : Array Value} {below : List Frame} {meth : Method} {c : Code} {G : va_G} {ai : Nat → ClassId} {A : Nat → Prop} {o : Nat} {ar : Nat → Nat} {r0 : Int32} {M0 : MS} (hC : mo_C p R s m args meth c G ai A RX9 cX9_makes 2 0 0 0 0) (hr : meth.sig.returnType = none) (kont : MS → Option (Int32 × MS)) (K : ∀ (M : MS) (H : Heap) (locs : List Loc) (ls : Array Slot), kont M = some (r0, M0) → mo_I G A s.heap (md_W ai o ar M) H locs → lv_has ls 2 [(0, .ref o)] → W p l e R s m args below meth c H locs 0 0 (md_Qv below G ai o ar A args s M0) (F0 m 71 ls [])) :
    ∀ (n : Nat) (M : MS) (x1 : Int32) (H : Heap) (locs : List Loc) (ls : Array Slot), f_makes_L38 kont n M x1 = some (r0, M0) → mo_I G A s.heap (md_W ai o ar M) H locs → lv_has ls 2 [(1, .int x1), (0, .ref o)] → W p l e R s m args below meth c H locs 0 0 (md_Qv below G ai o ar A args s M0) (F0 m 38 ls []) := by
  have hx := hC.1
  have hb := hC.2.1
  intro n
  induction n with
  | zero =>
    intro M x1 H locs ls hF
    have h0 : (none : Option (Int32 × MS)) = some (r0, M0) := hF
    cases h0
  | succ n ih =>
    intro M x1 H locs ls hF hI hl
    rw [f_makes_L38] at hF
    refine lv_iload_n hx hb dX9_makes_38 rfl (lv_at hl 0 rfl) ?_
    refine lv_bipush (v := 30) hx hb dX9_makes_39 (by decide) ?_
    refine lv_icmp_ge (tgt := 71) hx hb dX9_makes_41 (by decide) (fun c8 => ?_) (fun c8 => ?_)
    · have hF := if_t hF c8
      exact K _ _ _ _ hF hI (lv_sub hl [1] rfl)
    · have hF := if_f hF c8
      refine lv_aload_n hx hb dX9_makes_44 rfl (lv_at hl 1 rfl) ?_
      refine md_g6 hC hI dX9_makes_45 ?_
      refine lv_bipush (v := 12) hx hb dX9_makes_48 (by decide) ?_
      refine lv_iload_n hx hb dX9_makes_50 rfl (lv_at hl 0 rfl) ?_
      refine lv_iadd hx hb dX9_makes_51 ?_
      refine lv_iconst (v := 2) hx hb dX9_makes_52 (by decide) ?_
      obtain ⟨hg9, hF⟩ := gd_some hF
      obtain ⟨M10, hM10, hF⟩ := lt_some hF
      refine md_s1 hC hI hg9 hM10 dX9_makes_53 (fun H locs hI => ?_)
      refine lv_aload_n hx hb dX9_makes_54 rfl (lv_at hl 1 rfl) ?_
      refine md_g6 hC hI dX9_makes_55 ?_
      refine lv_bipush (v := 42) hx hb dX9_makes_58 (by decide) ?_
      refine lv_iload_n hx hb dX9_makes_60 rfl (lv_at hl 0 rfl) ?_
      refine lv_iadd hx hb dX9_makes_61 ?_
      refine lv_bipush (v := 10) hx hb dX9_makes_62 (by decide) ?_
      obtain ⟨hg11, hF⟩ := gd_some hF
      obtain ⟨M12, hM12, hF⟩ := lt_some hF
      refine md_s1 hC hI hg11 hM12 dX9_makes_64 (fun H locs hI => ?_)
      obtain ⟨x1_13, hx1_13, hF⟩ := lt_some hF
      refine mo_inc (k := 0) (lv' := [(1, .int x1_13), (0, .ref o)]) hx hb hx1_13 (by decide) dX9_makes_65 hl rfl (by decide) rfl (fun ls hl => ?_)
      refine lv_goto (tgt := 38) hx hb dX9_makes_68 (by decide) ?_
      exact ih _ _ _ _ _ hF hI (lv_sub hl [0, 1] rfl)
set_option maxHeartbeats 4000000 in
theorem w_makes_L73 {p : Program} {l : Launch} {e : Env} {R : Room} {s : State} {m : MethodId} {args : Array Value} {below : List Frame} {meth : Method} {c : Code} {G : va_G} {ai : Nat → ClassId} {A : Nat → Prop} {o : Nat} {ar : Nat → Nat} {r0 : Int32} {M0 : MS} (hC : mo_C p R s m args meth c G ai A RX9 cX9_makes 2 0 0 0 0) (hr : meth.sig.returnType = none) (kont : MS → Option (Int32 × MS)) (K : ∀ (M : MS) (H : Heap) (locs : List Loc) (ls : Array Slot), kont M = some (r0, M0) → mo_I G A s.heap (md_W ai o ar M) H locs → lv_has ls 2 [] → W p l e R s m args below meth c H locs 0 0 (md_Qv below G ai o ar A args s M0) (F0 m 95 ls [])) :
    ∀ (n : Nat) (M : MS) (x1 : Int32) (H : Heap) (locs : List Loc) (ls : Array Slot), f_makes_L73 kont n M x1 = some (r0, M0) → mo_I G A s.heap (md_W ai o ar M) H locs → lv_has ls 2 [(1, .int x1), (0, .ref o)] → W p l e R s m args below meth c H locs 0 0 (md_Qv below G ai o ar A args s M0) (F0 m 73 ls []) := by
  have hx := hC.1
  have hb := hC.2.1
  intro n
  induction n with
  | zero =>
    intro M x1 H locs ls hF
    have h0 : (none : Option (Int32 × MS)) = some (r0, M0) := hF
    cases h0
  | succ n ih =>
    intro M x1 H locs ls hF hI hl
    rw [f_makes_L73] at hF
    refine lv_iload_n hx hb dX9_makes_73 rfl (lv_at hl 0 rfl) ?_
    refine lv_iconst (v := 5) hx hb dX9_makes_74 (by decide) ?_
    refine lv_icmp_ge (tgt := 95) hx hb dX9_makes_75 (by decide) (fun c15 => ?_) (fun c15 => ?_)
    · have hF := if_t hF c15
      exact K _ _ _ _ hF hI (lv_sub hl [] rfl)
    · have hF := if_f hF c15
      refine lv_aload_n hx hb dX9_makes_78 rfl (lv_at hl 1 rfl) ?_
      refine md_g6 hC hI dX9_makes_79 ?_
      refine lv_sipush (v := 191) hx hb dX9_makes_82 (by decide) ?_
      refine lv_iload_n hx hb dX9_makes_85 rfl (lv_at hl 0 rfl) ?_
      refine lv_iadd hx hb dX9_makes_86 ?_
      refine lv_iconst (v := 3) hx hb dX9_makes_87 (by decide) ?_
      obtain ⟨hg16, hF⟩ := gd_some hF
      obtain ⟨M17, hM17, hF⟩ := lt_some hF
      refine md_s1 hC hI hg16 hM17 dX9_makes_88 (fun H locs hI => ?_)
      obtain ⟨x1_18, hx1_18, hF⟩ := lt_some hF
      refine mo_inc (k := 0) (lv' := [(1, .int x1_18), (0, .ref o)]) hx hb hx1_18 (by decide) dX9_makes_89 hl rfl (by decide) rfl (fun ls hl => ?_)
      refine lv_goto (tgt := 73) hx hb dX9_makes_92 (by decide) ?_
      exact ih _ _ _ _ _ hF hI (lv_sub hl [0, 1] rfl)
set_option maxHeartbeats 4000000 in
theorem w_makes (l : Launch) (G : va_G) (ai : Nat → ClassId) (o : Nat) (ar : Nat → Nat) (M : MS) (r0 : Int32) (M0 : MS) (hF : f_makes M = some (r0, M0)) : md_Mv l G ai o ar yX9_makes cX9_makes 2 ({ frames := 0, cells := 0, slots := 0, locals := 0 } : Room) [.ref o] M M0 := by
  refine mo_body (Qc := fun A => va_Qv (fun (M2 : MS) => M2 = M0) (gw_E G ai (md_W ai o ar) A) A) (by decide) (Nat.le_of_ble_eq_true rfl) ?_
  intro p e s m args below meth c A ls hC hr hI hl _
  have hx := hC.1
  have hb := hC.2.1
  have hl : lv_has ls 2 [(0, .ref o)] := hl
  show W p l e _ s m args below meth c s.heap [] 0 0 (md_Qv below G ai o ar A args s M0) (F0 m 0 ls [])
  rw [f_makes] at hF
  refine lv_iconst (v := 0) hx hb dX9_makes_0 (by decide) ?_
  refine mo_ist (lv' := [(1, .int 0), (0, .ref o)]) hx hb rfl dX9_makes_1 rfl hl (by decide) rfl (fun ls hl => ?_)
  refine w_makes_L2 hC hr _ (fun M5 H locs ls hF hI hl => ?_) 2000 _ _ _ _ _ hF hI (lv_sub hl [0, 1] rfl)
  refine lv_aload_n hx hb dX9_makes_22 rfl (lv_at hl 0 rfl) ?_
  refine md_g6 hC hI dX9_makes_23 ?_
  refine lv_iconst (v := 1) hx hb dX9_makes_26 (by decide) ?_
  refine lv_iconst (v := 1) hx hb dX9_makes_27 (by decide) ?_
  obtain ⟨M6, hM6, hF⟩ := lt_some hF
  refine md_s1 hC hI (by decide) hM6 dX9_makes_28 (fun H locs hI => ?_)
  refine lv_aload_n hx hb dX9_makes_29 rfl (lv_at hl 0 rfl) ?_
  refine md_g6 hC hI dX9_makes_30 ?_
  refine lv_iconst (v := 4) hx hb dX9_makes_33 (by decide) ?_
  refine lv_iconst (v := 5) hx hb dX9_makes_34 (by decide) ?_
  obtain ⟨M7, hM7, hF⟩ := lt_some hF
  refine md_s1 hC hI (by decide) hM7 dX9_makes_35 (fun H locs hI => ?_)
  refine lv_iconst (v := 0) hx hb dX9_makes_36 (by decide) ?_
  refine mo_ist (lv' := [(1, .int 0), (0, .ref o)]) hx hb rfl dX9_makes_37 rfl hl (by decide) rfl (fun ls hl => ?_)
  refine w_makes_L38 hC hr _ (fun M14 H locs ls hF hI hl => ?_) 2000 _ _ _ _ _ hF hI (lv_sub hl [0, 1] rfl)
  refine lv_iconst (v := 0) hx hb dX9_makes_71 (by decide) ?_
  refine mo_ist (lv' := [(1, .int 0), (0, .ref o)]) hx hb rfl dX9_makes_72 rfl hl (by decide) rfl (fun ls hl => ?_)
  refine w_makes_L73 hC hr _ (fun M19 H locs ls hF hI hl => ?_) 2000 _ _ _ _ _ hF hI (lv_sub hl [0, 1] rfl)
  exact md_vret hC hI hr hF dX9_makes_95
theorem k_makes {p : Program} {l : Launch} {e : Env} {R : Room} {s : State} {m : MethodId} {args : Array Value} {below : List Frame} {meth : Method} {c : Code} {H : Heap} {locs : List Loc} {cells slots : Nat} {Q : State → Prop} {pc : Nat} {ls : Array Slot} {rest : List Value} {G : va_G} {ai : Nat → ClassId} {A : Nat → Prop} {cc : ByteArray} {nL f L kc ks o : Nat} {ar : Nat → Nat} {M M1 : MS} {r1 : Int32} (hC : mo_C p R s m args meth c G ai A RX9 cc nL f L kc ks) (hI : mo_I G A s.heap (md_W ai o ar M) H locs) (hz : f_makes M = some (r1, M1)) (hf : 0 + 1 ≤ f) (hL : 8 + (2 + 11) + 0 ≤ L) (hsz : ls.size = nL) (hW : (rest.map fun v => v.category).sum ≤ 8) (hdg : decode cc pc = .ok (.invokevirtual 47, 3)) (kk : ∀ (H1 : Heap) (locs1 : List Loc), mo_I G A s.heap (md_W ai o ar M1) H1 locs1 → W p l e R s m args below meth c H1 locs1 cells slots Q (F0 m (pc + 3) ls (rest))) (hc0 : cells ≤ kc := by first | exact Nat.zero_le _ | assumption) (hs0 : slots ≤ ks := by first | exact Nat.zero_le _ | assumption) : W p l e R s m args below meth c H locs cells slots Q (F0 m pc ls (.ref o :: rest)) := by
  have hI : mo_I G A s.heap (md_W ai o ar M ++ []) H locs := by rw [List.append_nil]; exact hI
  refine gw_cVv (As := []) (mc := 0) (ms := 0) (fs := md_F ar M) hC 0 hI (w_makes l G ai o ar M r1 M1 hz) 0 0 rfl rfl q2002 q2004 qs70 q142 q2005 rfl rfl (by decide +kernel) rfl hf hL hc0 hs0 hsz rfl hW hdg (fun u H1 locs1 hp hI1 => ?_)
  obtain rfl := hp
  rw [List.append_nil] at hI1
  exact kk H1 locs1 hI1
def f_fail (M : MS) (a1 : Int32) : Option (Int32 × MS) := lt (rup M 0 (upd (M 0) 0 a1)) (fun M1 => some (a1, M1))
set_option maxHeartbeats 4000000 in
theorem w_fail (l : Launch) (G : va_G) (ai : Nat → ClassId) (o : Nat) (ar : Nat → Nat) (M : MS) (a1 : Int32) (r0 : Int32) (M0 : MS) (hF : f_fail M a1 = some (r0, M0)) : md_M l G ai o ar yX9_fail cX9_fail 2 (some .int) ({ frames := 0, cells := 0, slots := 0, locals := 0 } : Room) [.ref o, .int a1] M r0 M0 := by
  refine mo_body (Qc := fun A => va_Qi (fun (r' : Int32) (M2 : MS) => r' = r0 ∧ M2 = M0) (gw_E G ai (md_W ai o ar) A) A) (by decide) (Nat.le_of_ble_eq_true rfl) ?_
  intro p e s m args below meth c A ls hC hr hI hl _
  have hx := hC.1
  have hb := hC.2.1
  have hl : lv_has ls 2 [(0, .ref o), (1, .int a1)] := hl
  show W p l e _ s m args below meth c s.heap [] 0 0 (md_Q below G ai o ar A args s r0 M0) (F0 m 0 ls [])
  rw [f_fail] at hF
  refine lv_aload_n hx hb dX9_fail_0 rfl (lv_at hl 0 rfl) ?_
  refine lv_iload_n hx hb dX9_fail_1 rfl (lv_at hl 1 rfl) ?_
  obtain ⟨M1, hM1, hF⟩ := lt_some hF
  refine md_p0 hC hI hM1 dX9_fail_2 (fun H locs hI => ?_)
  refine lv_iload_n hx hb dX9_fail_5 rfl (lv_at hl 1 rfl) ?_
  exact md_iret hC hI hr hF dX9_fail_6
theorem k_fail {p : Program} {l : Launch} {e : Env} {R : Room} {s : State} {m : MethodId} {args : Array Value} {below : List Frame} {meth : Method} {c : Code} {H : Heap} {locs : List Loc} {cells slots : Nat} {Q : State → Prop} {pc : Nat} {ls : Array Slot} {rest : List Value} {G : va_G} {ai : Nat → ClassId} {A : Nat → Prop} {cc : ByteArray} {nL f L kc ks o : Nat} {ar : Nat → Nat} {M M1 : MS} {r1 : Int32} {a1 : Int32} (hC : mo_C p R s m args meth c G ai A RX9 cc nL f L kc ks) (hI : mo_I G A s.heap (md_W ai o ar M) H locs) (hz : f_fail M a1 = some (r1, M1)) (hf : 0 + 1 ≤ f) (hL : 8 + (2 + 11) + 0 ≤ L) (hsz : ls.size = nL) (hW : (rest.map fun v => v.category).sum ≤ 8) (hdg : decode cc pc = .ok (.invokevirtual 56, 3)) (kk : ∀ (H1 : Heap) (locs1 : List Loc), mo_I G A s.heap (md_W ai o ar M1) H1 locs1 → W p l e R s m args below meth c H1 locs1 cells slots Q (F0 m (pc + 3) ls (.int r1 :: rest))) (hc0 : cells ≤ kc := by first | exact Nat.zero_le _ | assumption) (hs0 : slots ≤ ks := by first | exact Nat.zero_le _ | assumption) : W p l e R s m args below meth c H locs cells slots Q (F0 m pc ls (.int a1 :: .ref o :: rest)) := by
  have hI : mo_I G A s.heap (md_W ai o ar M ++ []) H locs := by rw [List.append_nil]; exact hI
  refine gw_cVi (As := [.int a1]) (mc := 0) (ms := 0) (fs := md_F ar M) hC 1 hI (w_fail l G ai o ar M a1 r1 M1 hz) 0 0 rfl rfl q2098 q2100 qs73 q142 q2101 rfl rfl (by decide +kernel) rfl hf hL hc0 hs0 hsz rfl hW hdg (fun r u H1 locs1 hp hI1 => ?_)
  obtain ⟨rfl, rfl⟩ := hp
  rw [List.append_nil] at hI1
  exact kk H1 locs1 hI1
def f_refuses (M : MS) (a1 : Int32) (a2 : Int32) : Option (Int32 × MS) := lt (rup M 6 (upd (M 6) (0 : Int32).toNatClampNeg a1)) (fun M1 => lt (rup M1 6 (upd (M1 6) (1 : Int32).toNatClampNeg a2)) (fun M2 => lt (rup M2 0 (upd (M2 0) 2 1)) (fun M3 => ob (f_fail M3 (-3)) (fun r4 M5 => some (r4, M5)))))
set_option maxHeartbeats 4000000 in
theorem w_refuses (l : Launch) (G : va_G) (ai : Nat → ClassId) (o : Nat) (ar : Nat → Nat) (M : MS) (a1 : Int32) (a2 : Int32) (r0 : Int32) (M0 : MS) (hF : f_refuses M a1 a2 = some (r0, M0)) : md_M l G ai o ar yX9_refuses cX9_refuses 3 (some .int) ({ frames := 1, cells := 0, slots := 0, locals := 21 } : Room) [.ref o, .int a1, .int a2] M r0 M0 := by
  refine mo_body (Qc := fun A => va_Qi (fun (r' : Int32) (M2 : MS) => r' = r0 ∧ M2 = M0) (gw_E G ai (md_W ai o ar) A) A) (by decide) (Nat.le_of_ble_eq_true rfl) ?_
  intro p e s m args below meth c A ls hC hr hI hl _
  have hx := hC.1
  have hb := hC.2.1
  have hl : lv_has ls 3 [(0, .ref o), (1, .int a1), (2, .int a2)] := hl
  show W p l e _ s m args below meth c s.heap [] 0 0 (md_Q below G ai o ar A args s r0 M0) (F0 m 0 ls [])
  rw [f_refuses] at hF
  refine lv_aload_n hx hb dX9_refuses_0 rfl (lv_at hl 0 rfl) ?_
  refine md_g11 hC hI dX9_refuses_1 ?_
  refine lv_iconst (v := 0) hx hb dX9_refuses_4 (by decide) ?_
  refine lv_iload_n hx hb dX9_refuses_5 rfl (lv_at hl 1 rfl) ?_
  obtain ⟨M1, hM1, hF⟩ := lt_some hF
  refine md_s6 hC hI (by decide) hM1 dX9_refuses_6 (fun H locs hI => ?_)
  refine lv_aload_n hx hb dX9_refuses_7 rfl (lv_at hl 0 rfl) ?_
  refine md_g11 hC hI dX9_refuses_8 ?_
  refine lv_iconst (v := 1) hx hb dX9_refuses_11 (by decide) ?_
  refine lv_iload_n hx hb dX9_refuses_12 rfl (lv_at hl 2 rfl) ?_
  obtain ⟨M2, hM2, hF⟩ := lt_some hF
  refine md_s6 hC hI (by decide) hM2 dX9_refuses_13 (fun H locs hI => ?_)
  refine lv_aload_n hx hb dX9_refuses_14 rfl (lv_at hl 0 rfl) ?_
  refine lv_iconst (v := 1) hx hb dX9_refuses_15 (by decide) ?_
  obtain ⟨M3, hM3, hF⟩ := lt_some hF
  refine md_p2 hC hI hM3 dX9_refuses_16 (fun H locs hI => ?_)
  refine lv_aload_n hx hb dX9_refuses_19 rfl (lv_at hl 0 rfl) ?_
  refine lv_bipush (v := (-3)) hx hb dX9_refuses_20 (by decide) ?_
  obtain ⟨r4, M5, hz6, hF⟩ := ob_some hF
  refine k_fail hC hI hz6 (Nat.le_of_ble_eq_true rfl) (Nat.le_of_ble_eq_true rfl) hl.1 (Nat.le_of_ble_eq_true rfl) dX9_refuses_22 (fun H locs hI => ?_)
  exact md_iret hC hI hr hF dX9_refuses_25
theorem k_refuses {p : Program} {l : Launch} {e : Env} {R : Room} {s : State} {m : MethodId} {args : Array Value} {below : List Frame} {meth : Method} {c : Code} {H : Heap} {locs : List Loc} {cells slots : Nat} {Q : State → Prop} {pc : Nat} {ls : Array Slot} {rest : List Value} {G : va_G} {ai : Nat → ClassId} {A : Nat → Prop} {cc : ByteArray} {nL f L kc ks o : Nat} {ar : Nat → Nat} {M M1 : MS} {r1 : Int32} {a1 : Int32} {a2 : Int32} (hC : mo_C p R s m args meth c G ai A RX9 cc nL f L kc ks) (hI : mo_I G A s.heap (md_W ai o ar M) H locs) (hz : f_refuses M a1 a2 = some (r1, M1)) (hf : 1 + 1 ≤ f) (hL : 8 + (3 + 11) + 21 ≤ L) (hsz : ls.size = nL) (hW : (rest.map fun v => v.category).sum ≤ 8) (hdg : decode cc pc = .ok (.invokevirtual 60, 3)) (kk : ∀ (H1 : Heap) (locs1 : List Loc), mo_I G A s.heap (md_W ai o ar M1) H1 locs1 → W p l e R s m args below meth c H1 locs1 cells slots Q (F0 m (pc + 3) ls (.int r1 :: rest))) (hc0 : cells ≤ kc := by first | exact Nat.zero_le _ | assumption) (hs0 : slots ≤ ks := by first | exact Nat.zero_le _ | assumption) : W p l e R s m args below meth c H locs cells slots Q (F0 m pc ls (.int a2 :: .int a1 :: .ref o :: rest)) := by
  have hI : mo_I G A s.heap (md_W ai o ar M ++ []) H locs := by rw [List.append_nil]; exact hI
  refine gw_cVi (As := [.int a1, .int a2]) (mc := 0) (ms := 0) (fs := md_F ar M) hC 2 hI (w_refuses l G ai o ar M a1 a2 r1 M1 hz) 0 0 rfl rfl q2118 q2120 qs77 q142 q2121 rfl rfl (by decide +kernel) rfl hf hL hc0 hs0 hsz rfl hW hdg (fun r u H1 locs1 hp hI1 => ?_)
  obtain ⟨rfl, rfl⟩ := hp
  rw [List.append_nil] at hI1
  exact kk H1 locs1 hI1
def f_refusesFoot (M : MS) (a1 : Int32) : Option (Int32 × MS) := ob (f_refuses M 3 a1) (fun r1 M2 => lt (rup M2 6 (upd (M2 6) (2 : Int32).toNatClampNeg 13)) (fun M4 => gd (gi (42 + a1) 216) (lt (rup M4 6 (upd (M4 6) (3 : Int32).toNatClampNeg (M4 1 (42 + a1).toNatClampNeg))) (fun M6 => lt (rup M6 0 (upd (M6 0) 2 2)) (fun M7 => some (r1, M7))))))
set_option maxHeartbeats 4000000 in
theorem w_refusesFoot (l : Launch) (G : va_G) (ai : Nat → ClassId) (o : Nat) (ar : Nat → Nat) (M : MS) (a1 : Int32) (r0 : Int32) (M0 : MS) (hF : f_refusesFoot M a1 = some (r0, M0)) : md_M l G ai o ar yX9_refusesFoot cX9_refusesFoot 3 (some .int) ({ frames := 2, cells := 0, slots := 0, locals := 43 } : Room) [.ref o, .int a1] M r0 M0 := by
  refine mo_body (Qc := fun A => va_Qi (fun (r' : Int32) (M2 : MS) => r' = r0 ∧ M2 = M0) (gw_E G ai (md_W ai o ar) A) A) (by decide) (Nat.le_of_ble_eq_true rfl) ?_
  intro p e s m args below meth c A ls hC hr hI hl _
  have hx := hC.1
  have hb := hC.2.1
  have hl : lv_has ls 3 [(0, .ref o), (1, .int a1)] := hl
  show W p l e _ s m args below meth c s.heap [] 0 0 (md_Q below G ai o ar A args s r0 M0) (F0 m 0 ls [])
  rw [f_refusesFoot] at hF
  refine lv_aload_n hx hb dX9_refusesFoot_0 rfl (lv_at hl 0 rfl) ?_
  refine lv_iconst (v := 3) hx hb dX9_refusesFoot_1 (by decide) ?_
  refine lv_iload_n hx hb dX9_refusesFoot_2 rfl (lv_at hl 1 rfl) ?_
  obtain ⟨r1, M2, hz3, hF⟩ := ob_some hF
  refine k_refuses hC hI hz3 (Nat.le_of_ble_eq_true rfl) (Nat.le_of_ble_eq_true rfl) hl.1 (Nat.le_of_ble_eq_true rfl) dX9_refusesFoot_3 (fun H locs hI => ?_)
  refine mo_ist (lv' := [(2, .int r1), (0, .ref o), (1, .int a1)]) hx hb rfl dX9_refusesFoot_6 rfl hl (by decide) rfl (fun ls hl => ?_)
  refine lv_aload_n hx hb dX9_refusesFoot_7 rfl (lv_at hl 1 rfl) ?_
  refine md_g11 hC hI dX9_refusesFoot_8 ?_
  refine lv_iconst (v := 2) hx hb dX9_refusesFoot_11 (by decide) ?_
  refine lv_bipush (v := 13) hx hb dX9_refusesFoot_12 (by decide) ?_
  obtain ⟨M4, hM4, hF⟩ := lt_some hF
  refine md_s6 hC hI (by decide) hM4 dX9_refusesFoot_14 (fun H locs hI => ?_)
  refine lv_aload_n hx hb dX9_refusesFoot_15 rfl (lv_at hl 1 rfl) ?_
  refine md_g11 hC hI dX9_refusesFoot_16 ?_
  refine lv_iconst (v := 3) hx hb dX9_refusesFoot_19 (by decide) ?_
  refine lv_aload_n hx hb dX9_refusesFoot_20 rfl (lv_at hl 1 rfl) ?_
  refine md_g6 hC hI dX9_refusesFoot_21 ?_
  refine lv_bipush (v := 42) hx hb dX9_refusesFoot_24 (by decide) ?_
  refine lv_iload_n hx hb dX9_refusesFoot_26 rfl (lv_at hl 2 rfl) ?_
  refine lv_iadd hx hb dX9_refusesFoot_27 ?_
  obtain ⟨hg5, hF⟩ := gd_some hF
  refine md_l1 hC hI hg5 dX9_refusesFoot_28 ?_
  obtain ⟨M6, hM6, hF⟩ := lt_some hF
  refine md_s6 hC hI (by decide) hM6 dX9_refusesFoot_29 (fun H locs hI => ?_)
  refine lv_aload_n hx hb dX9_refusesFoot_30 rfl (lv_at hl 1 rfl) ?_
  refine lv_iconst (v := 2) hx hb dX9_refusesFoot_31 (by decide) ?_
  obtain ⟨M7, hM7, hF⟩ := lt_some hF
  refine md_p2 hC hI hM7 dX9_refusesFoot_32 (fun H locs hI => ?_)
  refine lv_iload_n hx hb dX9_refusesFoot_35 rfl (lv_at hl 0 rfl) ?_
  exact md_iret hC hI hr hF dX9_refusesFoot_36
theorem k_refusesFoot {p : Program} {l : Launch} {e : Env} {R : Room} {s : State} {m : MethodId} {args : Array Value} {below : List Frame} {meth : Method} {c : Code} {H : Heap} {locs : List Loc} {cells slots : Nat} {Q : State → Prop} {pc : Nat} {ls : Array Slot} {rest : List Value} {G : va_G} {ai : Nat → ClassId} {A : Nat → Prop} {cc : ByteArray} {nL f L kc ks o : Nat} {ar : Nat → Nat} {M M1 : MS} {r1 : Int32} {a1 : Int32} (hC : mo_C p R s m args meth c G ai A RX9 cc nL f L kc ks) (hI : mo_I G A s.heap (md_W ai o ar M) H locs) (hz : f_refusesFoot M a1 = some (r1, M1)) (hf : 2 + 1 ≤ f) (hL : 8 + (3 + 11) + 43 ≤ L) (hsz : ls.size = nL) (hW : (rest.map fun v => v.category).sum ≤ 8) (hdg : decode cc pc = .ok (.invokevirtual 115, 3)) (kk : ∀ (H1 : Heap) (locs1 : List Loc), mo_I G A s.heap (md_W ai o ar M1) H1 locs1 → W p l e R s m args below meth c H1 locs1 cells slots Q (F0 m (pc + 3) ls (.int r1 :: rest))) (hc0 : cells ≤ kc := by first | exact Nat.zero_le _ | assumption) (hs0 : slots ≤ ks := by first | exact Nat.zero_le _ | assumption) : W p l e R s m args below meth c H locs cells slots Q (F0 m pc ls (.int a1 :: .ref o :: rest)) := by
  have hI : mo_I G A s.heap (md_W ai o ar M ++ []) H locs := by rw [List.append_nil]; exact hI
  refine gw_cVi (As := [.int a1]) (mc := 0) (ms := 0) (fs := md_F ar M) hC 1 hI (w_refusesFoot l G ai o ar M a1 r1 M1 hz) 0 0 rfl rfl q2156 q2158 qs83 q142 q2159 rfl rfl (by decide +kernel) rfl hf hL hc0 hs0 hsz rfl hW hdg (fun r u H1 locs1 hp hI1 => ?_)
  obtain ⟨rfl, rfl⟩ := hp
  rw [List.append_nil] at hI1
  exact kk H1 locs1 hI1
def f_begins (M : MS) : Option (Int32 × MS) := lt (rup M 0 (upd (M 0) 0 0)) (fun M1 => ob (f_lays_2_1 M1) (fun r2 M3 => some (0, M3)))
set_option maxHeartbeats 4000000 in
theorem w_begins (l : Launch) (G : va_G) (ai : Nat → ClassId) (o : Nat) (ar : Nat → Nat) (M : MS) (r0 : Int32) (M0 : MS) (hF : f_begins M = some (r0, M0)) : md_Mv l G ai o ar yX9_begins cX9_begins 1 ({ frames := 1, cells := 0, slots := 0, locals := 22 } : Room) [.ref o] M M0 := by
  refine mo_body (Qc := fun A => va_Qv (fun (M2 : MS) => M2 = M0) (gw_E G ai (md_W ai o ar) A) A) (by decide) (Nat.le_of_ble_eq_true rfl) ?_
  intro p e s m args below meth c A ls hC hr hI hl _
  have hx := hC.1
  have hb := hC.2.1
  have hl : lv_has ls 1 [(0, .ref o)] := hl
  show W p l e _ s m args below meth c s.heap [] 0 0 (md_Qv below G ai o ar A args s M0) (F0 m 0 ls [])
  rw [f_begins] at hF
  refine lv_aload_n hx hb dX9_begins_0 rfl (lv_at hl 0 rfl) ?_
  refine lv_iconst (v := 0) hx hb dX9_begins_1 (by decide) ?_
  obtain ⟨M1, hM1, hF⟩ := lt_some hF
  refine md_p0 hC hI hM1 dX9_begins_2 (fun H locs hI => ?_)
  refine lv_aload_n hx hb dX9_begins_5 rfl (lv_at hl 0 rfl) ?_
  refine md_g7 hC hI dX9_begins_6 ?_
  refine lv_aload_n hx hb dX9_begins_9 rfl (lv_at hl 0 rfl) ?_
  refine md_g6 hC hI dX9_begins_10 ?_
  obtain ⟨r2, M3, hz4, hF⟩ := ob_some hF
  refine k_lays_2_1 hC hI hz4 (Nat.le_of_ble_eq_true rfl) (Nat.le_of_ble_eq_true rfl) hl.1 (Nat.le_of_ble_eq_true rfl) dX9_begins_13 (fun H locs hI => ?_)
  exact md_vret hC hI hr hF dX9_begins_16
theorem k_begins {p : Program} {l : Launch} {e : Env} {R : Room} {s : State} {m : MethodId} {args : Array Value} {below : List Frame} {meth : Method} {c : Code} {H : Heap} {locs : List Loc} {cells slots : Nat} {Q : State → Prop} {pc : Nat} {ls : Array Slot} {rest : List Value} {G : va_G} {ai : Nat → ClassId} {A : Nat → Prop} {cc : ByteArray} {nL f L kc ks o : Nat} {ar : Nat → Nat} {M M1 : MS} {r1 : Int32} (hC : mo_C p R s m args meth c G ai A RX9 cc nL f L kc ks) (hI : mo_I G A s.heap (md_W ai o ar M) H locs) (hz : f_begins M = some (r1, M1)) (hf : 1 + 1 ≤ f) (hL : 8 + (1 + 11) + 22 ≤ L) (hsz : ls.size = nL) (hW : (rest.map fun v => v.category).sum ≤ 8) (hdg : decode cc pc = .ok (.invokevirtual 82, 3)) (kk : ∀ (H1 : Heap) (locs1 : List Loc), mo_I G A s.heap (md_W ai o ar M1) H1 locs1 → W p l e R s m args below meth c H1 locs1 cells slots Q (F0 m (pc + 3) ls (rest))) (hc0 : cells ≤ kc := by first | exact Nat.zero_le _ | assumption) (hs0 : slots ≤ ks := by first | exact Nat.zero_le _ | assumption) : W p l e R s m args below meth c H locs cells slots Q (F0 m pc ls (.ref o :: rest)) := by
  have hI : mo_I G A s.heap (md_W ai o ar M ++ []) H locs := by rw [List.append_nil]; exact hI
  refine gw_cVv (As := []) (mc := 0) (ms := 0) (fs := md_F ar M) hC 0 hI (w_begins l G ai o ar M r1 M1 hz) 0 0 rfl rfl q2081 q2083 qs71 q142 q2084 rfl rfl (by decide +kernel) rfl hf hL hc0 hs0 hsz rfl hW hdg (fun u H1 locs1 hp hI1 => ?_)
  obtain rfl := hp
  rw [List.append_nil] at hI1
  exact kk H1 locs1 hI1
def f_ends_L118 (a1 : Int32) (kont : MS → Option (Int32 × MS)) : Nat → MS → Int32 → Option (Int32 × MS)
  | 0, _, _ => none
  | n + 1, M, x2 => if 216 ≤ x2 then (kont M) else (gd (gi x2 216) (gd (gi (((M 0 1) * 216) + x2) 1728) (lt (rup M 5 (upd (M 5) (((M 0 1) * 216) + x2).toNatClampNeg (M 2 x2.toNatClampNeg))) (fun M7 => lt (x2 + 1) (fun x2_8 => f_ends_L118 a1 kont n M7 x2_8)))))
def f_ends_L77 (a1 : Int32) (kont : MS → Option (Int32 × MS)) : Nat → MS → Int32 → Option (Int32 × MS)
  | 0, _, _ => none
  | n + 1, M, x2 => if 1512 ≤ x2 then (kont M) else (gd (gi (x2 + 216) 1728) (gd (gi x2 1728) (lt (rup M 5 (upd (M 5) x2.toNatClampNeg (M 5 (x2 + 216).toNatClampNeg))) (fun M15 => lt (x2 + 1) (fun x2_16 => f_ends_L77 a1 kont n M15 x2_16)))))
def f_ends_L37 (kont : MS → Option (Int32 × MS)) : Nat → MS → Int32 → Option (Int32 × MS)
  | 0, _, _ => none
  | n + 1, M, x2 => if 6 ≤ x2 then (kont M) else (gd (gi x2 6) (gd (gi x2 6) (lt (rup M 7 (upd (M 7) x2.toNatClampNeg (M 6 x2.toNatClampNeg))) (fun M29 => lt (x2 + 1) (fun x2_30 => f_ends_L37 kont n M29 x2_30)))))
def f_ends (M : MS) (a1 : Int32) : Option (Int32 × MS) := if (M 0 0) = 0 then (lj (fun (M2 : MS) => f_ends_L118 a1 (fun M9 => lt (rup M9 0 (upd (M9 0) 1 ((M9 0 1) + 1))) (fun M10 => some (a1, M10))) 2000 M2 0) (fun j116_2 => if (M 0 1) = 8 then (f_ends_L77 a1 (fun M17 => lt (rup M17 0 (upd (M17 0) 1 ((M17 0 1) - 1))) (fun M18 => j116_2 M18)) 2000 M 0) else (j116_2 M))) else (ob (f_lays_1_2 M) (fun r19 M20 => lj (fun (M22 : MS) => some ((M22 0 0), M22)) (fun j61_22 => if (M20 0 0) = (-3) then (lt (rup M20 0 (upd (M20 0) 3 (M20 0 2))) (fun M25 => f_ends_L37 (fun M31 => j61_22 M31) 2000 M25 0)) else (j61_22 M20))))
set_option maxHeartbeats 4000000 in
theorem w_ends_L118 {p : Program} {l : Launch} {e : Env} {R : Room} {s : State} {m : MethodId} {args : Array Value} {below : List Frame} {meth : Method} {c : Code} {G : va_G} {ai : Nat → ClassId} {A : Nat → Prop} {o : Nat} {ar : Nat → Nat} {r0 : Int32} {M0 : MS} (hC : mo_C p R s m args meth c G ai A RX9 cX9_ends 3 1 22 0 0) (hr : meth.sig.returnType = (some .int)) (a1 : Int32) (kont : MS → Option (Int32 × MS)) (K : ∀ (M : MS) (H : Heap) (locs : List Loc) (ls : Array Slot), kont M = some (r0, M0) → mo_I G A s.heap (md_W ai o ar M) H locs → lv_has ls 3 [(0, .ref o), (1, .int a1)] → W p l e R s m args below meth c H locs 0 0 (md_Q below G ai o ar A args s r0 M0) (F0 m 152 ls [])) :
    ∀ (n : Nat) (M : MS) (x2 : Int32) (H : Heap) (locs : List Loc) (ls : Array Slot), f_ends_L118 a1 kont n M x2 = some (r0, M0) → mo_I G A s.heap (md_W ai o ar M) H locs → lv_has ls 3 [(2, .int x2), (0, .ref o), (1, .int a1)] → W p l e R s m args below meth c H locs 0 0 (md_Q below G ai o ar A args s r0 M0) (F0 m 118 ls []) := by
  have hx := hC.1
  have hb := hC.2.1
  intro n
  induction n with
  | zero =>
    intro M x2 H locs ls hF
    have h0 : (none : Option (Int32 × MS)) = some (r0, M0) := hF
    cases h0
  | succ n ih =>
    intro M x2 H locs ls hF hI hl
    rw [f_ends_L118] at hF
    refine lv_iload_n hx hb dX9_ends_118 rfl (lv_at hl 0 rfl) ?_
    refine lv_sipush (v := 216) hx hb dX9_ends_119 (by decide) ?_
    refine lv_icmp_ge (tgt := 152) hx hb dX9_ends_122 (by decide) (fun c4 => ?_) (fun c4 => ?_)
    · have hF := if_t hF c4
      exact K _ _ _ _ hF hI (lv_sub hl [1, 2] rfl)
    · have hF := if_f hF c4
      refine lv_aload_n hx hb dX9_ends_125 rfl (lv_at hl 1 rfl) ?_
      refine md_g10 hC hI dX9_ends_126 ?_
      refine lv_aload_n hx hb dX9_ends_129 rfl (lv_at hl 1 rfl) ?_
      refine md_g1 hC hI dX9_ends_130 ?_
      refine lv_sipush (v := 216) hx hb dX9_ends_133 (by decide) ?_
      refine lv_imul hx hb dX9_ends_136 ?_
      refine lv_iload_n hx hb dX9_ends_137 rfl (lv_at hl 0 rfl) ?_
      refine lv_iadd hx hb dX9_ends_138 ?_
      refine lv_aload_n hx hb dX9_ends_139 rfl (lv_at hl 1 rfl) ?_
      refine md_g7 hC hI dX9_ends_140 ?_
      refine lv_iload_n hx hb dX9_ends_143 rfl (lv_at hl 0 rfl) ?_
      obtain ⟨hg5, hF⟩ := gd_some hF
      refine md_l2 hC hI hg5 dX9_ends_144 ?_
      obtain ⟨hg6, hF⟩ := gd_some hF
      obtain ⟨M7, hM7, hF⟩ := lt_some hF
      refine md_s5 hC hI hg6 hM7 dX9_ends_145 (fun H locs hI => ?_)
      obtain ⟨x2_8, hx2_8, hF⟩ := lt_some hF
      refine mo_inc (k := 0) (lv' := [(2, .int x2_8), (0, .ref o), (1, .int a1)]) hx hb hx2_8 (by decide) dX9_ends_146 hl rfl (by decide) rfl (fun ls hl => ?_)
      refine lv_goto (tgt := 118) hx hb dX9_ends_149 (by decide) ?_
      exact ih _ _ _ _ _ hF hI (lv_sub hl [0, 1, 2] rfl)
set_option maxHeartbeats 4000000 in
theorem w_ends_L77 {p : Program} {l : Launch} {e : Env} {R : Room} {s : State} {m : MethodId} {args : Array Value} {below : List Frame} {meth : Method} {c : Code} {G : va_G} {ai : Nat → ClassId} {A : Nat → Prop} {o : Nat} {ar : Nat → Nat} {r0 : Int32} {M0 : MS} (hC : mo_C p R s m args meth c G ai A RX9 cX9_ends 3 1 22 0 0) (hr : meth.sig.returnType = (some .int)) (a1 : Int32) (kont : MS → Option (Int32 × MS)) (K : ∀ (M : MS) (H : Heap) (locs : List Loc) (ls : Array Slot), kont M = some (r0, M0) → mo_I G A s.heap (md_W ai o ar M) H locs → lv_has ls 3 [(0, .ref o), (1, .int a1)] → W p l e R s m args below meth c H locs 0 0 (md_Q below G ai o ar A args s r0 M0) (F0 m 106 ls [])) :
    ∀ (n : Nat) (M : MS) (x2 : Int32) (H : Heap) (locs : List Loc) (ls : Array Slot), f_ends_L77 a1 kont n M x2 = some (r0, M0) → mo_I G A s.heap (md_W ai o ar M) H locs → lv_has ls 3 [(2, .int x2), (0, .ref o), (1, .int a1)] → W p l e R s m args below meth c H locs 0 0 (md_Q below G ai o ar A args s r0 M0) (F0 m 77 ls []) := by
  have hx := hC.1
  have hb := hC.2.1
  intro n
  induction n with
  | zero =>
    intro M x2 H locs ls hF
    have h0 : (none : Option (Int32 × MS)) = some (r0, M0) := hF
    cases h0
  | succ n ih =>
    intro M x2 H locs ls hF hI hl
    rw [f_ends_L77] at hF
    refine lv_iload_n hx hb dX9_ends_77 rfl (lv_at hl 0 rfl) ?_
    refine lv_sipush (v := 1512) hx hb dX9_ends_78 (by decide) ?_
    refine lv_icmp_ge (tgt := 106) hx hb dX9_ends_81 (by decide) (fun c12 => ?_) (fun c12 => ?_)
    · have hF := if_t hF c12
      exact K _ _ _ _ hF hI (lv_sub hl [1, 2] rfl)
    · have hF := if_f hF c12
      refine lv_aload_n hx hb dX9_ends_84 rfl (lv_at hl 1 rfl) ?_
      refine md_g10 hC hI dX9_ends_85 ?_
      refine lv_iload_n hx hb dX9_ends_88 rfl (lv_at hl 0 rfl) ?_
      refine lv_aload_n hx hb dX9_ends_89 rfl (lv_at hl 1 rfl) ?_
      refine md_g10 hC hI dX9_ends_90 ?_
      refine lv_iload_n hx hb dX9_ends_93 rfl (lv_at hl 0 rfl) ?_
      refine lv_sipush (v := 216) hx hb dX9_ends_94 (by decide) ?_
      refine lv_iadd hx hb dX9_ends_97 ?_
      obtain ⟨hg13, hF⟩ := gd_some hF
      refine md_l5 hC hI hg13 dX9_ends_98 ?_
      obtain ⟨hg14, hF⟩ := gd_some hF
      obtain ⟨M15, hM15, hF⟩ := lt_some hF
      refine md_s5 hC hI hg14 hM15 dX9_ends_99 (fun H locs hI => ?_)
      obtain ⟨x2_16, hx2_16, hF⟩ := lt_some hF
      refine mo_inc (k := 0) (lv' := [(2, .int x2_16), (0, .ref o), (1, .int a1)]) hx hb hx2_16 (by decide) dX9_ends_100 hl rfl (by decide) rfl (fun ls hl => ?_)
      refine lv_goto (tgt := 77) hx hb dX9_ends_103 (by decide) ?_
      exact ih _ _ _ _ _ hF hI (lv_sub hl [0, 1, 2] rfl)
set_option maxHeartbeats 4000000 in
theorem w_ends_L37 {p : Program} {l : Launch} {e : Env} {R : Room} {s : State} {m : MethodId} {args : Array Value} {below : List Frame} {meth : Method} {c : Code} {G : va_G} {ai : Nat → ClassId} {A : Nat → Prop} {o : Nat} {ar : Nat → Nat} {r0 : Int32} {M0 : MS} (hC : mo_C p R s m args meth c G ai A RX9 cX9_ends 3 1 22 0 0) (hr : meth.sig.returnType = (some .int)) (kont : MS → Option (Int32 × MS)) (K : ∀ (M : MS) (H : Heap) (locs : List Loc) (ls : Array Slot), kont M = some (r0, M0) → mo_I G A s.heap (md_W ai o ar M) H locs → lv_has ls 3 [(0, .ref o)] → W p l e R s m args below meth c H locs 0 0 (md_Q below G ai o ar A args s r0 M0) (F0 m 61 ls [])) :
    ∀ (n : Nat) (M : MS) (x2 : Int32) (H : Heap) (locs : List Loc) (ls : Array Slot), f_ends_L37 kont n M x2 = some (r0, M0) → mo_I G A s.heap (md_W ai o ar M) H locs → lv_has ls 3 [(2, .int x2), (0, .ref o)] → W p l e R s m args below meth c H locs 0 0 (md_Q below G ai o ar A args s r0 M0) (F0 m 37 ls []) := by
  have hx := hC.1
  have hb := hC.2.1
  intro n
  induction n with
  | zero =>
    intro M x2 H locs ls hF
    have h0 : (none : Option (Int32 × MS)) = some (r0, M0) := hF
    cases h0
  | succ n ih =>
    intro M x2 H locs ls hF hI hl
    rw [f_ends_L37] at hF
    refine lv_iload_n hx hb dX9_ends_37 rfl (lv_at hl 0 rfl) ?_
    refine lv_bipush (v := 6) hx hb dX9_ends_38 (by decide) ?_
    refine lv_icmp_ge (tgt := 61) hx hb dX9_ends_40 (by decide) (fun c26 => ?_) (fun c26 => ?_)
    · have hF := if_t hF c26
      exact K _ _ _ _ hF hI (lv_sub hl [1] rfl)
    · have hF := if_f hF c26
      refine lv_aload_n hx hb dX9_ends_43 rfl (lv_at hl 1 rfl) ?_
      refine md_g12 hC hI dX9_ends_44 ?_
      refine lv_iload_n hx hb dX9_ends_47 rfl (lv_at hl 0 rfl) ?_
      refine lv_aload_n hx hb dX9_ends_48 rfl (lv_at hl 1 rfl) ?_
      refine md_g11 hC hI dX9_ends_49 ?_
      refine lv_iload_n hx hb dX9_ends_52 rfl (lv_at hl 0 rfl) ?_
      obtain ⟨hg27, hF⟩ := gd_some hF
      refine md_l6 hC hI hg27 dX9_ends_53 ?_
      obtain ⟨hg28, hF⟩ := gd_some hF
      obtain ⟨M29, hM29, hF⟩ := lt_some hF
      refine md_s7 hC hI hg28 hM29 dX9_ends_54 (fun H locs hI => ?_)
      obtain ⟨x2_30, hx2_30, hF⟩ := lt_some hF
      refine mo_inc (k := 0) (lv' := [(2, .int x2_30), (0, .ref o)]) hx hb hx2_30 (by decide) dX9_ends_55 hl rfl (by decide) rfl (fun ls hl => ?_)
      refine lv_goto (tgt := 37) hx hb dX9_ends_58 (by decide) ?_
      exact ih _ _ _ _ _ hF hI (lv_sub hl [0, 1] rfl)
set_option maxHeartbeats 4000000 in
theorem w_ends (l : Launch) (G : va_G) (ai : Nat → ClassId) (o : Nat) (ar : Nat → Nat) (M : MS) (a1 : Int32) (r0 : Int32) (M0 : MS) (hF : f_ends M a1 = some (r0, M0)) : md_M l G ai o ar yX9_ends cX9_ends 3 (some .int) ({ frames := 1, cells := 0, slots := 0, locals := 22 } : Room) [.ref o, .int a1] M r0 M0 := by
  refine mo_body (Qc := fun A => va_Qi (fun (r' : Int32) (M2 : MS) => r' = r0 ∧ M2 = M0) (gw_E G ai (md_W ai o ar) A) A) (by decide) (Nat.le_of_ble_eq_true rfl) ?_
  intro p e s m args below meth c A ls hC hr hI hl _
  have hx := hC.1
  have hb := hC.2.1
  have hl : lv_has ls 3 [(0, .ref o), (1, .int a1)] := hl
  show W p l e _ s m args below meth c s.heap [] 0 0 (md_Q below G ai o ar A args s r0 M0) (F0 m 0 ls [])
  rw [f_ends] at hF
  refine lv_aload_n hx hb dX9_ends_0 rfl (lv_at hl 0 rfl) ?_
  refine md_g0 hC hI dX9_ends_1 ?_
  refine lv_if_eq (tgt := 66) hx hb dX9_ends_4 (by decide) (fun c1 => ?_) (fun c1 => ?_)
  · have hF := if_t hF c1
    refine lv_aload_n hx hb dX9_ends_66 rfl (lv_at hl 0 rfl) ?_
    refine md_g1 hC hI dX9_ends_67 ?_
    refine lv_bipush (v := 8) hx hb dX9_ends_70 (by decide) ?_
    obtain ⟨j116_2, hj116_2, hF⟩ := lj_some hF
    have J116 : ∀ (M2 : MS) (H : Heap) (locs : List Loc) (ls : Array Slot), j116_2 M2 = some (r0, M0) → mo_I G A s.heap (md_W ai o ar M2) H locs → lv_has ls 3 [(0, .ref o), (1, .int a1)] → W p l e ({ frames := 1, cells := 0, slots := 0, locals := 22 } : Room) s m args below meth c H locs 0 0 (md_Q below G ai o ar A args s r0 M0) (F0 m 116 ls []) := by
      intro M2 H locs ls hF hI hl
      rw [hj116_2] at hF
      refine lv_iconst (v := 0) hx hb dX9_ends_116 (by decide) ?_
      refine mo_ist (lv' := [(2, .int 0), (0, .ref o), (1, .int a1)]) hx hb rfl dX9_ends_117 rfl hl (by decide) rfl (fun ls hl => ?_)
      refine w_ends_L118 hC hr a1 _ (fun M9 H locs ls hF hI hl => ?_) 2000 _ _ _ _ _ hF hI (lv_sub hl [0, 1, 2] rfl)
      refine lv_aload_n hx hb dX9_ends_152 rfl (lv_at hl 0 rfl) ?_
      refine lv_dup hx hb dX9_ends_153 rfl ?_
      refine md_g1 hC hI dX9_ends_154 ?_
      refine lv_iconst (v := 1) hx hb dX9_ends_157 (by decide) ?_
      refine lv_iadd hx hb dX9_ends_158 ?_
      obtain ⟨M10, hM10, hF⟩ := lt_some hF
      refine md_p1 hC hI hM10 dX9_ends_159 (fun H locs hI => ?_)
      refine lv_iload_n hx hb dX9_ends_162 rfl (lv_at hl 1 rfl) ?_
      exact md_iret hC hI hr hF dX9_ends_163
    refine lv_icmp_ne (tgt := 116) hx hb dX9_ends_72 (by decide) (fun c11 => ?_) (fun c11 => ?_)
    · have hF := if_f hF c11
      exact J116 _ _ _ _ hF hI (lv_sub hl [0, 1] rfl)
    · have hF := if_t hF c11
      refine lv_iconst (v := 0) hx hb dX9_ends_75 (by decide) ?_
      refine mo_ist (lv' := [(2, .int 0), (0, .ref o), (1, .int a1)]) hx hb rfl dX9_ends_76 rfl hl (by decide) rfl (fun ls hl => ?_)
      refine w_ends_L77 hC hr a1 _ (fun M17 H locs ls hF hI hl => ?_) 2000 _ _ _ _ _ hF hI (lv_sub hl [0, 1, 2] rfl)
      refine lv_aload_n hx hb dX9_ends_106 rfl (lv_at hl 0 rfl) ?_
      refine lv_dup hx hb dX9_ends_107 rfl ?_
      refine md_g1 hC hI dX9_ends_108 ?_
      refine lv_iconst (v := 1) hx hb dX9_ends_111 (by decide) ?_
      refine lv_isub hx hb dX9_ends_112 ?_
      obtain ⟨M18, hM18, hF⟩ := lt_some hF
      refine md_p1 hC hI hM18 dX9_ends_113 (fun H locs hI => ?_)
      exact J116 _ _ _ _ hF hI (lv_sub hl [0, 1] rfl)
  · have hF := if_f hF c1
    refine lv_aload_n hx hb dX9_ends_7 rfl (lv_at hl 0 rfl) ?_
    refine md_g6 hC hI dX9_ends_8 ?_
    refine lv_aload_n hx hb dX9_ends_11 rfl (lv_at hl 0 rfl) ?_
    refine md_g7 hC hI dX9_ends_12 ?_
    obtain ⟨r19, M20, hz21, hF⟩ := ob_some hF
    refine k_lays_1_2 hC hI hz21 (Nat.le_of_ble_eq_true rfl) (Nat.le_of_ble_eq_true rfl) hl.1 (Nat.le_of_ble_eq_true rfl) dX9_ends_15 (fun H locs hI => ?_)
    refine lv_aload_n hx hb dX9_ends_18 rfl (lv_at hl 0 rfl) ?_
    refine md_g0 hC hI dX9_ends_19 ?_
    refine lv_bipush (v := (-3)) hx hb dX9_ends_22 (by decide) ?_
    obtain ⟨j61_22, hj61_22, hF⟩ := lj_some hF
    have J61 : ∀ (M22 : MS) (H : Heap) (locs : List Loc) (ls : Array Slot), j61_22 M22 = some (r0, M0) → mo_I G A s.heap (md_W ai o ar M22) H locs → lv_has ls 3 [(0, .ref o)] → W p l e ({ frames := 1, cells := 0, slots := 0, locals := 22 } : Room) s m args below meth c H locs 0 0 (md_Q below G ai o ar A args s r0 M0) (F0 m 61 ls []) := by
      intro M22 H locs ls hF hI hl
      rw [hj61_22] at hF
      refine lv_aload_n hx hb dX9_ends_61 rfl (lv_at hl 0 rfl) ?_
      refine md_g0 hC hI dX9_ends_62 ?_
      exact md_iret hC hI hr hF dX9_ends_65
    refine lv_icmp_ne (tgt := 61) hx hb dX9_ends_24 (by decide) (fun c24 => ?_) (fun c24 => ?_)
    · have hF := if_f hF c24
      exact J61 _ _ _ _ hF hI (lv_sub hl [0] rfl)
    · have hF := if_t hF c24
      refine lv_aload_n hx hb dX9_ends_27 rfl (lv_at hl 0 rfl) ?_
      refine lv_aload_n hx hb dX9_ends_28 rfl (lv_at hl 0 rfl) ?_
      refine md_g2 hC hI dX9_ends_29 ?_
      obtain ⟨M25, hM25, hF⟩ := lt_some hF
      refine md_p3 hC hI hM25 dX9_ends_32 (fun H locs hI => ?_)
      refine lv_iconst (v := 0) hx hb dX9_ends_35 (by decide) ?_
      refine mo_ist (lv' := [(2, .int 0), (0, .ref o), (1, .int a1)]) hx hb rfl dX9_ends_36 rfl hl (by decide) rfl (fun ls hl => ?_)
      refine w_ends_L37 hC hr _ (fun M31 H locs ls hF hI hl => ?_) 2000 _ _ _ _ _ hF hI (lv_sub hl [0, 1] rfl)
      exact J61 _ _ _ _ hF hI (lv_sub hl [0] rfl)
theorem k_ends {p : Program} {l : Launch} {e : Env} {R : Room} {s : State} {m : MethodId} {args : Array Value} {below : List Frame} {meth : Method} {c : Code} {H : Heap} {locs : List Loc} {cells slots : Nat} {Q : State → Prop} {pc : Nat} {ls : Array Slot} {rest : List Value} {G : va_G} {ai : Nat → ClassId} {A : Nat → Prop} {cc : ByteArray} {nL f L kc ks o : Nat} {ar : Nat → Nat} {M M1 : MS} {r1 : Int32} {a1 : Int32} (hC : mo_C p R s m args meth c G ai A RX9 cc nL f L kc ks) (hI : mo_I G A s.heap (md_W ai o ar M) H locs) (hz : f_ends M a1 = some (r1, M1)) (hf : 1 + 1 ≤ f) (hL : 8 + (3 + 11) + 22 ≤ L) (hsz : ls.size = nL) (hW : (rest.map fun v => v.category).sum ≤ 8) (hdg : decode cc pc = .ok (.invokevirtual 88, 3)) (kk : ∀ (H1 : Heap) (locs1 : List Loc), mo_I G A s.heap (md_W ai o ar M1) H1 locs1 → W p l e R s m args below meth c H1 locs1 cells slots Q (F0 m (pc + 3) ls (.int r1 :: rest))) (hc0 : cells ≤ kc := by first | exact Nat.zero_le _ | assumption) (hs0 : slots ≤ ks := by first | exact Nat.zero_le _ | assumption) : W p l e R s m args below meth c H locs cells slots Q (F0 m pc ls (.int a1 :: .ref o :: rest)) := by
  have hI : mo_I G A s.heap (md_W ai o ar M ++ []) H locs := by rw [List.append_nil]; exact hI
  refine gw_cVi (As := [.int a1]) (mc := 0) (ms := 0) (fs := md_F ar M) hC 1 hI (w_ends l G ai o ar M a1 r1 M1 hz) 0 0 rfl rfl q2102 q2104 qs74 q142 q2105 rfl rfl (by decide +kernel) rfl hf hL hc0 hs0 hsz rfl hW hdg (fun r u H1 locs1 hp hI1 => ?_)
  obtain ⟨rfl, rfl⟩ := hp
  rw [List.append_nil] at hI1
  exact kk H1 locs1 hI1
def f_isGardener (M : MS) (a1 : Int32) : Option (Int32 × MS) := gd (gb (p_isIn a1 0 ((M 1 (2 : Int32).toNatClampNeg) - 1))) (some ((p_isIn a1 0 ((M 1 (2 : Int32).toNatClampNeg) - 1)), M))
set_option maxHeartbeats 4000000 in
theorem w_isGardener (l : Launch) (G : va_G) (ai : Nat → ClassId) (o : Nat) (ar : Nat → Nat) (M : MS) (a1 : Int32) (r0 : Int32) (M0 : MS) (hF : f_isGardener M a1 = some (r0, M0)) : md_M l G ai o ar yX9_isGardener cX9_isGardener 2 (some .boolean) ({ frames := 1, cells := 0, slots := 0, locals := 22 } : Room) [.ref o, .int a1] M r0 M0 := by
  refine mo_body (Qc := fun A => va_Qi (fun (r' : Int32) (M2 : MS) => r' = r0 ∧ M2 = M0) (gw_E G ai (md_W ai o ar) A) A) (by decide) (Nat.le_of_ble_eq_true rfl) ?_
  intro p e s m args below meth c A ls hC hr hI hl _
  have hx := hC.1
  have hb := hC.2.1
  have hl : lv_has ls 2 [(0, .ref o), (1, .int a1)] := hl
  show W p l e _ s m args below meth c s.heap [] 0 0 (md_Q below G ai o ar A args s r0 M0) (F0 m 0 ls [])
  rw [f_isGardener] at hF
  refine lv_iload_n hx hb dX9_isGardener_0 rfl (lv_at hl 1 rfl) ?_
  refine lv_iconst (v := 0) hx hb dX9_isGardener_1 (by decide) ?_
  refine lv_aload_n hx hb dX9_isGardener_2 rfl (lv_at hl 0 rfl) ?_
  refine md_g6 hC hI dX9_isGardener_3 ?_
  refine lv_iconst (v := 2) hx hb dX9_isGardener_6 (by decide) ?_
  refine md_l1 hC hI (by decide) dX9_isGardener_7 ?_
  refine lv_iconst (v := 1) hx hb dX9_isGardener_8 (by decide) ?_
  refine lv_isub hx hb dX9_isGardener_9 ?_
  refine k_isIn (mo_CN hC) (Nat.le_of_ble_eq_true rfl) (Nat.le_of_ble_eq_true rfl) hl.1 (Nat.le_of_ble_eq_true rfl) dX9_isGardener_10 ?_
  obtain ⟨hg1, hF⟩ := gd_some hF
  exact md_zret hC hI hr hg1 hF dX9_isGardener_13
theorem k_isGardener {p : Program} {l : Launch} {e : Env} {R : Room} {s : State} {m : MethodId} {args : Array Value} {below : List Frame} {meth : Method} {c : Code} {H : Heap} {locs : List Loc} {cells slots : Nat} {Q : State → Prop} {pc : Nat} {ls : Array Slot} {rest : List Value} {G : va_G} {ai : Nat → ClassId} {A : Nat → Prop} {cc : ByteArray} {nL f L kc ks o : Nat} {ar : Nat → Nat} {M M1 : MS} {r1 : Int32} {a1 : Int32} (hC : mo_C p R s m args meth c G ai A RX9 cc nL f L kc ks) (hI : mo_I G A s.heap (md_W ai o ar M) H locs) (hz : f_isGardener M a1 = some (r1, M1)) (hf : 1 + 1 ≤ f) (hL : 8 + (2 + 11) + 22 ≤ L) (hsz : ls.size = nL) (hW : (rest.map fun v => v.category).sum ≤ 8) (hdg : decode cc pc = .ok (.invokevirtual 121, 3)) (kk : ∀ (H1 : Heap) (locs1 : List Loc), mo_I G A s.heap (md_W ai o ar M1) H1 locs1 → W p l e R s m args below meth c H1 locs1 cells slots Q (F0 m (pc + 3) ls (.int r1 :: rest))) (hc0 : cells ≤ kc := by first | exact Nat.zero_le _ | assumption) (hs0 : slots ≤ ks := by first | exact Nat.zero_le _ | assumption) : W p l e R s m args below meth c H locs cells slots Q (F0 m pc ls (.int a1 :: .ref o :: rest)) := by
  have hI : mo_I G A s.heap (md_W ai o ar M ++ []) H locs := by rw [List.append_nil]; exact hI
  refine gw_cVi (As := [.int a1]) (mc := 0) (ms := 0) (fs := md_F ar M) hC 1 hI (w_isGardener l G ai o ar M a1 r1 M1 hz) 0 0 rfl rfl q2168 q2170 qs85 q142 q2171 rfl rfl (by decide +kernel) rfl hf hL hc0 hs0 hsz rfl hW hdg (fun r u H1 locs1 hp hI1 => ?_)
  obtain ⟨rfl, rfl⟩ := hp
  rw [List.append_nil] at hI1
  exact kk H1 locs1 hI1
def f_isStone (M : MS) (a1 : Int32) : Option (Int32 × MS) := gd (gi (102 + a1) 216) (if (M 1 (102 + a1).toNatClampNeg) = 1 then (some (1, M)) else (some (0, M)))
set_option maxHeartbeats 4000000 in
theorem w_isStone (l : Launch) (G : va_G) (ai : Nat → ClassId) (o : Nat) (ar : Nat → Nat) (M : MS) (a1 : Int32) (r0 : Int32) (M0 : MS) (hF : f_isStone M a1 = some (r0, M0)) : md_M l G ai o ar yX9_isStone cX9_isStone 2 (some .boolean) ({ frames := 0, cells := 0, slots := 0, locals := 0 } : Room) [.ref o, .int a1] M r0 M0 := by
  refine mo_body (Qc := fun A => va_Qi (fun (r' : Int32) (M2 : MS) => r' = r0 ∧ M2 = M0) (gw_E G ai (md_W ai o ar) A) A) (by decide) (Nat.le_of_ble_eq_true rfl) ?_
  intro p e s m args below meth c A ls hC hr hI hl _
  have hx := hC.1
  have hb := hC.2.1
  have hl : lv_has ls 2 [(0, .ref o), (1, .int a1)] := hl
  show W p l e _ s m args below meth c s.heap [] 0 0 (md_Q below G ai o ar A args s r0 M0) (F0 m 0 ls [])
  rw [f_isStone] at hF
  refine lv_aload_n hx hb dX9_isStone_0 rfl (lv_at hl 0 rfl) ?_
  refine md_g6 hC hI dX9_isStone_1 ?_
  refine lv_bipush (v := 102) hx hb dX9_isStone_4 (by decide) ?_
  refine lv_iload_n hx hb dX9_isStone_6 rfl (lv_at hl 1 rfl) ?_
  refine lv_iadd hx hb dX9_isStone_7 ?_
  obtain ⟨hg1, hF⟩ := gd_some hF
  refine md_l1 hC hI hg1 dX9_isStone_8 ?_
  refine lv_iconst (v := 1) hx hb dX9_isStone_9 (by decide) ?_
  refine lv_icmp_ne (tgt := 17) hx hb dX9_isStone_10 (by decide) (fun c2 => ?_) (fun c2 => ?_)
  · have hF := if_f hF c2
    refine lv_iconst (v := 0) hx hb dX9_isStone_17 (by decide) ?_
    exact md_zret hC hI hr (by decide) hF dX9_isStone_18
  · have hF := if_t hF c2
    refine lv_iconst (v := 1) hx hb dX9_isStone_13 (by decide) ?_
    refine lv_goto (tgt := 18) hx hb dX9_isStone_14 (by decide) ?_
    exact md_zret hC hI hr (by decide) hF dX9_isStone_18
theorem k_isStone {p : Program} {l : Launch} {e : Env} {R : Room} {s : State} {m : MethodId} {args : Array Value} {below : List Frame} {meth : Method} {c : Code} {H : Heap} {locs : List Loc} {cells slots : Nat} {Q : State → Prop} {pc : Nat} {ls : Array Slot} {rest : List Value} {G : va_G} {ai : Nat → ClassId} {A : Nat → Prop} {cc : ByteArray} {nL f L kc ks o : Nat} {ar : Nat → Nat} {M M1 : MS} {r1 : Int32} {a1 : Int32} (hC : mo_C p R s m args meth c G ai A RX9 cc nL f L kc ks) (hI : mo_I G A s.heap (md_W ai o ar M) H locs) (hz : f_isStone M a1 = some (r1, M1)) (hf : 0 + 1 ≤ f) (hL : 8 + (2 + 11) + 0 ≤ L) (hsz : ls.size = nL) (hW : (rest.map fun v => v.category).sum ≤ 8) (hdg : decode cc pc = .ok (.invokevirtual 97, 3)) (kk : ∀ (H1 : Heap) (locs1 : List Loc), mo_I G A s.heap (md_W ai o ar M1) H1 locs1 → W p l e R s m args below meth c H1 locs1 cells slots Q (F0 m (pc + 3) ls (.int r1 :: rest))) (hc0 : cells ≤ kc := by first | exact Nat.zero_le _ | assumption) (hs0 : slots ≤ ks := by first | exact Nat.zero_le _ | assumption) : W p l e R s m args below meth c H locs cells slots Q (F0 m pc ls (.int a1 :: .ref o :: rest)) := by
  have hI : mo_I G A s.heap (md_W ai o ar M ++ []) H locs := by rw [List.append_nil]; exact hI
  refine gw_cVi (As := [.int a1]) (mc := 0) (ms := 0) (fs := md_F ar M) hC 1 hI (w_isStone l G ai o ar M a1 r1 M1 hz) 0 0 rfl rfl q2114 q2116 qs76 q142 q2117 rfl rfl (by decide +kernel) rfl hf hL hc0 hs0 hsz rfl hW hdg (fun r u H1 locs1 hp hI1 => ?_)
  obtain ⟨rfl, rfl⟩ := hp
  rw [List.append_nil] at hI1
  exact kk H1 locs1 hI1
def f_mayTread (M : MS) (a1 : Int32) : Option (Int32 × MS) := gd (gi (42 + a1) 216) (if (p_isIn (M 1 (42 + a1).toNatClampNeg) 1 5) = 0 then (some (1, M)) else (some (0, M)))
set_option maxHeartbeats 4000000 in
theorem w_mayTread (l : Launch) (G : va_G) (ai : Nat → ClassId) (o : Nat) (ar : Nat → Nat) (M : MS) (a1 : Int32) (r0 : Int32) (M0 : MS) (hF : f_mayTread M a1 = some (r0, M0)) : md_M l G ai o ar yX9_mayTread cX9_mayTread 2 (some .boolean) ({ frames := 1, cells := 0, slots := 0, locals := 22 } : Room) [.ref o, .int a1] M r0 M0 := by
  refine mo_body (Qc := fun A => va_Qi (fun (r' : Int32) (M2 : MS) => r' = r0 ∧ M2 = M0) (gw_E G ai (md_W ai o ar) A) A) (by decide) (Nat.le_of_ble_eq_true rfl) ?_
  intro p e s m args below meth c A ls hC hr hI hl _
  have hx := hC.1
  have hb := hC.2.1
  have hl : lv_has ls 2 [(0, .ref o), (1, .int a1)] := hl
  show W p l e _ s m args below meth c s.heap [] 0 0 (md_Q below G ai o ar A args s r0 M0) (F0 m 0 ls [])
  rw [f_mayTread] at hF
  refine lv_aload_n hx hb dX9_mayTread_0 rfl (lv_at hl 0 rfl) ?_
  refine md_g6 hC hI dX9_mayTread_1 ?_
  refine lv_bipush (v := 42) hx hb dX9_mayTread_4 (by decide) ?_
  refine lv_iload_n hx hb dX9_mayTread_6 rfl (lv_at hl 1 rfl) ?_
  refine lv_iadd hx hb dX9_mayTread_7 ?_
  obtain ⟨hg1, hF⟩ := gd_some hF
  refine md_l1 hC hI hg1 dX9_mayTread_8 ?_
  refine lv_iconst (v := 1) hx hb dX9_mayTread_9 (by decide) ?_
  refine lv_iconst (v := 5) hx hb dX9_mayTread_10 (by decide) ?_
  refine k_isIn (mo_CN hC) (Nat.le_of_ble_eq_true rfl) (Nat.le_of_ble_eq_true rfl) hl.1 (Nat.le_of_ble_eq_true rfl) dX9_mayTread_11 ?_
  refine lv_if_ne (tgt := 21) hx hb dX9_mayTread_14 (by decide) (fun c2 => ?_) (fun c2 => ?_)
  · have hF := if_f hF c2
    refine lv_iconst (v := 0) hx hb dX9_mayTread_21 (by decide) ?_
    exact md_zret hC hI hr (by decide) hF dX9_mayTread_22
  · have hF := if_t hF c2
    refine lv_iconst (v := 1) hx hb dX9_mayTread_17 (by decide) ?_
    refine lv_goto (tgt := 22) hx hb dX9_mayTread_18 (by decide) ?_
    exact md_zret hC hI hr (by decide) hF dX9_mayTread_22
theorem k_mayTread {p : Program} {l : Launch} {e : Env} {R : Room} {s : State} {m : MethodId} {args : Array Value} {below : List Frame} {meth : Method} {c : Code} {H : Heap} {locs : List Loc} {cells slots : Nat} {Q : State → Prop} {pc : Nat} {ls : Array Slot} {rest : List Value} {G : va_G} {ai : Nat → ClassId} {A : Nat → Prop} {cc : ByteArray} {nL f L kc ks o : Nat} {ar : Nat → Nat} {M M1 : MS} {r1 : Int32} {a1 : Int32} (hC : mo_C p R s m args meth c G ai A RX9 cc nL f L kc ks) (hI : mo_I G A s.heap (md_W ai o ar M) H locs) (hz : f_mayTread M a1 = some (r1, M1)) (hf : 1 + 1 ≤ f) (hL : 8 + (2 + 11) + 22 ≤ L) (hsz : ls.size = nL) (hW : (rest.map fun v => v.category).sum ≤ 8) (hdg : decode cc pc = .ok (.invokevirtual 112, 3)) (kk : ∀ (H1 : Heap) (locs1 : List Loc), mo_I G A s.heap (md_W ai o ar M1) H1 locs1 → W p l e R s m args below meth c H1 locs1 cells slots Q (F0 m (pc + 3) ls (.int r1 :: rest))) (hc0 : cells ≤ kc := by first | exact Nat.zero_le _ | assumption) (hs0 : slots ≤ ks := by first | exact Nat.zero_le _ | assumption) : W p l e R s m args below meth c H locs cells slots Q (F0 m pc ls (.int a1 :: .ref o :: rest)) := by
  have hI : mo_I G A s.heap (md_W ai o ar M ++ []) H locs := by rw [List.append_nil]; exact hI
  refine gw_cVi (As := [.int a1]) (mc := 0) (ms := 0) (fs := md_F ar M) hC 1 hI (w_mayTread l G ai o ar M a1 r1 M1 hz) 0 0 rfl rfl q2152 q2154 qs82 q142 q2155 rfl rfl (by decide +kernel) rfl hf hL hc0 hs0 hsz rfl hW hdg (fun r u H1 locs1 hp hI1 => ?_)
  obtain ⟨rfl, rfl⟩ := hp
  rw [List.append_nil] at hI1
  exact kk H1 locs1 hI1
def f_clear (M : MS) : Option (Int32 × MS) := lt ((M 1 (0 : Int32).toNatClampNeg)) (fun x1_1 => ob (f_makes M) (fun r2 M3 => lt (rup M3 0 (upd (M3 0) 1 0)) (fun M5 => some (x1_1, M5))))
set_option maxHeartbeats 4000000 in
theorem w_clear (l : Launch) (G : va_G) (ai : Nat → ClassId) (o : Nat) (ar : Nat → Nat) (M : MS) (r0 : Int32) (M0 : MS) (hF : f_clear M = some (r0, M0)) : md_M l G ai o ar yX9_clear cX9_clear 2 (some .int) ({ frames := 1, cells := 0, slots := 0, locals := 21 } : Room) [.ref o] M r0 M0 := by
  refine mo_body (Qc := fun A => va_Qi (fun (r' : Int32) (M2 : MS) => r' = r0 ∧ M2 = M0) (gw_E G ai (md_W ai o ar) A) A) (by decide) (Nat.le_of_ble_eq_true rfl) ?_
  intro p e s m args below meth c A ls hC hr hI hl _
  have hx := hC.1
  have hb := hC.2.1
  have hl : lv_has ls 2 [(0, .ref o)] := hl
  show W p l e _ s m args below meth c s.heap [] 0 0 (md_Q below G ai o ar A args s r0 M0) (F0 m 0 ls [])
  rw [f_clear] at hF
  refine lv_aload_n hx hb dX9_clear_0 rfl (lv_at hl 0 rfl) ?_
  refine md_g6 hC hI dX9_clear_1 ?_
  refine lv_iconst (v := 0) hx hb dX9_clear_4 (by decide) ?_
  refine md_l1 hC hI (by decide) dX9_clear_5 ?_
  obtain ⟨x1_1, hx1_1, hF⟩ := lt_some hF
  refine mo_ist (lv' := [(1, .int x1_1), (0, .ref o)]) hx hb hx1_1 dX9_clear_6 rfl hl (by decide) rfl (fun ls hl => ?_)
  refine lv_aload_n hx hb dX9_clear_7 rfl (lv_at hl 1 rfl) ?_
  obtain ⟨r2, M3, hz4, hF⟩ := ob_some hF
  refine k_makes hC hI hz4 (Nat.le_of_ble_eq_true rfl) (Nat.le_of_ble_eq_true rfl) hl.1 (Nat.le_of_ble_eq_true rfl) dX9_clear_8 (fun H locs hI => ?_)
  refine lv_aload_n hx hb dX9_clear_11 rfl (lv_at hl 1 rfl) ?_
  refine lv_iconst (v := 0) hx hb dX9_clear_12 (by decide) ?_
  obtain ⟨M5, hM5, hF⟩ := lt_some hF
  refine md_p1 hC hI hM5 dX9_clear_13 (fun H locs hI => ?_)
  refine lv_iload_n hx hb dX9_clear_16 rfl (lv_at hl 0 rfl) ?_
  exact md_iret hC hI hr hF dX9_clear_17
def f_shades (M : MS) (a1 : Int32) (a2 : Int32) : Option (Int32 × MS) := if (p_isSquare a1) = 0 then (ob (f_fail M (-1)) (fun r10 M11 => some (r10, M11))) else (if (p_isIn a2 0 4) = 0 then (ob (f_fail M (-2)) (fun r7 M8 => some (r7, M8))) else (gd (gi (12 + a1) 216) (lt ((M 1 (12 + a1).toNatClampNeg)) (fun x3_4 => gd (gi (12 + a1) 216) (lt (rup M 1 (upd (M 1) (12 + a1).toNatClampNeg a2)) (fun M6 => some (x3_4, M6)))))))
set_option maxHeartbeats 4000000 in
theorem w_shades (l : Launch) (G : va_G) (ai : Nat → ClassId) (o : Nat) (ar : Nat → Nat) (M : MS) (a1 : Int32) (a2 : Int32) (r0 : Int32) (M0 : MS) (hF : f_shades M a1 a2 = some (r0, M0)) : md_M l G ai o ar yX9_shades cX9_shades 4 (some .int) ({ frames := 2, cells := 0, slots := 0, locals := 42 } : Room) [.ref o, .int a1, .int a2] M r0 M0 := by
  refine mo_body (Qc := fun A => va_Qi (fun (r' : Int32) (M2 : MS) => r' = r0 ∧ M2 = M0) (gw_E G ai (md_W ai o ar) A) A) (by decide) (Nat.le_of_ble_eq_true rfl) ?_
  intro p e s m args below meth c A ls hC hr hI hl _
  have hx := hC.1
  have hb := hC.2.1
  have hl : lv_has ls 4 [(0, .ref o), (1, .int a1), (2, .int a2)] := hl
  show W p l e _ s m args below meth c s.heap [] 0 0 (md_Q below G ai o ar A args s r0 M0) (F0 m 0 ls [])
  rw [f_shades] at hF
  refine lv_iload_n hx hb dX9_shades_0 rfl (lv_at hl 1 rfl) ?_
  refine k_isSquare (mo_CN hC) (Nat.le_of_ble_eq_true rfl) (Nat.le_of_ble_eq_true rfl) hl.1 (Nat.le_of_ble_eq_true rfl) dX9_shades_1 ?_
  refine lv_if_ne (tgt := 13) hx hb dX9_shades_4 (by decide) (fun c1 => ?_) (fun c1 => ?_)
  · have hF := if_f hF c1
    refine lv_iload_n hx hb dX9_shades_13 rfl (lv_at hl 2 rfl) ?_
    refine lv_iconst (v := 0) hx hb dX9_shades_14 (by decide) ?_
    refine lv_iconst (v := 4) hx hb dX9_shades_15 (by decide) ?_
    refine k_isIn (mo_CN hC) (Nat.le_of_ble_eq_true rfl) (Nat.le_of_ble_eq_true rfl) hl.1 (Nat.le_of_ble_eq_true rfl) dX9_shades_16 ?_
    refine lv_if_ne (tgt := 29) hx hb dX9_shades_19 (by decide) (fun c2 => ?_) (fun c2 => ?_)
    · have hF := if_f hF c2
      refine lv_aload_n hx hb dX9_shades_29 rfl (lv_at hl 0 rfl) ?_
      refine md_g6 hC hI dX9_shades_30 ?_
      refine lv_bipush (v := 12) hx hb dX9_shades_33 (by decide) ?_
      refine lv_iload_n hx hb dX9_shades_35 rfl (lv_at hl 1 rfl) ?_
      refine lv_iadd hx hb dX9_shades_36 ?_
      obtain ⟨hg3, hF⟩ := gd_some hF
      refine md_l1 hC hI hg3 dX9_shades_37 ?_
      obtain ⟨x3_4, hx3_4, hF⟩ := lt_some hF
      refine mo_ist (lv' := [(3, .int x3_4), (0, .ref o), (1, .int a1), (2, .int a2)]) hx hb hx3_4 dX9_shades_38 rfl hl (by decide) rfl (fun ls hl => ?_)
      refine lv_aload_n hx hb dX9_shades_39 rfl (lv_at hl 1 rfl) ?_
      refine md_g6 hC hI dX9_shades_40 ?_
      refine lv_bipush (v := 12) hx hb dX9_shades_43 (by decide) ?_
      refine lv_iload_n hx hb dX9_shades_45 rfl (lv_at hl 2 rfl) ?_
      refine lv_iadd hx hb dX9_shades_46 ?_
      refine lv_iload_n hx hb dX9_shades_47 rfl (lv_at hl 3 rfl) ?_
      obtain ⟨hg5, hF⟩ := gd_some hF
      obtain ⟨M6, hM6, hF⟩ := lt_some hF
      refine md_s1 hC hI hg5 hM6 dX9_shades_48 (fun H locs hI => ?_)
      refine lv_iload_n hx hb dX9_shades_49 rfl (lv_at hl 0 rfl) ?_
      exact md_iret hC hI hr hF dX9_shades_50
    · have hF := if_t hF c2
      refine lv_aload_n hx hb dX9_shades_22 rfl (lv_at hl 0 rfl) ?_
      refine lv_bipush (v := (-2)) hx hb dX9_shades_23 (by decide) ?_
      obtain ⟨r7, M8, hz9, hF⟩ := ob_some hF
      refine k_fail hC hI hz9 (Nat.le_of_ble_eq_true rfl) (Nat.le_of_ble_eq_true rfl) hl.1 (Nat.le_of_ble_eq_true rfl) dX9_shades_25 (fun H locs hI => ?_)
      exact md_iret hC hI hr hF dX9_shades_28
  · have hF := if_t hF c1
    refine lv_aload_n hx hb dX9_shades_7 rfl (lv_at hl 0 rfl) ?_
    refine lv_iconst (v := (-1)) hx hb dX9_shades_8 (by decide) ?_
    obtain ⟨r10, M11, hz12, hF⟩ := ob_some hF
    refine k_fail hC hI hz12 (Nat.le_of_ble_eq_true rfl) (Nat.le_of_ble_eq_true rfl) hl.1 (Nat.le_of_ble_eq_true rfl) dX9_shades_9 (fun H locs hI => ?_)
    exact md_iret hC hI hr hF dX9_shades_12
theorem k_shades {p : Program} {l : Launch} {e : Env} {R : Room} {s : State} {m : MethodId} {args : Array Value} {below : List Frame} {meth : Method} {c : Code} {H : Heap} {locs : List Loc} {cells slots : Nat} {Q : State → Prop} {pc : Nat} {ls : Array Slot} {rest : List Value} {G : va_G} {ai : Nat → ClassId} {A : Nat → Prop} {cc : ByteArray} {nL f L kc ks o : Nat} {ar : Nat → Nat} {M M1 : MS} {r1 : Int32} {a1 : Int32} {a2 : Int32} (hC : mo_C p R s m args meth c G ai A RX9 cc nL f L kc ks) (hI : mo_I G A s.heap (md_W ai o ar M) H locs) (hz : f_shades M a1 a2 = some (r1, M1)) (hf : 2 + 1 ≤ f) (hL : 8 + (4 + 11) + 42 ≤ L) (hsz : ls.size = nL) (hW : (rest.map fun v => v.category).sum ≤ 8) (hdg : decode cc pc = .ok (.invokevirtual 85, 3)) (kk : ∀ (H1 : Heap) (locs1 : List Loc), mo_I G A s.heap (md_W ai o ar M1) H1 locs1 → W p l e R s m args below meth c H1 locs1 cells slots Q (F0 m (pc + 3) ls (.int r1 :: rest))) (hc0 : cells ≤ kc := by first | exact Nat.zero_le _ | assumption) (hs0 : slots ≤ ks := by first | exact Nat.zero_le _ | assumption) : W p l e R s m args below meth c H locs cells slots Q (F0 m pc ls (.int a2 :: .int a1 :: .ref o :: rest)) := by
  have hI : mo_I G A s.heap (md_W ai o ar M ++ []) H locs := by rw [List.append_nil]; exact hI
  refine gw_cVi (As := [.int a1, .int a2]) (mc := 0) (ms := 0) (fs := md_F ar M) hC 2 hI (w_shades l G ai o ar M a1 a2 r1 M1 hz) 0 0 rfl rfl q2088 q2090 qs72 q142 q2091 rfl rfl (by decide +kernel) rfl hf hL hc0 hs0 hsz rfl hW hdg (fun r u H1 locs1 hp hI1 => ?_)
  obtain ⟨rfl, rfl⟩ := hp
  rw [List.append_nil] at hI1
  exact kk H1 locs1 hI1
def f_shade (M : MS) (a1 : Int32) (a2 : Int32) : Option (Int32 × MS) := ob (f_begins M) (fun r1 M2 => ob (f_shades M2 a1 a2) (fun r4 M5 => ob (f_ends M5 r4) (fun r7 M8 => some (r7, M8))))
set_option maxHeartbeats 4000000 in
theorem w_shade (l : Launch) (G : va_G) (ai : Nat → ClassId) (o : Nat) (ar : Nat → Nat) (M : MS) (a1 : Int32) (a2 : Int32) (r0 : Int32) (M0 : MS) (hF : f_shade M a1 a2 = some (r0, M0)) : md_M l G ai o ar yX9_shade cX9_shade 3 (some .int) ({ frames := 3, cells := 0, slots := 0, locals := 65 } : Room) [.ref o, .int a1, .int a2] M r0 M0 := by
  refine mo_body (Qc := fun A => va_Qi (fun (r' : Int32) (M2 : MS) => r' = r0 ∧ M2 = M0) (gw_E G ai (md_W ai o ar) A) A) (by decide) (Nat.le_of_ble_eq_true rfl) ?_
  intro p e s m args below meth c A ls hC hr hI hl _
  have hx := hC.1
  have hb := hC.2.1
  have hl : lv_has ls 3 [(0, .ref o), (1, .int a1), (2, .int a2)] := hl
  show W p l e _ s m args below meth c s.heap [] 0 0 (md_Q below G ai o ar A args s r0 M0) (F0 m 0 ls [])
  rw [f_shade] at hF
  refine lv_aload_n hx hb dX9_shade_0 rfl (lv_at hl 0 rfl) ?_
  obtain ⟨r1, M2, hz3, hF⟩ := ob_some hF
  refine k_begins hC hI hz3 (Nat.le_of_ble_eq_true rfl) (Nat.le_of_ble_eq_true rfl) hl.1 (Nat.le_of_ble_eq_true rfl) dX9_shade_1 (fun H locs hI => ?_)
  refine lv_aload_n hx hb dX9_shade_4 rfl (lv_at hl 0 rfl) ?_
  refine lv_aload_n hx hb dX9_shade_5 rfl (lv_at hl 0 rfl) ?_
  refine lv_iload_n hx hb dX9_shade_6 rfl (lv_at hl 1 rfl) ?_
  refine lv_iload_n hx hb dX9_shade_7 rfl (lv_at hl 2 rfl) ?_
  obtain ⟨r4, M5, hz6, hF⟩ := ob_some hF
  refine k_shades hC hI hz6 (Nat.le_of_ble_eq_true rfl) (Nat.le_of_ble_eq_true rfl) hl.1 (Nat.le_of_ble_eq_true rfl) dX9_shade_8 (fun H locs hI => ?_)
  obtain ⟨r7, M8, hz9, hF⟩ := ob_some hF
  refine k_ends hC hI hz9 (Nat.le_of_ble_eq_true rfl) (Nat.le_of_ble_eq_true rfl) hl.1 (Nat.le_of_ble_eq_true rfl) dX9_shade_11 (fun H locs hI => ?_)
  exact md_iret hC hI hr hF dX9_shade_14
def f_gardenersOn_L4 (a1 : Int32) (kont : MS → Int32 → Option (Int32 × MS)) : Nat → MS → Int32 → Int32 → Option (Int32 × MS)
  | 0, _, _, _ => none
  | n + 1, M, x3, x2 => if (M 1 (2 : Int32).toNatClampNeg) ≤ x3 then (kont M x2) else (gd (gi (p_gardAt x3 0) 216) (lj (fun (M3 : MS) (t5 : Int32) (t6 : Int32) => lt ((t5 ||| t6)) (fun x2_8 => lt (x3 + 1) (fun x3_9 => f_gardenersOn_L4 a1 kont n M3 x3_9 x2_8))) (fun j36_6 => if (M 1 (p_gardAt x3 0).toNatClampNeg) = a1 then (j36_6 M x2 (1 <<< (x3 &&& 31))) else (j36_6 M x2 0))))
def f_gardenersOn (M : MS) (a1 : Int32) : Option (Int32 × MS) := f_gardenersOn_L4 a1 (fun M11 x2_12 => some (x2_12, M11)) 2000 M 0 0
set_option maxHeartbeats 4000000 in
theorem w_gardenersOn_L4 {p : Program} {l : Launch} {e : Env} {R : Room} {s : State} {m : MethodId} {args : Array Value} {below : List Frame} {meth : Method} {c : Code} {G : va_G} {ai : Nat → ClassId} {A : Nat → Prop} {o : Nat} {ar : Nat → Nat} {r0 : Int32} {M0 : MS} (hC : mo_C p R s m args meth c G ai A RX9 cX9_gardenersOn 4 1 21 0 0) (hr : meth.sig.returnType = (some .int)) (a1 : Int32) (kont : MS → Int32 → Option (Int32 × MS)) (K : ∀ (M : MS) (x2 : Int32) (H : Heap) (locs : List Loc) (ls : Array Slot), kont M x2 = some (r0, M0) → mo_I G A s.heap (md_W ai o ar M) H locs → lv_has ls 4 [(2, .int x2)] → W p l e R s m args below meth c H locs 0 0 (md_Q below G ai o ar A args s r0 M0) (F0 m 44 ls [])) :
    ∀ (n : Nat) (M : MS) (x3 : Int32) (x2 : Int32) (H : Heap) (locs : List Loc) (ls : Array Slot), f_gardenersOn_L4 a1 kont n M x3 x2 = some (r0, M0) → mo_I G A s.heap (md_W ai o ar M) H locs → lv_has ls 4 [(3, .int x3), (2, .int x2), (0, .ref o), (1, .int a1)] → W p l e R s m args below meth c H locs 0 0 (md_Q below G ai o ar A args s r0 M0) (F0 m 4 ls []) := by
  have hx := hC.1
  have hb := hC.2.1
  intro n
  induction n with
  | zero =>
    intro M x3 x2 H locs ls hF
    have h0 : (none : Option (Int32 × MS)) = some (r0, M0) := hF
    cases h0
  | succ n ih =>
    intro M x3 x2 H locs ls hF hI hl
    rw [f_gardenersOn_L4] at hF
    refine lv_iload_n hx hb dX9_gardenersOn_4 rfl (lv_at hl 0 rfl) ?_
    refine lv_aload_n hx hb dX9_gardenersOn_5 rfl (lv_at hl 2 rfl) ?_
    refine md_g6 hC hI dX9_gardenersOn_6 ?_
    refine lv_iconst (v := 2) hx hb dX9_gardenersOn_9 (by decide) ?_
    refine md_l1 hC hI (by decide) dX9_gardenersOn_10 ?_
    refine lv_icmp_ge (tgt := 44) hx hb dX9_gardenersOn_11 (by decide) (fun c1 => ?_) (fun c1 => ?_)
    · have hF := if_t hF c1
      exact K _ _ _ _ _ hF hI (lv_sub hl [1] rfl)
    · have hF := if_f hF c1
      refine lv_iload_n hx hb dX9_gardenersOn_14 rfl (lv_at hl 1 rfl) ?_
      refine lv_aload_n hx hb dX9_gardenersOn_15 rfl (lv_at hl 2 rfl) ?_
      refine md_g6 hC hI dX9_gardenersOn_16 ?_
      refine lv_iload_n hx hb dX9_gardenersOn_19 rfl (lv_at hl 0 rfl) ?_
      refine lv_iconst (v := 0) hx hb dX9_gardenersOn_20 (by decide) ?_
      refine k_gardAt (mo_CN hC) (Nat.le_of_ble_eq_true rfl) (Nat.le_of_ble_eq_true rfl) hl.1 (Nat.le_of_ble_eq_true rfl) dX9_gardenersOn_21 ?_
      obtain ⟨hg2, hF⟩ := gd_some hF
      refine md_l1 hC hI hg2 dX9_gardenersOn_24 ?_
      refine lv_iload_n hx hb dX9_gardenersOn_25 rfl (lv_at hl 3 rfl) ?_
      obtain ⟨j36_6, hj36_6, hF⟩ := lj_some hF
      have J36 : ∀ (M3 : MS) (t5 : Int32) (t6 : Int32) (H : Heap) (locs : List Loc) (ls : Array Slot), j36_6 M3 t5 t6 = some (r0, M0) → mo_I G A s.heap (md_W ai o ar M3) H locs → lv_has ls 4 [(3, .int x3), (0, .ref o), (1, .int a1)] → W p l e R s m args below meth c H locs 0 0 (md_Q below G ai o ar A args s r0 M0) (F0 m 36 ls [.int t6, .int t5]) := by
        intro M3 t5 t6 H locs ls hF hI hl
        rw [hj36_6] at hF
        refine lv_ior hx hb dX9_gardenersOn_36 ?_
        obtain ⟨x2_8, hx2_8, hF⟩ := lt_some hF
        refine mo_ist (lv' := [(2, .int x2_8), (3, .int x3), (0, .ref o), (1, .int a1)]) hx hb hx2_8 dX9_gardenersOn_37 rfl hl (by decide) rfl (fun ls hl => ?_)
        obtain ⟨x3_9, hx3_9, hF⟩ := lt_some hF
        refine mo_inc (k := 1) (lv' := [(3, .int x3_9), (2, .int x2_8), (0, .ref o), (1, .int a1)]) hx hb hx3_9 (by decide) dX9_gardenersOn_38 hl rfl (by decide) rfl (fun ls hl => ?_)
        refine lv_goto (tgt := 4) hx hb dX9_gardenersOn_41 (by decide) ?_
        exact ih _ _ _ _ _ _ hF hI (lv_sub hl [0, 1, 2, 3] rfl)
      refine lv_icmp_ne (tgt := 35) hx hb dX9_gardenersOn_26 (by decide) (fun c10 => ?_) (fun c10 => ?_)
      · have hF := if_f hF c10
        refine lv_iconst (v := 0) hx hb dX9_gardenersOn_35 (by decide) ?_
        exact J36 _ _ _ _ _ _ hF hI (lv_sub hl [0, 2, 3] rfl)
      · have hF := if_t hF c10
        refine lv_iconst (v := 1) hx hb dX9_gardenersOn_29 (by decide) ?_
        refine lv_iload_n hx hb dX9_gardenersOn_30 rfl (lv_at hl 0 rfl) ?_
        refine lv_ishl hx hb dX9_gardenersOn_31 ?_
        refine lv_goto (tgt := 36) hx hb dX9_gardenersOn_32 (by decide) ?_
        exact J36 _ _ _ _ _ _ hF hI (lv_sub hl [0, 2, 3] rfl)
set_option maxHeartbeats 4000000 in
theorem w_gardenersOn (l : Launch) (G : va_G) (ai : Nat → ClassId) (o : Nat) (ar : Nat → Nat) (M : MS) (a1 : Int32) (r0 : Int32) (M0 : MS) (hF : f_gardenersOn M a1 = some (r0, M0)) : md_M l G ai o ar yX9_gardenersOn cX9_gardenersOn 4 (some .int) ({ frames := 1, cells := 0, slots := 0, locals := 21 } : Room) [.ref o, .int a1] M r0 M0 := by
  refine mo_body (Qc := fun A => va_Qi (fun (r' : Int32) (M2 : MS) => r' = r0 ∧ M2 = M0) (gw_E G ai (md_W ai o ar) A) A) (by decide) (Nat.le_of_ble_eq_true rfl) ?_
  intro p e s m args below meth c A ls hC hr hI hl _
  have hx := hC.1
  have hb := hC.2.1
  have hl : lv_has ls 4 [(0, .ref o), (1, .int a1)] := hl
  show W p l e _ s m args below meth c s.heap [] 0 0 (md_Q below G ai o ar A args s r0 M0) (F0 m 0 ls [])
  rw [f_gardenersOn] at hF
  refine lv_iconst (v := 0) hx hb dX9_gardenersOn_0 (by decide) ?_
  refine mo_ist (lv' := [(2, .int 0), (0, .ref o), (1, .int a1)]) hx hb rfl dX9_gardenersOn_1 rfl hl (by decide) rfl (fun ls hl => ?_)
  refine lv_iconst (v := 0) hx hb dX9_gardenersOn_2 (by decide) ?_
  refine mo_ist (lv' := [(3, .int 0), (2, .int 0), (0, .ref o), (1, .int a1)]) hx hb rfl dX9_gardenersOn_3 rfl hl (by decide) rfl (fun ls hl => ?_)
  refine w_gardenersOn_L4 hC hr a1 _ (fun M11 x2_12 H locs ls hF hI hl => ?_) 2000 _ _ _ _ _ _ hF hI (lv_sub hl [0, 1, 2, 3] rfl)
  refine lv_iload_n hx hb dX9_gardenersOn_44 rfl (lv_at hl 0 rfl) ?_
  exact md_iret hC hI hr hF dX9_gardenersOn_45
theorem k_gardenersOn {p : Program} {l : Launch} {e : Env} {R : Room} {s : State} {m : MethodId} {args : Array Value} {below : List Frame} {meth : Method} {c : Code} {H : Heap} {locs : List Loc} {cells slots : Nat} {Q : State → Prop} {pc : Nat} {ls : Array Slot} {rest : List Value} {G : va_G} {ai : Nat → ClassId} {A : Nat → Prop} {cc : ByteArray} {nL f L kc ks o : Nat} {ar : Nat → Nat} {M M1 : MS} {r1 : Int32} {a1 : Int32} (hC : mo_C p R s m args meth c G ai A RX9 cc nL f L kc ks) (hI : mo_I G A s.heap (md_W ai o ar M) H locs) (hz : f_gardenersOn M a1 = some (r1, M1)) (hf : 1 + 1 ≤ f) (hL : 8 + (4 + 11) + 21 ≤ L) (hsz : ls.size = nL) (hW : (rest.map fun v => v.category).sum ≤ 8) (hdg : decode cc pc = .ok (.invokevirtual 100, 3)) (kk : ∀ (H1 : Heap) (locs1 : List Loc), mo_I G A s.heap (md_W ai o ar M1) H1 locs1 → W p l e R s m args below meth c H1 locs1 cells slots Q (F0 m (pc + 3) ls (.int r1 :: rest))) (hc0 : cells ≤ kc := by first | exact Nat.zero_le _ | assumption) (hs0 : slots ≤ ks := by first | exact Nat.zero_le _ | assumption) : W p l e R s m args below meth c H locs cells slots Q (F0 m pc ls (.int a1 :: .ref o :: rest)) := by
  have hI : mo_I G A s.heap (md_W ai o ar M ++ []) H locs := by rw [List.append_nil]; exact hI
  refine gw_cVi (As := [.int a1]) (mc := 0) (ms := 0) (fs := md_F ar M) hC 1 hI (w_gardenersOn l G ai o ar M a1 r1 M1 hz) 0 0 rfl rfl q2122 q2124 qs78 q142 q2125 rfl rfl (by decide +kernel) rfl hf hL hc0 hs0 hsz rfl hW hdg (fun r u H1 locs1 hp hI1 => ?_)
  obtain ⟨rfl, rfl⟩ := hp
  rw [List.append_nil] at hI1
  exact kk H1 locs1 hI1
def f_molesOn_L4 (a1 : Int32) (kont : MS → Int32 → Option (Int32 × MS)) : Nat → MS → Int32 → Int32 → Option (Int32 × MS)
  | 0, _, _, _ => none
  | n + 1, M, x3, x2 => if (M 1 (3 : Int32).toNatClampNeg) ≤ x3 then (kont M x2) else (gd (gi (p_moleAt x3 0) 216) (lj (fun (M3 : MS) (t5 : Int32) (t6 : Int32) => lt ((t5 ||| t6)) (fun x2_8 => lt (x3 + 1) (fun x3_9 => f_molesOn_L4 a1 kont n M3 x3_9 x2_8))) (fun j49_6 => lj (fun (M10 : MS) (t11 : Int32) => j49_6 M10 t11 0) (fun j48_11 => if (M 1 (p_moleAt x3 0).toNatClampNeg) = a1 then (gd (gi (p_moleAt x3 1) 216) (if (M 1 (p_moleAt x3 1).toNatClampNeg) = 0 then (j49_6 M x2 (1 <<< (x3 &&& 31))) else (j48_11 M x2))) else (j48_11 M x2)))))
def f_molesOn (M : MS) (a1 : Int32) : Option (Int32 × MS) := f_molesOn_L4 a1 (fun M16 x2_17 => some (x2_17, M16)) 2000 M 0 0
set_option maxHeartbeats 4000000 in
theorem w_molesOn_L4 {p : Program} {l : Launch} {e : Env} {R : Room} {s : State} {m : MethodId} {args : Array Value} {below : List Frame} {meth : Method} {c : Code} {G : va_G} {ai : Nat → ClassId} {A : Nat → Prop} {o : Nat} {ar : Nat → Nat} {r0 : Int32} {M0 : MS} (hC : mo_C p R s m args meth c G ai A RX9 cX9_molesOn 4 1 21 0 0) (hr : meth.sig.returnType = (some .int)) (a1 : Int32) (kont : MS → Int32 → Option (Int32 × MS)) (K : ∀ (M : MS) (x2 : Int32) (H : Heap) (locs : List Loc) (ls : Array Slot), kont M x2 = some (r0, M0) → mo_I G A s.heap (md_W ai o ar M) H locs → lv_has ls 4 [(2, .int x2)] → W p l e R s m args below meth c H locs 0 0 (md_Q below G ai o ar A args s r0 M0) (F0 m 57 ls [])) :
    ∀ (n : Nat) (M : MS) (x3 : Int32) (x2 : Int32) (H : Heap) (locs : List Loc) (ls : Array Slot), f_molesOn_L4 a1 kont n M x3 x2 = some (r0, M0) → mo_I G A s.heap (md_W ai o ar M) H locs → lv_has ls 4 [(3, .int x3), (2, .int x2), (0, .ref o), (1, .int a1)] → W p l e R s m args below meth c H locs 0 0 (md_Q below G ai o ar A args s r0 M0) (F0 m 4 ls []) := by
  have hx := hC.1
  have hb := hC.2.1
  intro n
  induction n with
  | zero =>
    intro M x3 x2 H locs ls hF
    have h0 : (none : Option (Int32 × MS)) = some (r0, M0) := hF
    cases h0
  | succ n ih =>
    intro M x3 x2 H locs ls hF hI hl
    rw [f_molesOn_L4] at hF
    refine lv_iload_n hx hb dX9_molesOn_4 rfl (lv_at hl 0 rfl) ?_
    refine lv_aload_n hx hb dX9_molesOn_5 rfl (lv_at hl 2 rfl) ?_
    refine md_g6 hC hI dX9_molesOn_6 ?_
    refine lv_iconst (v := 3) hx hb dX9_molesOn_9 (by decide) ?_
    refine md_l1 hC hI (by decide) dX9_molesOn_10 ?_
    refine lv_icmp_ge (tgt := 57) hx hb dX9_molesOn_11 (by decide) (fun c1 => ?_) (fun c1 => ?_)
    · have hF := if_t hF c1
      exact K _ _ _ _ _ hF hI (lv_sub hl [1] rfl)
    · have hF := if_f hF c1
      refine lv_iload_n hx hb dX9_molesOn_14 rfl (lv_at hl 1 rfl) ?_
      refine lv_aload_n hx hb dX9_molesOn_15 rfl (lv_at hl 2 rfl) ?_
      refine md_g6 hC hI dX9_molesOn_16 ?_
      refine lv_iload_n hx hb dX9_molesOn_19 rfl (lv_at hl 0 rfl) ?_
      refine lv_iconst (v := 0) hx hb dX9_molesOn_20 (by decide) ?_
      refine k_moleAt (mo_CN hC) (Nat.le_of_ble_eq_true rfl) (Nat.le_of_ble_eq_true rfl) hl.1 (Nat.le_of_ble_eq_true rfl) dX9_molesOn_21 ?_
      obtain ⟨hg2, hF⟩ := gd_some hF
      refine md_l1 hC hI hg2 dX9_molesOn_24 ?_
      refine lv_iload_n hx hb dX9_molesOn_25 rfl (lv_at hl 3 rfl) ?_
      obtain ⟨j49_6, hj49_6, hF⟩ := lj_some hF
      have J49 : ∀ (M3 : MS) (t5 : Int32) (t6 : Int32) (H : Heap) (locs : List Loc) (ls : Array Slot), j49_6 M3 t5 t6 = some (r0, M0) → mo_I G A s.heap (md_W ai o ar M3) H locs → lv_has ls 4 [(3, .int x3), (0, .ref o), (1, .int a1)] → W p l e R s m args below meth c H locs 0 0 (md_Q below G ai o ar A args s r0 M0) (F0 m 49 ls [.int t6, .int t5]) := by
        intro M3 t5 t6 H locs ls hF hI hl
        rw [hj49_6] at hF
        refine lv_ior hx hb dX9_molesOn_49 ?_
        obtain ⟨x2_8, hx2_8, hF⟩ := lt_some hF
        refine mo_ist (lv' := [(2, .int x2_8), (3, .int x3), (0, .ref o), (1, .int a1)]) hx hb hx2_8 dX9_molesOn_50 rfl hl (by decide) rfl (fun ls hl => ?_)
        obtain ⟨x3_9, hx3_9, hF⟩ := lt_some hF
        refine mo_inc (k := 1) (lv' := [(3, .int x3_9), (2, .int x2_8), (0, .ref o), (1, .int a1)]) hx hb hx3_9 (by decide) dX9_molesOn_51 hl rfl (by decide) rfl (fun ls hl => ?_)
        refine lv_goto (tgt := 4) hx hb dX9_molesOn_54 (by decide) ?_
        exact ih _ _ _ _ _ _ hF hI (lv_sub hl [0, 1, 2, 3] rfl)
      obtain ⟨j48_11, hj48_11, hF⟩ := lj_some hF
      have J48 : ∀ (M10 : MS) (t11 : Int32) (H : Heap) (locs : List Loc) (ls : Array Slot), j48_11 M10 t11 = some (r0, M0) → mo_I G A s.heap (md_W ai o ar M10) H locs → lv_has ls 4 [(3, .int x3), (0, .ref o), (1, .int a1)] → W p l e R s m args below meth c H locs 0 0 (md_Q below G ai o ar A args s r0 M0) (F0 m 48 ls [.int t11]) := by
        intro M10 t11 H locs ls hF hI hl
        rw [hj48_11] at hF
        refine lv_iconst (v := 0) hx hb dX9_molesOn_48 (by decide) ?_
        exact J49 _ _ _ _ _ _ hF hI (lv_sub hl [0, 1, 2] rfl)
      refine lv_icmp_ne (tgt := 48) hx hb dX9_molesOn_26 (by decide) (fun c13 => ?_) (fun c13 => ?_)
      · have hF := if_f hF c13
        exact J48 _ _ _ _ _ hF hI (lv_sub hl [0, 2, 3] rfl)
      · have hF := if_t hF c13
        refine lv_aload_n hx hb dX9_molesOn_29 rfl (lv_at hl 2 rfl) ?_
        refine md_g6 hC hI dX9_molesOn_30 ?_
        refine lv_iload_n hx hb dX9_molesOn_33 rfl (lv_at hl 0 rfl) ?_
        refine lv_iconst (v := 1) hx hb dX9_molesOn_34 (by decide) ?_
        refine k_moleAt (mo_CN hC) (Nat.le_of_ble_eq_true rfl) (Nat.le_of_ble_eq_true rfl) hl.1 (Nat.le_of_ble_eq_true rfl) dX9_molesOn_35 ?_
        obtain ⟨hg14, hF⟩ := gd_some hF
        refine md_l1 hC hI hg14 dX9_molesOn_38 ?_
        refine lv_if_ne (tgt := 48) hx hb dX9_molesOn_39 (by decide) (fun c15 => ?_) (fun c15 => ?_)
        · have hF := if_f hF c15
          exact J48 _ _ _ _ _ hF hI (lv_sub hl [0, 2, 3] rfl)
        · have hF := if_t hF c15
          refine lv_iconst (v := 1) hx hb dX9_molesOn_42 (by decide) ?_
          refine lv_iload_n hx hb dX9_molesOn_43 rfl (lv_at hl 0 rfl) ?_
          refine lv_ishl hx hb dX9_molesOn_44 ?_
          refine lv_goto (tgt := 49) hx hb dX9_molesOn_45 (by decide) ?_
          exact J49 _ _ _ _ _ _ hF hI (lv_sub hl [0, 2, 3] rfl)
set_option maxHeartbeats 4000000 in
theorem w_molesOn (l : Launch) (G : va_G) (ai : Nat → ClassId) (o : Nat) (ar : Nat → Nat) (M : MS) (a1 : Int32) (r0 : Int32) (M0 : MS) (hF : f_molesOn M a1 = some (r0, M0)) : md_M l G ai o ar yX9_molesOn cX9_molesOn 4 (some .int) ({ frames := 1, cells := 0, slots := 0, locals := 21 } : Room) [.ref o, .int a1] M r0 M0 := by
  refine mo_body (Qc := fun A => va_Qi (fun (r' : Int32) (M2 : MS) => r' = r0 ∧ M2 = M0) (gw_E G ai (md_W ai o ar) A) A) (by decide) (Nat.le_of_ble_eq_true rfl) ?_
  intro p e s m args below meth c A ls hC hr hI hl _
  have hx := hC.1
  have hb := hC.2.1
  have hl : lv_has ls 4 [(0, .ref o), (1, .int a1)] := hl
  show W p l e _ s m args below meth c s.heap [] 0 0 (md_Q below G ai o ar A args s r0 M0) (F0 m 0 ls [])
  rw [f_molesOn] at hF
  refine lv_iconst (v := 0) hx hb dX9_molesOn_0 (by decide) ?_
  refine mo_ist (lv' := [(2, .int 0), (0, .ref o), (1, .int a1)]) hx hb rfl dX9_molesOn_1 rfl hl (by decide) rfl (fun ls hl => ?_)
  refine lv_iconst (v := 0) hx hb dX9_molesOn_2 (by decide) ?_
  refine mo_ist (lv' := [(3, .int 0), (2, .int 0), (0, .ref o), (1, .int a1)]) hx hb rfl dX9_molesOn_3 rfl hl (by decide) rfl (fun ls hl => ?_)
  refine w_molesOn_L4 hC hr a1 _ (fun M16 x2_17 H locs ls hF hI hl => ?_) 2000 _ _ _ _ _ _ hF hI (lv_sub hl [0, 1, 2, 3] rfl)
  refine lv_iload_n hx hb dX9_molesOn_57 rfl (lv_at hl 0 rfl) ?_
  exact md_iret hC hI hr hF dX9_molesOn_58
theorem k_molesOn {p : Program} {l : Launch} {e : Env} {R : Room} {s : State} {m : MethodId} {args : Array Value} {below : List Frame} {meth : Method} {c : Code} {H : Heap} {locs : List Loc} {cells slots : Nat} {Q : State → Prop} {pc : Nat} {ls : Array Slot} {rest : List Value} {G : va_G} {ai : Nat → ClassId} {A : Nat → Prop} {cc : ByteArray} {nL f L kc ks o : Nat} {ar : Nat → Nat} {M M1 : MS} {r1 : Int32} {a1 : Int32} (hC : mo_C p R s m args meth c G ai A RX9 cc nL f L kc ks) (hI : mo_I G A s.heap (md_W ai o ar M) H locs) (hz : f_molesOn M a1 = some (r1, M1)) (hf : 1 + 1 ≤ f) (hL : 8 + (4 + 11) + 21 ≤ L) (hsz : ls.size = nL) (hW : (rest.map fun v => v.category).sum ≤ 8) (hdg : decode cc pc = .ok (.invokevirtual 103, 3)) (kk : ∀ (H1 : Heap) (locs1 : List Loc), mo_I G A s.heap (md_W ai o ar M1) H1 locs1 → W p l e R s m args below meth c H1 locs1 cells slots Q (F0 m (pc + 3) ls (.int r1 :: rest))) (hc0 : cells ≤ kc := by first | exact Nat.zero_le _ | assumption) (hs0 : slots ≤ ks := by first | exact Nat.zero_le _ | assumption) : W p l e R s m args below meth c H locs cells slots Q (F0 m pc ls (.int a1 :: .ref o :: rest)) := by
  have hI : mo_I G A s.heap (md_W ai o ar M ++ []) H locs := by rw [List.append_nil]; exact hI
  refine gw_cVi (As := [.int a1]) (mc := 0) (ms := 0) (fs := md_F ar M) hC 1 hI (w_molesOn l G ai o ar M a1 r1 M1 hz) 0 0 rfl rfl q2129 q2131 qs79 q142 q2132 rfl rfl (by decide +kernel) rfl hf hL hc0 hs0 hsz rfl hW hdg (fun r u H1 locs1 hp hI1 => ?_)
  obtain ⟨rfl, rfl⟩ := hp
  rw [List.append_nil] at hI1
  exact kk H1 locs1 hI1
def f_stones (M : MS) (a1 : Int32) : Option (Int32 × MS) := if (p_isSquare a1) = 0 then (ob (f_fail M (-1)) (fun r33 M34 => some (r33, M34))) else (ob (f_isStone M a1) (fun r2 M3 => if r2 = 0 then (ob (f_gardenersOn M3 a1) (fun r6 M7 => lj (fun (M9 : MS) => ob (f_refuses M9 14 a1) (fun r11 M12 => some (r11, M12))) (fun j58_9 => if r6 = 0 then (ob (f_molesOn M7 a1) (fun r15 M16 => if r15 = 0 then (gd (gi (132 + a1) 216) (if (M16 1 (132 + a1).toNatClampNeg) = 1 then (j58_9 M16) else (gd (gi (42 + a1) 216) (lt ((M16 1 (42 + a1).toNatClampNeg)) (fun x2_22 => gd (gi (102 + a1) 216) (lt (rup M16 1 (upd (M16 1) (102 + a1).toNatClampNeg 1)) (fun M24 => gd (gi (42 + a1) 216) (lt (rup M24 1 (upd (M24 1) (42 + a1).toNatClampNeg 0)) (fun M26 => gd (gi (72 + a1) 216) (lt (rup M26 1 (upd (M26 1) (72 + a1).toNatClampNeg 0)) (fun M28 => lt (rup M28 1 (upd (M28 1) (6 : Int32).toNatClampNeg ((M28 1 (6 : Int32).toNatClampNeg) + x2_22))) (fun M29 => some (x2_22, M29))))))))))))) else (j58_9 M16))) else (j58_9 M7)))) else (ob (f_refuses M3 2 a1) (fun r30 M31 => some (r30, M31)))))
set_option maxHeartbeats 4000000 in
theorem w_stones (l : Launch) (G : va_G) (ai : Nat → ClassId) (o : Nat) (ar : Nat → Nat) (M : MS) (a1 : Int32) (r0 : Int32) (M0 : MS) (hF : f_stones M a1 = some (r0, M0)) : md_M l G ai o ar yX9_stones cX9_stones 3 (some .int) ({ frames := 2, cells := 0, slots := 0, locals := 44 } : Room) [.ref o, .int a1] M r0 M0 := by
  refine mo_body (Qc := fun A => va_Qi (fun (r' : Int32) (M2 : MS) => r' = r0 ∧ M2 = M0) (gw_E G ai (md_W ai o ar) A) A) (by decide) (Nat.le_of_ble_eq_true rfl) ?_
  intro p e s m args below meth c A ls hC hr hI hl _
  have hx := hC.1
  have hb := hC.2.1
  have hl : lv_has ls 3 [(0, .ref o), (1, .int a1)] := hl
  show W p l e _ s m args below meth c s.heap [] 0 0 (md_Q below G ai o ar A args s r0 M0) (F0 m 0 ls [])
  rw [f_stones] at hF
  refine lv_iload_n hx hb dX9_stones_0 rfl (lv_at hl 1 rfl) ?_
  refine k_isSquare (mo_CN hC) (Nat.le_of_ble_eq_true rfl) (Nat.le_of_ble_eq_true rfl) hl.1 (Nat.le_of_ble_eq_true rfl) dX9_stones_1 ?_
  refine lv_if_ne (tgt := 13) hx hb dX9_stones_4 (by decide) (fun c1 => ?_) (fun c1 => ?_)
  · have hF := if_f hF c1
    refine lv_aload_n hx hb dX9_stones_13 rfl (lv_at hl 0 rfl) ?_
    refine lv_iload_n hx hb dX9_stones_14 rfl (lv_at hl 1 rfl) ?_
    obtain ⟨r2, M3, hz4, hF⟩ := ob_some hF
    refine k_isStone hC hI hz4 (Nat.le_of_ble_eq_true rfl) (Nat.le_of_ble_eq_true rfl) hl.1 (Nat.le_of_ble_eq_true rfl) dX9_stones_15 (fun H locs hI => ?_)
    refine lv_if_eq (tgt := 28) hx hb dX9_stones_18 (by decide) (fun c5 => ?_) (fun c5 => ?_)
    · have hF := if_t hF c5
      refine lv_aload_n hx hb dX9_stones_28 rfl (lv_at hl 0 rfl) ?_
      refine lv_iload_n hx hb dX9_stones_29 rfl (lv_at hl 1 rfl) ?_
      obtain ⟨r6, M7, hz8, hF⟩ := ob_some hF
      refine k_gardenersOn hC hI hz8 (Nat.le_of_ble_eq_true rfl) (Nat.le_of_ble_eq_true rfl) hl.1 (Nat.le_of_ble_eq_true rfl) dX9_stones_30 (fun H locs hI => ?_)
      obtain ⟨j58_9, hj58_9, hF⟩ := lj_some hF
      have J58 : ∀ (M9 : MS) (H : Heap) (locs : List Loc) (ls : Array Slot), j58_9 M9 = some (r0, M0) → mo_I G A s.heap (md_W ai o ar M9) H locs → lv_has ls 3 [(0, .ref o), (1, .int a1)] → W p l e ({ frames := 2, cells := 0, slots := 0, locals := 44 } : Room) s m args below meth c H locs 0 0 (md_Q below G ai o ar A args s r0 M0) (F0 m 58 ls []) := by
        intro M9 H locs ls hF hI hl
        rw [hj58_9] at hF
        refine lv_aload_n hx hb dX9_stones_58 rfl (lv_at hl 0 rfl) ?_
        refine lv_bipush (v := 14) hx hb dX9_stones_59 (by decide) ?_
        refine lv_iload_n hx hb dX9_stones_61 rfl (lv_at hl 1 rfl) ?_
        obtain ⟨r11, M12, hz13, hF⟩ := ob_some hF
        refine k_refuses hC hI hz13 (Nat.le_of_ble_eq_true rfl) (Nat.le_of_ble_eq_true rfl) hl.1 (Nat.le_of_ble_eq_true rfl) dX9_stones_62 (fun H locs hI => ?_)
        exact md_iret hC hI hr hF dX9_stones_65
      refine lv_if_ne (tgt := 58) hx hb dX9_stones_33 (by decide) (fun c14 => ?_) (fun c14 => ?_)
      · have hF := if_f hF c14
        exact J58 _ _ _ _ hF hI (lv_sub hl [0, 1] rfl)
      · have hF := if_t hF c14
        refine lv_aload_n hx hb dX9_stones_36 rfl (lv_at hl 0 rfl) ?_
        refine lv_iload_n hx hb dX9_stones_37 rfl (lv_at hl 1 rfl) ?_
        obtain ⟨r15, M16, hz17, hF⟩ := ob_some hF
        refine k_molesOn hC hI hz17 (Nat.le_of_ble_eq_true rfl) (Nat.le_of_ble_eq_true rfl) hl.1 (Nat.le_of_ble_eq_true rfl) dX9_stones_38 (fun H locs hI => ?_)
        refine lv_if_ne (tgt := 58) hx hb dX9_stones_41 (by decide) (fun c18 => ?_) (fun c18 => ?_)
        · have hF := if_f hF c18
          exact J58 _ _ _ _ hF hI (lv_sub hl [0, 1] rfl)
        · have hF := if_t hF c18
          refine lv_aload_n hx hb dX9_stones_44 rfl (lv_at hl 0 rfl) ?_
          refine md_g6 hC hI dX9_stones_45 ?_
          refine lv_sipush (v := 132) hx hb dX9_stones_48 (by decide) ?_
          refine lv_iload_n hx hb dX9_stones_51 rfl (lv_at hl 1 rfl) ?_
          refine lv_iadd hx hb dX9_stones_52 ?_
          obtain ⟨hg19, hF⟩ := gd_some hF
          refine md_l1 hC hI hg19 dX9_stones_53 ?_
          refine lv_iconst (v := 1) hx hb dX9_stones_54 (by decide) ?_
          refine lv_icmp_ne (tgt := 66) hx hb dX9_stones_55 (by decide) (fun c20 => ?_) (fun c20 => ?_)
          · have hF := if_f hF c20
            refine lv_aload_n hx hb dX9_stones_66 rfl (lv_at hl 0 rfl) ?_
            refine md_g6 hC hI dX9_stones_67 ?_
            refine lv_bipush (v := 42) hx hb dX9_stones_70 (by decide) ?_
            refine lv_iload_n hx hb dX9_stones_72 rfl (lv_at hl 1 rfl) ?_
            refine lv_iadd hx hb dX9_stones_73 ?_
            obtain ⟨hg21, hF⟩ := gd_some hF
            refine md_l1 hC hI hg21 dX9_stones_74 ?_
            obtain ⟨x2_22, hx2_22, hF⟩ := lt_some hF
            refine mo_ist (lv' := [(2, .int x2_22), (0, .ref o), (1, .int a1)]) hx hb hx2_22 dX9_stones_75 rfl hl (by decide) rfl (fun ls hl => ?_)
            refine lv_aload_n hx hb dX9_stones_76 rfl (lv_at hl 1 rfl) ?_
            refine md_g6 hC hI dX9_stones_77 ?_
            refine lv_bipush (v := 102) hx hb dX9_stones_80 (by decide) ?_
            refine lv_iload_n hx hb dX9_stones_82 rfl (lv_at hl 2 rfl) ?_
            refine lv_iadd hx hb dX9_stones_83 ?_
            refine lv_iconst (v := 1) hx hb dX9_stones_84 (by decide) ?_
            obtain ⟨hg23, hF⟩ := gd_some hF
            obtain ⟨M24, hM24, hF⟩ := lt_some hF
            refine md_s1 hC hI hg23 hM24 dX9_stones_85 (fun H locs hI => ?_)
            refine lv_aload_n hx hb dX9_stones_86 rfl (lv_at hl 1 rfl) ?_
            refine md_g6 hC hI dX9_stones_87 ?_
            refine lv_bipush (v := 42) hx hb dX9_stones_90 (by decide) ?_
            refine lv_iload_n hx hb dX9_stones_92 rfl (lv_at hl 2 rfl) ?_
            refine lv_iadd hx hb dX9_stones_93 ?_
            refine lv_iconst (v := 0) hx hb dX9_stones_94 (by decide) ?_
            obtain ⟨hg25, hF⟩ := gd_some hF
            obtain ⟨M26, hM26, hF⟩ := lt_some hF
            refine md_s1 hC hI hg25 hM26 dX9_stones_95 (fun H locs hI => ?_)
            refine lv_aload_n hx hb dX9_stones_96 rfl (lv_at hl 1 rfl) ?_
            refine md_g6 hC hI dX9_stones_97 ?_
            refine lv_bipush (v := 72) hx hb dX9_stones_100 (by decide) ?_
            refine lv_iload_n hx hb dX9_stones_102 rfl (lv_at hl 2 rfl) ?_
            refine lv_iadd hx hb dX9_stones_103 ?_
            refine lv_iconst (v := 0) hx hb dX9_stones_104 (by decide) ?_
            obtain ⟨hg27, hF⟩ := gd_some hF
            obtain ⟨M28, hM28, hF⟩ := lt_some hF
            refine md_s1 hC hI hg27 hM28 dX9_stones_105 (fun H locs hI => ?_)
            refine lv_aload_n hx hb dX9_stones_106 rfl (lv_at hl 1 rfl) ?_
            refine md_g6 hC hI dX9_stones_107 ?_
            refine lv_bipush (v := 6) hx hb dX9_stones_110 (by decide) ?_
            refine lv_dup2_11 hx hb dX9_stones_112 rfl rfl ?_
            refine md_l1 hC hI (by decide) dX9_stones_113 ?_
            refine lv_iload_n hx hb dX9_stones_114 rfl (lv_at hl 0 rfl) ?_
            refine lv_iadd hx hb dX9_stones_115 ?_
            obtain ⟨M29, hM29, hF⟩ := lt_some hF
            refine md_s1 hC hI (by decide) hM29 dX9_stones_116 (fun H locs hI => ?_)
            refine lv_iload_n hx hb dX9_stones_117 rfl (lv_at hl 0 rfl) ?_
            exact md_iret hC hI hr hF dX9_stones_118
          · have hF := if_t hF c20
            exact J58 _ _ _ _ hF hI (lv_sub hl [0, 1] rfl)
    · have hF := if_f hF c5
      refine lv_aload_n hx hb dX9_stones_21 rfl (lv_at hl 0 rfl) ?_
      refine lv_iconst (v := 2) hx hb dX9_stones_22 (by decide) ?_
      refine lv_iload_n hx hb dX9_stones_23 rfl (lv_at hl 1 rfl) ?_
      obtain ⟨r30, M31, hz32, hF⟩ := ob_some hF
      refine k_refuses hC hI hz32 (Nat.le_of_ble_eq_true rfl) (Nat.le_of_ble_eq_true rfl) hl.1 (Nat.le_of_ble_eq_true rfl) dX9_stones_24 (fun H locs hI => ?_)
      exact md_iret hC hI hr hF dX9_stones_27
  · have hF := if_t hF c1
    refine lv_aload_n hx hb dX9_stones_7 rfl (lv_at hl 0 rfl) ?_
    refine lv_iconst (v := (-1)) hx hb dX9_stones_8 (by decide) ?_
    obtain ⟨r33, M34, hz35, hF⟩ := ob_some hF
    refine k_fail hC hI hz35 (Nat.le_of_ble_eq_true rfl) (Nat.le_of_ble_eq_true rfl) hl.1 (Nat.le_of_ble_eq_true rfl) dX9_stones_9 (fun H locs hI => ?_)
    exact md_iret hC hI hr hF dX9_stones_12
theorem k_stones {p : Program} {l : Launch} {e : Env} {R : Room} {s : State} {m : MethodId} {args : Array Value} {below : List Frame} {meth : Method} {c : Code} {H : Heap} {locs : List Loc} {cells slots : Nat} {Q : State → Prop} {pc : Nat} {ls : Array Slot} {rest : List Value} {G : va_G} {ai : Nat → ClassId} {A : Nat → Prop} {cc : ByteArray} {nL f L kc ks o : Nat} {ar : Nat → Nat} {M M1 : MS} {r1 : Int32} {a1 : Int32} (hC : mo_C p R s m args meth c G ai A RX9 cc nL f L kc ks) (hI : mo_I G A s.heap (md_W ai o ar M) H locs) (hz : f_stones M a1 = some (r1, M1)) (hf : 2 + 1 ≤ f) (hL : 8 + (3 + 11) + 44 ≤ L) (hsz : ls.size = nL) (hW : (rest.map fun v => v.category).sum ≤ 8) (hdg : decode cc pc = .ok (.invokevirtual 106, 3)) (kk : ∀ (H1 : Heap) (locs1 : List Loc), mo_I G A s.heap (md_W ai o ar M1) H1 locs1 → W p l e R s m args below meth c H1 locs1 cells slots Q (F0 m (pc + 3) ls (.int r1 :: rest))) (hc0 : cells ≤ kc := by first | exact Nat.zero_le _ | assumption) (hs0 : slots ≤ ks := by first | exact Nat.zero_le _ | assumption) : W p l e R s m args below meth c H locs cells slots Q (F0 m pc ls (.int a1 :: .ref o :: rest)) := by
  have hI : mo_I G A s.heap (md_W ai o ar M ++ []) H locs := by rw [List.append_nil]; exact hI
  refine gw_cVi (As := [.int a1]) (mc := 0) (ms := 0) (fs := md_F ar M) hC 1 hI (w_stones l G ai o ar M a1 r1 M1 hz) 0 0 rfl rfl q2110 q2112 qs75 q142 q2113 rfl rfl (by decide +kernel) rfl hf hL hc0 hs0 hsz rfl hW hdg (fun r u H1 locs1 hp hI1 => ?_)
  obtain ⟨rfl, rfl⟩ := hp
  rw [List.append_nil] at hI1
  exact kk H1 locs1 hI1
def f_stone (M : MS) (a1 : Int32) : Option (Int32 × MS) := ob (f_begins M) (fun r1 M2 => ob (f_stones M2 a1) (fun r4 M5 => ob (f_ends M5 r4) (fun r7 M8 => some (r7, M8))))
set_option maxHeartbeats 4000000 in
theorem w_stone (l : Launch) (G : va_G) (ai : Nat → ClassId) (o : Nat) (ar : Nat → Nat) (M : MS) (a1 : Int32) (r0 : Int32) (M0 : MS) (hF : f_stone M a1 = some (r0, M0)) : md_M l G ai o ar yX9_stone cX9_stone 2 (some .int) ({ frames := 3, cells := 0, slots := 0, locals := 66 } : Room) [.ref o, .int a1] M r0 M0 := by
  refine mo_body (Qc := fun A => va_Qi (fun (r' : Int32) (M2 : MS) => r' = r0 ∧ M2 = M0) (gw_E G ai (md_W ai o ar) A) A) (by decide) (Nat.le_of_ble_eq_true rfl) ?_
  intro p e s m args below meth c A ls hC hr hI hl _
  have hx := hC.1
  have hb := hC.2.1
  have hl : lv_has ls 2 [(0, .ref o), (1, .int a1)] := hl
  show W p l e _ s m args below meth c s.heap [] 0 0 (md_Q below G ai o ar A args s r0 M0) (F0 m 0 ls [])
  rw [f_stone] at hF
  refine lv_aload_n hx hb dX9_stone_0 rfl (lv_at hl 0 rfl) ?_
  obtain ⟨r1, M2, hz3, hF⟩ := ob_some hF
  refine k_begins hC hI hz3 (Nat.le_of_ble_eq_true rfl) (Nat.le_of_ble_eq_true rfl) hl.1 (Nat.le_of_ble_eq_true rfl) dX9_stone_1 (fun H locs hI => ?_)
  refine lv_aload_n hx hb dX9_stone_4 rfl (lv_at hl 0 rfl) ?_
  refine lv_aload_n hx hb dX9_stone_5 rfl (lv_at hl 0 rfl) ?_
  refine lv_iload_n hx hb dX9_stone_6 rfl (lv_at hl 1 rfl) ?_
  obtain ⟨r4, M5, hz6, hF⟩ := ob_some hF
  refine k_stones hC hI hz6 (Nat.le_of_ble_eq_true rfl) (Nat.le_of_ble_eq_true rfl) hl.1 (Nat.le_of_ble_eq_true rfl) dX9_stone_7 (fun H locs hI => ?_)
  obtain ⟨r7, M8, hz9, hF⟩ := ob_some hF
  refine k_ends hC hI hz9 (Nat.le_of_ble_eq_true rfl) (Nat.le_of_ble_eq_true rfl) hl.1 (Nat.le_of_ble_eq_true rfl) dX9_stone_10 (fun H locs hI => ?_)
  exact md_iret hC hI hr hF dX9_stone_13
def f_rains (M : MS) (a1 : Int32) : Option (Int32 × MS) := if (p_isIn a1 0 5) = 0 then (ob (f_fail M (-2)) (fun r4 M5 => some (r4, M5))) else (lt ((M 1 (1 : Int32).toNatClampNeg)) (fun x2_2 => lt (rup M 1 (upd (M 1) (1 : Int32).toNatClampNeg a1)) (fun M3 => some (x2_2, M3))))
set_option maxHeartbeats 4000000 in
theorem w_rains (l : Launch) (G : va_G) (ai : Nat → ClassId) (o : Nat) (ar : Nat → Nat) (M : MS) (a1 : Int32) (r0 : Int32) (M0 : MS) (hF : f_rains M a1 = some (r0, M0)) : md_M l G ai o ar yX9_rains cX9_rains 3 (some .int) ({ frames := 1, cells := 0, slots := 0, locals := 22 } : Room) [.ref o, .int a1] M r0 M0 := by
  refine mo_body (Qc := fun A => va_Qi (fun (r' : Int32) (M2 : MS) => r' = r0 ∧ M2 = M0) (gw_E G ai (md_W ai o ar) A) A) (by decide) (Nat.le_of_ble_eq_true rfl) ?_
  intro p e s m args below meth c A ls hC hr hI hl _
  have hx := hC.1
  have hb := hC.2.1
  have hl : lv_has ls 3 [(0, .ref o), (1, .int a1)] := hl
  show W p l e _ s m args below meth c s.heap [] 0 0 (md_Q below G ai o ar A args s r0 M0) (F0 m 0 ls [])
  rw [f_rains] at hF
  refine lv_iload_n hx hb dX9_rains_0 rfl (lv_at hl 1 rfl) ?_
  refine lv_iconst (v := 0) hx hb dX9_rains_1 (by decide) ?_
  refine lv_iconst (v := 5) hx hb dX9_rains_2 (by decide) ?_
  refine k_isIn (mo_CN hC) (Nat.le_of_ble_eq_true rfl) (Nat.le_of_ble_eq_true rfl) hl.1 (Nat.le_of_ble_eq_true rfl) dX9_rains_3 ?_
  refine lv_if_ne (tgt := 16) hx hb dX9_rains_6 (by decide) (fun c1 => ?_) (fun c1 => ?_)
  · have hF := if_f hF c1
    refine lv_aload_n hx hb dX9_rains_16 rfl (lv_at hl 0 rfl) ?_
    refine md_g6 hC hI dX9_rains_17 ?_
    refine lv_iconst (v := 1) hx hb dX9_rains_20 (by decide) ?_
    refine md_l1 hC hI (by decide) dX9_rains_21 ?_
    obtain ⟨x2_2, hx2_2, hF⟩ := lt_some hF
    refine mo_ist (lv' := [(2, .int x2_2), (0, .ref o), (1, .int a1)]) hx hb hx2_2 dX9_rains_22 rfl hl (by decide) rfl (fun ls hl => ?_)
    refine lv_aload_n hx hb dX9_rains_23 rfl (lv_at hl 1 rfl) ?_
    refine md_g6 hC hI dX9_rains_24 ?_
    refine lv_iconst (v := 1) hx hb dX9_rains_27 (by decide) ?_
    refine lv_iload_n hx hb dX9_rains_28 rfl (lv_at hl 2 rfl) ?_
    obtain ⟨M3, hM3, hF⟩ := lt_some hF
    refine md_s1 hC hI (by decide) hM3 dX9_rains_29 (fun H locs hI => ?_)
    refine lv_iload_n hx hb dX9_rains_30 rfl (lv_at hl 0 rfl) ?_
    exact md_iret hC hI hr hF dX9_rains_31
  · have hF := if_t hF c1
    refine lv_aload_n hx hb dX9_rains_9 rfl (lv_at hl 0 rfl) ?_
    refine lv_bipush (v := (-2)) hx hb dX9_rains_10 (by decide) ?_
    obtain ⟨r4, M5, hz6, hF⟩ := ob_some hF
    refine k_fail hC hI hz6 (Nat.le_of_ble_eq_true rfl) (Nat.le_of_ble_eq_true rfl) hl.1 (Nat.le_of_ble_eq_true rfl) dX9_rains_12 (fun H locs hI => ?_)
    exact md_iret hC hI hr hF dX9_rains_15
theorem k_rains {p : Program} {l : Launch} {e : Env} {R : Room} {s : State} {m : MethodId} {args : Array Value} {below : List Frame} {meth : Method} {c : Code} {H : Heap} {locs : List Loc} {cells slots : Nat} {Q : State → Prop} {pc : Nat} {ls : Array Slot} {rest : List Value} {G : va_G} {ai : Nat → ClassId} {A : Nat → Prop} {cc : ByteArray} {nL f L kc ks o : Nat} {ar : Nat → Nat} {M M1 : MS} {r1 : Int32} {a1 : Int32} (hC : mo_C p R s m args meth c G ai A RX9 cc nL f L kc ks) (hI : mo_I G A s.heap (md_W ai o ar M) H locs) (hz : f_rains M a1 = some (r1, M1)) (hf : 1 + 1 ≤ f) (hL : 8 + (3 + 11) + 22 ≤ L) (hsz : ls.size = nL) (hW : (rest.map fun v => v.category).sum ≤ 8) (hdg : decode cc pc = .ok (.invokevirtual 109, 3)) (kk : ∀ (H1 : Heap) (locs1 : List Loc), mo_I G A s.heap (md_W ai o ar M1) H1 locs1 → W p l e R s m args below meth c H1 locs1 cells slots Q (F0 m (pc + 3) ls (.int r1 :: rest))) (hc0 : cells ≤ kc := by first | exact Nat.zero_le _ | assumption) (hs0 : slots ≤ ks := by first | exact Nat.zero_le _ | assumption) : W p l e R s m args below meth c H locs cells slots Q (F0 m pc ls (.int a1 :: .ref o :: rest)) := by
  have hI : mo_I G A s.heap (md_W ai o ar M ++ []) H locs := by rw [List.append_nil]; exact hI
  refine gw_cVi (As := [.int a1]) (mc := 0) (ms := 0) (fs := md_F ar M) hC 1 hI (w_rains l G ai o ar M a1 r1 M1 hz) 0 0 rfl rfl q2140 q2142 qs80 q142 q2143 rfl rfl (by decide +kernel) rfl hf hL hc0 hs0 hsz rfl hW hdg (fun r u H1 locs1 hp hI1 => ?_)
  obtain ⟨rfl, rfl⟩ := hp
  rw [List.append_nil] at hI1
  exact kk H1 locs1 hI1
def f_rain (M : MS) (a1 : Int32) : Option (Int32 × MS) := ob (f_begins M) (fun r1 M2 => ob (f_rains M2 a1) (fun r4 M5 => ob (f_ends M5 r4) (fun r7 M8 => some (r7, M8))))
set_option maxHeartbeats 4000000 in
theorem w_rain (l : Launch) (G : va_G) (ai : Nat → ClassId) (o : Nat) (ar : Nat → Nat) (M : MS) (a1 : Int32) (r0 : Int32) (M0 : MS) (hF : f_rain M a1 = some (r0, M0)) : md_M l G ai o ar yX9_rain cX9_rain 2 (some .int) ({ frames := 2, cells := 0, slots := 0, locals := 44 } : Room) [.ref o, .int a1] M r0 M0 := by
  refine mo_body (Qc := fun A => va_Qi (fun (r' : Int32) (M2 : MS) => r' = r0 ∧ M2 = M0) (gw_E G ai (md_W ai o ar) A) A) (by decide) (Nat.le_of_ble_eq_true rfl) ?_
  intro p e s m args below meth c A ls hC hr hI hl _
  have hx := hC.1
  have hb := hC.2.1
  have hl : lv_has ls 2 [(0, .ref o), (1, .int a1)] := hl
  show W p l e _ s m args below meth c s.heap [] 0 0 (md_Q below G ai o ar A args s r0 M0) (F0 m 0 ls [])
  rw [f_rain] at hF
  refine lv_aload_n hx hb dX9_rain_0 rfl (lv_at hl 0 rfl) ?_
  obtain ⟨r1, M2, hz3, hF⟩ := ob_some hF
  refine k_begins hC hI hz3 (Nat.le_of_ble_eq_true rfl) (Nat.le_of_ble_eq_true rfl) hl.1 (Nat.le_of_ble_eq_true rfl) dX9_rain_1 (fun H locs hI => ?_)
  refine lv_aload_n hx hb dX9_rain_4 rfl (lv_at hl 0 rfl) ?_
  refine lv_aload_n hx hb dX9_rain_5 rfl (lv_at hl 0 rfl) ?_
  refine lv_iload_n hx hb dX9_rain_6 rfl (lv_at hl 1 rfl) ?_
  obtain ⟨r4, M5, hz6, hF⟩ := ob_some hF
  refine k_rains hC hI hz6 (Nat.le_of_ble_eq_true rfl) (Nat.le_of_ble_eq_true rfl) hl.1 (Nat.le_of_ble_eq_true rfl) dX9_rain_7 (fun H locs hI => ?_)
  obtain ⟨r7, M8, hz9, hF⟩ := ob_some hF
  refine k_ends hC hI hz9 (Nat.le_of_ble_eq_true rfl) (Nat.le_of_ble_eq_true rfl) hl.1 (Nat.le_of_ble_eq_true rfl) dX9_rain_10 (fun H locs hI => ?_)
  exact md_iret hC hI hr hF dX9_rain_13

/-! The model's world: one object, eleven arrays; its state is M: row 0 its fields by number, row i its array i -/
set_option maxRecDepth 100000
abbrev MS : Type := Nat → Nat → Int32
def rup (M : MS) (i : Nat) (f : Nat → Int32) : MS := fun j => if j = i then f else M j
def gd {α : Type} (c : Bool) (a : Option α) : Option α := if c = true then a else none
def gb (x : Int32) : Bool := decide (x = 0) || decide (x = 1)
def gi (x : Int32) (n : Nat) : Bool := decide (0 ≤ x.toInt) && decide (x.toInt < (n : Int))
def ob {ρ α β : Type} (x : Option (ρ × α)) (k : ρ → α → Option β) : Option β := x.bind fun z => k z.1 z.2
def lj {σ β : Type} (j : σ) (k : σ → Option β) : Option β := k j
def lt {σ β : Type} (x : σ) (k : σ → Option β) : Option β := k x
def gnf (x : UInt32) : Bool := decide (x &&& 0x7fffffff ≤ 0x7f800000)
def gnd (x : UInt64) : Bool := decide (x &&& 0x7fffffffffffffff ≤ 0x7ff0000000000000)
theorem gnf_n {x : UInt32} (h : gnf x = true) : vf_n32 x := by
  unfold gnf at h
  have h2 := of_decide_eq_true h
  exact h2
theorem gnd_n {x : UInt64} (h : gnd x = true) : vf_n64 x := by
  unfold gnd at h
  have h2 := of_decide_eq_true h
  exact h2
theorem gd_some {α : Type} {c : Bool} {a : Option α} {r : α} (h : gd c a = some r) : c = true ∧ a = some r := by
  unfold gd at h
  split at h
  · exact ⟨by assumption, h⟩
  · cases h
theorem gb_or {x : Int32} (h : gb x = true) : x = 0 ∨ x = 1 := by
  unfold gb at h
  simpa using h
theorem gi_in {x : Int32} {n : Nat} (h : gi x n = true) : vp_in x n := by
  unfold gi at h
  rw [vp_in_iff]
  simpa using h
theorem ob_some {ρ α β : Type} {x : Option (ρ × α)} {k : ρ → α → Option β} {r : β} (h : ob x k = some r) : ∃ (z : ρ) (u : α), x = some (z, u) ∧ k z u = some r := by
  unfold ob at h
  cases x with
  | none => cases h
  | some z => exact ⟨z.1, z.2, rfl, h⟩
theorem lj_some {σ β : Type} {j : σ} {k : σ → Option β} {r : β} (h : lj j k = some r) : ∃ j' : σ, j' = j ∧ k j' = some r := ⟨j, rfl, h⟩
theorem lt_some {σ β : Type} {j : σ} {k : σ → Option β} {r : β} (h : lt j k = some r) : ∃ j' : σ, j' = j ∧ k j' = some r := ⟨j, rfl, h⟩
theorem if_t {α : Type} {c : Prop} [Decidable c] {a b : Option α} {r : α} (h : (if c then a else b) = some r) (hc : c) : a = some r := by rw [if_pos hc] at h; exact h
theorem if_tv {α : Type} {c : Prop} [Decidable c] {a b r : α} (h : (if c then a else b) = r) (hc : c) : a = r := by rw [if_pos hc] at h; exact h
theorem if_fv {α : Type} {c : Prop} [Decidable c] {a b r : α} (h : (if c then a else b) = r) (hc : ¬ c) : b = r := by rw [if_neg hc] at h; exact h
theorem if_f {α : Type} {c : Prop} [Decidable c] {a b : Option α} {r : α} (h : (if c then a else b) = some r) (hc : ¬ c) : b = some r := by rw [if_neg hc] at h; exact h

def md_F (ar : Nat → Nat) (M : MS) : List Value := [.int (M 0 0), .int (M 0 1), .int (M 0 2), .int (M 0 3), .int (M 0 4), .int (M 0 5), .ref (ar 1), .ref (ar 2), .ref (ar 3), .ref (ar 4), .ref (ar 5), .ref (ar 6), .ref (ar 7), .ref (ar 8), .ref (ar 9), .ref (ar 10), .ref (ar 11), .int (M 0 17), .int (M 0 18), .int (M 0 19), .int (M 0 20), .int (M 0 21)]
def md_W (ai : Nat → ClassId) (o : Nat) (ar : Nat → Nat) (M : MS) : va_W := [(o, .inr (0, md_F ar M)), (ar 1, .inl (ai 0, 216, .inl (M 1))), (ar 2, .inl (ai 0, 216, .inl (M 2))), (ar 3, .inl (ai 0, 216, .inl (M 3))), (ar 4, .inl (ai 0, 216, .inl (M 4))), (ar 5, .inl (ai 0, 1728, .inl (M 5))), (ar 6, .inl (ai 0, 6, .inl (M 6))), (ar 7, .inl (ai 0, 6, .inl (M 7))), (ar 8, .inl (ai 0, 30, .inl (M 8))), (ar 9, .inl (ai 0, 30, .inl (M 9))), (ar 10, .inl (ai 0, 60, .inl (M 10))), (ar 11, .inl (ai 0, 12, .inl (M 11)))]
section MD
variable {p : Program} {l : Launch} {e : Env} {R : Room} {s : State} {m : MethodId} {args : Array Value} {below : List Frame} {meth : Method} {c : Code} {H : Heap} {locs : List Loc} {cells slots : Nat} {Q : State → Prop}
variable {pc : Nat} {ls : Array Slot} {rest : List Value} {G : va_G} {ai : Nat → ClassId} {A : Nat → Prop} {cc : ByteArray} {nL f L kc ks o : Nat} {ar : Nat → Nat} {M M1 : MS}
theorem md_g0 (hC : mo_C p R s m args meth c G ai A RX9 cc nL f L kc ks) (hI : mo_I G A s.heap (md_W ai o ar M) H locs) (hdg : decode cc pc = .ok (.getfield 50, 3)) (kk : W p l e R s m args below meth c H locs cells slots Q (F0 m (pc + 3) ls (.int (M 0 0) :: rest))) : W p l e R s m args below meth c H locs cells slots Q (F0 m pc ls (.ref o :: rest)) :=
  va_get (D := G) (ci := 0) (C := RX9) (T := TX9) (N := 22) hC.1 hC.2.1 hC.2.2.2.2.1 in_X9 hC.2.2.2.1 hC.2.2.2.2.2.2.1 hI.1 0 rfl rfl 0 (by decide) (hC.2.2.2.2.1 _ q2006) (fun _ h9 => h9) rfl hdg kk
theorem md_p0 {x : Int32} (hC : mo_C p R s m args meth c G ai A RX9 cc nL f L kc ks) (hI : mo_I G A s.heap (md_W ai o ar M) H locs) (hM : M1 = rup M 0 (upd (M 0) 0 x)) (hdg : decode cc pc = .ok (.putfield 50, 3)) (kk : ∀ (H1 : Heap) (locs1 : List Loc), mo_I G A s.heap (md_W ai o ar M1) H1 locs1 → W p l e R s m args below meth c H1 locs1 cells slots Q (F0 m (pc + 3) ls (rest))) : W p l e R s m args below meth c H locs cells slots Q (F0 m pc ls (.int x :: .ref o :: rest)) := by
  subst hM
  exact va_put (D := G) (ci := 0) (v := .int x) (ty := .int) (C := RX9) (T := TX9) (N := 22) hC.1 hC.2.1 hC.2.2.2.2.1 in_X9 tyX9 tyX9_ok nmX9 hC.2.2.2.1 hC.2.2.2.2.2.2.1 hI.1 hI.2.1 hI.2.2 0 rfl rfl 0 (by decide) (hC.2.2.2.2.1 _ q2006) (fun _ h9 => h9) rfl (by decide +kernel) rfl rfl (Nat.le_of_ble_eq_true rfl) hdg (fun H locs hP hD hS => kk H locs ⟨hP, hD, hS⟩)
theorem md_g1 (hC : mo_C p R s m args meth c G ai A RX9 cc nL f L kc ks) (hI : mo_I G A s.heap (md_W ai o ar M) H locs) (hdg : decode cc pc = .ok (.getfield 71, 3)) (kk : W p l e R s m args below meth c H locs cells slots Q (F0 m (pc + 3) ls (.int (M 0 1) :: rest))) : W p l e R s m args below meth c H locs cells slots Q (F0 m pc ls (.ref o :: rest)) :=
  va_get (D := G) (ci := 0) (C := RX9) (T := TX9) (N := 22) hC.1 hC.2.1 hC.2.2.2.2.1 in_X9 hC.2.2.2.1 hC.2.2.2.2.2.2.1 hI.1 0 rfl rfl 1 (by decide) (hC.2.2.2.2.1 _ q2007) (fun _ h9 => h9) rfl hdg kk
theorem md_p1 {x : Int32} (hC : mo_C p R s m args meth c G ai A RX9 cc nL f L kc ks) (hI : mo_I G A s.heap (md_W ai o ar M) H locs) (hM : M1 = rup M 0 (upd (M 0) 1 x)) (hdg : decode cc pc = .ok (.putfield 71, 3)) (kk : ∀ (H1 : Heap) (locs1 : List Loc), mo_I G A s.heap (md_W ai o ar M1) H1 locs1 → W p l e R s m args below meth c H1 locs1 cells slots Q (F0 m (pc + 3) ls (rest))) : W p l e R s m args below meth c H locs cells slots Q (F0 m pc ls (.int x :: .ref o :: rest)) := by
  subst hM
  exact va_put (D := G) (ci := 0) (v := .int x) (ty := .int) (C := RX9) (T := TX9) (N := 22) hC.1 hC.2.1 hC.2.2.2.2.1 in_X9 tyX9 tyX9_ok nmX9 hC.2.2.2.1 hC.2.2.2.2.2.2.1 hI.1 hI.2.1 hI.2.2 0 rfl rfl 1 (by decide) (hC.2.2.2.2.1 _ q2007) (fun _ h9 => h9) rfl (by decide +kernel) rfl rfl (Nat.le_of_ble_eq_true rfl) hdg (fun H locs hP hD hS => kk H locs ⟨hP, hD, hS⟩)
theorem md_g2 (hC : mo_C p R s m args meth c G ai A RX9 cc nL f L kc ks) (hI : mo_I G A s.heap (md_W ai o ar M) H locs) (hdg : decode cc pc = .ok (.getfield 53, 3)) (kk : W p l e R s m args below meth c H locs cells slots Q (F0 m (pc + 3) ls (.int (M 0 2) :: rest))) : W p l e R s m args below meth c H locs cells slots Q (F0 m pc ls (.ref o :: rest)) :=
  va_get (D := G) (ci := 0) (C := RX9) (T := TX9) (N := 22) hC.1 hC.2.1 hC.2.2.2.2.1 in_X9 hC.2.2.2.1 hC.2.2.2.2.2.2.1 hI.1 0 rfl rfl 2 (by decide) (hC.2.2.2.2.1 _ q2008) (fun _ h9 => h9) rfl hdg kk
theorem md_p2 {x : Int32} (hC : mo_C p R s m args meth c G ai A RX9 cc nL f L kc ks) (hI : mo_I G A s.heap (md_W ai o ar M) H locs) (hM : M1 = rup M 0 (upd (M 0) 2 x)) (hdg : decode cc pc = .ok (.putfield 53, 3)) (kk : ∀ (H1 : Heap) (locs1 : List Loc), mo_I G A s.heap (md_W ai o ar M1) H1 locs1 → W p l e R s m args below meth c H1 locs1 cells slots Q (F0 m (pc + 3) ls (rest))) : W p l e R s m args below meth c H locs cells slots Q (F0 m pc ls (.int x :: .ref o :: rest)) := by
  subst hM
  exact va_put (D := G) (ci := 0) (v := .int x) (ty := .int) (C := RX9) (T := TX9) (N := 22) hC.1 hC.2.1 hC.2.2.2.2.1 in_X9 tyX9 tyX9_ok nmX9 hC.2.2.2.1 hC.2.2.2.2.2.2.1 hI.1 hI.2.1 hI.2.2 0 rfl rfl 2 (by decide) (hC.2.2.2.2.1 _ q2008) (fun _ h9 => h9) rfl (by decide +kernel) rfl rfl (Nat.le_of_ble_eq_true rfl) hdg (fun H locs hP hD hS => kk H locs ⟨hP, hD, hS⟩)
theorem md_g3 (hC : mo_C p R s m args meth c G ai A RX9 cc nL f L kc ks) (hI : mo_I G A s.heap (md_W ai o ar M) H locs) (hdg : decode cc pc = .ok (.getfield 68, 3)) (kk : W p l e R s m args below meth c H locs cells slots Q (F0 m (pc + 3) ls (.int (M 0 3) :: rest))) : W p l e R s m args below meth c H locs cells slots Q (F0 m pc ls (.ref o :: rest)) :=
  va_get (D := G) (ci := 0) (C := RX9) (T := TX9) (N := 22) hC.1 hC.2.1 hC.2.2.2.2.1 in_X9 hC.2.2.2.1 hC.2.2.2.2.2.2.1 hI.1 0 rfl rfl 3 (by decide) (hC.2.2.2.2.1 _ q2009) (fun _ h9 => h9) rfl hdg kk
theorem md_p3 {x : Int32} (hC : mo_C p R s m args meth c G ai A RX9 cc nL f L kc ks) (hI : mo_I G A s.heap (md_W ai o ar M) H locs) (hM : M1 = rup M 0 (upd (M 0) 3 x)) (hdg : decode cc pc = .ok (.putfield 68, 3)) (kk : ∀ (H1 : Heap) (locs1 : List Loc), mo_I G A s.heap (md_W ai o ar M1) H1 locs1 → W p l e R s m args below meth c H1 locs1 cells slots Q (F0 m (pc + 3) ls (rest))) : W p l e R s m args below meth c H locs cells slots Q (F0 m pc ls (.int x :: .ref o :: rest)) := by
  subst hM
  exact va_put (D := G) (ci := 0) (v := .int x) (ty := .int) (C := RX9) (T := TX9) (N := 22) hC.1 hC.2.1 hC.2.2.2.2.1 in_X9 tyX9 tyX9_ok nmX9 hC.2.2.2.1 hC.2.2.2.2.2.2.1 hI.1 hI.2.1 hI.2.2 0 rfl rfl 3 (by decide) (hC.2.2.2.2.1 _ q2009) (fun _ h9 => h9) rfl (by decide +kernel) rfl rfl (Nat.le_of_ble_eq_true rfl) hdg (fun H locs hP hD hS => kk H locs ⟨hP, hD, hS⟩)
theorem md_g4 (hC : mo_C p R s m args meth c G ai A RX9 cc nL f L kc ks) (hI : mo_I G A s.heap (md_W ai o ar M) H locs) (hdg : decode cc pc = .ok (.getfield 9, 3)) (kk : W p l e R s m args below meth c H locs cells slots Q (F0 m (pc + 3) ls (.int (M 0 4) :: rest))) : W p l e R s m args below meth c H locs cells slots Q (F0 m pc ls (.ref o :: rest)) :=
  va_get (D := G) (ci := 0) (C := RX9) (T := TX9) (N := 22) hC.1 hC.2.1 hC.2.2.2.2.1 in_X9 hC.2.2.2.1 hC.2.2.2.2.2.2.1 hI.1 0 rfl rfl 4 (by decide) (hC.2.2.2.2.1 _ q2010) (fun _ h9 => h9) rfl hdg kk
theorem md_p4 {x : Int32} (hC : mo_C p R s m args meth c G ai A RX9 cc nL f L kc ks) (hI : mo_I G A s.heap (md_W ai o ar M) H locs) (hM : M1 = rup M 0 (upd (M 0) 4 x)) (hdg : decode cc pc = .ok (.putfield 9, 3)) (kk : ∀ (H1 : Heap) (locs1 : List Loc), mo_I G A s.heap (md_W ai o ar M1) H1 locs1 → W p l e R s m args below meth c H1 locs1 cells slots Q (F0 m (pc + 3) ls (rest))) : W p l e R s m args below meth c H locs cells slots Q (F0 m pc ls (.int x :: .ref o :: rest)) := by
  subst hM
  exact va_put (D := G) (ci := 0) (v := .int x) (ty := .int) (C := RX9) (T := TX9) (N := 22) hC.1 hC.2.1 hC.2.2.2.2.1 in_X9 tyX9 tyX9_ok nmX9 hC.2.2.2.1 hC.2.2.2.2.2.2.1 hI.1 hI.2.1 hI.2.2 0 rfl rfl 4 (by decide) (hC.2.2.2.2.1 _ q2010) (fun _ h9 => h9) rfl (by decide +kernel) rfl rfl (Nat.le_of_ble_eq_true rfl) hdg (fun H locs hP hD hS => kk H locs ⟨hP, hD, hS⟩)
theorem md_g5 (hC : mo_C p R s m args meth c G ai A RX9 cc nL f L kc ks) (hI : mo_I G A s.heap (md_W ai o ar M) H locs) (hdg : decode cc pc = .ok (.getfield 245, 3)) (kk : W p l e R s m args below meth c H locs cells slots Q (F0 m (pc + 3) ls (.int (M 0 5) :: rest))) : W p l e R s m args below meth c H locs cells slots Q (F0 m pc ls (.ref o :: rest)) :=
  va_get (D := G) (ci := 0) (C := RX9) (T := TX9) (N := 22) hC.1 hC.2.1 hC.2.2.2.2.1 in_X9 hC.2.2.2.1 hC.2.2.2.2.2.2.1 hI.1 0 rfl rfl 5 (by decide) (hC.2.2.2.2.1 _ q2011) (fun _ h9 => h9) rfl hdg kk
theorem md_p5 {x : Int32} (hC : mo_C p R s m args meth c G ai A RX9 cc nL f L kc ks) (hI : mo_I G A s.heap (md_W ai o ar M) H locs) (hz : x = 0 ∨ x = 1) (hM : M1 = rup M 0 (upd (M 0) 5 x)) (hdg : decode cc pc = .ok (.putfield 245, 3)) (kk : ∀ (H1 : Heap) (locs1 : List Loc), mo_I G A s.heap (md_W ai o ar M1) H1 locs1 → W p l e R s m args below meth c H1 locs1 cells slots Q (F0 m (pc + 3) ls (rest))) : W p l e R s m args below meth c H locs cells slots Q (F0 m pc ls (.int x :: .ref o :: rest)) := by
  subst hM
  exact va_put (D := G) (ci := 0) (v := .int x) (ty := .boolean) (C := RX9) (T := TX9) (N := 22) hC.1 hC.2.1 hC.2.2.2.2.1 in_X9 tyX9 tyX9_ok nmX9 hC.2.2.2.1 hC.2.2.2.2.2.2.1 hI.1 hI.2.1 hI.2.2 0 rfl rfl 5 (by decide) (hC.2.2.2.2.1 _ q2011) (fun _ h9 => h9) rfl (by decide +kernel) (by rcases hz with h | h <;> (rw [h]; rfl)) (by rcases hz with h | h <;> (rw [h]; rfl)) (Nat.le_of_ble_eq_true rfl) hdg (fun H locs hP hD hS => kk H locs ⟨hP, hD, hS⟩)
theorem md_g6 (hC : mo_C p R s m args meth c G ai A RX9 cc nL f L kc ks) (hI : mo_I G A s.heap (md_W ai o ar M) H locs) (hdg : decode cc pc = .ok (.getfield 13, 3)) (kk : W p l e R s m args below meth c H locs cells slots Q (F0 m (pc + 3) ls (.ref (ar 1) :: rest))) : W p l e R s m args below meth c H locs cells slots Q (F0 m pc ls (.ref o :: rest)) :=
  va_get (D := G) (ci := 0) (C := RX9) (T := TX9) (N := 22) hC.1 hC.2.1 hC.2.2.2.2.1 in_X9 hC.2.2.2.1 hC.2.2.2.2.2.2.1 hI.1 0 rfl rfl 6 (by decide) (hC.2.2.2.2.1 _ q2012) (fun _ h9 => h9) rfl hdg kk
theorem md_g7 (hC : mo_C p R s m args meth c G ai A RX9 cc nL f L kc ks) (hI : mo_I G A s.heap (md_W ai o ar M) H locs) (hdg : decode cc pc = .ok (.getfield 17, 3)) (kk : W p l e R s m args below meth c H locs cells slots Q (F0 m (pc + 3) ls (.ref (ar 2) :: rest))) : W p l e R s m args below meth c H locs cells slots Q (F0 m pc ls (.ref o :: rest)) :=
  va_get (D := G) (ci := 0) (C := RX9) (T := TX9) (N := 22) hC.1 hC.2.1 hC.2.2.2.2.1 in_X9 hC.2.2.2.1 hC.2.2.2.2.2.2.1 hI.1 0 rfl rfl 7 (by decide) (hC.2.2.2.2.1 _ q2013) (fun _ h9 => h9) rfl hdg kk
theorem md_g8 (hC : mo_C p R s m args meth c G ai A RX9 cc nL f L kc ks) (hI : mo_I G A s.heap (md_W ai o ar M) H locs) (hdg : decode cc pc = .ok (.getfield 20, 3)) (kk : W p l e R s m args below meth c H locs cells slots Q (F0 m (pc + 3) ls (.ref (ar 3) :: rest))) : W p l e R s m args below meth c H locs cells slots Q (F0 m pc ls (.ref o :: rest)) :=
  va_get (D := G) (ci := 0) (C := RX9) (T := TX9) (N := 22) hC.1 hC.2.1 hC.2.2.2.2.1 in_X9 hC.2.2.2.1 hC.2.2.2.2.2.2.1 hI.1 0 rfl rfl 8 (by decide) (hC.2.2.2.2.1 _ q2014) (fun _ h9 => h9) rfl hdg kk
theorem md_g9 (hC : mo_C p R s m args meth c G ai A RX9 cc nL f L kc ks) (hI : mo_I G A s.heap (md_W ai o ar M) H locs) (hdg : decode cc pc = .ok (.getfield 23, 3)) (kk : W p l e R s m args below meth c H locs cells slots Q (F0 m (pc + 3) ls (.ref (ar 4) :: rest))) : W p l e R s m args below meth c H locs cells slots Q (F0 m pc ls (.ref o :: rest)) :=
  va_get (D := G) (ci := 0) (C := RX9) (T := TX9) (N := 22) hC.1 hC.2.1 hC.2.2.2.2.1 in_X9 hC.2.2.2.1 hC.2.2.2.2.2.2.1 hI.1 0 rfl rfl 9 (by decide) (hC.2.2.2.2.1 _ q2015) (fun _ h9 => h9) rfl hdg kk
theorem md_g10 (hC : mo_C p R s m args meth c G ai A RX9 cc nL f L kc ks) (hI : mo_I G A s.heap (md_W ai o ar M) H locs) (hdg : decode cc pc = .ok (.getfield 26, 3)) (kk : W p l e R s m args below meth c H locs cells slots Q (F0 m (pc + 3) ls (.ref (ar 5) :: rest))) : W p l e R s m args below meth c H locs cells slots Q (F0 m pc ls (.ref o :: rest)) :=
  va_get (D := G) (ci := 0) (C := RX9) (T := TX9) (N := 22) hC.1 hC.2.1 hC.2.2.2.2.1 in_X9 hC.2.2.2.1 hC.2.2.2.2.2.2.1 hI.1 0 rfl rfl 10 (by decide) (hC.2.2.2.2.1 _ q2016) (fun _ h9 => h9) rfl hdg kk
theorem md_g11 (hC : mo_C p R s m args meth c G ai A RX9 cc nL f L kc ks) (hI : mo_I G A s.heap (md_W ai o ar M) H locs) (hdg : decode cc pc = .ok (.getfield 29, 3)) (kk : W p l e R s m args below meth c H locs cells slots Q (F0 m (pc + 3) ls (.ref (ar 6) :: rest))) : W p l e R s m args below meth c H locs cells slots Q (F0 m pc ls (.ref o :: rest)) :=
  va_get (D := G) (ci := 0) (C := RX9) (T := TX9) (N := 22) hC.1 hC.2.1 hC.2.2.2.2.1 in_X9 hC.2.2.2.1 hC.2.2.2.2.2.2.1 hI.1 0 rfl rfl 11 (by decide) (hC.2.2.2.2.1 _ q2017) (fun _ h9 => h9) rfl hdg kk
theorem md_g12 (hC : mo_C p R s m args meth c G ai A RX9 cc nL f L kc ks) (hI : mo_I G A s.heap (md_W ai o ar M) H locs) (hdg : decode cc pc = .ok (.getfield 32, 3)) (kk : W p l e R s m args below meth c H locs cells slots Q (F0 m (pc + 3) ls (.ref (ar 7) :: rest))) : W p l e R s m args below meth c H locs cells slots Q (F0 m pc ls (.ref o :: rest)) :=
  va_get (D := G) (ci := 0) (C := RX9) (T := TX9) (N := 22) hC.1 hC.2.1 hC.2.2.2.2.1 in_X9 hC.2.2.2.1 hC.2.2.2.2.2.2.1 hI.1 0 rfl rfl 12 (by decide) (hC.2.2.2.2.1 _ q2018) (fun _ h9 => h9) rfl hdg kk
theorem md_g13 (hC : mo_C p R s m args meth c G ai A RX9 cc nL f L kc ks) (hI : mo_I G A s.heap (md_W ai o ar M) H locs) (hdg : decode cc pc = .ok (.getfield 35, 3)) (kk : W p l e R s m args below meth c H locs cells slots Q (F0 m (pc + 3) ls (.ref (ar 8) :: rest))) : W p l e R s m args below meth c H locs cells slots Q (F0 m pc ls (.ref o :: rest)) :=
  va_get (D := G) (ci := 0) (C := RX9) (T := TX9) (N := 22) hC.1 hC.2.1 hC.2.2.2.2.1 in_X9 hC.2.2.2.1 hC.2.2.2.2.2.2.1 hI.1 0 rfl rfl 13 (by decide) (hC.2.2.2.2.1 _ q2019) (fun _ h9 => h9) rfl hdg kk
theorem md_g14 (hC : mo_C p R s m args meth c G ai A RX9 cc nL f L kc ks) (hI : mo_I G A s.heap (md_W ai o ar M) H locs) (hdg : decode cc pc = .ok (.getfield 38, 3)) (kk : W p l e R s m args below meth c H locs cells slots Q (F0 m (pc + 3) ls (.ref (ar 9) :: rest))) : W p l e R s m args below meth c H locs cells slots Q (F0 m pc ls (.ref o :: rest)) :=
  va_get (D := G) (ci := 0) (C := RX9) (T := TX9) (N := 22) hC.1 hC.2.1 hC.2.2.2.2.1 in_X9 hC.2.2.2.1 hC.2.2.2.2.2.2.1 hI.1 0 rfl rfl 14 (by decide) (hC.2.2.2.2.1 _ q2020) (fun _ h9 => h9) rfl hdg kk
theorem md_g15 (hC : mo_C p R s m args meth c G ai A RX9 cc nL f L kc ks) (hI : mo_I G A s.heap (md_W ai o ar M) H locs) (hdg : decode cc pc = .ok (.getfield 41, 3)) (kk : W p l e R s m args below meth c H locs cells slots Q (F0 m (pc + 3) ls (.ref (ar 10) :: rest))) : W p l e R s m args below meth c H locs cells slots Q (F0 m pc ls (.ref o :: rest)) :=
  va_get (D := G) (ci := 0) (C := RX9) (T := TX9) (N := 22) hC.1 hC.2.1 hC.2.2.2.2.1 in_X9 hC.2.2.2.1 hC.2.2.2.2.2.2.1 hI.1 0 rfl rfl 15 (by decide) (hC.2.2.2.2.1 _ q2021) (fun _ h9 => h9) rfl hdg kk
theorem md_g16 (hC : mo_C p R s m args meth c G ai A RX9 cc nL f L kc ks) (hI : mo_I G A s.heap (md_W ai o ar M) H locs) (hdg : decode cc pc = .ok (.getfield 44, 3)) (kk : W p l e R s m args below meth c H locs cells slots Q (F0 m (pc + 3) ls (.ref (ar 11) :: rest))) : W p l e R s m args below meth c H locs cells slots Q (F0 m pc ls (.ref o :: rest)) :=
  va_get (D := G) (ci := 0) (C := RX9) (T := TX9) (N := 22) hC.1 hC.2.1 hC.2.2.2.2.1 in_X9 hC.2.2.2.1 hC.2.2.2.2.2.2.1 hI.1 0 rfl rfl 16 (by decide) (hC.2.2.2.2.1 _ q2022) (fun _ h9 => h9) rfl hdg kk
theorem md_g17 (hC : mo_C p R s m args meth c G ai A RX9 cc nL f L kc ks) (hI : mo_I G A s.heap (md_W ai o ar M) H locs) (hdg : decode cc pc = .ok (.getfield 195, 3)) (kk : W p l e R s m args below meth c H locs cells slots Q (F0 m (pc + 3) ls (.int (M 0 17) :: rest))) : W p l e R s m args below meth c H locs cells slots Q (F0 m pc ls (.ref o :: rest)) :=
  va_get (D := G) (ci := 0) (C := RX9) (T := TX9) (N := 22) hC.1 hC.2.1 hC.2.2.2.2.1 in_X9 hC.2.2.2.1 hC.2.2.2.2.2.2.1 hI.1 0 rfl rfl 17 (by decide) (hC.2.2.2.2.1 _ q2023) (fun _ h9 => h9) rfl hdg kk
theorem md_p17 {x : Int32} (hC : mo_C p R s m args meth c G ai A RX9 cc nL f L kc ks) (hI : mo_I G A s.heap (md_W ai o ar M) H locs) (hM : M1 = rup M 0 (upd (M 0) 17 x)) (hdg : decode cc pc = .ok (.putfield 195, 3)) (kk : ∀ (H1 : Heap) (locs1 : List Loc), mo_I G A s.heap (md_W ai o ar M1) H1 locs1 → W p l e R s m args below meth c H1 locs1 cells slots Q (F0 m (pc + 3) ls (rest))) : W p l e R s m args below meth c H locs cells slots Q (F0 m pc ls (.int x :: .ref o :: rest)) := by
  subst hM
  exact va_put (D := G) (ci := 0) (v := .int x) (ty := .int) (C := RX9) (T := TX9) (N := 22) hC.1 hC.2.1 hC.2.2.2.2.1 in_X9 tyX9 tyX9_ok nmX9 hC.2.2.2.1 hC.2.2.2.2.2.2.1 hI.1 hI.2.1 hI.2.2 0 rfl rfl 17 (by decide) (hC.2.2.2.2.1 _ q2023) (fun _ h9 => h9) rfl (by decide +kernel) rfl rfl (Nat.le_of_ble_eq_true rfl) hdg (fun H locs hP hD hS => kk H locs ⟨hP, hD, hS⟩)
theorem md_g18 (hC : mo_C p R s m args meth c G ai A RX9 cc nL f L kc ks) (hI : mo_I G A s.heap (md_W ai o ar M) H locs) (hdg : decode cc pc = .ok (.getfield 236, 3)) (kk : W p l e R s m args below meth c H locs cells slots Q (F0 m (pc + 3) ls (.int (M 0 18) :: rest))) : W p l e R s m args below meth c H locs cells slots Q (F0 m pc ls (.ref o :: rest)) :=
  va_get (D := G) (ci := 0) (C := RX9) (T := TX9) (N := 22) hC.1 hC.2.1 hC.2.2.2.2.1 in_X9 hC.2.2.2.1 hC.2.2.2.2.2.2.1 hI.1 0 rfl rfl 18 (by decide) (hC.2.2.2.2.1 _ q2024) (fun _ h9 => h9) rfl hdg kk
theorem md_p18 {x : Int32} (hC : mo_C p R s m args meth c G ai A RX9 cc nL f L kc ks) (hI : mo_I G A s.heap (md_W ai o ar M) H locs) (hM : M1 = rup M 0 (upd (M 0) 18 x)) (hdg : decode cc pc = .ok (.putfield 236, 3)) (kk : ∀ (H1 : Heap) (locs1 : List Loc), mo_I G A s.heap (md_W ai o ar M1) H1 locs1 → W p l e R s m args below meth c H1 locs1 cells slots Q (F0 m (pc + 3) ls (rest))) : W p l e R s m args below meth c H locs cells slots Q (F0 m pc ls (.int x :: .ref o :: rest)) := by
  subst hM
  exact va_put (D := G) (ci := 0) (v := .int x) (ty := .int) (C := RX9) (T := TX9) (N := 22) hC.1 hC.2.1 hC.2.2.2.2.1 in_X9 tyX9 tyX9_ok nmX9 hC.2.2.2.1 hC.2.2.2.2.2.2.1 hI.1 hI.2.1 hI.2.2 0 rfl rfl 18 (by decide) (hC.2.2.2.2.1 _ q2024) (fun _ h9 => h9) rfl (by decide +kernel) rfl rfl (Nat.le_of_ble_eq_true rfl) hdg (fun H locs hP hD hS => kk H locs ⟨hP, hD, hS⟩)
theorem md_g19 (hC : mo_C p R s m args meth c G ai A RX9 cc nL f L kc ks) (hI : mo_I G A s.heap (md_W ai o ar M) H locs) (hdg : decode cc pc = .ok (.getfield 198, 3)) (kk : W p l e R s m args below meth c H locs cells slots Q (F0 m (pc + 3) ls (.int (M 0 19) :: rest))) : W p l e R s m args below meth c H locs cells slots Q (F0 m pc ls (.ref o :: rest)) :=
  va_get (D := G) (ci := 0) (C := RX9) (T := TX9) (N := 22) hC.1 hC.2.1 hC.2.2.2.2.1 in_X9 hC.2.2.2.1 hC.2.2.2.2.2.2.1 hI.1 0 rfl rfl 19 (by decide) (hC.2.2.2.2.1 _ q2025) (fun _ h9 => h9) rfl hdg kk
theorem md_p19 {x : Int32} (hC : mo_C p R s m args meth c G ai A RX9 cc nL f L kc ks) (hI : mo_I G A s.heap (md_W ai o ar M) H locs) (hM : M1 = rup M 0 (upd (M 0) 19 x)) (hdg : decode cc pc = .ok (.putfield 198, 3)) (kk : ∀ (H1 : Heap) (locs1 : List Loc), mo_I G A s.heap (md_W ai o ar M1) H1 locs1 → W p l e R s m args below meth c H1 locs1 cells slots Q (F0 m (pc + 3) ls (rest))) : W p l e R s m args below meth c H locs cells slots Q (F0 m pc ls (.int x :: .ref o :: rest)) := by
  subst hM
  exact va_put (D := G) (ci := 0) (v := .int x) (ty := .int) (C := RX9) (T := TX9) (N := 22) hC.1 hC.2.1 hC.2.2.2.2.1 in_X9 tyX9 tyX9_ok nmX9 hC.2.2.2.1 hC.2.2.2.2.2.2.1 hI.1 hI.2.1 hI.2.2 0 rfl rfl 19 (by decide) (hC.2.2.2.2.1 _ q2025) (fun _ h9 => h9) rfl (by decide +kernel) rfl rfl (Nat.le_of_ble_eq_true rfl) hdg (fun H locs hP hD hS => kk H locs ⟨hP, hD, hS⟩)
theorem md_g20 (hC : mo_C p R s m args meth c G ai A RX9 cc nL f L kc ks) (hI : mo_I G A s.heap (md_W ai o ar M) H locs) (hdg : decode cc pc = .ok (.getfield 201, 3)) (kk : W p l e R s m args below meth c H locs cells slots Q (F0 m (pc + 3) ls (.int (M 0 20) :: rest))) : W p l e R s m args below meth c H locs cells slots Q (F0 m pc ls (.ref o :: rest)) :=
  va_get (D := G) (ci := 0) (C := RX9) (T := TX9) (N := 22) hC.1 hC.2.1 hC.2.2.2.2.1 in_X9 hC.2.2.2.1 hC.2.2.2.2.2.2.1 hI.1 0 rfl rfl 20 (by decide) (hC.2.2.2.2.1 _ q2026) (fun _ h9 => h9) rfl hdg kk
theorem md_p20 {x : Int32} (hC : mo_C p R s m args meth c G ai A RX9 cc nL f L kc ks) (hI : mo_I G A s.heap (md_W ai o ar M) H locs) (hz : x = 0 ∨ x = 1) (hM : M1 = rup M 0 (upd (M 0) 20 x)) (hdg : decode cc pc = .ok (.putfield 201, 3)) (kk : ∀ (H1 : Heap) (locs1 : List Loc), mo_I G A s.heap (md_W ai o ar M1) H1 locs1 → W p l e R s m args below meth c H1 locs1 cells slots Q (F0 m (pc + 3) ls (rest))) : W p l e R s m args below meth c H locs cells slots Q (F0 m pc ls (.int x :: .ref o :: rest)) := by
  subst hM
  exact va_put (D := G) (ci := 0) (v := .int x) (ty := .boolean) (C := RX9) (T := TX9) (N := 22) hC.1 hC.2.1 hC.2.2.2.2.1 in_X9 tyX9 tyX9_ok nmX9 hC.2.2.2.1 hC.2.2.2.2.2.2.1 hI.1 hI.2.1 hI.2.2 0 rfl rfl 20 (by decide) (hC.2.2.2.2.1 _ q2026) (fun _ h9 => h9) rfl (by decide +kernel) (by rcases hz with h | h <;> (rw [h]; rfl)) (by rcases hz with h | h <;> (rw [h]; rfl)) (Nat.le_of_ble_eq_true rfl) hdg (fun H locs hP hD hS => kk H locs ⟨hP, hD, hS⟩)
theorem md_g21 (hC : mo_C p R s m args meth c G ai A RX9 cc nL f L kc ks) (hI : mo_I G A s.heap (md_W ai o ar M) H locs) (hdg : decode cc pc = .ok (.getfield 217, 3)) (kk : W p l e R s m args below meth c H locs cells slots Q (F0 m (pc + 3) ls (.int (M 0 21) :: rest))) : W p l e R s m args below meth c H locs cells slots Q (F0 m pc ls (.ref o :: rest)) :=
  va_get (D := G) (ci := 0) (C := RX9) (T := TX9) (N := 22) hC.1 hC.2.1 hC.2.2.2.2.1 in_X9 hC.2.2.2.1 hC.2.2.2.2.2.2.1 hI.1 0 rfl rfl 21 (by decide) (hC.2.2.2.2.1 _ q2027) (fun _ h9 => h9) rfl hdg kk
theorem md_p21 {x : Int32} (hC : mo_C p R s m args meth c G ai A RX9 cc nL f L kc ks) (hI : mo_I G A s.heap (md_W ai o ar M) H locs) (hz : x = 0 ∨ x = 1) (hM : M1 = rup M 0 (upd (M 0) 21 x)) (hdg : decode cc pc = .ok (.putfield 217, 3)) (kk : ∀ (H1 : Heap) (locs1 : List Loc), mo_I G A s.heap (md_W ai o ar M1) H1 locs1 → W p l e R s m args below meth c H1 locs1 cells slots Q (F0 m (pc + 3) ls (rest))) : W p l e R s m args below meth c H locs cells slots Q (F0 m pc ls (.int x :: .ref o :: rest)) := by
  subst hM
  exact va_put (D := G) (ci := 0) (v := .int x) (ty := .boolean) (C := RX9) (T := TX9) (N := 22) hC.1 hC.2.1 hC.2.2.2.2.1 in_X9 tyX9 tyX9_ok nmX9 hC.2.2.2.1 hC.2.2.2.2.2.2.1 hI.1 hI.2.1 hI.2.2 0 rfl rfl 21 (by decide) (hC.2.2.2.2.1 _ q2027) (fun _ h9 => h9) rfl (by decide +kernel) (by rcases hz with h | h <;> (rw [h]; rfl)) (by rcases hz with h | h <;> (rw [h]; rfl)) (Nat.le_of_ble_eq_true rfl) hdg (fun H locs hP hD hS => kk H locs ⟨hP, hD, hS⟩)
theorem md_l1 {j : Int32} (hC : mo_C p R s m args meth c G ai A RX9 cc nL f L kc ks) (hI : mo_I G A s.heap (md_W ai o ar M) H locs) (hg : gi j 216 = true) (hdg : decode cc pc = .ok (.iaload, 1)) (kk : W p l e R s m args below meth c H locs cells slots Q (F0 m (pc + 1) ls (.int (M 1 j.toNatClampNeg) :: rest))) : W p l e R s m args below meth c H locs cells slots Q (F0 m pc ls (.int j :: .ref (ar 1) :: rest)) :=
  va_iald hC.1 hC.2.1 hC.2.2.2.2.2.2.1 hI.1 1 0 rfl rfl (gi_in hg) hdg kk
theorem md_s1 {j x : Int32} (hC : mo_C p R s m args meth c G ai A RX9 cc nL f L kc ks) (hI : mo_I G A s.heap (md_W ai o ar M) H locs) (hg : gi j 216 = true) (hM : M1 = rup M 1 (upd (M 1) j.toNatClampNeg x)) (hdg : decode cc pc = .ok (.iastore, 1)) (kk : ∀ (H1 : Heap) (locs1 : List Loc), mo_I G A s.heap (md_W ai o ar M1) H1 locs1 → W p l e R s m args below meth c H1 locs1 cells slots Q (F0 m (pc + 1) ls (rest))) : W p l e R s m args below meth c H locs cells slots Q (F0 m pc ls (.int x :: .int j :: .ref (ar 1) :: rest)) := by
  subst hM
  exact va_iast hC.1 hC.2.1 hC.2.2.2.2.2.2.1 hI.1 hI.2.1 hI.2.2 1 0 rfl rfl (gi_in hg) hdg (fun H locs hP hD hS => kk H locs ⟨hP, hD, hS⟩)
theorem md_l2 {j : Int32} (hC : mo_C p R s m args meth c G ai A RX9 cc nL f L kc ks) (hI : mo_I G A s.heap (md_W ai o ar M) H locs) (hg : gi j 216 = true) (hdg : decode cc pc = .ok (.iaload, 1)) (kk : W p l e R s m args below meth c H locs cells slots Q (F0 m (pc + 1) ls (.int (M 2 j.toNatClampNeg) :: rest))) : W p l e R s m args below meth c H locs cells slots Q (F0 m pc ls (.int j :: .ref (ar 2) :: rest)) :=
  va_iald hC.1 hC.2.1 hC.2.2.2.2.2.2.1 hI.1 2 0 rfl rfl (gi_in hg) hdg kk
theorem md_s2 {j x : Int32} (hC : mo_C p R s m args meth c G ai A RX9 cc nL f L kc ks) (hI : mo_I G A s.heap (md_W ai o ar M) H locs) (hg : gi j 216 = true) (hM : M1 = rup M 2 (upd (M 2) j.toNatClampNeg x)) (hdg : decode cc pc = .ok (.iastore, 1)) (kk : ∀ (H1 : Heap) (locs1 : List Loc), mo_I G A s.heap (md_W ai o ar M1) H1 locs1 → W p l e R s m args below meth c H1 locs1 cells slots Q (F0 m (pc + 1) ls (rest))) : W p l e R s m args below meth c H locs cells slots Q (F0 m pc ls (.int x :: .int j :: .ref (ar 2) :: rest)) := by
  subst hM
  exact va_iast hC.1 hC.2.1 hC.2.2.2.2.2.2.1 hI.1 hI.2.1 hI.2.2 2 0 rfl rfl (gi_in hg) hdg (fun H locs hP hD hS => kk H locs ⟨hP, hD, hS⟩)
theorem md_l3 {j : Int32} (hC : mo_C p R s m args meth c G ai A RX9 cc nL f L kc ks) (hI : mo_I G A s.heap (md_W ai o ar M) H locs) (hg : gi j 216 = true) (hdg : decode cc pc = .ok (.iaload, 1)) (kk : W p l e R s m args below meth c H locs cells slots Q (F0 m (pc + 1) ls (.int (M 3 j.toNatClampNeg) :: rest))) : W p l e R s m args below meth c H locs cells slots Q (F0 m pc ls (.int j :: .ref (ar 3) :: rest)) :=
  va_iald hC.1 hC.2.1 hC.2.2.2.2.2.2.1 hI.1 3 0 rfl rfl (gi_in hg) hdg kk
theorem md_s3 {j x : Int32} (hC : mo_C p R s m args meth c G ai A RX9 cc nL f L kc ks) (hI : mo_I G A s.heap (md_W ai o ar M) H locs) (hg : gi j 216 = true) (hM : M1 = rup M 3 (upd (M 3) j.toNatClampNeg x)) (hdg : decode cc pc = .ok (.iastore, 1)) (kk : ∀ (H1 : Heap) (locs1 : List Loc), mo_I G A s.heap (md_W ai o ar M1) H1 locs1 → W p l e R s m args below meth c H1 locs1 cells slots Q (F0 m (pc + 1) ls (rest))) : W p l e R s m args below meth c H locs cells slots Q (F0 m pc ls (.int x :: .int j :: .ref (ar 3) :: rest)) := by
  subst hM
  exact va_iast hC.1 hC.2.1 hC.2.2.2.2.2.2.1 hI.1 hI.2.1 hI.2.2 3 0 rfl rfl (gi_in hg) hdg (fun H locs hP hD hS => kk H locs ⟨hP, hD, hS⟩)
theorem md_l4 {j : Int32} (hC : mo_C p R s m args meth c G ai A RX9 cc nL f L kc ks) (hI : mo_I G A s.heap (md_W ai o ar M) H locs) (hg : gi j 216 = true) (hdg : decode cc pc = .ok (.iaload, 1)) (kk : W p l e R s m args below meth c H locs cells slots Q (F0 m (pc + 1) ls (.int (M 4 j.toNatClampNeg) :: rest))) : W p l e R s m args below meth c H locs cells slots Q (F0 m pc ls (.int j :: .ref (ar 4) :: rest)) :=
  va_iald hC.1 hC.2.1 hC.2.2.2.2.2.2.1 hI.1 4 0 rfl rfl (gi_in hg) hdg kk
theorem md_s4 {j x : Int32} (hC : mo_C p R s m args meth c G ai A RX9 cc nL f L kc ks) (hI : mo_I G A s.heap (md_W ai o ar M) H locs) (hg : gi j 216 = true) (hM : M1 = rup M 4 (upd (M 4) j.toNatClampNeg x)) (hdg : decode cc pc = .ok (.iastore, 1)) (kk : ∀ (H1 : Heap) (locs1 : List Loc), mo_I G A s.heap (md_W ai o ar M1) H1 locs1 → W p l e R s m args below meth c H1 locs1 cells slots Q (F0 m (pc + 1) ls (rest))) : W p l e R s m args below meth c H locs cells slots Q (F0 m pc ls (.int x :: .int j :: .ref (ar 4) :: rest)) := by
  subst hM
  exact va_iast hC.1 hC.2.1 hC.2.2.2.2.2.2.1 hI.1 hI.2.1 hI.2.2 4 0 rfl rfl (gi_in hg) hdg (fun H locs hP hD hS => kk H locs ⟨hP, hD, hS⟩)
theorem md_l5 {j : Int32} (hC : mo_C p R s m args meth c G ai A RX9 cc nL f L kc ks) (hI : mo_I G A s.heap (md_W ai o ar M) H locs) (hg : gi j 1728 = true) (hdg : decode cc pc = .ok (.iaload, 1)) (kk : W p l e R s m args below meth c H locs cells slots Q (F0 m (pc + 1) ls (.int (M 5 j.toNatClampNeg) :: rest))) : W p l e R s m args below meth c H locs cells slots Q (F0 m pc ls (.int j :: .ref (ar 5) :: rest)) :=
  va_iald hC.1 hC.2.1 hC.2.2.2.2.2.2.1 hI.1 5 0 rfl rfl (gi_in hg) hdg kk
theorem md_s5 {j x : Int32} (hC : mo_C p R s m args meth c G ai A RX9 cc nL f L kc ks) (hI : mo_I G A s.heap (md_W ai o ar M) H locs) (hg : gi j 1728 = true) (hM : M1 = rup M 5 (upd (M 5) j.toNatClampNeg x)) (hdg : decode cc pc = .ok (.iastore, 1)) (kk : ∀ (H1 : Heap) (locs1 : List Loc), mo_I G A s.heap (md_W ai o ar M1) H1 locs1 → W p l e R s m args below meth c H1 locs1 cells slots Q (F0 m (pc + 1) ls (rest))) : W p l e R s m args below meth c H locs cells slots Q (F0 m pc ls (.int x :: .int j :: .ref (ar 5) :: rest)) := by
  subst hM
  exact va_iast hC.1 hC.2.1 hC.2.2.2.2.2.2.1 hI.1 hI.2.1 hI.2.2 5 0 rfl rfl (gi_in hg) hdg (fun H locs hP hD hS => kk H locs ⟨hP, hD, hS⟩)
theorem md_l6 {j : Int32} (hC : mo_C p R s m args meth c G ai A RX9 cc nL f L kc ks) (hI : mo_I G A s.heap (md_W ai o ar M) H locs) (hg : gi j 6 = true) (hdg : decode cc pc = .ok (.iaload, 1)) (kk : W p l e R s m args below meth c H locs cells slots Q (F0 m (pc + 1) ls (.int (M 6 j.toNatClampNeg) :: rest))) : W p l e R s m args below meth c H locs cells slots Q (F0 m pc ls (.int j :: .ref (ar 6) :: rest)) :=
  va_iald hC.1 hC.2.1 hC.2.2.2.2.2.2.1 hI.1 6 0 rfl rfl (gi_in hg) hdg kk
theorem md_s6 {j x : Int32} (hC : mo_C p R s m args meth c G ai A RX9 cc nL f L kc ks) (hI : mo_I G A s.heap (md_W ai o ar M) H locs) (hg : gi j 6 = true) (hM : M1 = rup M 6 (upd (M 6) j.toNatClampNeg x)) (hdg : decode cc pc = .ok (.iastore, 1)) (kk : ∀ (H1 : Heap) (locs1 : List Loc), mo_I G A s.heap (md_W ai o ar M1) H1 locs1 → W p l e R s m args below meth c H1 locs1 cells slots Q (F0 m (pc + 1) ls (rest))) : W p l e R s m args below meth c H locs cells slots Q (F0 m pc ls (.int x :: .int j :: .ref (ar 6) :: rest)) := by
  subst hM
  exact va_iast hC.1 hC.2.1 hC.2.2.2.2.2.2.1 hI.1 hI.2.1 hI.2.2 6 0 rfl rfl (gi_in hg) hdg (fun H locs hP hD hS => kk H locs ⟨hP, hD, hS⟩)
theorem md_l7 {j : Int32} (hC : mo_C p R s m args meth c G ai A RX9 cc nL f L kc ks) (hI : mo_I G A s.heap (md_W ai o ar M) H locs) (hg : gi j 6 = true) (hdg : decode cc pc = .ok (.iaload, 1)) (kk : W p l e R s m args below meth c H locs cells slots Q (F0 m (pc + 1) ls (.int (M 7 j.toNatClampNeg) :: rest))) : W p l e R s m args below meth c H locs cells slots Q (F0 m pc ls (.int j :: .ref (ar 7) :: rest)) :=
  va_iald hC.1 hC.2.1 hC.2.2.2.2.2.2.1 hI.1 7 0 rfl rfl (gi_in hg) hdg kk
theorem md_s7 {j x : Int32} (hC : mo_C p R s m args meth c G ai A RX9 cc nL f L kc ks) (hI : mo_I G A s.heap (md_W ai o ar M) H locs) (hg : gi j 6 = true) (hM : M1 = rup M 7 (upd (M 7) j.toNatClampNeg x)) (hdg : decode cc pc = .ok (.iastore, 1)) (kk : ∀ (H1 : Heap) (locs1 : List Loc), mo_I G A s.heap (md_W ai o ar M1) H1 locs1 → W p l e R s m args below meth c H1 locs1 cells slots Q (F0 m (pc + 1) ls (rest))) : W p l e R s m args below meth c H locs cells slots Q (F0 m pc ls (.int x :: .int j :: .ref (ar 7) :: rest)) := by
  subst hM
  exact va_iast hC.1 hC.2.1 hC.2.2.2.2.2.2.1 hI.1 hI.2.1 hI.2.2 7 0 rfl rfl (gi_in hg) hdg (fun H locs hP hD hS => kk H locs ⟨hP, hD, hS⟩)
theorem md_l8 {j : Int32} (hC : mo_C p R s m args meth c G ai A RX9 cc nL f L kc ks) (hI : mo_I G A s.heap (md_W ai o ar M) H locs) (hg : gi j 30 = true) (hdg : decode cc pc = .ok (.iaload, 1)) (kk : W p l e R s m args below meth c H locs cells slots Q (F0 m (pc + 1) ls (.int (M 8 j.toNatClampNeg) :: rest))) : W p l e R s m args below meth c H locs cells slots Q (F0 m pc ls (.int j :: .ref (ar 8) :: rest)) :=
  va_iald hC.1 hC.2.1 hC.2.2.2.2.2.2.1 hI.1 8 0 rfl rfl (gi_in hg) hdg kk
theorem md_s8 {j x : Int32} (hC : mo_C p R s m args meth c G ai A RX9 cc nL f L kc ks) (hI : mo_I G A s.heap (md_W ai o ar M) H locs) (hg : gi j 30 = true) (hM : M1 = rup M 8 (upd (M 8) j.toNatClampNeg x)) (hdg : decode cc pc = .ok (.iastore, 1)) (kk : ∀ (H1 : Heap) (locs1 : List Loc), mo_I G A s.heap (md_W ai o ar M1) H1 locs1 → W p l e R s m args below meth c H1 locs1 cells slots Q (F0 m (pc + 1) ls (rest))) : W p l e R s m args below meth c H locs cells slots Q (F0 m pc ls (.int x :: .int j :: .ref (ar 8) :: rest)) := by
  subst hM
  exact va_iast hC.1 hC.2.1 hC.2.2.2.2.2.2.1 hI.1 hI.2.1 hI.2.2 8 0 rfl rfl (gi_in hg) hdg (fun H locs hP hD hS => kk H locs ⟨hP, hD, hS⟩)
theorem md_l9 {j : Int32} (hC : mo_C p R s m args meth c G ai A RX9 cc nL f L kc ks) (hI : mo_I G A s.heap (md_W ai o ar M) H locs) (hg : gi j 30 = true) (hdg : decode cc pc = .ok (.iaload, 1)) (kk : W p l e R s m args below meth c H locs cells slots Q (F0 m (pc + 1) ls (.int (M 9 j.toNatClampNeg) :: rest))) : W p l e R s m args below meth c H locs cells slots Q (F0 m pc ls (.int j :: .ref (ar 9) :: rest)) :=
  va_iald hC.1 hC.2.1 hC.2.2.2.2.2.2.1 hI.1 9 0 rfl rfl (gi_in hg) hdg kk
theorem md_s9 {j x : Int32} (hC : mo_C p R s m args meth c G ai A RX9 cc nL f L kc ks) (hI : mo_I G A s.heap (md_W ai o ar M) H locs) (hg : gi j 30 = true) (hM : M1 = rup M 9 (upd (M 9) j.toNatClampNeg x)) (hdg : decode cc pc = .ok (.iastore, 1)) (kk : ∀ (H1 : Heap) (locs1 : List Loc), mo_I G A s.heap (md_W ai o ar M1) H1 locs1 → W p l e R s m args below meth c H1 locs1 cells slots Q (F0 m (pc + 1) ls (rest))) : W p l e R s m args below meth c H locs cells slots Q (F0 m pc ls (.int x :: .int j :: .ref (ar 9) :: rest)) := by
  subst hM
  exact va_iast hC.1 hC.2.1 hC.2.2.2.2.2.2.1 hI.1 hI.2.1 hI.2.2 9 0 rfl rfl (gi_in hg) hdg (fun H locs hP hD hS => kk H locs ⟨hP, hD, hS⟩)
theorem md_l10 {j : Int32} (hC : mo_C p R s m args meth c G ai A RX9 cc nL f L kc ks) (hI : mo_I G A s.heap (md_W ai o ar M) H locs) (hg : gi j 60 = true) (hdg : decode cc pc = .ok (.iaload, 1)) (kk : W p l e R s m args below meth c H locs cells slots Q (F0 m (pc + 1) ls (.int (M 10 j.toNatClampNeg) :: rest))) : W p l e R s m args below meth c H locs cells slots Q (F0 m pc ls (.int j :: .ref (ar 10) :: rest)) :=
  va_iald hC.1 hC.2.1 hC.2.2.2.2.2.2.1 hI.1 10 0 rfl rfl (gi_in hg) hdg kk
theorem md_s10 {j x : Int32} (hC : mo_C p R s m args meth c G ai A RX9 cc nL f L kc ks) (hI : mo_I G A s.heap (md_W ai o ar M) H locs) (hg : gi j 60 = true) (hM : M1 = rup M 10 (upd (M 10) j.toNatClampNeg x)) (hdg : decode cc pc = .ok (.iastore, 1)) (kk : ∀ (H1 : Heap) (locs1 : List Loc), mo_I G A s.heap (md_W ai o ar M1) H1 locs1 → W p l e R s m args below meth c H1 locs1 cells slots Q (F0 m (pc + 1) ls (rest))) : W p l e R s m args below meth c H locs cells slots Q (F0 m pc ls (.int x :: .int j :: .ref (ar 10) :: rest)) := by
  subst hM
  exact va_iast hC.1 hC.2.1 hC.2.2.2.2.2.2.1 hI.1 hI.2.1 hI.2.2 10 0 rfl rfl (gi_in hg) hdg (fun H locs hP hD hS => kk H locs ⟨hP, hD, hS⟩)
theorem md_l11 {j : Int32} (hC : mo_C p R s m args meth c G ai A RX9 cc nL f L kc ks) (hI : mo_I G A s.heap (md_W ai o ar M) H locs) (hg : gi j 12 = true) (hdg : decode cc pc = .ok (.iaload, 1)) (kk : W p l e R s m args below meth c H locs cells slots Q (F0 m (pc + 1) ls (.int (M 11 j.toNatClampNeg) :: rest))) : W p l e R s m args below meth c H locs cells slots Q (F0 m pc ls (.int j :: .ref (ar 11) :: rest)) :=
  va_iald hC.1 hC.2.1 hC.2.2.2.2.2.2.1 hI.1 11 0 rfl rfl (gi_in hg) hdg kk
theorem md_s11 {j x : Int32} (hC : mo_C p R s m args meth c G ai A RX9 cc nL f L kc ks) (hI : mo_I G A s.heap (md_W ai o ar M) H locs) (hg : gi j 12 = true) (hM : M1 = rup M 11 (upd (M 11) j.toNatClampNeg x)) (hdg : decode cc pc = .ok (.iastore, 1)) (kk : ∀ (H1 : Heap) (locs1 : List Loc), mo_I G A s.heap (md_W ai o ar M1) H1 locs1 → W p l e R s m args below meth c H1 locs1 cells slots Q (F0 m (pc + 1) ls (rest))) : W p l e R s m args below meth c H locs cells slots Q (F0 m pc ls (.int x :: .int j :: .ref (ar 11) :: rest)) := by
  subst hM
  exact va_iast hC.1 hC.2.1 hC.2.2.2.2.2.2.1 hI.1 hI.2.1 hI.2.2 11 0 rfl rfl (gi_in hg) hdg (fun H locs hP hD hS => kk H locs ⟨hP, hD, hS⟩)
theorem mo_ist (hx : p.tables.exec = Jvm.exec) (hb : c.code = cc) {k : Fin 4} {i : Nat} {x y : Int32} {lv lv' : List (Nat × Value)} (hy : y = x) (hdg : decode cc pc = .ok (.istore_n k, 1)) (hi : (k : Nat) = i) (h : lv_has ls nL lv) (hn : i < nL) (hl : (i, Value.int y) :: lv.filter (fun q => !(q.1 == i) && !(q.1 + 1 == i && q.2.category == 2)) = lv')
    (kk : ∀ ls' : Array Slot, lv_has ls' nL lv' → W p l e R s m args below meth c H locs cells slots Q (F0 m (pc + 1) ls' rest)) : W p l e R s m args below meth c H locs cells slots Q (F0 m pc ls (.int x :: rest)) := by
  subst hy
  exact lv_istore_n hx hb hdg hi h hn hl kk
theorem mo_ist4 (hx : p.tables.exec = Jvm.exec) (hb : c.code = cc) {i : Nat} {x y : Int32} {lv lv' : List (Nat × Value)} (hy : y = x) (hdg : decode cc pc = .ok (.istore i, 2)) (h : lv_has ls nL lv) (hn : i < nL) (hl : (i, Value.int y) :: lv.filter (fun q => !(q.1 == i) && !(q.1 + 1 == i && q.2.category == 2)) = lv')
    (kk : ∀ ls' : Array Slot, lv_has ls' nL lv' → W p l e R s m args below meth c H locs cells slots Q (F0 m (pc + 2) ls' rest)) : W p l e R s m args below meth c H locs cells slots Q (F0 m pc ls (.int x :: rest)) := by
  subst hy
  exact lv_istore hx hb hdg h hn hl kk
theorem mo_inc (hx : p.tables.exec = Jvm.exec) (hb : c.code = cc) {i k : Nat} {n : Int} {d x y : Int32} {lv lv' : List (Nat × Value)} (hy : y = x + d) (hd : Int32.ofInt n = d) (hdg : decode cc pc = .ok (.iinc i n, 3)) (h : lv_has ls nL lv) (hk : lv[k]? = some (i, .int x)) (hn : i < nL) (hl : (i, Value.int y) :: lv.filter (fun q => !(q.1 == i) && !(q.1 + 1 == i && q.2.category == 2)) = lv')
    (kk : ∀ ls' : Array Slot, lv_has ls' nL lv' → W p l e R s m args below meth c H locs cells slots Q (F0 m (pc + 3) ls' rest)) : W p l e R s m args below meth c H locs cells slots Q (F0 m pc ls rest) := by
  subst hy; subst hd
  exact lv_iinc hx hb hdg h hk rfl hn hl kk
theorem sw_out {x : Int32} (lo : Int) (n : Nat) (hlo : -2147483648 ≤ lo) (hhi : lo + n ≤ 2147483648) (h : ∀ k, k < n → ¬ x = Int32.ofInt (lo + k)) : x.toInt < lo ∨ lo + n - 1 < x.toInt := by
  refine Classical.byContradiction fun hc => ?_
  have h1 : lo ≤ x.toInt ∧ x.toInt ≤ lo + n - 1 := by omega
  obtain ⟨k, hk⟩ : ∃ k : Nat, x.toInt = lo + k := ⟨(x.toInt - lo).toNat, by omega⟩
  refine h k (by omega) ?_
  rw [← hk, Int32.ofInt_toInt]
/-- a contract of the model's: the state M becomes M', the answer is r -/
def md_M (l : Launch) (G : va_G) (ai : Nat → ClassId) (o : Nat) (ar : Nat → Nat) (y : MethodName) (cc : ByteArray) (nL : Nat) (ret : Option FieldType) (rm : Room) (As : List Value) (M : MS) (r : Int32) (M' : MS) : Prop :=
  gw_Mi l G ai (md_W ai o ar) y cc nL ret rm As (md_W ai o ar M) (fun (r' : Int32) (M2 : MS) => r' = r ∧ M2 = M') 0 0
def md_Mv (l : Launch) (G : va_G) (ai : Nat → ClassId) (o : Nat) (ar : Nat → Nat) (y : MethodName) (cc : ByteArray) (nL : Nat) (rm : Room) (As : List Value) (M : MS) (M' : MS) : Prop :=
  gw_Mv l G ai (md_W ai o ar) y cc nL rm As (md_W ai o ar M) (fun (M2 : MS) => M2 = M') 0 0
def md_Q (below : List Frame) (G : va_G) (ai : Nat → ClassId) (o : Nat) (ar : Nat → Nat) (A : Nat → Prop) (args : Array Value) (s : State) (r : Int32) (M' : MS) : State → Prop :=
  MQ below (va_Qi (fun (r' : Int32) (M2 : MS) => r' = r ∧ M2 = M') (gw_E G ai (md_W ai o ar) A) A) args s 0 0 A
def md_Qv (below : List Frame) (G : va_G) (ai : Nat → ClassId) (o : Nat) (ar : Nat → Nat) (A : Nat → Prop) (args : Array Value) (s : State) (M' : MS) : State → Prop :=
  MQ below (va_Qv (fun (M2 : MS) => M2 = M') (gw_E G ai (md_W ai o ar) A) A) args s 0 0 A
def md_Qf (below : List Frame) (G : va_G) (ai : Nat → ClassId) (o : Nat) (ar : Nat → Nat) (A : Nat → Prop) (args : Array Value) (s : State) (r : UInt32) (M' : MS) : State → Prop :=
  MQ below (va_Qf (fun (r' : UInt32) (M2 : MS) => r' = r ∧ M2 = M') (gw_E G ai (md_W ai o ar) A) A) args s 0 0 A
def md_Qd (below : List Frame) (G : va_G) (ai : Nat → ClassId) (o : Nat) (ar : Nat → Nat) (A : Nat → Prop) (args : Array Value) (s : State) (r : UInt64) (M' : MS) : State → Prop :=
  MQ below (va_Qd (fun (r' : UInt64) (M2 : MS) => r' = r ∧ M2 = M') (gw_E G ai (md_W ai o ar) A) A) args s 0 0 A
def md_Mf (l : Launch) (G : va_G) (ai : Nat → ClassId) (o : Nat) (ar : Nat → Nat) (y : MethodName) (cc : ByteArray) (nL : Nat) (ret : Option FieldType) (rm : Room) (As : List Value) (M : MS) (r : UInt32) (M' : MS) : Prop :=
  ∀ sz, Met l y (ws_ y cc nL ret) rm (va_Pc As (gw_B G ai (md_W ai o ar M) sz)) (va_Qf (fun (r' : UInt32) (M2 : MS) => r' = r ∧ M2 = M') (gw_E G ai (md_W ai o ar) (va_A (md_W ai o ar M) sz)) (va_A (md_W ai o ar M) sz)) 0 0 (va_A (md_W ai o ar M) sz)
def md_Md (l : Launch) (G : va_G) (ai : Nat → ClassId) (o : Nat) (ar : Nat → Nat) (y : MethodName) (cc : ByteArray) (nL : Nat) (ret : Option FieldType) (rm : Room) (As : List Value) (M : MS) (r : UInt64) (M' : MS) : Prop :=
  ∀ sz, Met l y (ws_ y cc nL ret) rm (va_Pc As (gw_B G ai (md_W ai o ar M) sz)) (va_Qd (fun (r' : UInt64) (M2 : MS) => r' = r ∧ M2 = M') (gw_E G ai (md_W ai o ar) (va_A (md_W ai o ar M) sz)) (va_A (md_W ai o ar M) sz)) 0 0 (va_A (md_W ai o ar M) sz)
theorem md_fret {x r0 : UInt32} {M0 : MS} (hC : mo_C p R s m args meth c G ai A RX9 cc nL f L kc ks) (hI : mo_I G A s.heap (md_W ai o ar M) H locs) (hr : meth.sig.returnType = some .float) (hF : some (x, M) = some (r0, M0)) (hdg : decode cc pc = .ok (.freturn, 1)) :
    W p l e R s m args below meth c H locs 0 0 (md_Qf below G ai o ar A args s r0 M0) (F0 m pc ls [.float x]) := by
  cases hF
  exact W.fret (v := x) hC.1 hC.2.1 hr (fun t ht hW => ⟨⟨x, M, rfl, ⟨rfl, rfl⟩, by rw [ht]; exact hI.1, va_K.moved hW.alike hC.2.2.2.2.2.2.1, hI.2.1⟩, hI.2.2.F ht⟩) hI.2.2.2.2 hdg hC.2.2.2.2.2.1
theorem md_dret {x r0 : UInt64} {M0 : MS} (hC : mo_C p R s m args meth c G ai A RX9 cc nL f L kc ks) (hI : mo_I G A s.heap (md_W ai o ar M) H locs) (hr : meth.sig.returnType = some .double) (hF : some (x, M) = some (r0, M0)) (hdg : decode cc pc = .ok (.dreturn, 1)) :
    W p l e R s m args below meth c H locs 0 0 (md_Qd below G ai o ar A args s r0 M0) (F0 m pc ls [.double x]) := by
  cases hF
  exact W.dret (v := x) hC.1 hC.2.1 hr (fun t ht hW => ⟨⟨x, M, rfl, ⟨rfl, rfl⟩, by rw [ht]; exact hI.1, va_K.moved hW.alike hC.2.2.2.2.2.2.1, hI.2.1⟩, hI.2.2.F ht⟩) hI.2.2.2.2 hdg hC.2.2.2.2.2.1
theorem md_iret {x r0 : Int32} {M0 : MS} (hC : mo_C p R s m args meth c G ai A RX9 cc nL f L kc ks) (hI : mo_I G A s.heap (md_W ai o ar M) H locs) (hr : meth.sig.returnType = some .int) (hF : some (x, M) = some (r0, M0)) (hdg : decode cc pc = .ok (.ireturn, 1)) :
    W p l e R s m args below meth c H locs 0 0 (md_Q below G ai o ar A args s r0 M0) (F0 m pc ls [.int x]) := by
  cases hF
  exact W.iret (v := x) hC.1 hC.2.1 hr (fun t ht hW => ⟨⟨x, M, rfl, ⟨rfl, rfl⟩, by rw [ht]; exact hI.1, va_K.moved hW.alike hC.2.2.2.2.2.2.1, hI.2.1⟩, hI.2.2.F ht⟩) hI.2.2.2.2 hdg hC.2.2.2.2.2.1
theorem md_zret {x r0 : Int32} {M0 : MS} (hC : mo_C p R s m args meth c G ai A RX9 cc nL f L kc ks) (hI : mo_I G A s.heap (md_W ai o ar M) H locs) (hr : meth.sig.returnType = some .boolean) (hx : gb x = true) (hF : some (x, M) = some (r0, M0)) (hdg : decode cc pc = .ok (.ireturn, 1)) :
    W p l e R s m args below meth c H locs 0 0 (md_Q below G ai o ar A args s r0 M0) (F0 m pc ls [.int x]) := by
  cases hF
  exact W.zret (v := x) hC.1 hC.2.1 hr (by rcases gb_or hx with h | h <;> (rw [h]; rfl)) (fun t ht hW => ⟨⟨x, M, rfl, ⟨rfl, rfl⟩, by rw [ht]; exact hI.1, va_K.moved hW.alike hC.2.2.2.2.2.2.1, hI.2.1⟩, hI.2.2.F ht⟩) hI.2.2.2.2 hdg hC.2.2.2.2.2.1
theorem md_vret {r0 : Int32} {M0 : MS} (hC : mo_C p R s m args meth c G ai A RX9 cc nL f L kc ks) (hI : mo_I G A s.heap (md_W ai o ar M) H locs) (hr : meth.sig.returnType = none) (hF : some ((0 : Int32), M) = some (r0, M0)) (hdg : decode cc pc = .ok (.return_, 1)) :
    W p l e R s m args below meth c H locs 0 0 (md_Qv below G ai o ar A args s M0) (F0 m pc ls []) := by
  cases hF
  exact W.vret hC.1 hC.2.1 hr (fun t ht hW => ⟨⟨M, rfl, rfl, by rw [ht]; exact hI.1, va_K.moved hW.alike hC.2.2.2.2.2.2.1, hI.2.1⟩, hI.2.2.F ht⟩) hI.2.2.2.2 hdg hC.2.2.2.2.2.1
end MD
/-- a contract by the walk of its body -/
theorem mo_body {y : MethodName} {cc : ByteArray} {nL : Nat} {ret : Option FieldType} {rm : Room} {l : Launch} {G : va_G} {ai : Nat → ClassId} {As : List Value} {w0 : va_W} {Qc : (Nat → Prop) → Array Value → State → Outcome → State → Prop} {mc ms : Nat} (hy : plainName y.cls = true) (hn : (lg_sl As).length ≤ nL)
    (hbody : ∀ (p : Program) (e : Env) (s : State) (m : MethodId) (args : Array Value) (below : List Frame) (meth : Method) (c : Code) (A : Nat → Prop) (ls : Array Slot), mo_C p rm s m args meth c G ai A y.cls cc nL rm.frames rm.locals rm.cells rm.slots → meth.sig.returnType = ret → mo_I G A s.heap w0 s.heap [] → lv_has ls nL (lv_args 0 As) → meth.name = y.name →
      W p l e rm s m args below meth c s.heap [] 0 0 (MQ below (Qc A) args s mc ms A) (F0 m 0 ls [])) :
    ∀ sz, Met l y (ws_ y cc nL ret) rm (va_Pc As (gw_B G ai w0 sz)) (Qc (va_A w0 sz)) mc ms (va_A w0 sz) := by
  intro sz
  refine Met.ofW (cc := cc) (maxL := nL) (ret := ret) hy rfl ?_
  intro p e s m args below meth c s₁ B hml hv
  obtain ⟨rfl, hsz, hP, hK, hD0⟩ := hv
  have hts := atoms_spec (ws := ws_ y cc nL ret) B.pre
  have hts : ∀ w ∈ lw_all, w.before _ s = true := fun w h => hts w (List.mem_cons_of_mem _ h)
  have hown : s.vm.findClass y.cls = some m.cls := findClass_of_methodNamed B.named
  subst hsz
  have hD := hD0.self (sz := s.heap.size)
  have hl := lv_entry As (n := nL) hn
  rw [lg_entry_eq]
  exact hbody p e s m _ below meth c _ _ ⟨B.exec, B.bytes, hml, hown, hts, B.notSynchronized, hK, fun q h => Or.inr h, Nat.le_refl _, Nat.le_refl _, Nat.le_refl _, Nat.le_refl _⟩ B.returns ⟨hP, hD, va_S.rf⟩ hl (name_of_methodNamed B.named B.method).1

/-! The cache of small Integers -/
set_option maxRecDepth 100000
def icA (s0 : State) (b0 : Addr) : Nat := refOr (icT.eval #[Value.ref b0] s0 none [] s0)
section IC
variable {s0 s : State} {b0 : Addr} {A : Nat → Prop}
theorem ic_len (h0 : mo_S0 s0 b0) : (Term.length icT).eval #[Value.ref b0] s0 none [] s0 = some (.int (Int32.ofNat 256)) := va_eqt (mo_leaf h0 (w := .eq (.length icT) (.int 256)) (by decide +kernel))
theorem ic_C0 (h0 : mo_S0 s0 b0) (hZ : mo_Z s0 A s) : vb_C (icv s0 b0) A s0 s0.heap ∧ ∀ j : Nat, j < 256 → (Term.elem icT (.int (Int32.ofNat j))).eval #[Value.ref b0] s0 none [] s0 = some (.ref (icv s0 b0 j)) := by
  obtain ⟨ad, h1, h2⟩ := vb_Cof (st := icT) (A := A) rfl (ic_len h0) (mo_leaf h0 (w := .all icT (.and (.exactly (.elem icT (.index 0)) "java/lang/Integer") (.eq (.field (.elem icT (.index 0)) "java/lang/Integer" "value" "I") (.sub (.index 0) (.int 128))))) (by decide +kernel)) (mo_noA hZ)
  have e : ∀ j, j < 256 → icv s0 b0 j = ad j := fun j hj => by unfold icv; rw [h2 j hj]; rfl
  refine ⟨⟨fun k hk => by rw [e k hk]; exact h1.1 k hk, fun k hk => by rw [e k hk]; exact h1.2 k hk⟩, fun j hj => by rw [e j hj]; exact h2 j hj⟩
theorem ic_C (h0 : mo_S0 s0 b0) (hZ : mo_Z s0 A s) : vb_C (icv s0 b0) A s s.heap := vb_C.kept (vb_C.moved hZ.1.alike (ic_C0 h0 hZ).1) (mo_keep hZ)
theorem ic_T (h0 : mo_S0 s0 b0) (hZ : mo_Z s0 A s) : icT.eval #[Value.ref b0] s0 none [] s0 = some (.ref (icA s0 b0)) ∧ va_T (.object "java/lang/Integer") (icA s0 b0) 256 (fun j => .ref (icv s0 b0 j)) A s s.heap := by
  obtain ⟨t, h1, h2⟩ := va_Tof (N := 256) (f := fun j => .ref (icv s0 b0 j)) (A := A) (by decide) (mo_leaf h0 (w := .arrayOf icT (.object "java/lang/Integer")) (by decide +kernel)) (ic_len h0) (ic_C0 h0 hZ).2 (mo_noA hZ)
  have e : icA s0 b0 = t := by unfold icA; rw [h1]; rfl
  rw [e]
  exact ⟨h1, va_T.kept (va_T.moved hZ.1.alike h2) (mo_keep hZ)⟩
end IC
section IC2
variable {s0 s : State} {b0 : Addr} {A : Nat → Prop}
theorem ic_hi (h0 : mo_S0 s0 b0) (hZ : mo_Z s0 A s) : va_Z "java/lang/Integer$IntegerCache" "high" "I" (.int 127) A s s.heap := zs_int h0 hZ q1169 (lw_all_tbl q156) (by decide +kernel)
theorem ic_st (h0 : mo_S0 s0 b0) (hZ : mo_Z s0 A s) : va_Z "java/lang/Integer$IntegerCache" "cache" "[Ljava/lang/Integer;" (.ref (icA s0 b0)) A s s.heap :=
  va_Z.kept (va_Z.moved hZ.1.alike (va_Zof (h0.1 _ q1171) (h0.1 _ (lw_all_tbl q156)) (ic_T h0 hZ).1 (mo_noA hZ))) (mo_keep hZ)
/-- a place of the queue: null or a box -/
def dq_v (s0 : State) (b0 : Addr) (x : Int32) : Value := if x = -1 then .null else .ref (icv s0 b0 (x + 128).toNatClampNeg)
theorem dq_vf {s0 : State} {b0 : Addr} {d : Nat → Int32} (k : Nat) : va_rf (dqf s0 b0 d k) = dq_v s0 b0 (d k) := by
  unfold dqf dq_v
  by_cases h : d k = -1
  · rw [if_pos h, if_pos h]; rfl
  · rw [if_neg h, if_neg h]; rfl
theorem dq_null {s0 : State} {b0 : Addr} {x : Int32} (h : x = -1) : dq_v s0 b0 x = .null := if_pos h
theorem dq_ref {s0 : State} {b0 : Addr} {x : Int32} (h : ¬ x = -1) : dq_v s0 b0 x = .ref (icv s0 b0 (x + 128).toNatClampNeg) := if_neg h
theorem dq_setN {s0 : State} {b0 : Addr} {d : Nat → Int32} {j : Nat} : va_up (dqf s0 b0 d) j none = dqf s0 b0 (upd d j (-1)) := by
  funext k
  unfold va_up dqf upd
  by_cases h : k = j
  · simp [h]
  · simp [h]
theorem dq_set {s0 : State} {b0 : Addr} {d : Nat → Int32} {j : Nat} {x : Int32} (hx : ¬ x = -1) : va_up (dqf s0 b0 d) j (some (icv s0 b0 (x + 128).toNatClampNeg)) = dqf s0 b0 (upd d j x) := by
  funext k
  unfold va_up dqf upd
  by_cases h : k = j
  · simp [h, hx]
  · simp [h]
end IC2

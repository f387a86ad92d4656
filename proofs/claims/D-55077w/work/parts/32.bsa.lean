/-! BitSet by what it holds: f k = 1 for k < 30 -/
set_option maxRecDepth 100000
def bv_of (f : Nat → Int32) : Nat → BitVec 64
  | 0 => 0#64
  | k + 1 => bv_of f k ||| (if f k = 1 then BitVec.twoPow 64 k else 0#64)
def bw_of (f : Nat → Int32) : Int64 := Int64.ofBitVec (bv_of f 30)
def bu_of (f : Nat → Int32) : Int32 := if bw_of f = 0 then 0 else 1
theorem bv_bit (f : Nat → Int32) (i : Nat) : ∀ n, n ≤ 64 → (bv_of f n).getLsbD i = (decide (i < n) && decide (f i = 1)) := by
  intro n
  induction n with
  | zero => intro _; simp [bv_of]
  | succ n ih =>
    intro hn
    rw [bv_of, BitVec.getLsbD_or, ih (by omega)]
    by_cases hi : i = n
    · subst hi
      by_cases h : f i = 1
      · simp [h, BitVec.getLsbD_twoPow]; omega
      · simp [h]
    · have e : (if f n = 1 then BitVec.twoPow 64 n else 0#64).getLsbD i = false := by
        split
        · rw [BitVec.getLsbD_twoPow]; simp; omega
        · simp
      rw [e, Bool.or_false]
      by_cases h1 : i < n
      · simp [h1, Nat.lt_succ_of_lt h1]
      · have h2 : ¬ i < n + 1 := by omega
        simp [h1, h2]
theorem bw_bit (f : Nat → Int32) (i : Nat) : (bw_of f).toBitVec.getLsbD i = (decide (i < 30) && decide (f i = 1)) := bv_bit f i 30 (by decide)
theorem bw_congr {f g : Nat → Int32} (h : ∀ k, k < 30 → (f k = 1 ↔ g k = 1)) : bw_of f = bw_of g := by
  apply Int64.toBitVec_inj.mp
  apply BitVec.eq_of_getLsbD_eq
  intro i hi
  rw [bw_bit, bw_bit]
  by_cases h1 : i < 30
  · simp [h1, h i h1]
  · simp [h1]
theorem bu_congr {f g : Nat → Int32} (h : ∀ k, k < 30 → (f k = 1 ↔ g k = 1)) : bu_of f = bu_of g := by
  unfold bu_of; rw [bw_congr h]
theorem bs_sh : ∀ q, q < 30 → ((1 : Int64) <<< ((nI q).toInt64 &&& 63)) = Int64.ofBitVec (BitVec.twoPow 64 q) := by decide +kernel
theorem bw_set (f : Nat → Int32) {q : Nat} (hq : q < 30) : bw_of f ||| Int64.ofBitVec (BitVec.twoPow 64 q) = bw_of (upd f q 1) := by
  apply Int64.toBitVec_inj.mp
  apply BitVec.eq_of_getLsbD_eq
  intro i hi
  rw [Int64.toBitVec_or, BitVec.getLsbD_or, bw_bit, bw_bit]
  show (_ || (BitVec.twoPow 64 q).getLsbD i) = _
  rw [BitVec.getLsbD_twoPow]
  unfold upd
  by_cases h : i = q
  · subst h; simp [hq, hi]
  · have h' : ¬ q = i := fun e => h e.symm
    simp [h, h']
theorem bw_clr (f : Nat → Int32) {q : Nat} (hq : q < 30) : bw_of f &&& (Int64.ofBitVec (BitVec.twoPow 64 q) ^^^ (-1)) = bw_of (upd f q 0) := by
  apply Int64.toBitVec_inj.mp
  apply BitVec.eq_of_getLsbD_eq
  intro i hi
  rw [Int64.toBitVec_and, BitVec.getLsbD_and, bw_bit, bw_bit, Int64.toBitVec_xor, BitVec.getLsbD_xor]
  show (_ && ((BitVec.twoPow 64 q).getLsbD i ^^ (BitVec.allOnes 64).getLsbD i)) = _
  rw [BitVec.getLsbD_twoPow, BitVec.getLsbD_allOnes]
  unfold upd
  by_cases h : i = q
  · subst h; simp [hq, hi]
  · have h' : ¬ q = i := fun e => h e.symm
    simp [h, h', hi]
theorem bw_get (f : Nat → Int32) {q : Nat} (hq : q < 30) : bw_of f &&& Int64.ofBitVec (BitVec.twoPow 64 q) = 0 ↔ ¬ f q = 1 := by
  constructor
  · intro h hf
    have h1 := congrArg (fun z : Int64 => z.toBitVec.getLsbD q) h
    simp only [Int64.toBitVec_and, BitVec.getLsbD_and, bw_bit] at h1
    have h2 : (Int64.ofBitVec (BitVec.twoPow 64 q)).toBitVec.getLsbD q = true := by
      show (BitVec.twoPow 64 q).getLsbD q = true
      rw [BitVec.getLsbD_twoPow]; simp; omega
    rw [h2] at h1
    simp [hq, hf] at h1
  · intro hf
    apply Int64.toBitVec_inj.mp
    apply BitVec.eq_of_getLsbD_eq
    intro i hi
    rw [Int64.toBitVec_and, BitVec.getLsbD_and, bw_bit]
    show (_ && (BitVec.twoPow 64 q).getLsbD i) = _
    rw [BitVec.getLsbD_twoPow]
    by_cases h : i = q
    · subst h; simp [hf]
    · have h' : ¬ q = i := fun e => h e.symm
      simp [h']
theorem bw_zero : bw_of (fun _ => 0) = 0 := by decide +kernel
theorem bu_zero : bu_of (fun _ => 0) = 0 := by decide +kernel
theorem lg_cmp0 (x : Int64) : lg_cmp x 0 = 0 ↔ x = 0 := by
  unfold lg_cmp
  by_cases h : x = 0
  · subst h; simp
  · simp only [h, if_false]
    split <;> simp
theorem gi_nI {x : Int32} {n : Nat} (hn : n < 2 ^ 31) (h : gi x n = true) : ∃ j : Nat, j < n ∧ x = nI j ∧ x.toNatClampNeg = j := by
  obtain ⟨j, hj, e⟩ := vp_in_of (gi_in h) hn
  exact ⟨j, hj, e, by rw [e]; exact nI_clamp (by omega)⟩
theorem wi30 : ∀ q, q < 30 → p_wordIndex (nI q) = 0 := by decide +kernel
theorem nn30 : ∀ q, q < 30 → decide ((0 : Int32) ≤ nI q) = true := by decide +kernel
theorem gi00 : gi (0 : Int32) 1 = true := by decide
theorem cl00 : (0 : Int32).toNatClampNeg = 0 := by decide
def bs_get (f : Nat → Int32) (q : Int32) : Option Int32 := gd (gi q 30) (some (if f q.toNatClampNeg = 1 then 1 else 0))
theorem bu_01 (f : Nat → Int32) : (bu_of f = 0 ∧ bw_of f = 0) ∨ (bu_of f = 1 ∧ ¬ bw_of f = 0) := by
  unfold bu_of
  by_cases h : bw_of f = 0
  · exact Or.inl ⟨if_pos h, h⟩
  · exact Or.inr ⟨if_neg h, h⟩
theorem e_get {f : Nat → Int32} {q r : Int32} (h : bs_get f q = some r) : f_bs_get (bu_of f) (fun _ => bw_of f) q = some r := by
  obtain ⟨hg, h⟩ := gd_some h
  obtain ⟨j, hj, rfl, hc⟩ := gi_nI (by decide) hg
  rw [hc] at h
  cases h
  simp only [f_bs_get, gd, nn30 j hj, if_true, f_bs_checkInvariants, lj, ov, lt, Option.bind_some, wi30 j hj, cl00, gi00, bs_sh j hj, lg_cmp0, bw_get f hj]
  rcases bu_01 f with ⟨h1, h2⟩ | ⟨h1, h2⟩
  · have h3 : ¬ f j = 1 := by
      rw [← bw_get f hj, h2]; simp
    simp [h1, h3]
  · rw [h1, if_neg (by decide)]
    by_cases h3 : f j = 1 <;> simp [h3]
theorem p1 {x : Int32} : ((1 : Int32) ≤ 0) = False := by simp
theorem upL0 (g : Nat → Int64) (x : Int64) : vp_updL g 0 x 0 = x := by simp [vp_updL]
theorem bu_one {f : Nat → Int32} {q : Nat} (hq : q < 30) (h : f q = 1) : bu_of f = 1 ∧ ¬ bw_of f = 0 := by
  rcases bu_01 f with ⟨h1, h2⟩ | h1
  · exact absurd h ((bw_get f hq).mp (by rw [h2]; simp))
  · exact h1
theorem e_set {f : Nat → Int32} {q : Int32} (hg : gi q 30 = true) : ∃ wd, f_bs_set (bu_of f) (fun _ => bw_of f) q = some (0, (bu_of (upd f q.toNatClampNeg 1), wd)) ∧ wd 0 = bw_of (upd f q.toNatClampNeg 1) := by
  obtain ⟨j, hj, rfl, hc⟩ := gi_nI (by decide) hg
  rw [hc]
  have hb := (bu_one (f := upd f j 1) hj (by simp [upd])).1
  have hx : f_bs_expandTo (bu_of f) (fun _ => bw_of f) 0 = some (0, (1, fun _ => bw_of f)) := by
    rcases bu_01 f with ⟨h1, h2⟩ | ⟨h1, h2⟩
    · rw [h1]; rfl
    · rw [h1]; simp [f_bs_expandTo, lt]
  refine ⟨vp_updL (fun _ => bw_of f) 0 (bw_of f ||| ((1 : Int64) <<< ((nI j).toInt64 &&& 63))), ?_, ?_⟩
  · simp only [f_bs_set, gd, nn30 j hj, if_true, lt, wi30 j hj, hx, ob, Option.bind_some, cl00, gi00, f_bs_checkInvariants, lj, ov, hb]
  · rw [upL0, bs_sh j hj, bw_set f hj]
theorem e_recalc {wd : Nat → Int64} : f_bs_recalculateWordsInUse 1 wd = some (0, (if wd 0 = 0 then 0 else 1), wd) := by
  have h9 : gi ((1 : Int32) - 1) 1 = true := by decide
  have h8 : ((1 : Int32) - 1).toNatClampNeg = 0 := by decide
  have h7 : ¬ ((1 : Int32) - 1 < 0) := by decide
  have h6 : ((1 : Int32) - 1 + -1) < 0 := by decide
  have h5 : ((1 : Int32) - 1 + -1) + 1 = 0 := by decide
  have h4 : ((1 : Int32) - 1) + 1 = 1 := by decide
  simp only [f_bs_recalculateWordsInUse, lt, f_bs_recalculateWordsInUse_L7, gd, h9, h8, h7, h6, h5, h4, if_true, if_false, lg_cmp0]
  split <;> simp
theorem e_clr {f : Nat → Int32} {q : Int32} (hg : gi q 30 = true) : ∃ wd, f_bs_clear_2 (bu_of f) (fun _ => bw_of f) q = some (0, (bu_of (upd f q.toNatClampNeg 0), wd)) ∧ wd 0 = bw_of (upd f q.toNatClampNeg 0) := by
  obtain ⟨j, hj, rfl, hc⟩ := gi_nI (by decide) hg
  rw [hc]
  have e1 : bw_of f &&& ((1 : Int64) <<< ((nI j).toInt64 &&& 63) ^^^ -1) = bw_of (upd f j 0) := by rw [bs_sh j hj, bw_clr f hj]
  rcases bu_01 f with ⟨h1, h2⟩ | ⟨h1, h2⟩
  · have h3 : ¬ f j = 1 := by rw [← bw_get f hj, h2]; simp
    have h4 : ∀ k, k < 30 → (upd f j 0 k = 1 ↔ f k = 1) := by
      intro k hk
      unfold upd
      by_cases h : k = j
      · subst h; simp [h3]
      · simp [h]
    refine ⟨fun _ => bw_of f, ?_, (bw_congr h4).symm⟩
    rw [bu_congr h4, h1]
    simp only [f_bs_clear_2, gd, nn30 j hj, if_true, lt, wi30 j hj]
    rfl
  · refine ⟨vp_updL (fun _ => bw_of f) 0 (bw_of (upd f j 0)), ?_, by rw [upL0]⟩
    have h5 : ((0 : Int32) < 1) := by decide
    rw [h1]
    simp only [f_bs_clear_2, gd, nn30 j hj, if_true, lt, wi30 j hj, h5, gi00, cl00, e1, e_recalc, ob, Option.bind_some, f_bs_checkInvariants, lj, ov, upL0]
    rfl
theorem e_clear {f : Nat → Int32} : ∃ wd, f_bs_clear (bu_of f) (fun _ => bw_of f) = some (0, (bu_of (fun _ => 0), wd)) ∧ wd 0 = bw_of (fun _ => 0) := by
  rw [bu_zero, bw_zero]
  rcases bu_01 f with ⟨h1, h2⟩ | ⟨h1, h2⟩
  · exact ⟨fun _ => bw_of f, by rw [h1]; rfl, h2⟩
  · refine ⟨vp_updL (fun _ => bw_of f) 0 0, ?_, by rw [upL0]⟩
    rw [h1]
    rfl
theorem e_or {f : Nat → Int32} : ∃ wd, f_bs_or (bu_of (fun _ => 0)) (fun _ => bw_of (fun _ => 0)) (bu_of f) (fun _ => bw_of f) = some (0, (bu_of f, wd, bu_of f, fun _ => bw_of f)) ∧ wd 0 = bw_of f := by
  rw [bu_zero, bw_zero]
  rcases bu_01 f with ⟨h1, h2⟩ | ⟨h1, h2⟩
  · exact ⟨fun _ => 0, by rw [h1]; rfl, h2.symm⟩
  · refine ⟨va_cpy (fun _ => bw_of f) (fun _ => 0) 0 0 1, ?_, by simp [va_cpy]⟩
    rw [h1]
    rfl
theorem mo_mono {l : Launch} {y : MethodName} {ws : List Cond} {rm : Room} {Pc : Array Value → State → Prop} {Qc Qc' : Array Value → State → Outcome → State → Prop} {mc ms : Nat} {free : Addr → Prop} (h : Met l y ws rm Pc Qc mc ms free) (hq : ∀ a st o t, Pc a st → Qc a st o t → Qc' a st o t) : Met l y ws rm Pc Qc' mc ms free := by
  intro p e a1 a2 a3 s m args below b1 b2 b3 b4
  obtain ⟨n, o, c1, c2, c3, c4, c5⟩ := h p e a1 a2 a3 s m args below b1 b2 b3 b4
  exact ⟨n, o, c1, c2, c3, hq _ _ _ _ b3 c4, c5⟩
theorem mo_Dfst {A : Nat → Prop} {a b : va_W} (he : a.map Prod.fst = b.map Prod.fst) (h : va_D A a) : va_D A b := by
  rw [mo_Dnd] at h ⊢
  refine ⟨by rw [← he]; exact h.1, fun q hq => ?_⟩
  have h1 : q.1 ∈ a.map Prod.fst := by rw [he]; exact List.mem_map.mpr ⟨q, hq, rfl⟩
  obtain ⟨z, hz, e⟩ := List.mem_map.mp h1
  rw [← e]
  exact h.2 z hz
def bs_A (ai : Nat → ClassId) (b bw : Nat) (f : Nat → Int32) : va_W := bs_C ai b bw (bu_of f) (fun _ => bw_of f)
theorem bs_Pn {G : va_G} {ai : Nat → ClassId} {b bw : Nat} {us : Int32} {wd : Nat → Int64} {w : Int64} {tl : va_W} {H : Heap} (hw : wd 0 = w) (h : va_P G mo_cl (bs_C ai b bw us wd ++ tl) H) : va_P G mo_cl (bs_C ai b bw us (fun _ => w) ++ tl) H := by
  intro k q hk
  match k, hk with
  | 0, hk => exact h 0 q hk
  | 1, hk =>
    cases hk
    have h1 := h 1 _ rfl
    show H[bw]? = some (vp_cell (ai 1) (1, .inr (.inl fun _ => w)))
    have e : vp_cell (ai 1) (1, .inr (.inl fun _ => w)) = vp_cell (ai 1) (1, .inr (.inl wd)) := by
      show arrV (ai 1) 1 (fun _ => .long w) = arrV (ai 1) 1 (fun j => .long (wd j))
      unfold arrV
      congr 2
      funext j
      have e0 : j.val = 0 := by omega
      show Value.long w = Value.long (wd j.val)
      rw [e0, hw]
    rw [e]
    exact h1
  | k + 2, hk => exact h (k + 2) q hk
section BA
variable {l : Launch} {G : va_G} {ai : Nat → ClassId} {s0 : State} {b0 : Addr} {b bw d dw : Nat} {tl : va_W} {f : Nat → Int32}
theorem wa_get (h0 : mo_S0 s0 b0) {q r : Int32} (h : bs_get f q = some r) : rd_Met l G ai s0 yJ0_get cJ0_get 3 (some .boolean) ({ frames := 1, cells := 0, slots := 0, locals := 20 } : Room) [.ref b, .int q] (bs_A ai b bw f ++ tl) (.int r) :=
  w_bs_get l G ai h0 (bu_of f) (fun _ => bw_of f) q r (e_get h)
theorem wa_v {y : MethodName} {cc : ByteArray} {nL : Nat} {rm : Room} {As : List Value} {w0 : va_W} {wd : Nat → Int64} {f' : Nat → Int32} (hw : wd 0 = bw_of f') (h : gz_Mv l G ai s0 (fun (u : Int32 × (Nat → Int64)) => bs_C ai b bw u.1 u.2 ++ tl) y cc nL rm As w0 (fun u => u = (bu_of f', wd)) 0 0) :
    gz_Mv l G ai s0 (fun g => bs_A ai b bw g ++ tl) y cc nL rm As w0 (fun g => g = f') 0 0 := by
  intro sz
  refine mo_mono (h sz) (fun a st o t _ hq => ?_)
  obtain ⟨⟨u, h1, rfl, h2, h3, h4⟩, h5⟩ := hq
  exact ⟨⟨f', h1, rfl, bs_Pn hw h2, h3, mo_Dfst (by exact rfl) h4⟩, h5⟩
theorem wa_set (h0 : mo_S0 s0 b0) {q : Int32} (hg : gi q 30 = true) : gz_Mv l G ai s0 (fun g => bs_A ai b bw g ++ tl) yJ0_set cJ0_set 3 ({ frames := 2, cells := 0, slots := 0, locals := 44 } : Room) [.ref b, .int q] (bs_A ai b bw f ++ tl) (fun g => g = upd f q.toNatClampNeg 1) 0 0 := by
  obtain ⟨wd, h1, h2⟩ := e_set (f := f) hg
  exact wa_v h2 (w_bs_set l G ai h0 (bu_of f) (fun _ => bw_of f) q 0 _ h1)
theorem wa_clr (h0 : mo_S0 s0 b0) {q : Int32} (hg : gi q 30 = true) : gz_Mv l G ai s0 (fun g => bs_A ai b bw g ++ tl) yJ0_clear_2 cJ0_clear_2 3 ({ frames := 1, cells := 0, slots := 0, locals := 21 } : Room) [.ref b, .int q] (bs_A ai b bw f ++ tl) (fun g => g = upd f q.toNatClampNeg 0) 0 0 := by
  obtain ⟨wd, h1, h2⟩ := e_clr (f := f) hg
  exact wa_v h2 (w_bs_clear_2 l G ai h0 (bu_of f) (fun _ => bw_of f) q 0 _ h1)
theorem wa_clear (h0 : mo_S0 s0 b0) : gz_Mv l G ai s0 (fun g => bs_A ai b bw g ++ tl) yJ0_clear cJ0_clear 1 ({ frames := 0, cells := 0, slots := 0, locals := 0 } : Room) [.ref b] (bs_A ai b bw f ++ tl) (fun g => g = fun _ => 0) 0 0 := by
  obtain ⟨wd, h1, h2⟩ := e_clear (f := f)
  exact wa_v h2 (w_bs_clear l G ai h0 (bu_of f) (fun _ => bw_of f) 0 _ h1)
/-- or, into an empty one -/
theorem wa_or (h0 : mo_S0 s0 b0) : gz_Mv l G ai s0 (fun g => bs_A ai b bw g ++ (bs_A ai d dw f ++ tl)) yJ0_or cJ0_or 4 ({ frames := 1, cells := 0, slots := 0, locals := 26 } : Room) [.ref b, .ref d] (bs_A ai b bw (fun _ => 0) ++ (bs_A ai d dw f ++ tl)) (fun g => g = f) 0 0 := by
  obtain ⟨wd, h1, h2⟩ := e_or (f := f)
  intro sz
  refine mo_mono (w_bs_or l G ai h0 (bu_of fun _ => 0) (fun _ => bw_of fun _ => 0) (bu_of f) (fun _ => bw_of f) 0 _ h1 sz) (fun a st o t _ hq => ?_)
  obtain ⟨⟨u, h3, rfl, h4, h5, h6⟩, h7⟩ := hq
  exact ⟨⟨f, h3, rfl, bs_Pn h2 h4, h5, mo_Dfst (by exact rfl) h6⟩, h7⟩
end BA

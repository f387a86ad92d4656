/-! A State: its cells by c : MS (row 0 its fields by number; 1 shade 2 moss 3 leaves 4 stones 5 traps 6..9 gardeners 10..12 moles 13 pairs) -/
set_option maxRecDepth 100000
def st_F (sa : Nat → Nat) (c : MS) : List Value := [.ref (sa 1), .ref (sa 2), .ref (sa 3), .ref (sa 4), .ref (sa 5), .ref (sa 6), .int (c 0 6), .ref (sa 7), .int (c 0 8), .ref (sa 8), .ref (sa 9), .int (c 0 11), .int (c 0 12), .int (c 0 13), .int (c 0 14), .int (c 0 15), .int (c 0 16), .int (c 0 17), .int (c 0 18)]
def st_G (g : Nat → Int32) : List Value := [.int (g 0), .int (g 1), .int (g 2), .int (g 3), .int (g 4)]
def st_M (g : Nat → Int32) : List Value := [.int (g 0), .int (g 1), .int (g 2)]
def st_C (ai : Nat → ClassId) (sa : Nat → Nat) (c : MS) : va_W := [(sa 0, .inr (2, st_F sa c)), (sa 1, .inl (ai 0, 30, .inl (c 1))), (sa 2, .inl (ai 0, 30, .inl (c 2))), (sa 3, .inl (ai 0, 30, .inl (c 3))), (sa 8, .inl (ai 0, 5, .inl (c 13))),
  (sa 6, .inl (ai 4, 4, .inr (.inr (.inr (.inr fun k => some (sa (10 + k))))))), (sa 7, .inl (ai 5, 3, .inr (.inr (.inr (.inr fun k => some (sa (14 + k))))))),
  (sa 10, .inr (3, st_G (c 6))), (sa 11, .inr (3, st_G (c 7))), (sa 12, .inr (3, st_G (c 8))), (sa 13, .inr (3, st_G (c 9))), (sa 14, .inr (4, st_M (c 10))), (sa 15, .inr (4, st_M (c 11))), (sa 16, .inr (4, st_M (c 12)))]
def st_W (ai : Nat → ClassId) (sa : Nat → Nat) (c : MS) (tl : va_W) : va_W := st_C ai sa c ++ (bs_A ai (sa 4) (sa 17) (c 4) ++ (bs_A ai (sa 5) (sa 18) (c 5) ++ tl))
theorem st_hg {ai : Nat → ClassId} {sa : Nat → Nat} {c : MS} {tl : va_W} : ∀ j, j < 4 → (st_W ai sa c tl)[7 + j]? = some (sa (10 + j), .inr (3, st_G (c (6 + j))))
  | 0, _ => rfl | 1, _ => rfl | 2, _ => rfl | 3, _ => rfl
  | j + 4, h => absurd h (by omega)
theorem st_hm {ai : Nat → ClassId} {sa : Nat → Nat} {c : MS} {tl : va_W} : ∀ j, j < 3 → (st_W ai sa c tl)[11 + j]? = some (sa (14 + j), .inr (4, st_M (c (10 + j))))
  | 0, _ => rfl | 1, _ => rfl | 2, _ => rfl
  | j + 3, h => absurd h (by omega)
theorem st_sg {ai : Nat → ClassId} {sa : Nat → Nat} {c : MS} {tl : va_W} {k : Nat} {x : Int32} (hk : k < 5) : ∀ j, j < 4 → (st_W ai sa c tl).set (7 + j) (sa (10 + j), .inr (3, (st_G (c (6 + j))).set k (.int x))) = st_W ai sa (rup c (6 + j) (upd (c (6 + j)) k x)) tl := by
  intro j hj
  match j, hj with
  | 0, _ => match k, hk with
    | 0, _ => rfl | 1, _ => rfl | 2, _ => rfl | 3, _ => rfl | 4, _ => rfl
  | 1, _ => match k, hk with
    | 0, _ => rfl | 1, _ => rfl | 2, _ => rfl | 3, _ => rfl | 4, _ => rfl
  | 2, _ => match k, hk with
    | 0, _ => rfl | 1, _ => rfl | 2, _ => rfl | 3, _ => rfl | 4, _ => rfl
  | 3, _ => match k, hk with
    | 0, _ => rfl | 1, _ => rfl | 2, _ => rfl | 3, _ => rfl | 4, _ => rfl
theorem st_sm {ai : Nat → ClassId} {sa : Nat → Nat} {c : MS} {tl : va_W} {k : Nat} {x : Int32} (hk : k < 3) : ∀ j, j < 3 → (st_W ai sa c tl).set (11 + j) (sa (14 + j), .inr (4, (st_M (c (10 + j))).set k (.int x))) = st_W ai sa (rup c (10 + j) (upd (c (10 + j)) k x)) tl := by
  intro j hj
  match j, hj with
  | 0, _ => match k, hk with
    | 0, _ => rfl | 1, _ => rfl | 2, _ => rfl
  | 1, _ => match k, hk with
    | 0, _ => rfl | 1, _ => rfl | 2, _ => rfl
  | 2, _ => match k, hk with
    | 0, _ => rfl | 1, _ => rfl | 2, _ => rfl
theorem st_p4 {ai : Nat → ClassId} {sa : Nat → Nat} {c : MS} {tl : va_W} : List.Perm (st_W ai sa c tl) (bs_A ai (sa 4) (sa 17) (c 4) ++ (st_C ai sa c ++ (bs_A ai (sa 5) (sa 18) (c 5) ++ tl))) := List.perm_append_comm_assoc _ _ _
theorem st_p5 {ai : Nat → ClassId} {sa : Nat → Nat} {c : MS} {tl : va_W} : List.Perm (st_W ai sa c tl) (bs_A ai (sa 5) (sa 18) (c 5) ++ (st_C ai sa c ++ (bs_A ai (sa 4) (sa 17) (c 4) ++ tl))) :=
  ((List.perm_append_comm_assoc (bs_A ai (sa 4) (sa 17) (c 4)) (bs_A ai (sa 5) (sa 18) (c 5)) tl).append_left (st_C ai sa c)).trans (List.perm_append_comm_assoc _ _ _)
theorem st_rcg {p : Program} {R : Room} {s : State} {m : MethodId} {args : Array Value} {meth : Method} {c : Code} {G : va_G} {ai : Nat → ClassId} {A : Nat → Prop} {own : String} {cc : ByteArray} {nL f L kc ks : Nat} {H : Heap} {locs : List Loc} {sa : Nat → Nat} {v : MS} {tl : va_W} {k : Int32} (hC : mo_C p R s m args meth c G ai A own cc nL f L kc ks) (hI : mo_I G A s.heap (st_W ai sa v tl) H locs) (hj : gi k 4 = true) : ∃ cell : Cell, H[sa (10 + k.toNatClampNeg)]? = some cell ∧ cell.vm.isStatics = false ∧ s.vm.findClass RX2 = some cell.cls := by
  obtain ⟨j, hj1, -, hc⟩ := gi_nI (by decide) hj
  rw [hc]
  exact va_recv hC.2.2.2.2.2.2.1 hI.1 (ci := 3) (q0 := 7 + j) rfl (st_hg j hj1)
theorem st_rcm {p : Program} {R : Room} {s : State} {m : MethodId} {args : Array Value} {meth : Method} {c : Code} {G : va_G} {ai : Nat → ClassId} {A : Nat → Prop} {own : String} {cc : ByteArray} {nL f L kc ks : Nat} {H : Heap} {locs : List Loc} {sa : Nat → Nat} {v : MS} {tl : va_W} {k : Int32} (hC : mo_C p R s m args meth c G ai A own cc nL f L kc ks) (hI : mo_I G A s.heap (st_W ai sa v tl) H locs) (hj : gi k 3 = true) : ∃ cell : Cell, H[sa (14 + k.toNatClampNeg)]? = some cell ∧ cell.vm.isStatics = false ∧ s.vm.findClass RX3 = some cell.cls := by
  obtain ⟨j, hj1, -, hc⟩ := gi_nI (by decide) hj
  rw [hc]
  exact va_recv hC.2.2.2.2.2.2.1 hI.1 (ci := 4) (q0 := 11 + j) rfl (st_hm j hj1)

/-! An overriding method whose class is not said to be initialised: its body walked at the call (the proof follows JvmDerived/Free/Laws.lean, Back.of_free', and AttainsCall.lean) -/
set_option maxRecDepth 100000
section NI
variable {p : Program} {l : Launch} {e : Env} {R : Room} {below : List Frame} {s : State} {sargs : Array Value} {y : MethodName}
/-- the walk of a body, from any invocation -/
def ni_Body (l : Launch) (y : MethodName) (cc : ByteArray) (maxL : Nat) (ret : Option FieldType) (rm : Room) (a : Array Value) (v : Value) : Prop :=
  ∀ (p : Program) (e : Env) (s : State) (m : MethodId) (below : List Frame) (meth : Method) (c : Code), p.tables.exec = Jvm.exec → c.code = cc → c.maxLocals = maxL → meth.sig.returnType = ret → meth.locks = false →
    W p l e rm s m a below meth c s.heap [] 0 0 (MQ below (rd_Q v) a s 0 0 (fun _ => False)) (entryFrame m a maxL)
theorem ni_back {cc : ByteArray} {maxL : Nat} {ret : Option FieldType} {rm : Room} {v : Value} {Pre : Pt → Array Value → Prop} (hexec : p.tables.exec = Jvm.exec) (hx : plainName y.cls = true) (hrc : rm.cells = 0) (hrs : rm.slots = 0)
    (hframes : rm.frames + 1 ≤ R.frames) (hlocals : 8 + (maxL + 11) + rm.locals ≤ R.locals)
    (hcode : ∀ a' U, s.WarmedH U.vm → (Cond.code y cc maxL ret).before a' U = true)
    (hpre : ∀ A a, Pre A a → A.cells ≤ R.cells ∧ A.slots ≤ R.slots ∧ ni_Body l y cc maxL ret rm a v) :
    Back l R p e below s sargs y 3 8 Pre (PostOf (rd_Q v) 0 0 (fun _ => False)) := by
  intro m meth c A g ig mk a X hg hsize hdg hW hn hp
  obtain ⟨h4, h5, hbody⟩ := hpre A a hp
  obtain ⟨U, Ls, c0, s0⟩ := A
  dsimp only [Pt.U, Pt.locs, Pt.cells, Pt.slots] at h4 h5 X hn ⊢
  obtain ⟨methY, cY, hmY, hcY, hbY, hlY, hretY, hlkY, -, -⟩ := Cond.code_spec hn (hcode a U X.warmed)
  have h : At U g.method c below := by rw [hg]; exact X.here
  obtain ⟨mid, hmid⟩ := h.above
  have hfr : (U.setTop g).frames = (.java g :: mid) ++ below := by rw [State.frames_setTop' g h.top, hmid]; rfl
  have hroom := X.room_calling (g := g) (m' := mk) (args' := a) (R' := rm) hsize hmY hcY hframes (by rw [hlY]; omega) (by rw [hrc]; omega) (by rw [hrs]; omega)
  have hf : (U.calling g mk a).frames = .invoking mk a :: (U.setTop g).frames := by rw [State.frames_calling h.top g mk a, State.frames_setTop' g h.top]
  have hcur := State.cur_lt_of_frames hf
  have hcodeg : (U.calling g mk a).code? g.method = some c := by
    have := h.code
    rw [State.code?_eq] at this ⊢
    simpa [State.calling, State.pushFrame, State.setFrames] using this
  have hhears : (U.calling g mk a).hears mk (U.setTop g).frames = true := by
    rw [State.frames_setTop' g h.top]
    simp [State.hears, hcodeg, hdg, Except.toOption]
  have hmeth : (U.calling g mk a).vm.method? mk = some methY := hmY
  have hname : (U.calling g mk a).methodNamed? y = some mk := hn
  have hf1 : ((U.calling g mk a).setFrames (.java (entryFrame mk a maxL) :: (U.setTop g).frames)).frames = .java (entryFrame mk a maxL) :: (U.setTop g).frames := State.frames_setFrames _ hcur
  have ht1 := State.topJava?_of_frames hf1
  have hplain : ((U.calling g mk a).setFrames (.java (entryFrame mk a maxL) :: (U.setTop g).frames)).plainMethod mk := by
    refine State.plainMethod.of_name ?_
    intro k hk
    obtain ⟨k', hk', hn'⟩ := className_of_methodNamed hname
    cases (show (U.calling g mk a).vm.classes[mk.cls]? = some k from hk).symm.trans hk'
    rw [hn']; exact hx
  have hAt : At ((U.calling g mk a).setFrames (.java (entryFrame mk a maxL) :: (U.setTop g).frames)) mk cY (U.setTop g).frames := by
    refine ⟨by rw [ht1]; rfl, ⟨[], by rw [hf1]; rfl⟩, h.running, ?_, ?_, ?_, hplain⟩
    · simpa [State.calling] using h.runnable
    · simpa [State.calling] using h.alone
    · rw [State.code?_eq]; simp [State.setFrames, hmeth, hcY]
  have hstep : (doInvoke e (U.setTop g) [] mk a).1 = ((U.calling g mk a).setFrames (.java (entryFrame mk a maxL) :: (U.setTop g).frames)).setTop (entryFrame mk a maxL) := by
    have hfull : e.platform.stackFull (((U.calling g mk a).setFrames (U.setTop g).frames).me) ((U.calling g mk a).setFrames (U.setTop g).frames).frames cY.maxLocals = false := by
      obtain ⟨-, h1, -, h2⟩ := State.hasRoom_stack hroom
      rw [hf, List.length_cons] at h1
      rw [State.localsInUse_invoking hf hmeth hcY] at h2
      have hw := stackUse_le_stackWeight (U.setTop g).frames
      rw [State.frames_setFrames _ hcur]
      exact Platform.stackFull_eq_false (by rw [State.stackLimits_setFrames]; omega) (by rw [State.stackLimits_setFrames]; omega)
    obtain ⟨t, ht⟩ : ∃ t, (U.setTop g).threads[(U.setTop g).cur]? = some t := by
      cases h9 : (U.setTop g).threads[(U.setTop g).cur]? with
      | some t => exact ⟨t, rfl⟩
      | none =>
        have h9' : (U.setTop g).threads[U.cur]? = none := h9
        have h8 : (U.setTop g).frames = [] := by simp [State.frames, h9']
        rw [hfr] at h8
        cases h8
    have hback : (U.calling g mk a).setFrames (U.setTop g).frames = U.setTop g := by
      show ((U.setTop g).pushFrame (.invoking mk a)).setFrames _ = _
      rw [State.pushFrame, State.setFrames_setFrames, State.setFrames_self ht]
    have h7 := (doInvoke_java (s := (U.calling g mk a).setFrames (U.setTop g).frames) (e := e) (acts := []) (args := a) (meth := methY) (code := cY) hmeth hcY hlkY hfull).1
    rw [hback] at h7
    rw [h7, State.setTop_self ht1]
    show (U.setTop g).setFrames _ = ((U.setTop g).pushFrame (.invoking mk a)).setFrames _
    simp only [State.pushFrame, State.setFrames_setFrames, hlY, entryFrame]
  have X0 : Stand p l e rm (U.calling g mk a) mk a (U.setTop g).frames methY cY ((U.calling g mk a).setFrames (.java (entryFrame mk a maxL) :: (U.setTop g).frames)) [] 0 0 := by
    obtain ⟨t, ht, -⟩ := State.frames_cons hf
    refine ⟨X.admits, X.cas, X.clock, hf, hroom, hhears, hmeth, hcY, hAt, by rw [hf1]; rfl, State.WarmedH.refl _, by rw [State.stackLimits_setFrames], by rw [State.stackBytes_setFrames], ?_⟩
    exact (State.sameButNew.refl (U.calling g mk a) ht).setFrames (.java (entryFrame mk a maxL) :: (U.setTop g).frames) hcur
  obtain ⟨s₂, ⟨k, hk1, hk2⟩, o, -, hend, hq, L, hfe, hL⟩ := hbody p e (U.calling g mk a) mk (U.setTop g).frames methY cY hexec hbY hlY hretY hlkY ((U.calling g mk a).setFrames (.java (entryFrame mk a maxL) :: (U.setTop g).frames)) rfl X0
  rw [← hstep] at hk1 hk2
  have hsteps : Steps p.tables e below (doInvoke e (U.setTop g) [] mk a).1 s₂ := ⟨k, hk1, fun j hj => by
    have h9 := hk2 j hj
    rw [hfr] at h9
    exact h9.weaken⟩
  rw [State.frames_setTop' g h.top] at hend
  obtain ⟨⟨v', rfl⟩, hW₂, e2, q2, q3, q4, q5, q6⟩ := id hfe
  have e3 : s₂ = ({ (U.calling g mk a).setFrames s₂.frames with heap := s₂.heap, slotsUsed := s₂.slotsUsed } : State).setVm s₂.vm := by
    have : s₂ = ({ s₂ with vm := (U.calling g mk a).vm } : State).setVm s₂.vm := rfl
    rw [e2] at this
    exact this
  obtain ⟨c₂, i₂, len₂, hc₂, hd₂, hf₂⟩ := hend
  have hW' : U.WarmedH s₂.vm := hW₂
  have hcc : c₂ = c := by
    have h1 : s₂.code? g.method = U.code? g.method := by
      rw [State.code?_eq, State.code?_eq, hW'.alike.method?]
    exact Option.some.inj (hc₂.symm.trans (h1.trans h.code))
  subst hcc
  have hlen : len₂ = 3 := by rw [hdg] at hd₂; cases hd₂; rfl
  subst hlen
  obtain ⟨g₀, hg0⟩ := Option.isSome_iff_exists.mp h.top
  obtain ⟨r, hr⟩ := State.topJava?_eq_some.mp hg0
  have hs₂ : s₂ = (({ U with heap := s₂.heap, slotsUsed := s₂.slotsUsed } : State).setVm s₂.vm).setTop { g with pc := g.pc + 3, stack := v'.toList ++ g.stack } := by
    have hr' : (({ U with heap := s₂.heap, slotsUsed := s₂.slotsUsed } : State).setVm s₂.vm).frames = .java g₀ :: r := hr
    refine e3.trans ?_
    rw [hf₂, State.calling_eq h.top, State.setFrames_setFrames, State.setTop_of_frames _ hr', hr]
    rfl
  have hsame : U.sameButNew ({ U with heap := s₂.heap, slotsUsed := s₂.slotsUsed } : State) L 0 0 := by
    refine ⟨?_, q2, q3, q4, q5, q6⟩
    obtain ⟨t, ht, -⟩ := State.frames_cons hr
    show ({ U with heap := s₂.heap, slotsUsed := s₂.slotsUsed } : State) = { U.setFrames U.frames with heap := s₂.heap, slotsUsed := s₂.slotsUsed }
    rw [State.setFrames_self ht]
  subst hg
  refine ⟨v', ⟨(({ U with heap := s₂.heap, slotsUsed := s₂.slotsUsed } : State).setVm s₂.vm), Ls ++ L, c0 + 0, s0 + 0⟩,
    ⟨X.admits, X.cas, X.clock, X.frames, X.room, X.hears, X.method, X.code, (X.here.setHeapUsed s₂.heap s₂.slotsUsed).setVm hW'.alike, X.tail, State.WarmedH.trans X.warmed hW', X.limits, X.bytes, X.same.trans (hsame.setVm s.vm)⟩,
    ⟨g, mk, s₂, L, rfl, rfl, hq, rfl, hL, rfl, rfl⟩, ?_⟩
  show Steps p.tables e below _ ((({ U with heap := s₂.heap, slotsUsed := s₂.slotsUsed } : State).setVm s₂.vm).setTop { g with pc := g.pc + 3, stack := v'.toList ++ g.stack })
  rw [← hs₂]
  exact hsteps
end NI

/-! Throwable.getCause(), which is synchronized -/
section XGS
variable {l : Launch} {R : Room} {p : Program} {e : Env} {below : List Frame} {s : State} {sargs : Array Value} {y : MethodName} {len W9 : Nat}
/-- a synchronized instance method over an object that nobody holds -/
theorem xs_of {ws ws' : List Cond} {rm : Room} {Pc : Array Value → State → Prop} {Qc : Array Value → State → Outcome → State → Prop} {XC : Nat → String → State → State → Prop} {mc ms : Nat} {free : Addr → Prop} {cc : ByteArray} {maxL : Nat} {ret : Option FieldType}
    (hy : plainName y.cls = true) (hw : ws = Cond.codeSync y cc maxL ret :: ws') (hin : Cond.instanceMethod y ∈ ws)
    (hrecv : ∀ (args : Array Value) (s : State), Pc args s → ∃ (a : Addr) (cell : Cell), args[0]? = some (.ref a) ∧ s.heap[a]? = some cell ∧ cell.monitor = {})
    (body : ∀ p e s m args below meth c a cell s₁, p.tables.exec = Jvm.exec → c.code = cc → meth.sig.returnType = ret → meth.locks = true → s.methodNamed? y = some m → (∀ w ∈ ws, w.before args s = true) → args[0]? = some (.ref a) → s.heap[a]? = some cell → cell.enterable s.cur → s₁.heap = (s.setCell a (cell.withEntry s.cur)).heap →
      c.maxLocals = maxL → Pc args s → Stand p l e rm (s.setCell a (cell.withEntry s.cur)) m args below meth c s₁ [] 0 0 → s₁.vm.method? m = some meth →
      ∃ t o, Steps p.tables e below (s₁.setTop (entryFrameSync m args maxL a)) t ∧ t.status = .running ∧ Ended t below o ∧ xx_Q Qc XC mc ms free args s o t) : xx_Met l y ws rm Pc Qc XC mc ms free := by
  intro p e ha hc hk s m args below hf happ hP _
  obtain ⟨hrun, hable, halone, hname, hhears, hinit, hroom, hpre⟩ := (Spec.appliesLoose_iff hf).mp happ
  have hall := atoms_spec (ws := ws) hpre
  obtain ⟨meth, c, hmeth, hcode, hbytes, hlocals, hret, hlocks, -, -⟩ := Cond.codeSync_spec hname (hall _ (by rw [hw]; exact List.mem_cons_self))
  obtain ⟨m', meth', hn', hm', hst, -⟩ := Cond.instanceMethod_spec (hall _ hin)
  cases hname.symm.trans hn'
  cases hmeth.symm.trans hm'
  obtain ⟨a, cell, harg, hcell, hmon⟩ := hrecv args s hP
  have hent : cell.enterable s.cur := Or.inl ⟨by rw [hmon], by rw [hmon]⟩
  have hcur := State.cur_lt_of_frames hf
  obtain ⟨s₁, hs₁⟩ : ∃ s₁, s₁ = (s.setCell a (cell.withEntry s.cur)).setFrames (.java (entryFrameSync m args maxL a) :: below) := ⟨_, rfl⟩
  have hcur' : (s.setCell a (cell.withEntry s.cur)).cur < (s.setCell a (cell.withEntry s.cur)).threads.size := hcur
  have hf1 : s₁.frames = .java (entryFrameSync m args maxL a) :: below := by rw [hs₁]; exact State.frames_setFrames _ hcur'
  have ht1 := State.topJava?_of_frames hf1
  have hvm1 : s₁.vm = s.vm := by rw [hs₁]; rfl
  have hplain : s₁.plainMethod m := by
    refine State.plainMethod.of_name fun k hk => ?_
    obtain ⟨k', hk', hn⟩ := className_of_methodNamed hname
    rw [hvm1] at hk
    cases hk.symm.trans hk'
    rw [hn]; exact hy
  have hAt : At s₁ m c below := by
    refine ⟨by rw [ht1]; rfl, ⟨[], by rw [hf1]; rfl⟩, by rw [hs₁]; exact hrun, by rw [hs₁]; simpa using hable, by rw [hs₁]; simpa using halone, ?_, hplain⟩
    rw [State.code?_eq, hvm1, hmeth]
    exact hcode
  have X : Stand p l e rm (s.setCell a (cell.withEntry s.cur)) m args below meth c s₁ [] 0 0 := by
    obtain ⟨t, ht, -⟩ := State.frames_cons hf
    refine ⟨ha, hc, hk, hf, by rw [State.hasRoom_setCell (x := cell.withEntry s.cur) hcell rfl]; exact hroom, hhears, hmeth, hcode, hAt, by rw [hf1]; rfl, by rw [hvm1]; exact State.WarmedH.refl (s.setCell a (cell.withEntry s.cur)), by rw [hs₁, State.stackLimits_setFrames], by rw [hs₁, State.stackBytes_setFrames], ?_⟩
    have h := (State.sameButNew.refl (s.setCell a (cell.withEntry s.cur)) (x := t) ht).setFrames (.java (entryFrameSync m args maxL a) :: below) hcur
    rw [hs₁]
    exact h
  obtain ⟨t, o, b1, b2, b3, b4⟩ := body p e s m args below meth c a cell s₁ (by cases p <;> rfl) hbytes hret hlocks hname hall harg hcell hent (by rw [hs₁]; rfl) hlocals hP X (by rw [hvm1]; exact hmeth)
  have hstep : (stepThread p.tables e s).1 = s₁.setTop (entryFrameSync m args maxL a) := by
    have hfull : e.platform.stackFull (s.setFrames below).me (s.setFrames below).frames (c.maxLocals + 2) = false := by
      obtain ⟨-, h1, -, h2⟩ := State.hasRoom_stack hroom
      rw [hf, List.length_cons] at h1
      rw [State.localsInUse_invoking hf hmeth hcode] at h2
      have hw := stackUse_le_stackWeight below
      rw [State.frames_setFrames _ hcur]
      simp only [vmFrameWords] at h2
      exact Platform.stackFull_eq_false (by rw [State.stackLimits_setFrames]; omega) (by rw [State.stackLimits_setFrames]; omega)
    rw [stepThread_invoking hf, (doInvoke_java_sync (s := s.setFrames below) (e := e) (meth := meth) (code := c) (a := a) (cell := cell) hmeth hcode hlocks hst harg hcell hent.either hfull).1, State.setTop_self ht1, hlocals, hs₁]
    show (((s.setFrames below).setCell a (cell.withEntry s.cur)).setFrames (.java (entryFrameSync m args maxL a) :: ((s.setFrames below).setCell a (cell.withEntry s.cur)).frames)) = _
    rw [show ((s.setFrames below).setCell a (cell.withEntry s.cur)).frames = below from State.frames_setFrames _ hcur, State.setCell_setFrames, State.setFrames_setFrames]
  obtain ⟨n, hn, hw'⟩ := Steps.head (tb := p.tables) (e := e) ⟨hrun, hable, halone⟩ ⟨[.invoking m args], hf, by simp, by simp⟩ (hstep ▸ b1)
  exact ⟨n, o, hw', hn ▸ b2, hn ▸ b3, hn ▸ b4⟩
end XGS
section XGB
variable {l : Launch} {R : Room} {p : Program} {e : Env} {below : List Frame} {s : State} {sargs : Array Value} {y : MethodName} {len W9 : Nat}
theorem xs_back {ws : List Cond} {rm : Room} {Pc : Array Value → State → Prop} {Qc : Array Value → State → Outcome → State → Prop} {XC : Nat → String → State → State → Prop} {mc ms : Nat} {free : Addr → Prop} {bytes : ByteArray} {maxL : Nat} {ret : Option FieldType}
    (hM : xx_Met l y ws rm Pc Qc XC mc ms free) (hblind : FrameBlind Pc) (hrc : rm.cells = mc) (hrs : rm.slots = ms)
    (hframes : rm.frames + 1 ≤ R.frames) (hlocals : W9 + (maxL + 11) + rm.locals ≤ R.locals)
    (hws : ∀ w ∈ ws, ∀ a' U, s.WarmedH U.vm → w.before a' U = true) (hcode : Cond.codeSync y bytes maxL ret ∈ ws) (hinit : ∀ a' U, s.WarmedH U.vm → (Cond.initialized y.cls).before a' U = true) :
    xx_Back l R p e below s sargs y len W9 (PreOf R mc ms Pc) (PostOf Qc mc ms free) (xx_Post XC mc ms free) := by
  intro m meth c A g ig mk a X hg hsize hdg hW hn hp
  have h1 : (headSpec ws rm).pre.before a A.U = true := atoms_intro fun w hw => hws w hw _ _ X.warmed
  have h2 : (Cond.codeSync y bytes maxL ret).before a A.U = true := hws _ hcode _ _ X.warmed
  have h3 : (Cond.initialized y.cls).before a A.U = true := hinit _ _ X.warmed
  have h4 : A.cells + (headSpec ws rm).room.cells ≤ R.cells := by rw [show (headSpec ws rm).room.cells = mc from hrc]; exact hp.1
  have h5 : A.slots + (headSpec ws rm).room.slots ≤ R.slots := by rw [show (headSpec ws rm).room.slots = ms from hrs]; exact hp.2.1
  have hPc : Pc a (A.U.calling g mk a) := hblind _ _ _ _ hp.2.2
  obtain ⟨U, Ls, c0, s0⟩ := A
  dsimp only [Pt.U, Pt.locs, Pt.cells, Pt.slots] at h1 h2 h3 h4 h5 X hn hPc ⊢
  obtain ⟨methY, cY, hmY, hcY, -, hlY, -, -, -, -⟩ := Cond.codeSync_spec hn h2
  obtain ⟨kY, hkY, -⟩ := className_of_methodNamed hn
  have hinitY : kY.init = .initialized := Cond.initialized_spec (findClass_of_methodNamed hn) hkY h3
  have h : At U g.method c below := by rw [hg]; exact X.here
  have hlocals9 : W9 + (maxL + 11) + (headSpec ws rm).room.locals ≤ R.locals := hlocals
  have happ : (headSpec ws rm).appliesLoose y e.platform (U.calling g mk a) = true :=
    Spec.appliesLoose_calling (g := g) h hdg hn hkY hinitY
      (X.room_calling (g := g) (R' := (headSpec ws rm).room) hsize hmY hcY hframes (by rw [hlY]; omega) h4 h5) h1
  obtain ⟨mid, hmid⟩ := h.above
  have hfr : (U.setTop g).frames = (.java g :: mid) ++ below := by rw [State.frames_setTop' g h.top, hmid]; rfl
  obtain ⟨o, s₂, hsteps, -, hend, hq⟩ := Steps.callFree hM p X.admits X.cas X.clock (acts := []) hfr happ hPc trivial
  have hq' : xx_Q Qc XC mc ms free a (U.calling g mk a) o s₂ := hq
  rw [State.frames_setTop' g h.top] at hend
  obtain ⟨g₀, hg0⟩ := Option.isSome_iff_exists.mp h.top
  obtain ⟨r, hr⟩ := State.topJava?_eq_some.mp hg0
  have hr' : (({ U with heap := s₂.heap, slotsUsed := s₂.slotsUsed } : State).setVm s₂.vm).frames = .java g₀ :: r := hr
  rcases hq' with ⟨hqc, L, hfe, hL⟩ | ⟨q, rfl, E, ce, L, hx, hce, hcv, hcl, hW₂, hsm, hL⟩
  · obtain ⟨⟨v, rfl⟩, hW₂, e2, q2, q3, q4, q5, q6⟩ := id hfe
    have e3 : s₂ = ({ (U.calling g mk a).setFrames s₂.frames with heap := s₂.heap, slotsUsed := s₂.slotsUsed } : State).setVm s₂.vm := by
      have : s₂ = ({ s₂ with vm := (U.calling g mk a).vm } : State).setVm s₂.vm := rfl
      rw [e2] at this
      exact this
    obtain ⟨c₂, i₂, len₂, hc₂, hd₂, hf₂⟩ := hend
    have hW' : U.WarmedH s₂.vm := hW₂
    have hcc : c₂ = c := by
      have h1 : s₂.code? g.method = U.code? g.method := by
        rw [State.code?_eq, State.code?_eq, hW'.alike.method?]
      exact Option.some.inj (hc₂.symm.trans (h1.trans h.code))
    subst hcc
    have hlen : len₂ = len := by rw [hdg] at hd₂; cases hd₂; rfl
    subst hlen
    have hs₂ : s₂ = (({ U with heap := s₂.heap, slotsUsed := s₂.slotsUsed } : State).setVm s₂.vm).setTop { g with pc := g.pc + len₂, stack := v.toList ++ g.stack } := by
      refine e3.trans ?_
      rw [hf₂, State.calling_eq h.top, State.setFrames_setFrames, State.setTop_of_frames _ hr', hr]
      rfl
    have hsame : U.sameButNew ({ U with heap := s₂.heap, slotsUsed := s₂.slotsUsed } : State) L mc ms := by
      refine ⟨?_, q2, q3, q4, q5, q6⟩
      obtain ⟨t, ht, -⟩ := State.frames_cons hr
      show ({ U with heap := s₂.heap, slotsUsed := s₂.slotsUsed } : State) = { U.setFrames U.frames with heap := s₂.heap, slotsUsed := s₂.slotsUsed }
      rw [State.setFrames_self ht]
    subst hg
    refine Or.inl ⟨v, ⟨(({ U with heap := s₂.heap, slotsUsed := s₂.slotsUsed } : State).setVm s₂.vm), Ls ++ L, c0 + mc, s0 + ms⟩,
      ⟨X.admits, X.cas, X.clock, X.frames, X.room, X.hears, X.method, X.code, (X.here.setHeapUsed s₂.heap s₂.slotsUsed).setVm hW'.alike, X.tail, State.WarmedH.trans X.warmed hW', X.limits, X.bytes, X.same.trans (hsame.setVm s.vm)⟩,
      ⟨g, mk, s₂, L, rfl, rfl, hqc, rfl, hL, rfl, rfl⟩, ?_⟩
    show Steps p.tables e below _ ((({ U with heap := s₂.heap, slotsUsed := s₂.slotsUsed } : State).setVm s₂.vm).setTop { g with pc := g.pc + len₂, stack := v.toList ++ g.stack })
    rw [← hs₂]
    exact hsteps
  · obtain ⟨e2, q2, q3, q4, q5, q6⟩ := id hsm
    have e3 : s₂ = ({ (U.calling g mk a).setFrames s₂.frames with heap := s₂.heap, slotsUsed := s₂.slotsUsed } : State).setVm s₂.vm := by
      have : s₂ = ({ s₂ with vm := (U.calling g mk a).vm } : State).setVm s₂.vm := rfl
      rw [e2] at this
      exact this
    have hf₂ : s₂.frames = .throwing q :: .java g :: U.frames.tail := hend
    have hW' : U.WarmedH s₂.vm := hW₂
    have hs₂ : s₂ = ((({ U with heap := s₂.heap, slotsUsed := s₂.slotsUsed } : State).setVm s₂.vm).setTop g).pushFrame (.throwing q) := by
      refine e3.trans ?_
      rw [hf₂, State.calling_eq h.top, State.setFrames_setFrames, State.pushFrame, State.frames_setTop _ hr', State.setTop_of_frames _ hr', State.setFrames_setFrames, hr]
      rfl
    have hsame : U.sameButNew ({ U with heap := s₂.heap, slotsUsed := s₂.slotsUsed } : State) L mc ms := by
      refine ⟨?_, q2, q3, q4, q5, q6⟩
      obtain ⟨t, ht, -⟩ := State.frames_cons hr
      show ({ U with heap := s₂.heap, slotsUsed := s₂.slotsUsed } : State) = { U.setFrames U.frames with heap := s₂.heap, slotsUsed := s₂.slotsUsed }
      rw [State.setFrames_self ht]
    subst hg
    refine Or.inr ⟨q, ⟨(({ U with heap := s₂.heap, slotsUsed := s₂.slotsUsed } : State).setVm s₂.vm), Ls ++ L, c0 + mc, s0 + ms⟩,
      ⟨X.admits, X.cas, X.clock, X.frames, X.room, X.hears, X.method, X.code, (X.here.setHeapUsed s₂.heap s₂.slotsUsed).setVm hW'.alike, X.tail, State.WarmedH.trans X.warmed hW', X.limits, X.bytes, X.same.trans (hsame.setVm s.vm)⟩,
      ⟨g, mk, s₂, L, E, ce, rfl, rfl, hx, hce, hcv, hcl, rfl, hL, rfl, rfl⟩, ?_⟩
    show Steps p.tables e below _ (((({ U with heap := s₂.heap, slotsUsed := s₂.slotsUsed } : State).setVm s₂.vm).setTop g).pushFrame (.throwing q))
    rw [← hs₂]
    exact hsteps
end XGB
section XGR
variable {p : Program} {l : Launch} {e : Env} {R : Room} {s : State} {m : MethodId} {args : Array Value} {below : List Frame} {meth : Method} {c : Code} {H : Heap} {locs : List Loc} {cells slots : Nat}
theorem xs_runU {x : MethodName} {C owner : String} {b : Addr} {y : MethodName} {bytes cc : ByteArray} {maxL nL mc ms n index : Nat} {ret : Option FieldType} {ws : List Cond} {rm : Room} {Pc : Array Value → State → Prop} {Qc : Array Value → State → Outcome → State → Prop} {XC : Nat → String → State → State → Prop} {free : Addr → Prop} {Ts : List Cond} {own : String} {As rest : List Value} {g : JFrame}
    (S : CallFix p m c cc nL s args Ts own) (hM : xx_Met l y ws rm Pc Qc XC mc ms free) (hrc : rm.cells = mc) (hrs : rm.slots = ms) (hfr : rm.frames + 1 ≤ R.frames) (hlo : 8 + (maxL + 11) + rm.locals ≤ R.locals) (hws : ∀ w ∈ ws, ∀ (a' : Array Value) (U : State), s.WarmedH U.vm → w.before a' U = true) (hcw : Cond.codeSync y bytes maxL ret ∈ ws) (hini : (Cond.initialized y.cls).before args s = true) (hlk : (Cond.methodLink own index x).before args s = true) (hsm : (Cond.sameMethod x.cls owner x.name x.desc).before args s = true) (hdc : va_Decl s ⟨owner, x.name, x.desc⟩) (how : owner ≠ "java/lang/invoke/MethodHandle" ∧ owner ≠ "java/lang/invoke/VarHandle") (hse : (Cond.selects C x y).before args s = true) (hin : (Cond.instanceMethod y).before args s = true) (hlen : ∀ sig, parseMethodDescriptor x.desc = some sig → n = sig.parameters.length) (hp : PreV s H C b Pc As)
    (hg : g.method = m) (hn : As.length = n) (hsize : g.locals.size = nL) (hstack : g.stack = As.reverse ++ .ref b :: rest) (hW : 2 * g.monitorRoom + (rest.map fun v => v.category).sum ≤ 8) (hdg : decode cc g.pc = .ok (.invokevirtual index, 3)) (hf : cells + mc ≤ R.cells ∧ slots + ms ≤ R.slots) :
    xx_Run p l e R s m args below meth c H locs cells slots mc ms g rest (Qc (Value.ref b :: As).toArray) XC free := by
  have hK : xx_Back l R p e below s args y 3 8 (PreOf R mc ms Pc) (PostOf Qc mc ms free) (xx_Post XC mc ms free) := xs_back (bytes := bytes) (maxL := maxL) (ret := ret) hM hp.1 hrc hrs hfr hlo hws hcw (fun a' U hW => word_at hW (Or.inl (by first | rfl | simp [Cond.onTables, Cond.keeps, Cond.steady])) hini)
  obtain ⟨hx, hb, hml, ho, -⟩ := S
  obtain ⟨-, ⟨cellB, hcB, hoB, hclB⟩, hPc⟩ := hp
  intro T hT X
  rcases xx_callVUX X hx (C := C) (owner := owner) ho hlk hsm hdc how hse hin hK (by rw [hT]; exact hcB) hoB hclB hg (hsize.trans hml.symm) (argsL := As) (rest := rest) (fun sig h => hn.trans (hlen sig h)) hstack hW (by rw [hb]; exact hdg)
    (fun vm₁ hW₁ => ⟨hf.1, hf.2, hPc (T.setVm vm₁) hT hW₁⟩) with ⟨v, vm₁, ⟨U', l2, c2, s2⟩, hW₁, X', ⟨g', mk, t, L, e1, e2, hq, h1, hL, h2, h3⟩, st⟩ | ⟨q, vm₁, ⟨U', l2, c2, s2⟩, hW₁, X', ⟨g', mk, t, L, E, ce, e1, e2, hq, hce, hcv, hcl, h1, hL, h2, h3⟩, st⟩
  · dsimp only [Pt.U, Pt.locs, Pt.cells, Pt.slots] at X' e1 e2 h1 h2 h3 st
    subst h1; subst h2; subst h3
    exact Or.inl ⟨v, (T.setVm vm₁).calling g' mk (Value.ref b :: As).toArray, t, U', L, hT, X', hL, e1, e2, hq, st⟩
  · dsimp only [Pt.U, Pt.locs, Pt.cells, Pt.slots] at X' e1 e2 h1 h2 h3 st hcl
    subst h1; subst h2; subst h3
    exact Or.inr ⟨q, (T.setVm vm₁).calling g' mk (Value.ref b :: As).toArray, t, U', L, E, ce, hT, X', hL, e1, e2, hq, hce, hcv, xx_cls hW₁ hcl, st⟩
end XGR
def gcY : MethodName := ⟨"java/lang/Throwable", "getCause", "()Ljava/lang/Throwable;"⟩
def gcB : ByteArray := prog_66_method_8_code
theorem gc_d0 : decode gcB 0 = .ok (.aload_n 0, 1) := by decide +kernel
theorem gc_d1 : decode gcB 1 = .ok (.getfield 7, 3) := by decide +kernel
theorem gc_d4 : decode gcB 4 = .ok (.aload_n 0, 1) := by decide +kernel
theorem gc_d5 : decode gcB 5 = .ok (.if_acmp .ne 7, 3) := by decide +kernel
theorem gc_d12 : decode gcB 12 = .ok (.aload_n 0, 1) := by decide +kernel
theorem gc_d13 : decode gcB 13 = .ok (.getfield 7, 3) := by decide +kernel
theorem gc_d16 : decode gcB 16 = .ok (.areturn, 1) := by decide +kernel
theorem gc_met {G : xG} {h : xH} {a : Nat} {o : Option Nat} (l : Launch) (ca : xcls h a = 15) (hv : xval h a 0 = xr o) (hne : o ≠ some a) :
    xx_Met l gcY (Cond.codeSync gcY gcB 1 (some (.object "java/lang/Throwable")) :: lw_all) ({ frames := 0, cells := 0, slots := 0, locals := 0 } : Room) (va_Pc ([xr (some a)].map toV) (fun U => xGC G (xlo h) U ∧ xRel G.1 h U U.heap)) (xQc G (xlo h) (fun r h' => r = .inl (some (xr o)) ∧ h' = h)) (xXC G (xlo h) (fun r h' => r = .inl (some (xr o)) ∧ h' = h)) 0 0 (fun q => xlo h ≤ q) := by
  have hc : vwCl[14]? = some _ := hcX9
  have hlo : xlo h ≤ a := xcls_lo ca (by decide) rfl
  refine xs_of (by decide) rfl (List.mem_cons_of_mem _ q2940) (fun args s hP => ?_) ?_
  · obtain ⟨rfl, hG, hR⟩ := hP
    obtain ⟨cell, q1, q2, q3, q4, q5, q6⟩ := (hR.2 a).1 14 _ ca hc
    exact ⟨a, cell, rfl, q1, (q5 hlo).2⟩
  · intro p e s m args below meth c a' cell s₁ hx hb hret hlocks hname hall harg hcell hent hh1 hml hP X hm1
    obtain ⟨rfl, hG, hR⟩ := hP
    cases harg
    obtain ⟨cell0, q1, q2, q3, q4, q5, q6⟩ := (hR.2 a).1 14 _ ca hc
    cases Option.some.inj (hcell.symm.trans q1)
    obtain ⟨hS', hfc, kC, hkC, hkind⟩ := hG.kn.1 14 _ hc
    obtain ⟨cf, kf', fi, f, hi, hsl⟩ := hS' 0 (by decide)
    have hst := (u_facts hfc hkC (u_lays (fun w hw => hall w (List.mem_cons_of_mem _ hw)) in_X9 (by decide)) hi).1
    have hv0 : cell.slots[f.slot]? = some (toV (xr o)) := by rw [hsl, q6 0 (by decide), hv]
    have hfl : (Cond.fieldLink "java/lang/Throwable" 7 "java/lang/Throwable" "cause" "Ljava/lang/Throwable;").before ([xr (some a)].map toV).toArray (s.setCell a (cell.withEntry s.cur)) = true := va_tabs (A := ([xr (some a)].map toV).toArray) (u := s) rfl rfl (hall _ (List.mem_cons_of_mem _ q893))
    have hown : (s.setCell a (cell.withEntry s.cur)).vm.findClass "java/lang/Throwable" = some m.cls := findClass_of_methodNamed hname
    have hi' : (s.setCell a (cell.withEntry s.cur)).fieldFound? "java/lang/Throwable" "cause" "Ljava/lang/Throwable;" = some (cf, kf', fi, f) := hi
    have hcA : s₁.heap[a]? = some (cell.withEntry s.cur) := by rw [hh1]; exact State.heap_setCell_self hcell
    obtain ⟨vm1, X1, st1⟩ := X.getfield hx hown hfl hi' hst hcA q3 hv0 (g := { method := m, pc := 1, locals := #[.val (.ref a)], stack := [.ref a], locked := some a, monitorRoom := 1 }) rfl (rest := []) rfl (by rw [hb]; exact gc_d1)
    obtain ⟨T1, hT1⟩ : ∃ T1, T1 = s₁.setVm vm1 := ⟨_, rfl⟩
    rw [← hT1] at X1 st1
    have hA1 : T1.heap[a]? = some (cell.withEntry s.cur) := by rw [hT1]; exact hcA
    obtain ⟨vm2, X2, st2⟩ := X1.getfield hx hown hfl hi' hst hA1 q3 hv0 (g := { method := m, pc := 13, locals := #[.val (.ref a)], stack := [.ref a], locked := some a, monitorRoom := 1 }) rfl (rest := []) rfl (by rw [hb]; exact gc_d13)
    obtain ⟨T2, hT2⟩ : ∃ T2, T2 = T1.setVm vm2 := ⟨_, rfl⟩
    rw [← hT2] at X2 st2
    have hA2 : T2.heap[a]? = some (cell.withEntry s.cur) := by rw [hT2]; exact hA1
    have hh2 : T2.heap = s₁.heap := by rw [hT2, hT1]; rfl
    obtain ⟨fs, cT, hcT, hr, hrun, hend, hW, hsm⟩ := X2.leaveSync hcell hent hlocks (v := some (toV (xr o))) (fun z => by rw [hret] at z; cases z)
    have ecT : cT = cell.withEntry s.cur := Option.some.inj (hcT.symm.trans hA2)
    subst ecT
    rw [Cell.left_withEntry' hent] at hr hrun hend hW hsm
    have hmeth2 : T2.vm.method? m = some meth := X2.method'
    have hheap : ((T2.setCell a cell).setFrames fs).heap = s.heap := by
      show T2.heap.setIfInBounds a cell = s.heap
      rw [hh2, hh1]
      show (s.heap.setIfInBounds a _).setIfInBounds a cell = s.heap
      rw [Array.setIfInBounds_setIfInBounds]
      apply Array.ext_getElem?
      intro j
      rw [Array.getElem?_setIfInBounds]
      split
      · rename_i e
        subst e
        rw [if_pos (Array.getElem?_eq_some_iff.mp hcell).1, hcell]
      · rfl
    refine ⟨(T2.setCell a cell).setFrames fs, .returned (some (toV (xr o))), ?_, hrun, hend, Or.inl ⟨⟨some (xr o), h, rfl, ⟨rfl, rfl⟩, ?_, rfl, ?_⟩, [], ⟨⟨_, rfl⟩, hW, hsm⟩, fun q hq => by cases hq⟩⟩
    · show Steps p.tables e below (s₁.setTop { method := m, pc := 0, locals := #[.val (.ref a)], stack := [], locked := some a, monitorRoom := 1 }) _
      jvm_step X.here [hx, hb, gc_d0, Value.isRef]
      refine st1 _ ?_
      jvm_step X1.here [X1.here.top, hx, hb, gc_d4, Value.isRef]
      have fin : Steps p.tables e below (T1.setTop { method := m, pc := 12, locals := #[.val (.ref a)], stack := [], locked := some a, monitorRoom := 1 }) ((T2.setCell a cell).setFrames fs) := by
        jvm_step X1.here [X1.here.top, hx, hb, gc_d12, Value.isRef]
        refine st2 _ ?_
        cases o with
        | none =>
          jvm_step X2.here [X2.here.top, hx, hb, gc_d16, hmeth2, hret, toV, va_rf]
          refine ⟨rfl, rfl, fun acts => ?_⟩
          have S : ∀ z, z = (T2.setCell a cell).setFrames fs → Steps p.tables e below z ((T2.setCell a cell).setFrames fs) := fun z hz => by rw [hz]; exact Steps.refl _
          exact S _ (hr { method := m, pc := 16, locals := #[.val (.ref a)], stack := [], locked := some a, monitorRoom := 1 } acts rfl rfl rfl)
        | some b =>
          jvm_step X2.here [X2.here.top, hx, hb, gc_d16, hmeth2, hret, toV, va_rf]
          refine ⟨rfl, rfl, fun acts => ?_⟩
          have S : ∀ z, z = (T2.setCell a cell).setFrames fs → Steps p.tables e below z ((T2.setCell a cell).setFrames fs) := fun z hz => by rw [hz]; exact Steps.refl _
          exact S _ (hr { method := m, pc := 16, locals := #[.val (.ref a)], stack := [], locked := some a, monitorRoom := 1 } acts rfl rfl rfl)
      cases o with
      | none =>
        jvm_step X1.here [X1.here.top, hx, hb, gc_d5, toV, Value.asRef?, Op.if_acmp.holds]
        refine ⟨none, rfl, ?_⟩
        rw [if_neg (by intro z; cases z)]
        exact fin
      | some b =>
        have hab : b ≠ a := fun z => hne (by rw [z])
        jvm_step X1.here [X1.here.top, hx, hb, gc_d5, toV, Value.asRef?, Op.if_acmp.holds]
        refine ⟨some b, rfl, ?_⟩
        rw [if_neg (fun z => hab (Option.some.inj z))]
        exact fin
    · rw [hheap]
      exact hR.moved hW.alike
    · exact ⟨by rw [hheap]; exact Nat.le_refl _, fun q _ _ => by rw [hheap]⟩
section XGW
variable {G : xG} {M : xM} {d K : Nat} {Q : xR → xH → Prop} {k pc : Nat} {L : List (Option xV)} {st : List xV} {h : xH}
theorem xw_getCause {a idx : Nat} {o : Option Nat} (hd : decode M.2.2.1 pc = .ok (.invokevirtual idx, 3)) (hlk : Cond.methodLink M.1 idx ⟨"HamletWells$Refused", "getCause", "()Ljava/lang/Throwable;"⟩ ∈ lw_all) (hdp : 1 ≤ d) (hcat : (st.map xcat).sum ≤ 8) (ca : xcls h a = 15) (hv : xval h a 0 = xr o) (hne : o ≠ some a)
    (kk : xWp G M d K Q k (pc + 3) L (xr o :: st) h) : xWp G M d K Q k pc L (xr (some a) :: st) h := by
  intro p l e R s m args below meth c H locs cells slots ls hs h1 h2 hS hR hL
  have hrm := hs.room
  have hws : ∀ w ∈ (Cond.codeSync gcY gcB 1 (some (.object "java/lang/Throwable")) :: lw_all), ∀ (a' : Array Value) (U : State), s.WarmedH U.vm → w.before a' U = true := pay_in hs.words (fun w hw => by
    rcases List.mem_cons.mp hw with z | z
    · rw [z]; exact lw_self _ q2941
    · exact lw_self _ z)
  obtain ⟨cellB, hcB1, hcB2, hcB3⟩ := xcell (ci := 14) hs.gc hR hcX9 ca
  refine xrun (P := fun r h' => r = .inl (some (xr o)) ∧ h' = h) (k' := 0) (rest := st) (aa := ([xr (some a)].map toV).toArray) hs h1 h2 hS hL (Nat.zero_le _) ?_ (fun v h' hq => ?_) (fun q h' hq => ?_)
  · exact xs_runU (H := H) (Pc := va_Pc ([xr (some a)].map toV) (fun U => xGC G (xlo h) U ∧ xRel G.1 h U U.heap)) (As := []) (rest := st.map toV) (b := a) (C := "HamletWells$Refused") (owner := "java/lang/Throwable") (maxL := 1) (x := ⟨"HamletWells$Refused", "getCause", "()Ljava/lang/Throwable;"⟩) ⟨hs.exec, hs.bytes, hs.maxl, hs.own, hs.words⟩ (rm := ({ frames := 0, cells := 0, slots := 0, locals := 0 } : Room)) (gc_met l ca hv hne) rfl rfl (by show 0 + 1 ≤ R.frames; omega) (by show 8 + (1 + 11) + 0 ≤ R.locals; omega) hws List.mem_cons_self (hs.words _ q123) (hs.words _ hlk) (hs.words _ q2937) (va_Decl.abs (hs.gc.tb _ q2938 rfl)) (by decide) (hs.words _ q2939) (hs.words _ q2940) (n := 0) (by decide +kernel) ⟨xBlind, ⟨cellB, hcB1, hcB2, hcB3⟩, fun U hU hW => ⟨(show (Value.ref a :: ([] : List Value)).toArray = ([xr (some a)].map toV).toArray from rfl), xPre rfl hs.gc hS hR hU hW⟩⟩ rfl rfl (hL.1.trans rfl) rfl (xcatsum hcat) hd ⟨by omega, by omega⟩
  · obtain ⟨e1, e2⟩ := hq
    cases e1
    subst e2
    exact kk
  · exact absurd hq.1 (by intro z; cases z)
end XGW
theorem vcs_X0_reason {G : xG} {d K : Nat} {Q : xR → xH → Prop} {h : xH} {this : Nat} {x1 : Int32} {x2 : Int32}
    (hvc : xCall G d K mX0_in [xi x1, xi (0 : Int32), xi (1 : Int32)] h (xkI (fun n3 h1 k2 => ((¬ n3 = 0 → xcls h1 this = 1 ∧ ∃ o4 : Option Nat, xval h1 this 3 = xr o4 ∧ ((∀ a5, o4 = some a5 → ((¬ x1 = 0 → xcls h1 this = 1 ∧ ∃ o6 : Option Nat, xval h1 this 3 = xr o6 ∧ ∃ a7, o6 = some a7 ∧ 1 ≤ d ∧ xcls h1 a7 = 15 ∧ ∃ o8 : Option Nat, xval h1 a7 0 = xr o8 ∧ o8 ≠ some a7 ∧ ((o8 = none ∧ (((0 : Int32) = 0 → Q (.inl (some (xi (-6 : Int32)))) h1) ∧ (¬ (0 : Int32) = 0 → ((x2 = 0 → False) ∧ (¬ x2 = 0 → False))))) ∨ (∃ a9, o8 = some a9 ∧ xcls h1 a9 = 15 ∧ (((1 : Int32) = 0 → Q (.inl (some (xi (-6 : Int32)))) h1) ∧ (¬ (1 : Int32) = 0 → (∀ b, (some a9) = some b → xcls h1 b ∈ cst_HamletWells_Refused) ∧ ((x2 = 0 → xcls h1 a9 = 15 ∧ ∃ n10 : Int32, xval h1 a9 6 = xi n10 ∧ Q (.inl (some (xi n10))) h1) ∧ (¬ x2 = 0 → xcls h1 a9 = 15 ∧ ∃ n11 : Int32, xval h1 a9 7 = xi n11 ∧ Q (.inl (some (xi n11))) h1))))) ∨ (∃ a9, o8 = some a9 ∧ xcls h1 a9 = 16 ∧ (((0 : Int32) = 0 → Q (.inl (some (xi (-6 : Int32)))) h1) ∧ (¬ (0 : Int32) = 0 → (∀ b, (some a9) = some b → xcls h1 b ∈ cst_HamletWells_Refused) ∧ ((x2 = 0 → xcls h1 a9 = 15 ∧ ∃ n12 : Int32, xval h1 a9 6 = xi n12 ∧ Q (.inl (some (xi n12))) h1) ∧ (¬ x2 = 0 → xcls h1 a9 = 15 ∧ ∃ n13 : Int32, xval h1 a9 7 = xi n13 ∧ Q (.inl (some (xi n13))) h1))))))) ∧ (x1 = 0 → xcls h1 this = 1 ∧ ∃ o14 : Option Nat, xval h1 this 3 = xr o14 ∧ ((o14 = none ∧ (((0 : Int32) = 0 → Q (.inl (some (xi (-6 : Int32)))) h1) ∧ (¬ (0 : Int32) = 0 → ((x2 = 0 → False) ∧ (¬ x2 = 0 → False))))) ∨ (∃ a15, o14 = some a15 ∧ xcls h1 a15 = 15 ∧ (((1 : Int32) = 0 → Q (.inl (some (xi (-6 : Int32)))) h1) ∧ (¬ (1 : Int32) = 0 → (∀ b, (some a15) = some b → xcls h1 b ∈ cst_HamletWells_Refused) ∧ ((x2 = 0 → xcls h1 a15 = 15 ∧ ∃ n16 : Int32, xval h1 a15 6 = xi n16 ∧ Q (.inl (some (xi n16))) h1) ∧ (¬ x2 = 0 → xcls h1 a15 = 15 ∧ ∃ n17 : Int32, xval h1 a15 7 = xi n17 ∧ Q (.inl (some (xi n17))) h1))))) ∨ (∃ a15, o14 = some a15 ∧ xcls h1 a15 = 16 ∧ (((0 : Int32) = 0 → Q (.inl (some (xi (-6 : Int32)))) h1) ∧ (¬ (0 : Int32) = 0 → (∀ b, (some a15) = some b → xcls h1 b ∈ cst_HamletWells_Refused) ∧ ((x2 = 0 → xcls h1 a15 = 15 ∧ ∃ n18 : Int32, xval h1 a15 6 = xi n18 ∧ Q (.inl (some (xi n18))) h1) ∧ (¬ x2 = 0 → xcls h1 a15 = 15 ∧ ∃ n19 : Int32, xval h1 a15 7 = xi n19 ∧ Q (.inl (some (xi n19))) h1))))))))) ∧ (o4 = none → Q (.inl (some (xi (-3 : Int32)))) h1))) ∧ (n3 = 0 → Q (.inl (some (xi (-2 : Int32)))) h1))) (fun q h _ => Q (.inr q) h))) : xCn G mX0_reason d K [xr (some this), xi x1, xi x2] h Q := by
  refine xCn_of px_X0_reason rfl rfl (Nat.le_of_ble_eq_true rfl) ?_
  show xWp G mX0_reason d K Q K 0 [some (xr (some this)), some (xi x1), some (xi x2), none, none] [] h
  refine xw_iload_n dX0_reason_0 rfl ?_
  refine xw_iconst (0 : Int32) dX0_reason_1 (by decide) ?_
  refine xw_iconst (1 : Int32) dX0_reason_2 (by decide) ?_
  obtain ⟨d9, k9, hd9, hk9, hC9⟩ := hvc
  refine xw_callS dX0_reason_3 px_X0_in pm_X0_in q384 q385 (As := [xi x1, xi (0 : Int32), xi (1 : Int32)]) (rest := []) rfl rfl (Nat.le_of_ble_eq_true rfl) hd9 hk9 hC9 (xkI_n fun n3 h1 hvc => ?_) (fun q h hq => xTh_out0 rfl hq)
  refine xw_if_ne 12 dX0_reason_6 rfl (fun hc => ?_) (fun hc => ?_)
  · replace hvc := hvc.1 hc
    refine xw_aload_n dX0_reason_12 rfl ?_
    obtain ⟨hcK, o4, hvK, hvc⟩ := hvc
    refine xw_get dX0_reason_13 hcX0 in_X0 (kf := 3) (by decide) q326 (fun _ _ _ _ z => z) hcK hvK ?_
    refine xw_ifnonnull 22 dX0_reason_16 rfl (fun a5 hc => ?_) (fun hc => ?_)
    · replace hvc := hvc.1 _ hc
      subst hc
      refine xw_iload_n dX0_reason_22 rfl ?_
      refine xw_if_ne 33 dX0_reason_23 rfl (fun hc => ?_) (fun hc => ?_)
      · replace hvc := hvc.1 hc
        refine xw_aload_n dX0_reason_33 rfl ?_
        obtain ⟨hcK, o6, hvK, hvc⟩ := hvc
        refine xw_get dX0_reason_34 hcX0 in_X0 (kf := 3) (by decide) q326 (fun _ _ _ _ z => z) hcK hvK ?_
        obtain ⟨a7, ho, hvc⟩ := hvc
        subst ho
        obtain ⟨hd9, hca, o8, hv9, hn9, hvc⟩ := hvc
        refine xw_getCause dX0_reason_37 q2936 hd9 (Nat.le_of_ble_eq_true rfl) hca hv9 hn9 ?_
        refine xw_astore_n dX0_reason_40 (Nat.le_of_ble_eq_true rfl) (L9 := [some (xr (some this)), some (xi x1), some (xi x2), some (xr o8), none]) rfl ?_
        refine xw_aload_n dX0_reason_41 rfl ?_
        rcases hvc with ⟨ho, hvc⟩ | ⟨a9, ho, hcK, hvc⟩ | ⟨a9, ho, hcK, hvc⟩
        · subst ho
          refine xw_instN dX0_reason_42 ?_
          refine xw_if_eq 72 dX0_reason_45 rfl (fun hc => ?_) (fun hc => ?_)
          · replace hvc := hvc.1 hc
            refine xw_bipush (-6 : Int32) dX0_reason_72 (by decide) ?_
            exact xw_iret dX0_reason_74 rfl hvc
          · replace hvc := hvc.2 hc
            refine xw_aload_n dX0_reason_48 rfl ?_
            refine xw_castN dX0_reason_49 ?_
            refine xw_astore dX0_reason_52 (Nat.le_of_ble_eq_true rfl) (L9 := [some (xr (some this)), some (xi x1), some (xi x2), some (xr none), some (xr none)]) rfl ?_
            refine xw_iload_n dX0_reason_54 rfl ?_
            refine xw_if_eq 66 dX0_reason_55 rfl (fun hc => ?_) (fun hc => ?_)
            · replace hvc := hvc.1 hc
              refine xw_aload dX0_reason_66 rfl ?_
              exact hvc.elim
            · replace hvc := hvc.2 hc
              refine xw_aload dX0_reason_58 rfl ?_
              exact hvc.elim
        · subst ho
          refine xw_instY dX0_reason_42 q1122 hcX9 hcK (Or.inl rfl) ?_
          refine xw_if_eq 72 dX0_reason_45 rfl (fun hc => ?_) (fun hc => ?_)
          · replace hvc := hvc.1 hc
            refine xw_bipush (-6 : Int32) dX0_reason_72 (by decide) ?_
            exact xw_iret dX0_reason_74 rfl hvc
          · replace hvc := hvc.2 hc
            refine xw_aload_n dX0_reason_48 rfl ?_
            obtain ⟨hcs, hvc⟩ := hvc
            refine xw_castC dX0_reason_49 q1122 (fun b hb => cst_HamletWells_Refused_ok _ (hcs b hb)) ?_
            refine xw_astore dX0_reason_52 (Nat.le_of_ble_eq_true rfl) (L9 := [some (xr (some this)), some (xi x1), some (xi x2), some (xr (some a9)), some (xr (some a9))]) rfl ?_
            refine xw_iload_n dX0_reason_54 rfl ?_
            refine xw_if_eq 66 dX0_reason_55 rfl (fun hc => ?_) (fun hc => ?_)
            · replace hvc := hvc.1 hc
              refine xw_aload dX0_reason_66 rfl ?_
              obtain ⟨hcK, n10, hvK, hvc⟩ := hvc
              refine xw_getN dX0_reason_68 hcX9 in_X9 (kf := 6) (by decide) q1144 (fun _ _ _ _ z => z) hcK hvK ?_
              exact xw_iret dX0_reason_71 rfl hvc
            · replace hvc := hvc.2 hc
              refine xw_aload dX0_reason_58 rfl ?_
              obtain ⟨hcK, n11, hvK, hvc⟩ := hvc
              refine xw_getN dX0_reason_60 hcX9 in_X9 (kf := 7) (by decide) q1146 (fun _ _ _ _ z => z) hcK hvK ?_
              refine xw_goto 71 dX0_reason_63 rfl ?_
              exact xw_iret dX0_reason_71 rfl hvc
        · subst ho
          refine xw_instNo dX0_reason_42 q1122 hcX10 hcK List.mem_cons_self ?_
          refine xw_if_eq 72 dX0_reason_45 rfl (fun hc => ?_) (fun hc => ?_)
          · replace hvc := hvc.1 hc
            refine xw_bipush (-6 : Int32) dX0_reason_72 (by decide) ?_
            exact xw_iret dX0_reason_74 rfl hvc
          · replace hvc := hvc.2 hc
            refine xw_aload_n dX0_reason_48 rfl ?_
            obtain ⟨hcs, hvc⟩ := hvc
            refine xw_castC dX0_reason_49 q1122 (fun b hb => cst_HamletWells_Refused_ok _ (hcs b hb)) ?_
            refine xw_astore dX0_reason_52 (Nat.le_of_ble_eq_true rfl) (L9 := [some (xr (some this)), some (xi x1), some (xi x2), some (xr (some a9)), some (xr (some a9))]) rfl ?_
            refine xw_iload_n dX0_reason_54 rfl ?_
            refine xw_if_eq 66 dX0_reason_55 rfl (fun hc => ?_) (fun hc => ?_)
            · replace hvc := hvc.1 hc
              refine xw_aload dX0_reason_66 rfl ?_
              obtain ⟨hcK, n12, hvK, hvc⟩ := hvc
              refine xw_getN dX0_reason_68 hcX9 in_X9 (kf := 6) (by decide) q1144 (fun _ _ _ _ z => z) hcK hvK ?_
              exact xw_iret dX0_reason_71 rfl hvc
            · replace hvc := hvc.2 hc
              refine xw_aload dX0_reason_58 rfl ?_
              obtain ⟨hcK, n13, hvK, hvc⟩ := hvc
              refine xw_getN dX0_reason_60 hcX9 in_X9 (kf := 7) (by decide) q1146 (fun _ _ _ _ z => z) hcK hvK ?_
              refine xw_goto 71 dX0_reason_63 rfl ?_
              exact xw_iret dX0_reason_71 rfl hvc
      · replace hvc := hvc.2 hc
        refine xw_aload_n dX0_reason_26 rfl ?_
        obtain ⟨hcK, o14, hvK, hvc⟩ := hvc
        refine xw_get dX0_reason_27 hcX0 in_X0 (kf := 3) (by decide) q326 (fun _ _ _ _ z => z) hcK hvK ?_
        refine xw_goto 40 dX0_reason_30 rfl ?_
        refine xw_astore_n dX0_reason_40 (Nat.le_of_ble_eq_true rfl) (L9 := [some (xr (some this)), some (xi x1), some (xi x2), some (xr o14), none]) rfl ?_
        refine xw_aload_n dX0_reason_41 rfl ?_
        rcases hvc with ⟨ho, hvc⟩ | ⟨a15, ho, hcK, hvc⟩ | ⟨a15, ho, hcK, hvc⟩
        · subst ho
          refine xw_instN dX0_reason_42 ?_
          refine xw_if_eq 72 dX0_reason_45 rfl (fun hc => ?_) (fun hc => ?_)
          · replace hvc := hvc.1 hc
            refine xw_bipush (-6 : Int32) dX0_reason_72 (by decide) ?_
            exact xw_iret dX0_reason_74 rfl hvc
          · replace hvc := hvc.2 hc
            refine xw_aload_n dX0_reason_48 rfl ?_
            refine xw_castN dX0_reason_49 ?_
            refine xw_astore dX0_reason_52 (Nat.le_of_ble_eq_true rfl) (L9 := [some (xr (some this)), some (xi x1), some (xi x2), some (xr none), some (xr none)]) rfl ?_
            refine xw_iload_n dX0_reason_54 rfl ?_
            refine xw_if_eq 66 dX0_reason_55 rfl (fun hc => ?_) (fun hc => ?_)
            · replace hvc := hvc.1 hc
              refine xw_aload dX0_reason_66 rfl ?_
              exact hvc.elim
            · replace hvc := hvc.2 hc
              refine xw_aload dX0_reason_58 rfl ?_
              exact hvc.elim
        · subst ho
          refine xw_instY dX0_reason_42 q1122 hcX9 hcK (Or.inl rfl) ?_
          refine xw_if_eq 72 dX0_reason_45 rfl (fun hc => ?_) (fun hc => ?_)
          · replace hvc := hvc.1 hc
            refine xw_bipush (-6 : Int32) dX0_reason_72 (by decide) ?_
            exact xw_iret dX0_reason_74 rfl hvc
          · replace hvc := hvc.2 hc
            refine xw_aload_n dX0_reason_48 rfl ?_
            obtain ⟨hcs, hvc⟩ := hvc
            refine xw_castC dX0_reason_49 q1122 (fun b hb => cst_HamletWells_Refused_ok _ (hcs b hb)) ?_
            refine xw_astore dX0_reason_52 (Nat.le_of_ble_eq_true rfl) (L9 := [some (xr (some this)), some (xi x1), some (xi x2), some (xr (some a15)), some (xr (some a15))]) rfl ?_
            refine xw_iload_n dX0_reason_54 rfl ?_
            refine xw_if_eq 66 dX0_reason_55 rfl (fun hc => ?_) (fun hc => ?_)
            · replace hvc := hvc.1 hc
              refine xw_aload dX0_reason_66 rfl ?_
              obtain ⟨hcK, n16, hvK, hvc⟩ := hvc
              refine xw_getN dX0_reason_68 hcX9 in_X9 (kf := 6) (by decide) q1144 (fun _ _ _ _ z => z) hcK hvK ?_
              exact xw_iret dX0_reason_71 rfl hvc
            · replace hvc := hvc.2 hc
              refine xw_aload dX0_reason_58 rfl ?_
              obtain ⟨hcK, n17, hvK, hvc⟩ := hvc
              refine xw_getN dX0_reason_60 hcX9 in_X9 (kf := 7) (by decide) q1146 (fun _ _ _ _ z => z) hcK hvK ?_
              refine xw_goto 71 dX0_reason_63 rfl ?_
              exact xw_iret dX0_reason_71 rfl hvc
        · subst ho
          refine xw_instNo dX0_reason_42 q1122 hcX10 hcK List.mem_cons_self ?_
          refine xw_if_eq 72 dX0_reason_45 rfl (fun hc => ?_) (fun hc => ?_)
          · replace hvc := hvc.1 hc
            refine xw_bipush (-6 : Int32) dX0_reason_72 (by decide) ?_
            exact xw_iret dX0_reason_74 rfl hvc
          · replace hvc := hvc.2 hc
            refine xw_aload_n dX0_reason_48 rfl ?_
            obtain ⟨hcs, hvc⟩ := hvc
            refine xw_castC dX0_reason_49 q1122 (fun b hb => cst_HamletWells_Refused_ok _ (hcs b hb)) ?_
            refine xw_astore dX0_reason_52 (Nat.le_of_ble_eq_true rfl) (L9 := [some (xr (some this)), some (xi x1), some (xi x2), some (xr (some a15)), some (xr (some a15))]) rfl ?_
            refine xw_iload_n dX0_reason_54 rfl ?_
            refine xw_if_eq 66 dX0_reason_55 rfl (fun hc => ?_) (fun hc => ?_)
            · replace hvc := hvc.1 hc
              refine xw_aload dX0_reason_66 rfl ?_
              obtain ⟨hcK, n18, hvK, hvc⟩ := hvc
              refine xw_getN dX0_reason_68 hcX9 in_X9 (kf := 6) (by decide) q1144 (fun _ _ _ _ z => z) hcK hvK ?_
              exact xw_iret dX0_reason_71 rfl hvc
            · replace hvc := hvc.2 hc
              refine xw_aload dX0_reason_58 rfl ?_
              obtain ⟨hcK, n19, hvK, hvc⟩ := hvc
              refine xw_getN dX0_reason_60 hcX9 in_X9 (kf := 7) (by decide) q1146 (fun _ _ _ _ z => z) hcK hvK ?_
              refine xw_goto 71 dX0_reason_63 rfl ?_
              exact xw_iret dX0_reason_71 rfl hvc
    · replace hvc := hvc.2 hc
      subst hc
      refine xw_bipush (-3 : Int32) dX0_reason_19 (by decide) ?_
      exact xw_iret dX0_reason_21 rfl hvc
  · replace hvc := hvc.2 hc
    refine xw_bipush (-2 : Int32) dX0_reason_9 (by decide) ?_
    exact xw_iret dX0_reason_11 rfl hvc

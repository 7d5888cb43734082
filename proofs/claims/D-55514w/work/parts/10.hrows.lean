section XHR
variable {G : xG} {M : xM} {d K : Nat} {Q : xR → xH → Prop} {k pc : Nat} {L : List (Option xV)} {st : List xV} {h : xH}
theorem xSit.exec {lo : Nat} {p R s m args meth c} (hs : xSit G lo d K M p R s m args meth c) : p.tables.exec = Jvm.exec := hs.1
theorem xSit.bytes {lo : Nat} {p R s m args meth c} (hs : xSit G lo d K M p R s m args meth c) : c.code = M.2.2.1 := hs.2.1
theorem xSit.maxl {lo : Nat} {p R s m args meth c} (hs : xSit G lo d K M p R s m args meth c) : c.maxLocals = M.2.2.2.1 := hs.2.2.1
theorem xSit.ret {lo : Nat} {p R s m args meth c} (hs : xSit G lo d K M p R s m args meth c) : meth.sig.returnType = M.2.2.2.2.1 := hs.2.2.2.1
theorem xSit.locks {lo : Nat} {p R s m args meth c} (hs : xSit G lo d K M p R s m args meth c) : meth.locks = false := hs.2.2.2.2.1
theorem xSit.own {lo : Nat} {p R s m args meth c} (hs : xSit G lo d K M p R s m args meth c) : s.vm.findClass M.1 = some m.cls := hs.2.2.2.2.2.1
theorem xSit.name {lo : Nat} {p R s m args meth c} (hs : xSit G lo d K M p R s m args meth c) : meth.name = M.2.1.name := hs.2.2.2.2.2.2.1
theorem xSit.words {lo : Nat} {p R s m args meth c} (hs : xSit G lo d K M p R s m args meth c) : ∀ w ∈ lw_all, w.before args s = true := hs.2.2.2.2.2.2.2.1
theorem xSit.gc {lo : Nat} {p R s m args meth c} (hs : xSit G lo d K M p R s m args meth c) : xGC G lo s := hs.2.2.2.2.2.2.2.2.1
theorem xSit.table {lo : Nat} {p R s m args meth c} (hs : xSit G lo d K M p R s m args meth c) : c.exceptionTable.toList = tableOf M.2.2.2.2.2 := hs.2.2.2.2.2.2.2.2.2.1
theorem xSit.room {lo : Nat} {p R s m args meth c} (hs : xSit G lo d K M p R s m args meth c) : d ≤ R.frames ∧ 60 * d ≤ R.locals ∧ K ≤ R.cells ∧ K ≤ R.slots := hs.2.2.2.2.2.2.2.2.2.2
theorem xGC.kn {lo : Nat} {s : State} (g : xGC G lo s) : va_K G.1 vwCl [] s := g.2.1
theorem xGC.tb {lo : Nat} {s : State} (g : xGC G lo s) : ∀ w ∈ lw_tbl, xmv w = true → va_Nw w s := g.2.2.1
/-- an object's cell and its class -/
theorem xcell {s : State} {H : Heap} {lo a ci : Nat} {r : vw_C} (hG : xGC G lo s) (hR : xRel G.1 h s H) (hc : vwCl[ci]? = some r) (hcls : xcls h a = ci + 1) : ∃ cell : Cell, H[a]? = some cell ∧ cell.vm.isStatics = false ∧ s.vm.findClass r.1 = some cell.cls := by
  obtain ⟨cell, q1, q2, q3, q4, -⟩ := (hR.2 a).1 ci r hcls hc
  exact ⟨cell, q1, q4, by rw [q2]; exact (hG.kn.1 ci r hc).2.1⟩
theorem x_fcls {s : State} {cls name desc : String} {c i : Nat} {k : Class} {f : Field} (h : s.fieldFound? cls name desc = some (c, k, i, f)) : s.vm.classes[c]? = some k := by
  unfold State.fieldFound? at h
  simp only [Option.bind_eq_bind, Option.bind_eq_some_iff, Option.pure_def, Option.some.injEq, Prod.mk.injEq] at h
  obtain ⟨_, _, _, _, ⟨c2, i2⟩, _, k2, h2, f2, _, rfl, rfl, rfl, rfl⟩ := h
  exact h2
theorem x_apart0 {args : Array Value} {s : State} {C O f d O' f' d' : String} (h : (Cond.laysFinal C O f d).before args s = true) (h' : (Cond.laysFinal C O' f' d').before args s = true)
    {cf kf fi fd cf' kf' fi' fd'} (hi : s.fieldFound? O f d = some (cf, kf, fi, fd)) (hi' : s.fieldFound? O' f' d' = some (cf', kf', fi', fd')) (hne : O ≠ O') : fd.slot ≠ fd'.slot := by
  obtain ⟨c1, k1, a1, b1, i1, f1, g1, -, g3, -, -, -, g7, -, d1, g9, g10, -⟩ := Cond.laysFinal_spec h
  obtain ⟨c2, k2, a2, b2, i2, f2, e1, -, e3, -, -, -, e7, -, d2, e9, e10, -⟩ := Cond.laysFinal_spec h'
  cases g1.symm.trans e1
  cases hi.symm.trans g3
  cases hi'.symm.trans e3
  intro z
  rw [z] at g9
  cases g9.symm.trans e9
  obtain ⟨kk1, m1, n1⟩ := Vm.findClass_spec g7
  obtain ⟨kk2, m2, n2⟩ := Vm.findClass_spec e7
  cases (x_fcls hi).symm.trans m1
  cases (x_fcls hi').symm.trans m2
  exact hne (n1.symm.trans (g10.symm.trans (e10.trans n2)))
theorem x_apart {s : State} {args : Array Value} {C : String} {T : u_T} {N ci : Nat} {Ts : List Cond} {D : va_G} (hts : ∀ w ∈ Ts, w.before args s = true) (hin : ∀ w ∈ u_ws C T N, w ∈ Ts) (ty : Nat → FieldType) (hty : ∀ k, k < N → parseFieldDescriptor (T k).2.2.1 = some (ty k)) (hnm : ∀ a, a < N → ∀ b, b < N → a ≠ b → (T a).2.1 ≠ (T b).2.1 ∨ ((T a).2.2.2 = true ∧ (T b).2.2.2 = true ∧ (T a).1 ≠ (T b).1)) (hK : va_K D vwCl [] s) (hc : vwCl[ci]? = some (C, T, N)) : ∀ x y, x < N → y < N → x ≠ y → (D.2 ci) x ≠ (D.2 ci) y := by
  intro x y hx hy hne
  obtain ⟨hS, -⟩ := hK.1 ci _ hc
  obtain ⟨_, _, _, fa, hia, ea⟩ := hS x hx
  obtain ⟨_, _, _, fb, hib, eb⟩ := hS y hy
  rw [← ea, ← eb]
  rcases hnm x hx y hy hne with hn | ⟨t1, t2, hn⟩
  · refine u_apart (u_lays hts hin hx) (u_lays hts hin hy) hia hib ?_
    rw [(State.fieldFound?_type hia (hty x hx)).1, (State.fieldFound?_type hib (hty y hy)).1]
    exact hn
  · have l1 := hts _ (hin _ (u_in_lay hx))
    have l2 := hts _ (hin _ (u_in_lay hy))
    unfold u_lay at l1 l2
    rw [if_pos t1] at l1
    rw [if_pos t2] at l2
    exact x_apart0 l1 l2 hia hib hn
theorem xnar_r (t : FieldType) (ht : t.isReference = true) (o : Option Nat) : narrow t (toV (xr o)) = toV (xr o) ∧ fits t (toV (xr o)) = true := by
  cases t <;> first | (exact absurd ht (by decide)) | (cases o <;> exact ⟨rfl, rfl⟩)

theorem xw_get {a ci kf N idx : Nat} {C ref : String} {T : u_T} {v : xV} (hd : decode M.2.2.1 pc = .ok (.getfield idx, 3)) (hc : vwCl[ci]? = some (C, T, N)) (hin : ∀ w ∈ u_ws C T N, w ∈ lw_all) (hk : kf < N) (hl : Cond.fieldLink M.1 idx ref (T kf).2.1 (T kf).2.2.1 ∈ lw_all) (hsm : ∀ (s : State) (args : Array Value), (∀ w ∈ lw_all, w.before args s = true) → ∀ x, s.fieldFound? (T kf).1 (T kf).2.1 (T kf).2.2.1 = some x → s.fieldFound? ref (T kf).2.1 (T kf).2.2.1 = some x) (hcls : xcls h a = ci + 1) (hv : xval h a kf = v) (kk : xWp G M d K Q k (pc + 3) L (v :: st) h) : xWp G M d K Q k pc L (xr (some a) :: st) h := by
  intro p l e R s m args below meth c H locs cells slots ls hs h1 h2 hS hR hL
  obtain ⟨cell, q1, q2, q3, q4, q5, q6⟩ := (hR.2 a).1 ci _ hcls hc
  obtain ⟨hS', hfc, kC, hkC, hkind⟩ := hs.gc.kn.1 ci _ hc
  obtain ⟨cf, kf', fi, f, hi, hsl⟩ := hS' kf hk
  refine W.getf hs.exec hs.bytes hs.own (hs.words _ hl) (hsm _ _ hs.words _ hi) (u_facts hfc hkC (u_lays hs.words hin hk) hi).1 q1 q3 (v := toV v) ?_ rfl rfl hd (kk p l e R s m args below meth c H locs cells slots ls hs h1 h2 hS hR hL)
  rw [hsl, q6 kf hk, hv]

theorem xw_getN {a ci kf N idx : Nat} {C ref host : String} {T : u_T} {v : xV} (hd : decode M.2.2.1 pc = .ok (.getfield idx, 3)) (hc : vwCl[ci]? = some (C, T, N)) (hin : ∀ w ∈ u_ws C T N, w ∈ lw_all) (hk : kf < N) (hl : Cond.fieldLinkNest M.1 idx ref (T kf).2.1 (T kf).2.2.1 host ∈ lw_tbl) (hsm : ∀ (s : State) (args : Array Value), (∀ w ∈ lw_all, w.before args s = true) → ∀ x, s.fieldFound? (T kf).1 (T kf).2.1 (T kf).2.2.1 = some x → s.fieldFound? ref (T kf).2.1 (T kf).2.2.1 = some x) (hcls : xcls h a = ci + 1) (hv : xval h a kf = v) (kk : xWp G M d K Q k (pc + 3) L (v :: st) h) : xWp G M d K Q k pc L (xr (some a) :: st) h := by
  intro p l e R s m args below meth c H locs cells slots ls hs h1 h2 hS hR hL
  obtain ⟨cell, q1, q2, q3, q4, q5, q6⟩ := (hR.2 a).1 ci _ hcls hc
  obtain ⟨hS', hfc, kC, hkC, hkind⟩ := hs.gc.kn.1 ci _ hc
  obtain ⟨cf, kf', fi, f, hi, hsl⟩ := hS' kf hk
  refine va_Wgetf hs.exec hs.bytes hs.own (va_Nw.use rfl (hs.gc.tb _ hl rfl)) (hsm _ _ hs.words _ hi) (u_facts hfc hkC (u_lays hs.words hin hk) hi).1 q1 q3 (v := toV v) ?_ rfl rfl hd (kk p l e R s m args below meth c H locs cells slots ls hs h1 h2 hS hR hL)
  rw [hsl, q6 kf hk, hv]

theorem xw_put {a ci kf N idx : Nat} {C ref : String} {T : u_T} {ty0 : Nat → FieldType} {v : xV} (hd : decode M.2.2.1 pc = .ok (.putfield idx, 3)) (hc : vwCl[ci]? = some (C, T, N)) (hin : ∀ w ∈ u_ws C T N, w ∈ lw_all) (hty : ∀ k, k < N → parseFieldDescriptor (T k).2.2.1 = some (ty0 k)) (hnm : ∀ a, a < N → ∀ b, b < N → a ≠ b → (T a).2.1 ≠ (T b).2.1 ∨ ((T a).2.2.2 = true ∧ (T b).2.2.2 = true ∧ (T a).1 ≠ (T b).1)) (hk : kf < N) (hl : Cond.fieldLink M.1 idx ref (T kf).2.1 (T kf).2.2.1 ∈ lw_all) (hsm : ∀ (s : State) (args : Array Value), (∀ w ∈ lw_all, w.before args s = true) → ∀ x, s.fieldFound? (T kf).1 (T kf).2.1 (T kf).2.2.1 = some x → s.fieldFound? ref (T kf).2.1 (T kf).2.2.1 = some x) (hfin : (T kf).2.2.2 = false) (hn : narrow (ty0 kf) (toV v) = toV v) (hf : fits (ty0 kf) (toV v) = true) (hcls : xcls h a = ci + 1) (hlo : xbo (ci + 1) = false ∨ xlo h ≤ a) (kk : ∀ h' : xH, h' = xput h a kf v → xWp G M d K Q k (pc + 3) L st h') : xWp G M d K Q k pc L (v :: xr (some a) :: st) h := by
  intro p l e R s m args below meth c H locs cells slots ls hs h1 h2 hS hR hL
  obtain ⟨cell, q1, q2, q3, q4, q5, q6⟩ := (hR.2 a).1 ci _ hcls hc
  obtain ⟨hS', hfc, kC, hkC, hkind⟩ := hs.gc.kn.1 ci _ hc
  obtain ⟨cf, kf', fi, f, hi, hsl⟩ := hS' kf hk
  have hap := x_apart hs.words hin ty0 hty hnm hs.gc.kn hc
  have ha : xlo h ≤ a := hlo.elim (fun z => xcls_lo hcls (Nat.succ_ne_zero _) z) id
  have hlay := hs.words _ (hin _ (u_in_lay hk))
  unfold u_lay at hlay
  rw [if_neg (by rw [hfin]; decide)] at hlay
  have hst := (u_facts hfc hkC (u_lays hs.words hin hk) hi).1
  have h6 := u_store hfc hkC hkind hlay hi (hty kf hk) hn hf
  refine W.putK hs.exec hs.bytes (f := f) (v := toV v) ⟨hs.own, (hs.words _ hl), ⟨_, _, _, hsm _ _ hs.words _ hi⟩, hst⟩ (by rw [q2]; exact h6) q1 (q5 ha).1 (by rw [hsl]; exact k2_hasslot (q6 kf hk)) rfl rfl hd fun H' e1 e2 e3 => ?_
  rw [hsl] at e1 ⊢
  exact kk _ rfl p l e R s m args below meth c H' _ cells slots ls hs h1 h2 (hS.put e2 e3 ha) (hR.put hc hk hcls hap q1 e1 e2 e3) hL

theorem xw_putF {a ci kf N idx : Nat} {C ref : String} {T : u_T} {ty0 : Nat → FieldType} {v : xV} (hd : decode M.2.2.1 pc = .ok (.putfield idx, 3)) (hc : vwCl[ci]? = some (C, T, N)) (hin : ∀ w ∈ u_ws C T N, w ∈ lw_all) (hty : ∀ k, k < N → parseFieldDescriptor (T k).2.2.1 = some (ty0 k)) (hnm : ∀ a, a < N → ∀ b, b < N → a ≠ b → (T a).2.1 ≠ (T b).2.1 ∨ ((T a).2.2.2 = true ∧ (T b).2.2.2 = true ∧ (T a).1 ≠ (T b).1)) (hk : kf < N) (hl : Cond.fieldLink M.1 idx ref (T kf).2.1 (T kf).2.2.1 ∈ lw_all) (hsm : ∀ (s : State) (args : Array Value), (∀ w ∈ lw_all, w.before args s = true) → ∀ x, s.fieldFound? (T kf).1 (T kf).2.1 (T kf).2.2.1 = some x → s.fieldFound? ref (T kf).2.1 (T kf).2.2.1 = some x) (hfin : (T kf).2.2.2 = true) (hin2 : M.2.1.name = "<init>") (hdecl : (T kf).1 = M.1) (hn : narrow (ty0 kf) (toV v) = toV v) (hf : fits (ty0 kf) (toV v) = true) (hcls : xcls h a = ci + 1) (hlo : xbo (ci + 1) = false ∨ xlo h ≤ a) (kk : ∀ h' : xH, h' = xput h a kf v → xWp G M d K Q k (pc + 3) L st h') : xWp G M d K Q k pc L (v :: xr (some a) :: st) h := by
  intro p l e R s m args below meth c H locs cells slots ls hs h1 h2 hS hR hL
  obtain ⟨cell, q1, q2, q3, q4, q5, q6⟩ := (hR.2 a).1 ci _ hcls hc
  obtain ⟨hS', hfc, kC, hkC, hkind⟩ := hs.gc.kn.1 ci _ hc
  obtain ⟨cf, kf', fi, f, hi, hsl⟩ := hS' kf hk
  have hap := x_apart hs.words hin ty0 hty hnm hs.gc.kn hc
  have ha : xlo h ≤ a := hlo.elim (fun z => xcls_lo hcls (Nat.succ_ne_zero _) z) id
  have hlay := hs.words _ (hin _ (u_in_lay hk))
  unfold u_lay at hlay
  rw [if_pos hfin] at hlay
  have hst := (u_facts hfc hkC (u_lays hs.words hin hk) hi).1
  have hcf : m.cls = cf := by
    obtain ⟨_, _, c', _, _, _, -, -, hf', -, -, -, hown2, -⟩ := Cond.laysFinal_spec hlay
    have e1 : c' = cf := by have := hi.symm.trans hf'; simp at this; exact this.1.symm
    rw [hdecl] at hown2
    rw [← e1]; exact Option.some.inj (hs.own.symm.trans hown2)
  have h6 := u_fits hfc hkC hkind (Or.inr hlay) hi (hty kf hk) hn hf
  refine W.putFinK hs.exec hs.bytes hs.own (hs.words _ hl) (v := toV v) (hsm _ _ hs.words _ hi) hst hcf (hs.name.trans hin2) (by rw [q2]; exact h6) q1 (q5 ha).1 (by rw [hsl]; exact k2_hasslot (q6 kf hk)) rfl rfl hd fun H' e1 e2 e3 => ?_
  rw [hsl] at e1 ⊢
  exact kk _ rfl p l e R s m args below meth c H' _ cells slots ls hs h1 h2 (hS.put e2 e3 ha) (hR.put hc hk hcls hap q1 e1 e2 e3) hL

theorem xw_putN {a ci kf N idx : Nat} {C ref host : String} {T : u_T} {ty0 : Nat → FieldType} {v : xV} (hd : decode M.2.2.1 pc = .ok (.putfield idx, 3)) (hc : vwCl[ci]? = some (C, T, N)) (hin : ∀ w ∈ u_ws C T N, w ∈ lw_all) (hty : ∀ k, k < N → parseFieldDescriptor (T k).2.2.1 = some (ty0 k)) (hnm : ∀ a, a < N → ∀ b, b < N → a ≠ b → (T a).2.1 ≠ (T b).2.1 ∨ ((T a).2.2.2 = true ∧ (T b).2.2.2 = true ∧ (T a).1 ≠ (T b).1)) (hk : kf < N) (hl : Cond.fieldLinkNest M.1 idx ref (T kf).2.1 (T kf).2.2.1 host ∈ lw_tbl) (hsm : ∀ (s : State) (args : Array Value), (∀ w ∈ lw_all, w.before args s = true) → ∀ x, s.fieldFound? (T kf).1 (T kf).2.1 (T kf).2.2.1 = some x → s.fieldFound? ref (T kf).2.1 (T kf).2.2.1 = some x) (hfin : (T kf).2.2.2 = false) (hn : narrow (ty0 kf) (toV v) = toV v) (hf : fits (ty0 kf) (toV v) = true) (hcls : xcls h a = ci + 1) (hlo : xbo (ci + 1) = false ∨ xlo h ≤ a) (kk : ∀ h' : xH, h' = xput h a kf v → xWp G M d K Q k (pc + 3) L st h') : xWp G M d K Q k pc L (v :: xr (some a) :: st) h := by
  intro p l e R s m args below meth c H locs cells slots ls hs h1 h2 hS hR hL
  obtain ⟨cell, q1, q2, q3, q4, q5, q6⟩ := (hR.2 a).1 ci _ hcls hc
  obtain ⟨hS', hfc, kC, hkC, hkind⟩ := hs.gc.kn.1 ci _ hc
  obtain ⟨cf, kf', fi, f, hi, hsl⟩ := hS' kf hk
  have hap := x_apart hs.words hin ty0 hty hnm hs.gc.kn hc
  have ha : xlo h ≤ a := hlo.elim (fun z => xcls_lo hcls (Nat.succ_ne_zero _) z) id
  have hlay := hs.words _ (hin _ (u_in_lay hk))
  unfold u_lay at hlay
  rw [if_neg (by rw [hfin]; decide)] at hlay
  have hst := (u_facts hfc hkC (u_lays hs.words hin hk) hi).1
  have h6 := u_store hfc hkC hkind hlay hi (hty kf hk) hn hf
  refine va_Wputf hs.exec hs.bytes hs.own (va_Nw.use rfl (hs.gc.tb _ hl rfl)) (hsm _ _ hs.words _ hi) hst (Or.inl h6.1) q1 q3 (by rw [hsl]; exact k2_hasslot (q6 kf hk)) h6.2.1 (by rw [(q5 ha).1, q2]; exact h6.2.2) (v := toV v) rfl rfl hd ?_
  have hal : a < H.size := (Array.getElem?_eq_some_iff.mp q1).1
  rw [hsl]
  have e2 : (H.setIfInBounds a (cell.setSlot (G.1.2 ci kf) (toV v))).size = H.size := by simp
  have e3 : ∀ q : Nat, q ≠ a → (H.setIfInBounds a (cell.setSlot (G.1.2 ci kf) (toV v)))[q]? = H[q]? := fun q hq => by simp [Array.getElem?_setIfInBounds, Ne.symm hq]
  have e1 : (H.setIfInBounds a (cell.setSlot (G.1.2 ci kf) (toV v)))[a]? = some (cell.setSlot (G.1.2 ci kf) (toV v)) := by simp [Array.getElem?_setIfInBounds, hal]
  exact kk _ rfl p l e R s m args below meth c _ _ cells slots ls hs h1 h2 (hS.put e2 e3 ha) (hR.put hc hk hcls hap q1 e1 e2 e3) hL

theorem xw_gets {i idx : Nat} {C n dd : String} (hd : decode M.2.2.1 pc = .ok (.getstatic idx, 3)) (hi : xsts[i]? = some (C, n, dd)) (hl : Cond.fieldLink M.1 idx C n dd ∈ lw_all) (kk : xWp G M d K Q k (pc + 3) L (G.2.1 i :: st) h) : xWp G M d K Q k pc L st h := by
  intro p l e R s m args below meth c H locs cells slots ls hs h1 h2 hS hR hL
  exact va_gets hs.exec hs.bytes (hs.gc.2.2.2.2.2.2.1 i _ hi) hS hs.own (hs.words _ hl) (fun _ z => z) hd (kk p l e R s m args below meth c H locs cells slots ls hs h1 h2 hS hR hL)
theorem xw_ldcs {i idx : Nat} {tx : String} (hd : decode M.2.2.1 pc = .ok (.ldc idx, 2)) (hi : xstr[i]? = some (M.1, idx, tx)) (kk : xWp G M d K Q k (pc + 2) L (xr (some (G.2.2 i)) :: st) h) : xWp G M d K Q k pc L st h := by
  intro p l e R s m args below meth c H locs cells slots ls hs h1 h2 hS hR hL
  exact va_ldcS hs.exec hs.bytes hs.own (hs.gc.2.2.2.2.2.2.2 i _ hi) hd (kk p l e R s m args below meth c H locs cells slots ls hs h1 h2 hS hR hL)
theorem xw_new {ci N idx : Nat} {C : String} {T : u_T} {ty0 : Nat → FieldType} (hd : decode M.2.2.1 pc = .ok (.new idx, 3)) (hc : vwCl[ci]? = some (C, T, N)) (hin : ∀ w ∈ u_ws C T N, w ∈ lw_all) (hty : ∀ k, k < N → parseFieldDescriptor (T k).2.2.1 = some (ty0 k)) (hl : Cond.classLink M.1 idx C ∈ lw_all) (hi : Cond.instantiable C N ∈ lw_all) (hini : Cond.initialized C ∈ lw_all) (hle : 1 + N ≤ k)
    (kk : ∀ (h' : xH) (a : Nat), a = xsz h → h' = xnew h (ci + 1) N (fun j => xdf (ty0 j)) → xWp G M d K Q (k - (1 + N)) (pc + 3) L (xr (some a) :: st) h') : xWp G M d K Q k pc L st h := by
  intro p l e R s m args below meth c H locs cells slots ls hs h1 h2 hS hR hL
  have hKn := hs.gc.kn.1 ci _ hc
  have hrm := hs.room
  refine W.newcK hs.exec hs.bytes hs.own (hs.words _ hl) (hs.words _ hi) (hs.words _ hini) rfl hd (by omega) (by omega) hKn.2.1 rfl fun H1 kC hkC e1 z1 o1 => ?_
  have hz := hR.1
  rw [hz] at e1 z1 o1 ⊢
  have hlo : xlo h ≤ s.heap.size := hs.gc.1
  have h3 : s.heap.size ≤ H.size := hS.1
  refine kk _ _ rfl rfl p l e R s m args below meth c H1 locs (cells + 1) (slots + N) ls hs (by omega) (by omega) ⟨by omega, fun x g1 g2 => (o1 x (by omega)).trans (hS.2.1 x g1 g2), hS.2.2⟩ (hR.newO hc ?_ (fun cell hcell => by cases e1.symm.trans hcell; rfl) z1 o1) hL
  exact (u_born ty0 hs.words hin hKn hkC e1 hty).to (fun j _ => (toV_xdf _).symm)
theorem xw_newa {j n : Nat} {atype : ArrayType} {x : Int32} (hd : decode M.2.2.1 pc = .ok (.newarray atype, 2)) (hj : xty[j]? = some (newarray.typeOf atype)) (hw : Cond.arrayClass (newarray.typeOf atype) ∈ lw_all) (hx : x = nI n) (hn : n ≤ 65536) (hle : 1 + n ≤ k)
    (kk : ∀ (h' : xH) (a : Nat), a = xsz h → h' = xnew h (1000 + j) n (fun _ => xdf (newarray.typeOf atype)) → xWp G M d K Q (k - (1 + n)) (pc + 2) L (xr (some a) :: st) h') : xWp G M d K Q k pc L (xi x :: st) h := by
  subst hx
  intro p l e R s m args below meth c H locs cells slots ls hs h1 h2 hS hR hL
  have hrm := hs.room
  have hnb : n * componentBytes (newarray.typeOf atype) ≤ 536870912 := by
    have h8 : componentBytes (newarray.typeOf atype) ≤ 8 := by cases atype <;> decide
    exact Nat.le_trans (Nat.mul_le_mul hn h8) (by decide)
  refine va_newaK hs.exec hs.bytes (hs.words _ hw) rfl hd rfl (nI_pos (by omega)) (nI_clamp (by omega)) hnb (by omega) (by omega) rfl fun H1 cA e1 z1 o1 hAr hNm => ?_
  have hz := hR.1
  rw [hz] at e1 z1 o1 ⊢
  have hlo : xlo h ≤ s.heap.size := hs.gc.1
  have h3 : s.heap.size ≤ H.size := hS.1
  refine kk _ _ rfl rfl p l e R s m args below meth c H1 locs (cells + 1) (slots + n) ls hs (by omega) (by omega) ⟨by omega, fun x g1 g2 => (o1 x (by omega)).trans (hS.2.1 x g1 g2), hS.2.2⟩ (hR.newA hj hAr (by cases atype <;> exact hNm) ?_ z1 o1) hL
  rw [e1]
  simp only [toV_xdf]
theorem xw_anew {j n idx : Nat} {C : String} {x : Int32} (hd : decode M.2.2.1 pc = .ok (.anewarray idx, 3)) (hj : xty[j]? = some (.object C)) (hC : C = "java/lang/Object" ∨ C = "java/lang/String") (hl : Cond.classLink M.1 idx C ∈ lw_all) (hx : x = nI n) (hn : n ≤ 65536) (hle : 1 + n ≤ k)
    (kk : ∀ (h' : xH) (a : Nat), a = xsz h → h' = xnew h (1000 + j) n (fun _ => xr none) → xWp G M d K Q (k - (1 + n)) (pc + 3) L (xr (some a) :: st) h') : xWp G M d K Q k pc L (xi x :: st) h := by
  subst hx
  intro p l e R s m args below meth c H locs cells slots ls hs h1 h2 hS hR hL
  have hrm := hs.room
  have hAO : va_AO C s := by
    rcases hC with rfl | rfl
    · exact hs.gc.2.2.2.2.1.1
    · exact hs.gc.2.2.2.2.1.2
  have hcl : (nI n).toNatClampNeg = n := nI_clamp (by omega)
  refine W.anew hs.exec hs.bytes hs.own (hs.words _ hl) (va_AO.use hAO) rfl hd rfl (nI_pos (by omega)) (by rw [hcl]; omega) (by omega) (by rw [hcl]; omega) fun cA kA comp g1 g2 g3 g4 => ?_
  rw [hcl]
  have hz := hR.1
  have hlo : xlo h ≤ s.heap.size := hs.gc.1
  have h3 : s.heap.size ≤ H.size := hS.1
  have o1 : ∀ q : Nat, q < H.size → (H.push ({ cls := cA, slots := Array.replicate n .null, vm := .none } : Cell))[q]? = H[q]? := fun q hq => by rw [Array.getElem?_push, if_neg (Nat.ne_of_lt hq)]
  have z1 : (H.push ({ cls := cA, slots := Array.replicate n .null, vm := .none } : Cell)).size = H.size + 1 := by simp
  have e1 : (H.push ({ cls := cA, slots := Array.replicate n .null, vm := .none } : Cell))[H.size]? = some (arrV cA n (fun _ => .null)) := by rw [← arrV_new]; simp
  rw [hz] at e1 z1 o1 ⊢
  refine kk _ _ rfl rfl p l e R s m args below meth c _ locs (cells + 1) (slots + n) ls hs (by omega) (by omega) ⟨by omega, fun x g1 g2 => (o1 x (by omega)).trans (hS.2.1 x g1 g2), hS.2.2⟩ (hR.newA hj ?_ ⟨kA, comp, g2, g3, g4, g1⟩ e1 z1 o1) hL
  exact fun n9 z9 => ⟨fun k9 h9 => (by cases h9), kA, g2, comp, g3⟩

theorem xw_iald {a j i : Nat} {x : Int32} {v : xV} (hd : decode M.2.2.1 pc = .ok (.iaload, 1)) (hj : xty[j]? = some .int) (hcls : xcls h a = 1000 + j) (hx : x = nI i) (hb : i < 2147483648) (hi : i < xlen h a) (hv : xval h a i = v) (kk : xWp G M d K Q k (pc + 1) L (v :: st) h) : xWp G M d K Q k pc L (xi x :: xr (some a) :: st) h := by
  subst hx
  intro p l e R s m args below meth c H locs cells slots ls hs h1 h2 hS hR hL
  obtain ⟨cell, q1, q2, q3, q4, q5, q6, q7, q8⟩ := (hR.2 a).2 j _ hcls hj
  have hcl : (nI i).toNatClampNeg = i := nI_clamp hb
  exact W.iald (v := toV v) hs.exec hs.bytes q1 q4 q5 (by rw [q6]; exact (fun z => z.elim (nI_pos hb) (fun z => by rw [hcl] at z; omega))) (by rw [hcl, q7 i hi, hv]) rfl rfl hd (kk p l e R s m args below meth c H locs cells slots ls hs h1 h2 hS hR hL)

theorem xw_bald {a j i : Nat} {x : Int32} {v : xV} (hd : decode M.2.2.1 pc = .ok (.baload, 1)) (hj : xty[j]? = some .byte) (hcls : xcls h a = 1000 + j) (hx : x = nI i) (hb : i < 2147483648) (hi : i < xlen h a) (hv : xval h a i = v) (kk : xWp G M d K Q k (pc + 1) L (v :: st) h) : xWp G M d K Q k pc L (xi x :: xr (some a) :: st) h := by
  subst hx
  intro p l e R s m args below meth c H locs cells slots ls hs h1 h2 hS hR hL
  obtain ⟨cell, q1, q2, q3, q4, q5, q6, q7, q8⟩ := (hR.2 a).2 j _ hcls hj
  have hcl : (nI i).toNatClampNeg = i := nI_clamp hb
  exact W.bald (v := toV v) hs.exec hs.bytes q1 q4 q5 (by rw [q6]; exact (fun z => z.elim (nI_pos hb) (fun z => by rw [hcl] at z; omega))) (by rw [hcl, q7 i hi, hv]) rfl rfl hd (kk p l e R s m args below meth c H locs cells slots ls hs h1 h2 hS hR hL)

theorem xw_zald {a j i : Nat} {x : Int32} {v : xV} (hd : decode M.2.2.1 pc = .ok (.baload, 1)) (hj : xty[j]? = some .boolean) (hcls : xcls h a = 1000 + j) (hx : x = nI i) (hb : i < 2147483648) (hi : i < xlen h a) (hv : xval h a i = v) (kk : xWp G M d K Q k (pc + 1) L (v :: st) h) : xWp G M d K Q k pc L (xi x :: xr (some a) :: st) h := by
  subst hx
  intro p l e R s m args below meth c H locs cells slots ls hs h1 h2 hS hR hL
  obtain ⟨cell, q1, q2, q3, q4, q5, q6, q7, q8⟩ := (hR.2 a).2 j _ hcls hj
  have hcl : (nI i).toNatClampNeg = i := nI_clamp hb
  exact W.zald (v := toV v) hs.exec hs.bytes q1 q4 q5 (by rw [q6]; exact (fun z => z.elim (nI_pos hb) (fun z => by rw [hcl] at z; omega))) (by rw [hcl, q7 i hi, hv]) rfl rfl hd (kk p l e R s m args below meth c H locs cells slots ls hs h1 h2 hS hR hL)

theorem xw_cald {a j i : Nat} {x : Int32} {v : xV} (hd : decode M.2.2.1 pc = .ok (.caload, 1)) (hj : xty[j]? = some .char) (hcls : xcls h a = 1000 + j) (hx : x = nI i) (hb : i < 2147483648) (hi : i < xlen h a) (hv : xval h a i = v) (kk : xWp G M d K Q k (pc + 1) L (v :: st) h) : xWp G M d K Q k pc L (xi x :: xr (some a) :: st) h := by
  subst hx
  intro p l e R s m args below meth c H locs cells slots ls hs h1 h2 hS hR hL
  obtain ⟨cell, q1, q2, q3, q4, q5, q6, q7, q8⟩ := (hR.2 a).2 j _ hcls hj
  have hcl : (nI i).toNatClampNeg = i := nI_clamp hb
  exact W.cald (v := toV v) hs.exec hs.bytes q1 q4 q5 (by rw [q6]; exact (fun z => z.elim (nI_pos hb) (fun z => by rw [hcl] at z; omega))) (by rw [hcl, q7 i hi, hv]) rfl rfl hd (kk p l e R s m args below meth c H locs cells slots ls hs h1 h2 hS hR hL)

theorem xw_lald {a j i : Nat} {x : Int32} {v : xV} (hd : decode M.2.2.1 pc = .ok (.laload, 1)) (hj : xty[j]? = some .long) (hcls : xcls h a = 1000 + j) (hx : x = nI i) (hb : i < 2147483648) (hi : i < xlen h a) (hv : xval h a i = v) (kk : xWp G M d K Q k (pc + 1) L (v :: st) h) : xWp G M d K Q k pc L (xi x :: xr (some a) :: st) h := by
  subst hx
  intro p l e R s m args below meth c H locs cells slots ls hs h1 h2 hS hR hL
  obtain ⟨cell, q1, q2, q3, q4, q5, q6, q7, q8⟩ := (hR.2 a).2 j _ hcls hj
  have hcl : (nI i).toNatClampNeg = i := nI_clamp hb
  exact W.lald (v := toV v) hs.exec hs.bytes q1 q4 q5 (by rw [q6]; exact (fun z => z.elim (nI_pos hb) (fun z => by rw [hcl] at z; omega))) (by rw [hcl, q7 i hi, hv]) rfl rfl hd (kk p l e R s m args below meth c H locs cells slots ls hs h1 h2 hS hR hL)

theorem xw_aald {a j i : Nat} {x : Int32} {C : String} {v : xV} (hd : decode M.2.2.1 pc = .ok (.aaload, 1)) (hj : xty[j]? = some (.object C)) (hcls : xcls h a = 1000 + j) (hx : x = nI i) (hb : i < 2147483648) (hi : i < xlen h a) (hv : xval h a i = v) (kk : xWp G M d K Q k (pc + 1) L (v :: st) h) : xWp G M d K Q k pc L (xi x :: xr (some a) :: st) h := by
  subst hx
  intro p l e R s m args below meth c H locs cells slots ls hs h1 h2 hS hR hL
  obtain ⟨cell, q1, q2, q3, q4, q5, q6, q7, q8⟩ := (hR.2 a).2 j _ hcls hj
  have hcl : (nI i).toNatClampNeg = i := nI_clamp hb
  exact W.aald (v := toV v) hs.exec hs.bytes q1 q4 rfl q5 (by rw [q6]; exact (fun z => z.elim (nI_pos hb) (fun z => by rw [hcl] at z; omega))) (by rw [hcl, q7 i hi, hv]) rfl rfl hd (kk p l e R s m args below meth c H locs cells slots ls hs h1 h2 hS hR hL)
theorem xw_alen {a j : Nat} {ty : FieldType} (hd : decode M.2.2.1 pc = .ok (.arraylength, 1)) (hj : xty[j]? = some ty) (hcls : xcls h a = 1000 + j) (kk : xWp G M d K Q k (pc + 1) L (xi (nI (xlen h a)) :: st) h) : xWp G M d K Q k pc L (xr (some a) :: st) h := by
  intro p l e R s m args below meth c H locs cells slots ls hs h1 h2 hS hR hL
  obtain ⟨cell, q1, q2, q3, q4, q5, q6, q7, q8⟩ := (hR.2 a).2 j _ hcls hj
  exact W.alen (n := nI (xlen h a)) hs.exec hs.bytes q1 q4 (by rw [q6]; rfl) rfl rfl hd (kk p l e R s m args below meth c H locs cells slots ls hs h1 h2 hS hR hL)

theorem xw_iast {a j i : Nat} {x : Int32} {y : Int32} (hd : decode M.2.2.1 pc = .ok (.iastore, 1)) (hj : xty[j]? = some .int) (hcls : xcls h a = 1000 + j) (hlo : xbo (1000 + j) = false ∨ xlo h ≤ a) (hx : x = nI i) (hb : i < 2147483648) (hi : i < xlen h a) (kk : ∀ h' : xH, h' = xput h a i (xi y) → xWp G M d K Q k (pc + 1) L st h') : xWp G M d K Q k pc L (xi y :: xi x :: xr (some a) :: st) h := by
  subst hx
  intro p l e R s m args below meth c H locs cells slots ls hs h1 h2 hS hR hL
  obtain ⟨cell, q1, q2, q3, q4, q5, q6, q7, q8⟩ := (hR.2 a).2 j _ hcls hj
  have hcl : (nI i).toNatClampNeg = i := nI_clamp hb
  have ha : xlo h ≤ a := hlo.elim (fun z => xcls_lo hcls (by omega) z) id
  refine W.iast hs.exec hs.bytes q1 q4 q5 (by rw [q6]; exact (fun z => z.elim (nI_pos hb) (fun z => by rw [hcl] at z; omega))) rfl rfl hd fun H' e1 e2 e3 => ?_
  rw [hcl] at e1
  exact kk _ rfl p l e R s m args below meth c H' _ cells slots ls hs h1 h2 (hS.put e2 e3 ha) (hR.aput (v := xi y) hj hcls ha q1 e1 e2 e3) hL

theorem xw_bast {a j i : Nat} {x : Int32} {y y2 : Int32} (hd : decode M.2.2.1 pc = .ok (.bastore, 1)) (hj : xty[j]? = some .byte) (hcls : xcls h a = 1000 + j) (hlo : xbo (1000 + j) = false ∨ xlo h ≤ a) (hx : x = nI i) (hb : i < 2147483648) (hi : i < xlen h a) (hn : narrow .byte (.int y) = .int y2) (kk : ∀ h' : xH, h' = xput h a i (xi y2) → xWp G M d K Q k (pc + 1) L st h') : xWp G M d K Q k pc L (xi y :: xi x :: xr (some a) :: st) h := by
  subst hx
  intro p l e R s m args below meth c H locs cells slots ls hs h1 h2 hS hR hL
  obtain ⟨cell, q1, q2, q3, q4, q5, q6, q7, q8⟩ := (hR.2 a).2 j _ hcls hj
  have hcl : (nI i).toNatClampNeg = i := nI_clamp hb
  have ha : xlo h ≤ a := hlo.elim (fun z => xcls_lo hcls (by omega) z) id
  refine W.bast hs.exec hs.bytes q1 q4 q5 (by rw [q6]; exact (fun z => z.elim (nI_pos hb) (fun z => by rw [hcl] at z; omega))) rfl rfl hd fun H' e1 e2 e3 => ?_
  rw [hcl, hn] at e1
  exact kk _ rfl p l e R s m args below meth c H' _ cells slots ls hs h1 h2 (hS.put e2 e3 ha) (hR.aput (v := xi y2) hj hcls ha q1 e1 e2 e3) hL

theorem xw_zast {a j i : Nat} {x : Int32} {y y2 : Int32} (hd : decode M.2.2.1 pc = .ok (.bastore, 1)) (hj : xty[j]? = some .boolean) (hcls : xcls h a = 1000 + j) (hlo : xbo (1000 + j) = false ∨ xlo h ≤ a) (hx : x = nI i) (hb : i < 2147483648) (hi : i < xlen h a) (hn : narrow .boolean (.int y) = .int y2) (kk : ∀ h' : xH, h' = xput h a i (xi y2) → xWp G M d K Q k (pc + 1) L st h') : xWp G M d K Q k pc L (xi y :: xi x :: xr (some a) :: st) h := by
  subst hx
  intro p l e R s m args below meth c H locs cells slots ls hs h1 h2 hS hR hL
  obtain ⟨cell, q1, q2, q3, q4, q5, q6, q7, q8⟩ := (hR.2 a).2 j _ hcls hj
  have hcl : (nI i).toNatClampNeg = i := nI_clamp hb
  have ha : xlo h ≤ a := hlo.elim (fun z => xcls_lo hcls (by omega) z) id
  refine W.zast hs.exec hs.bytes q1 q4 q5 (by rw [q6]; exact (fun z => z.elim (nI_pos hb) (fun z => by rw [hcl] at z; omega))) rfl rfl hd fun H' e1 e2 e3 => ?_
  rw [hcl, hn] at e1
  exact kk _ rfl p l e R s m args below meth c H' _ cells slots ls hs h1 h2 (hS.put e2 e3 ha) (hR.aput (v := xi y2) hj hcls ha q1 e1 e2 e3) hL

theorem xw_cast {a j i : Nat} {x : Int32} {y y2 : Int32} (hd : decode M.2.2.1 pc = .ok (.castore, 1)) (hj : xty[j]? = some .char) (hcls : xcls h a = 1000 + j) (hlo : xbo (1000 + j) = false ∨ xlo h ≤ a) (hx : x = nI i) (hb : i < 2147483648) (hi : i < xlen h a) (hn : narrow .char (.int y) = .int y2) (kk : ∀ h' : xH, h' = xput h a i (xi y2) → xWp G M d K Q k (pc + 1) L st h') : xWp G M d K Q k pc L (xi y :: xi x :: xr (some a) :: st) h := by
  subst hx
  intro p l e R s m args below meth c H locs cells slots ls hs h1 h2 hS hR hL
  obtain ⟨cell, q1, q2, q3, q4, q5, q6, q7, q8⟩ := (hR.2 a).2 j _ hcls hj
  have hcl : (nI i).toNatClampNeg = i := nI_clamp hb
  have ha : xlo h ≤ a := hlo.elim (fun z => xcls_lo hcls (by omega) z) id
  refine W.cast hs.exec hs.bytes q1 q4 q5 (by rw [q6]; exact (fun z => z.elim (nI_pos hb) (fun z => by rw [hcl] at z; omega))) rfl rfl hd fun H' e1 e2 e3 => ?_
  rw [hcl, hn] at e1
  exact kk _ rfl p l e R s m args below meth c H' _ cells slots ls hs h1 h2 (hS.put e2 e3 ha) (hR.aput (v := xi y2) hj hcls ha q1 e1 e2 e3) hL

theorem xw_last {a j i : Nat} {x : Int32} {y : Int64} (hd : decode M.2.2.1 pc = .ok (.lastore, 1)) (hj : xty[j]? = some .long) (hcls : xcls h a = 1000 + j) (hlo : xbo (1000 + j) = false ∨ xlo h ≤ a) (hx : x = nI i) (hb : i < 2147483648) (hi : i < xlen h a) (kk : ∀ h' : xH, h' = xput h a i (xj y) → xWp G M d K Q k (pc + 1) L st h') : xWp G M d K Q k pc L (xj y :: xi x :: xr (some a) :: st) h := by
  subst hx
  intro p l e R s m args below meth c H locs cells slots ls hs h1 h2 hS hR hL
  obtain ⟨cell, q1, q2, q3, q4, q5, q6, q7, q8⟩ := (hR.2 a).2 j _ hcls hj
  have hcl : (nI i).toNatClampNeg = i := nI_clamp hb
  have ha : xlo h ≤ a := hlo.elim (fun z => xcls_lo hcls (by omega) z) id
  refine W.last hs.exec hs.bytes q1 q4 q5 (by rw [q6]; exact (fun z => z.elim (nI_pos hb) (fun z => by rw [hcl] at z; omega))) rfl rfl hd fun H' e1 e2 e3 => ?_
  rw [hcl] at e1
  exact kk _ rfl p l e R s m args below meth c H' _ cells slots ls hs h1 h2 (hS.put e2 e3 ha) (hR.aput (v := xj y) hj hcls ha q1 e1 e2 e3) hL

theorem xw_aastN {a j i : Nat} {x : Int32} {C : String} (hd : decode M.2.2.1 pc = .ok (.aastore, 1)) (hj : xty[j]? = some (.object C)) (hcls : xcls h a = 1000 + j) (hlo : xbo (1000 + j) = false ∨ xlo h ≤ a) (hx : x = nI i) (hb : i < 2147483648) (hi : i < xlen h a) (kk : ∀ h' : xH, h' = xput h a i (xr none) → xWp G M d K Q k (pc + 1) L st h') : xWp G M d K Q k pc L (xr none :: xi x :: xr (some a) :: st) h := by
  subst hx
  intro p l e R s m args below meth c H locs cells slots ls hs h1 h2 hS hR hL
  obtain ⟨cell, q1, q2, q3, q4, q5, q6, q7, q8⟩ := (hR.2 a).2 j _ hcls hj
  have hcl : (nI i).toNatClampNeg = i := nI_clamp hb
  have ha : xlo h ≤ a := hlo.elim (fun z => xcls_lo hcls (by omega) z) id
  refine va_WaastN hs.exec hs.bytes q1 q4 q5 (by rw [q6]; exact (fun z => z.elim (nI_pos hb) (fun z => by rw [hcl] at z; omega))) rfl rfl hd fun H' e1 e2 e3 => ?_
  rw [hcl] at e1
  exact kk _ rfl p l e R s m args below meth c H' _ cells slots ls hs h1 h2 (hS.put e2 e3 ha) (hR.aput (v := xr none) hj hcls ha q1 e1 e2 e3) hL
theorem xw_aast {a b j i ci : Nat} {x : Int32} {C : String} {r : vw_C} (hd : decode M.2.2.1 pc = .ok (.aastore, 1)) (hj : xty[j]? = some (.object C)) (hcls : xcls h a = 1000 + j) (hlo : xbo (1000 + j) = false ∨ xlo h ≤ a) (hx : x = nI i) (hb : i < 2147483648) (hi : i < xlen h a) (hc : vwCl[ci]? = some r) (hcb : xcls h b = ci + 1) (hca : r.1 = C ∨ Cond.castable r.1 C ∈ lw_tbl) (kk : ∀ h' : xH, h' = xput h a i (xr (some b)) → xWp G M d K Q k (pc + 1) L st h') : xWp G M d K Q k pc L (xr (some b) :: xi x :: xr (some a) :: st) h := by
  subst hx
  intro p l e R s m args below meth c H locs cells slots ls hs h1 h2 hS hR hL
  obtain ⟨cell, q1, q2, q3, q4, q5, q6, q7, q8⟩ := (hR.2 a).2 j _ hcls hj
  obtain ⟨cellV, g1, g2, g3, g4, -⟩ := (hR.2 b).1 ci r hcb hc
  have hcl : (nI i).toNatClampNeg = i := nI_clamp hb
  have ha : xlo h ≤ a := hlo.elim (fun z => xcls_lo hcls (by omega) z) id
  have hK := (hs.gc.kn.1 ci r hc).2
  obtain ⟨kA, comp, k1, k2, k3, -⟩ := q3
  obtain ⟨kE, hkE, -⟩ := Vm.findClass_spec k3
  obtain ⟨kC, hkC, -⟩ := hK.2
  have hass : s.vm.assignable (G.1.1 ci) comp = true := by
    rcases hca with e | hw
    · rw [← e] at k3
      cases hK.1.symm.trans k3
      exact va_assign hK
    · obtain ⟨c0, t1, f1, f2, f3⟩ := Cond.castable_spec (va_Nw.use (A := args) rfl (hs.gc.tb _ hw rfl))
      cases hK.1.symm.trans f1
      cases k3.symm.trans f2
      exact f3
  have hvm : cell.vm = .none := by rw [q8 ha]; rfl
  refine W.aast hs.exec hs.bytes q1 (by rw [hvm]; intro q z; cases z) q5 k1 k2 rfl hkE ⟨nI_pos hb, by rw [hcl, q6]; exact hi⟩ g1 (fun q z => by rw [z] at g4; cases g4) (by rw [g2]; exact hkC) (by rw [g2]; exact hass) rfl rfl hd fun H' e1 e2 e3 => ?_
  rw [hcl] at e1
  exact kk _ rfl p l e R s m args below meth c H' _ cells slots ls hs h1 h2 (hS.put e2 e3 ha) (hR.aput (v := xr (some b)) hj hcls ha q1 e1 e2 e3) hL
theorem xw_castY {a ci idx : Nat} {nm : String} {r : vw_C} (hd : decode M.2.2.1 pc = .ok (.checkcast idx, 3)) (hl : Cond.classLink M.1 idx nm ∈ lw_all) (hc : vwCl[ci]? = some r) (hcls : xcls h a = ci + 1) (hca : r.1 = nm ∨ Cond.castable r.1 nm ∈ lw_tbl) (kk : xWp G M d K Q k (pc + 3) L (xr (some a) :: st) h) : xWp G M d K Q k pc L (xr (some a) :: st) h := by
  intro p l e R s m args below meth c H locs cells slots ls hs h1 h2 hS hR hL
  have hcell := xcell hs.gc hR hc hcls
  rcases hca with e | hw
  · subst e
    exact va_castS hs.exec hs.bytes hs.own (hs.words _ hl) (hs.gc.kn.1 ci r hc).2 hcell hd (kk p l e R s m args below meth c H locs cells slots ls hs h1 h2 hS hR hL)
  · exact va_castY hs.exec hs.bytes hs.own (hs.words _ hl) (hs.gc.tb _ hw rfl) hcell hd (kk p l e R s m args below meth c H locs cells slots ls hs h1 h2 hS hR hL)
theorem xw_instY {a ci idx : Nat} {nm : String} {r : vw_C} (hd : decode M.2.2.1 pc = .ok (.instanceof idx, 3)) (hl : Cond.classLink M.1 idx nm ∈ lw_all) (hc : vwCl[ci]? = some r) (hcls : xcls h a = ci + 1) (hca : r.1 = nm ∨ Cond.castable r.1 nm ∈ lw_tbl) (kk : xWp G M d K Q k (pc + 3) L (xi 1 :: st) h) : xWp G M d K Q k pc L (xr (some a) :: st) h := by
  intro p l e R s m args below meth c H locs cells slots ls hs h1 h2 hS hR hL
  have hcell := xcell hs.gc hR hc hcls
  rcases hca with e | hw
  · subst e
    exact va_instS hs.exec hs.bytes hs.own (hs.words _ hl) (hs.gc.kn.1 ci r hc).2 hcell hd (kk p l e R s m args below meth c H locs cells slots ls hs h1 h2 hS hR hL)
  · exact va_instY hs.exec hs.bytes hs.own (hs.words _ hl) (hs.gc.tb _ hw rfl) hcell hd (kk p l e R s m args below meth c H locs cells slots ls hs h1 h2 hS hR hL)
theorem xw_instNo {a ci idx : Nat} {nm : String} {r : vw_C} (hd : decode M.2.2.1 pc = .ok (.instanceof idx, 3)) (hl : Cond.classLink M.1 idx nm ∈ lw_all) (hc : vwCl[ci]? = some r) (hcls : xcls h a = ci + 1) (hca : (r.1, nm) ∈ xnc) (kk : xWp G M d K Q k (pc + 3) L (xi 0 :: st) h) : xWp G M d K Q k pc L (xr (some a) :: st) h := by
  intro p l e R s m args below meth c H locs cells slots ls hs h1 h2 hS hR hL
  exact va_instNo hs.exec hs.bytes hs.own (hs.words _ hl) (hs.gc.2.2.2.2.2.1 _ hca) (xcell hs.gc hR hc hcls) hd (kk p l e R s m args below meth c H locs cells slots ls hs h1 h2 hS hR hL)
theorem xw_objInit {a idx : Nat} (hd : decode M.2.2.1 pc = .ok (.invokespecial idx, 3)) (hl : Cond.methodLink M.1 idx objectInit ∈ lw_all) (hi : Cond.instanceMethod objectInit ∈ lw_all) (hco : Cond.code objectInit ⟨#[0xb1]⟩ 1 none ∈ lw_all) (hdp : 1 ≤ d) (hst : (st.map xcat).sum ≤ 8) (kk : xWp G M d K Q k (pc + 3) L st h) : xWp G M d K Q k pc L (xr (some a) :: st) h := by
  intro p l e R s m args below meth c H locs cells slots ls hs h1 h2 hS hR hL
  have hrm := hs.room
  have hcat : ((st.map toV).map fun v => v.category) = st.map xcat := by
    rw [List.map_map]
    exact List.map_congr_left (fun v _ => toV_cat v)
  refine W.objInit hs.exec hs.bytes hs.own (hs.words _ hl) (hs.words _ hi) (hs.words _ hco) rfl (by rw [hs.maxl]; exact hL.1) rfl hd (by omega) ?_ (kk p l e R s m args below meth c H locs cells slots ls hs h1 h2 hS hR hL)
  have hm : (F0 m pc ls ((xr (some a) :: st).map toV)).monitorRoom = 0 := rfl
  rw [hcat, hm]
  omega

theorem xw_mmax {x y : Int32} {idx : Nat} (hd : decode M.2.2.1 pc = .ok (.invokestatic idx, 3)) (hl : Cond.methodLink M.1 idx Lib.Math.max.name ∈ lw_all) (hst9 : Cond.static Lib.Math.max.name ∈ lw_all) (hini : Cond.initialized "java/lang/Math" ∈ lw_all) (hco : Cond.code Lib.Math.max.name Lib.Math.max.code 2 (some .int) ∈ lw_all) (hdp : 1 ≤ d) (hst : (st.map xcat).sum ≤ 8) (kk : xWp G M d K Q k (pc + 3) L (xi (if x < y then y else x) :: st) h) : xWp G M d K Q k pc L (xi y :: xi x :: st) h := by
  intro p l e R s m args below meth c H locs cells slots ls hs h1 h2 hS hR hL
  have hrm := hs.room
  have hcat : ((st.map toV).map fun v => v.category) = st.map xcat := by
    rw [List.map_map]
    exact List.map_congr_left (fun v _ => toV_cat v)
  exact va_mmax hs.exec hs.bytes (by rw [hs.maxl]; exact hL.1.symm) hs.own (hs.words _ hl) (hs.words _ hst9) (hs.words _ hini) (hs.words _ hco) (by omega) (by rw [hcat]; omega) (by omega) (by omega) hd (kk p l e R s m args below meth c H locs cells slots ls hs h1 h2 hS hR hL)
theorem xw_mmin {x y : Int32} {idx : Nat} (hd : decode M.2.2.1 pc = .ok (.invokestatic idx, 3)) (hl : Cond.methodLink M.1 idx Lib.Math.min.name ∈ lw_all) (hst9 : Cond.static Lib.Math.min.name ∈ lw_all) (hini : Cond.initialized "java/lang/Math" ∈ lw_all) (hco : Cond.code Lib.Math.min.name Lib.Math.min.code 2 (some .int) ∈ lw_all) (hdp : 1 ≤ d) (hst : (st.map xcat).sum ≤ 8) (kk : xWp G M d K Q k (pc + 3) L (xi (if y < x then y else x) :: st) h) : xWp G M d K Q k pc L (xi y :: xi x :: st) h := by
  intro p l e R s m args below meth c H locs cells slots ls hs h1 h2 hS hR hL
  have hrm := hs.room
  have hcat : ((st.map toV).map fun v => v.category) = st.map xcat := by
    rw [List.map_map]
    exact List.map_congr_left (fun v _ => toV_cat v)
  exact va_mmin hs.exec hs.bytes (by rw [hs.maxl]; exact hL.1.symm) hs.own (hs.words _ hl) (hs.words _ hst9) (hs.words _ hini) (hs.words _ hco) (by omega) (by rw [hcat]; omega) (by omega) (by omega) hd (kk p l e R s m args below meth c H locs cells slots ls hs h1 h2 hS hR hL)
theorem xw_mabs {x : Int32} {idx : Nat} (hd : decode M.2.2.1 pc = .ok (.invokestatic idx, 3)) (hl : Cond.methodLink M.1 idx Lib.Math.abs.name ∈ lw_all) (hst9 : Cond.static Lib.Math.abs.name ∈ lw_all) (hini : Cond.initialized "java/lang/Math" ∈ lw_all) (hco : Cond.code Lib.Math.abs.name Lib.Math.abs.code 1 (some .int) ∈ lw_all) (hdp : 1 ≤ d) (hst : (st.map xcat).sum ≤ 8) (kk : xWp G M d K Q k (pc + 3) L (xi (if 0 ≤ x then x else 0 - x) :: st) h) : xWp G M d K Q k pc L (xi x :: st) h := by
  intro p l e R s m args below meth c H locs cells slots ls hs h1 h2 hS hR hL
  have hrm := hs.room
  have hcat : ((st.map toV).map fun v => v.category) = st.map xcat := by
    rw [List.map_map]
    exact List.map_congr_left (fun v _ => toV_cat v)
  exact va_mabs hs.exec hs.bytes (by rw [hs.maxl]; exact hL.1.symm) hs.own (hs.words _ hl) (hs.words _ hst9) (hs.words _ hini) (hs.words _ hco) (by omega) (by rw [hcat]; omega) (by omega) (by omega) hd (kk p l e R s m args below meth c H locs cells slots ls hs h1 h2 hS hR hL)

theorem xw_iret {v : Int32} (hd : decode M.2.2.1 pc = .ok (.ireturn, 1)) (hr : M.2.2.2.2.1 = some .int) (hQ : Q (.inl (some (xi v))) h) : xWp G M d K Q k pc L [xi v] h := by
  intro p l e R s m args below meth c H locs cells slots ls hs h1 h2 hS hR hL
  refine xx_ret (W.widen (k := K) (n := K) (by omega) (by omega) ?_)
  exact W.iret (v := v) hs.exec hs.bytes (hs.ret.trans hr) (fun t ht hW => ⟨some (xi v), h, rfl, hQ, by rw [ht]; exact hR.moved hW.alike, rfl, hS.F ht⟩) hS.2.2 hd hs.locks

theorem xw_lret {v : Int64} (hd : decode M.2.2.1 pc = .ok (.lreturn, 1)) (hr : M.2.2.2.2.1 = some .long) (hQ : Q (.inl (some (xj v))) h) : xWp G M d K Q k pc L [xj v] h := by
  intro p l e R s m args below meth c H locs cells slots ls hs h1 h2 hS hR hL
  refine xx_ret (W.widen (k := K) (n := K) (by omega) (by omega) ?_)
  exact W.lret (v := v) hs.exec hs.bytes (hs.ret.trans hr) (fun t ht hW => ⟨some (xj v), h, rfl, hQ, by rw [ht]; exact hR.moved hW.alike, rfl, hS.F ht⟩) hS.2.2 hd hs.locks

theorem xw_fret {v : UInt32} (hd : decode M.2.2.1 pc = .ok (.freturn, 1)) (hr : M.2.2.2.2.1 = some .float) (hQ : Q (.inl (some (xf v))) h) : xWp G M d K Q k pc L [xf v] h := by
  intro p l e R s m args below meth c H locs cells slots ls hs h1 h2 hS hR hL
  refine xx_ret (W.widen (k := K) (n := K) (by omega) (by omega) ?_)
  exact W.fret (v := v) hs.exec hs.bytes (hs.ret.trans hr) (fun t ht hW => ⟨some (xf v), h, rfl, hQ, by rw [ht]; exact hR.moved hW.alike, rfl, hS.F ht⟩) hS.2.2 hd hs.locks

theorem xw_dret {v : UInt64} (hd : decode M.2.2.1 pc = .ok (.dreturn, 1)) (hr : M.2.2.2.2.1 = some .double) (hQ : Q (.inl (some (xd v))) h) : xWp G M d K Q k pc L [xd v] h := by
  intro p l e R s m args below meth c H locs cells slots ls hs h1 h2 hS hR hL
  refine xx_ret (W.widen (k := K) (n := K) (by omega) (by omega) ?_)
  exact W.dret (v := v) hs.exec hs.bytes (hs.ret.trans hr) (fun t ht hW => ⟨some (xd v), h, rfl, hQ, by rw [ht]; exact hR.moved hW.alike, rfl, hS.F ht⟩) hS.2.2 hd hs.locks

theorem xw_zret {v : Int32} {ty : FieldType} (hd : decode M.2.2.1 pc = .ok (.ireturn, 1)) (hr : M.2.2.2.2.1 = some ty) (hn : narrow ty (.int v) = .int v) (hQ : Q (.inl (some (xi v))) h) : xWp G M d K Q k pc L [xi v] h := by
  intro p l e R s m args below meth c H locs cells slots ls hs h1 h2 hS hR hL
  refine xx_ret (W.widen (k := K) (n := K) (by omega) (by omega) ?_)
  exact W.zret (v := v) hs.exec hs.bytes (hs.ret.trans hr) hn (fun t ht hW => ⟨some (xi v), h, rfl, hQ, by rw [ht]; exact hR.moved hW.alike, rfl, hS.F ht⟩) hS.2.2 hd hs.locks
theorem xw_aret {o : Option Nat} {ty : FieldType} (hd : decode M.2.2.1 pc = .ok (.areturn, 1)) (hr : M.2.2.2.2.1 = some ty) (hrf : ty.isReference = true) (hQ : Q (.inl (some (xr o))) h) : xWp G M d K Q k pc L [xr o] h := by
  intro p l e R s m args below meth c H locs cells slots ls hs h1 h2 hS hR hL
  refine xx_ret (W.widen (k := K) (n := K) (by omega) (by omega) ?_)
  exact W.aret (v := toV (xr o)) hs.exec hs.bytes (hs.ret.trans hr) (by cases ty <;> first | exact Or.inl ⟨_, rfl⟩ | exact Or.inr ⟨_, rfl⟩ | (exact absurd hrf (by decide))) (by cases o; exact Or.inl rfl; exact Or.inr ⟨_, rfl⟩) (fun t ht hW => ⟨some (xr o), h, rfl, hQ, by rw [ht]; exact hR.moved hW.alike, rfl, hS.F ht⟩) hS.2.2 hd hs.locks
theorem xw_vret (hd : decode M.2.2.1 pc = .ok (.return_, 1)) (hr : M.2.2.2.2.1 = none) (hQ : Q (.inl none) h) : xWp G M d K Q k pc L [] h := by
  intro p l e R s m args below meth c H locs cells slots ls hs h1 h2 hS hR hL
  refine xx_ret (W.widen (k := K) (n := K) (by omega) (by omega) ?_)
  exact W.vret hs.exec hs.bytes (hs.ret.trans hr) (fun t ht hW => ⟨none, h, rfl, hQ, by rw [ht]; exact hR.moved hW.alike, rfl, hS.F ht⟩) hS.2.2 hd hs.locks
theorem xw_athrow {q ci : Nat} {r : vw_C} (hd : decode M.2.2.1 pc = .ok (.athrow, 1)) (hc : vwCl[ci]? = some r) (hcls : xcls h q = ci + 1) (hlo : xbo (ci + 1) = false) (kk : xTh G M d K Q k pc L h q) : xWp G M d K Q k pc L (xr (some q) :: st) h := by
  intro p l e R s m args below meth c H locs cells slots ls hs h1 h2 hS hR hL
  exact xx_athrow hs.exec hs.bytes hd (kk p l e R s m args below meth c H locs cells slots ls (st.map toV) hs h1 h2 hS hR hL (xcls_lo hcls (Nat.succ_ne_zero _) hlo) ⟨ci, r, hcls, hc⟩)
theorem xTh_out {q : Nat} (hout : ∀ x ∈ tableOf M.2.2.2.2.2, covers x pc = false) (hQ : Q (.inr q) h) : xTh G M d K Q k pc L h q := by
  intro p l e R s m args below meth c H locs cells slots ls rest hs h1 h2 hS hR hL hq ⟨ci, r, e1, e2⟩
  obtain ⟨cell, q1, q2, q3, q4, q5, q6⟩ := (hR.2 q).1 ci r e1 e2
  refine xx_out (E := r.1) (by rw [hs.table]; exact hout) hs.locks q1 (q5 hq).1 (by rw [q2]; exact (hs.gc.kn.1 ci r e2).2.1) (fun t ht hA => ⟨h, hQ, by rw [ht]; exact hR.moved hA, rfl, hS.F ht, hq, ci, r, e1, e2, rfl⟩) hS.2.2 (by omega) (by omega)
theorem xTh_catch {q ci : Nat} {r : vw_C} {nm : String} (pre : List ExceptionTableEntry) (x : ExceptionTableEntry) (suf : List ExceptionTableEntry) (hsp : tableOf M.2.2.2.2.2 = pre ++ x :: suf) (hpass : ∀ z ∈ pre, covers z pc = false ∨ (z.catchType ≠ 0 ∧ ∃ nm' : String, Cond.classLink M.1 z.catchType nm' ∈ lw_all ∧ (r.1, nm') ∈ xnc)) (hx : covers x pc = true) (h0 : x.catchType ≠ 0) (hl : Cond.classLink M.1 x.catchType nm ∈ lw_all) (hc : vwCl[ci]? = some r) (hcls : xcls h q = ci + 1) (hw : Cond.castable r.1 nm ∈ lw_tbl) (kk : xWp G M d K Q k x.handlerPc L [xr (some q)] h) : xTh G M d K Q k pc L h q := by
  intro p l e R s m args below meth c H locs cells slots ls rest hs h1 h2 hS hR hL hq _
  obtain ⟨cell, q1, q2, q3, q4, q5, q6⟩ := (hR.2 q).1 ci r hcls hc
  exact xx_catch (E := r.1) hs.own pre x suf (hs.table.trans hsp) (fun z hz => (hpass z hz).imp id (fun ⟨a, nm', b, cc⟩ => ⟨a, nm', hs.words _ b, hs.gc.2.2.2.2.2.1 _ cc⟩)) hx h0 (hs.words _ hl) (va_Nw.use rfl (hs.gc.tb _ hw rfl)) q1 (q5 hq).1 (by rw [q2]; exact (hs.gc.kn.1 ci r hc).2.1) (kk p l e R s m args below meth c H locs cells slots ls hs h1 h2 hS hR hL)
end XHR


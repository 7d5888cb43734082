/-! native rows: a private call over a subclass, arraycopy and clone of bytes -/
/-! a private method, reached over an object of a class below -/
theorem x_selP {s : State} {args : Array Value} {C : String} {y y' : MethodName} (hs : (Cond.selects C y' y').before args s = true) (hc : y'.cls = y.cls) (hin : (Cond.instanceMethod y).before args s = true) (hp : (Cond.privateMethod y).before args s = true) (hy : y.cls ≠ "java/lang/invoke/MethodHandle" ∧ y.cls ≠ "java/lang/invoke/VarHandle") : (Cond.selects C y y).before args s = true := by
  obtain ⟨c2, r2, m2, q1, q2, q3, q4, kP, hkP, hkPi⟩ := Cond.selects_spec hs
  obtain ⟨mk, methM, hnamed, hmethM, -, -⟩ := Cond.instanceMethod_spec hin
  have hfound : s.methodFound? y.cls y.name y.desc = some mk := State.methodFound?_of_named hnamed hy
  have e1 := findClass_of_methodNamed hnamed
  have e2 := findClass_of_methodNamed q3
  rw [hc] at e2
  have e3 : m2.cls = mk.cls := Option.some.inj (e2.symm.trans e1)
  have hsel : selectMethod {} s.vm c2 mk = .method mk := selectMethod_private hmethM (Cond.privateMethod_at hp mk methM hnamed hmethM)
  rw [e3] at hkP
  simp only [Cond.before, Cond.holds, Cond.value, q1, hfound, hnamed, hsel, hkP]
  simp [hkPi]
section XPV
variable {G : xG} {M MY : xM} {d d' K : Nat} {Q P : xR → xH → Prop} {k k' pc : Nat} {L : List (Option xV)} {rest : List xV} {h : xH}
theorem xw_callVP {b ci : Nat} {r : vw_C} {n idx : Nat} {As : List xV} {st : List xV} (hd : decode M.2.2.1 pc = .ok (.invokevirtual idx, 3)) (hpl : xplain MY) (hm : xmeth MY n) (hlk : Cond.methodLink M.1 idx MY.2.1 ∈ lw_all) (hin : Cond.instanceMethod MY.2.1 ∈ lw_all) {y' : MethodName} (hse : Cond.selects r.1 y' y' ∈ lw_all) (hyc : y'.cls = MY.2.1.cls) (hpr : Cond.privateMethod MY.2.1 ∈ lw_tbl) (hc : vwCl[ci]? = some r) (hcls : xcls h b = ci + 1) (hn : As.length = n) (hst : st = As.reverse ++ xr (some b) :: rest) (hcat : (rest.map xcat).sum ≤ 8) (hdd : d' < d) (hk : k' ≤ k) (hC : xCn G MY d' k' (xr (some b) :: As) h P)
    (kn : ∀ (v : Option xV) (h' : xH), P (.inl v) h' → xWp G M d K Q (k - k') (pc + 3) L (v.toList ++ rest) h') (kt : ∀ (q : Nat) (h' : xH), P (.inr q) h' → xTh G M d K Q (k - k') pc L h' q) : xWp G M d K Q k pc L st h := by
  subst hst
  intro p l e R s m args below meth c H locs cells slots ls hs h1 h2 hS hR hL
  have hrm := hs.room
  have hml := hm.2.2.1
  have hws : ∀ w ∈ xws MY, ∀ (a' : Array Value) (U : State), s.WarmedH U.vm → w.before a' U = true := by
    rw [xws_plain hpl]
    exact pay_in hs.words (lw_meth hpl.2)
  have hci : Cond.code MY.2.1 MY.2.2.1 MY.2.2.2.1 MY.2.2.2.2.1 ∈ xws MY := by
    rw [xws_plain hpl]
    exact List.mem_cons_self
  have hfr : (({ frames := d', cells := k', slots := k', locals := 60 * d' } : Room)).frames + 1 ≤ R.frames := by show d' + 1 ≤ R.frames; omega
  have hloc : 8 + (MY.2.2.2.1 + 11) + (({ frames := d', cells := k', slots := k', locals := 60 * d' } : Room)).locals ≤ R.locals := by show 8 + (MY.2.2.2.1 + 11) + 60 * d' ≤ R.locals; omega
  obtain ⟨cellB, hcB1, hcB2, hcB3⟩ := xcell hs.gc hR hc hcls
  have cw := (show CallW R s args M.1 r.1 idx MY.2.1 MY.2.2.1 MY.2.2.2.1 MY.2.2.2.2.1 (xws MY) ({ frames := d', cells := k', slots := k', locals := 60 * d' } : Room) k' k' n from ⟨⟨rfl, rfl, hfr, hloc, hws, hci, hs.words _ hpl.2, (hs.words _ hm.2.2.2), hm.1, hm.len, hs.words _ hlk⟩, hs.words _ hin, x_selP (hs.words _ hse) hyc (hs.words _ hin) (va_Nw.use rfl (hs.gc.tb _ hpr rfl)) hm.1⟩)
  refine xrun (aa := ((xr (some b) :: As).map toV).toArray) hs h1 h2 hS hL hk ?_ kn kt
  exact xx_runV (As := As.map toV) (rest := rest.map toV) (b := b) ⟨hs.exec, hs.bytes, hs.maxl, hs.own, hs.words⟩ (hC l) cw ⟨xBlind, ⟨cellB, hcB1, hcB2, hcB3⟩, fun U hU hW => ⟨rfl, xPre rfl hs.gc hS hR hU hW⟩⟩ rfl (by rw [List.length_map]; exact hn) (hL.1.trans rfl) (xstk_b _ _ _) (xcatsum hcat) hd ⟨by omega, by omega⟩
end XPV
/-! System.arraycopy of bytes -/
def xcpy (h : xH) (a b i j n : Nat) : xH := xfil h b (fun t => if j ≤ t ∧ t < j + n then xval h a (i + (t - j)) else xval h b t)
theorem x_copied {cs : Cell} {cC : ClassId} {i j n N : Nat} {f g : Nat → xV} (hi : i < 2147483648) (hj : j < 2147483648) (hn : n < 2147483648) (h1 : i + n ≤ cs.slots.size) (h2 : j + n ≤ N) (hs : ∀ t, t < cs.slots.size → cs.slots[t]? = some (toV (f t))) :
    copied cs (arrV cC N (fun t => toV (g t))) (nI i) (nI j) (nI n) = arrV cC N (fun t => toV (if j ≤ t ∧ t < j + n then f (i + (t - j)) else g t)) := by
  unfold copied
  rw [nI_clamp hi, nI_clamp hj, nI_clamp hn]
  obtain ⟨q1, q2, q3, q4, q5⟩ := Cell.storeRun_facts (arrV cC N (fun t => toV (g t))) j (cs.stretch i n)
  rw [Cell.eq_with_slots q1 q2 q4 q5]
  have e : ((arrV cC N (fun t => toV (g t))).storeRun j (cs.stretch i n)).slots = (arrV cC N (fun t => toV (if j ≤ t ∧ t < j + n then f (i + (t - j)) else g t))).slots := by
    apply Array.ext_getElem?
    intro t
    have hl := Cell.stretch_length cs i n
    have := Cell.storePairs_get (arrV cC N (fun t => toV (g t))) j (cs.stretch i n) 0 t (by rw [hl, arrV_size]; omega)
    rw [show (arrV cC N (fun t => toV (g t))).storeRun j (cs.stretch i n) = (arrV cC N (fun t => toV (g t))).storePairs j ((cs.stretch i n).zipIdx 0) from rfl, this, hl]
    by_cases c : j ≤ t ∧ t < j + n
    · rw [if_pos (by omega), arrV_read cC _ (by omega), if_pos c]
      have ht : t - (j + 0) < n := by omega
      unfold Cell.stretch
      rw [List.getElem?_map, List.getElem?_range ht]
      show some (cs.slots.getD (i + (t - (j + 0))) .null) = _
      have hb : i + (t - j) < cs.slots.size := by omega
      have := hs (i + (t - j)) hb
      rw [Nat.add_zero, Array.getD_eq_getD_getElem?, this]
      rfl
    · rw [if_neg (by omega)]
      by_cases ht : t < N
      · rw [arrV_read cC _ ht, arrV_read cC _ ht, if_neg c]
      · rw [Array.getElem?_eq_none (by rw [arrV_size]; omega), Array.getElem?_eq_none (by rw [arrV_size]; omega)]
  rw [e]
  rfl
section XPC
variable {G : xG} {M MY : xM} {d d' K : Nat} {Q P : xR → xH → Prop} {k k' pc : Nat} {L : List (Option xV)} {st : List xV} {h : xH}
theorem xw_acopyB {a b i j n idx : Nat} {x y z : Int32} (hd : decode M.2.2.1 pc = .ok (.invokestatic idx, 3)) (hl : Cond.methodLink M.1 idx Stand.acN ∈ lw_all) (hnat : Cond.native Stand.acN ∈ lw_all) (hst9 : Cond.static Stand.acN ∈ lw_all) (hini : Cond.initialized "java/lang/System" ∈ lw_all) (hdp : 1 ≤ d) (hst : (st.map xcat).sum ≤ 8)
    (ca : xcls h a = 1000) (cb : xcls h b = 1000) (hlo : xlo h ≤ b) (hx : x = nI i) (hy : y = nI j) (hz : z = nI n) (hi : i + n ≤ xlen h a) (hj : j + n ≤ xlen h b) (ha2 : xlen h a < 2147483648) (hb2 : xlen h b < 2147483648) (hfit : ∀ t, t < n → ∃ v : Int32, xval h a (i + t) = xi v ∧ fits .byte (.int v) = true)
    (kk : ∀ h' : xH, h' = xcpy h a b i j n → xWp G M d K Q k (pc + 3) L st h') : xWp G M d K Q k pc L (xi z :: xi y :: xr (some b) :: xi x :: xr (some a) :: st) h := by
  subst hx hy hz
  intro p l e R s m args below meth c H locs cells slots ls hs h1 h2 hS hR hL
  have hrm := hs.room
  have hcat : ((st.map toV).map fun v => v.category) = st.map xcat := by
    rw [List.map_map]
    exact List.map_congr_left (fun v _ => toV_cat v)
  obtain ⟨cs, a1, a2, a3, a4, a5, a6, a7, a8⟩ := (hR.2 a).2 0 .byte ca rfl
  obtain ⟨cd, b1, b2, b3, b4, b5, b6, b7, b8⟩ := (hR.2 b).2 0 .byte cb rfl
  obtain ⟨a41, ks, a42, sC, a43⟩ := a4
  obtain ⟨b41, kd, b42, dC, b43⟩ := b4
  have hcd := b8 hlo
  have hsz : ∀ {x : Nat}, x < 2147483648 → (nI x).toInt = (x : Int) := fun h => nI_toInt h
  intro T hT X
  obtain ⟨vm₁, hW, X1, st1⟩ := X.arraycopyK hs.exec hs.own (hs.words _ hl) (hs.words _ hnat) (hs.words _ hst9) (hs.words _ hini) (src := a) (dst := b) (srcPos := nI i) (destPos := nI j) (n := nI n) (cs := cs) (cd := cd) (by rw [hT]; exact a1) (by rw [hT]; exact b1) a41 b41 a5 b5 a42 b42 a43 b43 rfl
    (nI_pos (by omega)) (nI_pos (by omega)) (nI_pos (by omega)) (by rw [hsz (by omega), hsz (by omega), a6]; omega) (by rw [hsz (by omega), hsz (by omega), b6]; omega)
    (fun vm' hW' t ht => by
      rw [nI_clamp (by omega)] at ht
      rw [nI_clamp (by omega)]
      obtain ⟨v, e1, e2⟩ := hfit t ht
      have := a7 (i + t) (by omega)
      rw [Array.getD_eq_getD_getElem?, this, e1]
      exact ⟨e2, trivial⟩)
    (g := F0 m pc ls (xi (nI n) :: xi (nI j) :: xr (some b) :: xi (nI i) :: xr (some a) :: st |>.map toV)) rfl (hL.1.trans hs.maxl.symm) (rest := st.map toV) rfl (by rw [hs.bytes]; exact hd) (by omega) (by
      show 2 * 0 + (((st.map toV).map fun v => v.category).sum) + (7 + 11) ≤ R.locals
      rw [hcat]; omega)
  have ecp : copied cs cd (nI i) (nI j) (nI n) = arrV cd.cls (xlen h b) (fun t => toV (if j ≤ t ∧ t < j + n then xval h a (i + (t - j)) else xval h b t)) := by
    rw [hcd]
    exact x_copied (by omega) (by omega) (by omega) (by rw [a6]; exact hi) hj (fun t ht => a7 t (by rw [← a6]; exact ht))
  have hbT : (T.setVm vm₁).heap[b]? = some cd := by show T.heap[b]? = some cd; rw [hT]; exact b1
  have hz1 : ((T.setVm vm₁).setCell b (copied cs cd (nI i) (nI j) (nI n))).heap.size = H.size := by
    show (T.heap.setIfInBounds b _).size = _
    rw [Array.size_setIfInBounds, hT]
  have hz2 : ∀ q : Nat, q ≠ b → ((T.setVm vm₁).setCell b (copied cs cd (nI i) (nI j) (nI n))).heap[q]? = H[q]? := fun q hq => by
    rw [State.heap_setCell_other (fun z => hq z.symm)]; show T.heap[q]? = _; rw [hT]
  have R' := hR.afil (f := fun t => if j ≤ t ∧ t < j + n then xval h a (i + (t - j)) else xval h b t) (j := 0) (ty := .byte) (H' := ((T.setVm vm₁).setCell b (copied cs cd (nI i) (nI j) (nI n))).heap) rfl cb b1 (by rw [← ecp]; exact State.heap_setCell_self hbT) hz1 hz2
  obtain ⟨t, t1, t2⟩ := kk _ rfl p l e R s m args below meth c _ (locs ++ Stand.copyLocs b (nI j).toNatClampNeg (nI n).toNatClampNeg) cells slots ls hs h1 h2 ⟨by rw [hz1]; exact hS.1, fun q g1 g2 => by rw [hz2 q (fun z => g2 (by rw [z]; exact hlo))]; exact hS.2.1 q g1 g2, fun q hq => (List.mem_append.mp hq).elim (hS.2.2 q) (fun z => by rw [Stand.copyLocs_base z]; exact hlo)⟩ R' hL _ rfl X1
  exact ⟨t, st1 t t1, t2⟩
end XPC
/-! clone() of an array of bytes, and its cast -/
section XPD
variable {G : xG} {M MY : xM} {d d' K : Nat} {Q P : xR → xH → Prop} {k k' pc : Nat} {L : List (Option xV)} {st : List xV} {h : xH}
theorem xw_cloneB {a idx : Nat} (hd : decode M.2.2.1 pc = .ok (.invokevirtual idx, 3)) (hl : Cond.methodLink M.1 idx ⟨"[B", "clone", "()Ljava/lang/Object;"⟩ ∈ lw_all) (hsame : Cond.sameMethod "[B" "java/lang/Object" "clone" "()Ljava/lang/Object;" ∈ lw_all)
    (hnat : Cond.native ⟨"java/lang/Object", "clone", "()Ljava/lang/Object;"⟩ ∈ lw_all) (hinst : Cond.instanceMethod ⟨"java/lang/Object", "clone", "()Ljava/lang/Object;"⟩ ∈ lw_all)
    (hsel : Cond.selects "[B" ⟨"[B", "clone", "()Ljava/lang/Object;"⟩ ⟨"java/lang/Object", "clone", "()Ljava/lang/Object;"⟩ ∈ lw_all) (hcl : Cond.castable "[B" "java/lang/Cloneable" ∈ lw_tbl)
    (hdp : 1 ≤ d) (hst : (st.map xcat).sum ≤ 8) (ca : xcls h a = 1000) (hle : 1 + xlen h a ≤ k) (hfit : ∀ t, t < xlen h a → ∃ v : Int32, xval h a t = xi v ∧ fits .byte (.int v) = true)
    (kk : ∀ (h' : xH) (b : Nat), b = xsz h → h' = xnew h 1000 (xlen h a) (fun t => xval h a t) → xWp G M d K Q (k - (1 + xlen h a)) (pc + 3) L (xr (some b) :: st) h') : xWp G M d K Q k pc L (xr (some a) :: st) h := by
  intro p l e R s m args below meth c H locs cells slots ls hs h1 h2 hS hR hL
  have hrm := hs.room
  have hcat : ((st.map toV).map fun v => v.category) = st.map xcat := by
    rw [List.map_map]
    exact List.map_congr_left (fun v _ => toV_cat v)
  obtain ⟨cs, a1, a2, a3, a4, a5, a6, a7, a8⟩ := (hR.2 a).2 0 .byte ca rfl
  obtain ⟨a41, ks, a42, sC, a43⟩ := a4
  obtain ⟨c0, t0, f1, f2, f3⟩ := Cond.castable_spec (va_Nw.use (A := args) rfl (hs.gc.2.2.1 _ hcl rfl))
  have hB : s.vm.findClass "[B" = some cs.cls := a3
  cases hB.symm.trans f1
  have ecp : ({ cls := cs.cls, slots := cs.slots } : Cell) = arrV cs.cls (xlen h a) (fun t => toV (xval h a t)) := by
    have : cs.slots = (arrV cs.cls (xlen h a) (fun t => toV (xval h a t))).slots := by
      apply Array.ext_getElem?
      intro t
      by_cases ht : t < xlen h a
      · rw [a7 t ht, arrV_read cs.cls _ ht]
      · rw [Array.getElem?_eq_none (by omega), Array.getElem?_eq_none (by rw [arrV_size]; omega)]
    rw [this]
    rfl
  intro T hT X
  have hz := hR.1
  have hA : s.vm.Alike T.vm := X.warmed.alike
  obtain ⟨ks2, a44, a45⟩ := hA.2.2 _ _ a42
  obtain ⟨vm', X1, st1⟩ := X.cloneArray hs.exec hs.own (hs.words _ hl) (hs.words _ hsame) (hs.words _ hnat) (hs.words _ hinst) (hs.words _ hsel) (a := a) (cell := cs) (by rw [hT]; exact a1) a41 a5 hB f2 f3
    (fun i v hv => by
      have hi : i < xlen h a := by rw [← a6]; exact (Array.getElem?_eq_some_iff.mp hv).1
      rw [a7 i hi] at hv
      obtain ⟨u, e1, e2⟩ := hfit i hi
      rw [e1] at hv
      cases hv
      have hk' : T.vm.classes[cs.cls]? = some ks2 := a44
      have hk2 : ks2.kind = .array sC .byte := by rw [a45]; exact a43
      simpa [State.fitsSlot, State.slotType?, hk', hk2] using (show fits .byte (toV (xi u)) = true from e2))
    (g := F0 m pc ls (xr (some a) :: st |>.map toV)) rfl (hL.1.trans hs.maxl.symm) (rest := st.map toV) rfl (by rw [hs.bytes]; exact hd) (by omega) (by
      show 2 * 0 + (((st.map toV).map fun v => v.category).sum) + 14 ≤ R.locals
      rw [hcat]; omega) (by omega) (by rw [a6]; omega) (hloader := Vm.clonesLoader_of_array a42 a43)
  rw [a6] at X1
  have hz1 : ((T.setVm vm').pushCell { cls := cs.cls, slots := cs.slots }).heap.size = xsz h + 1 := by
    show (T.heap.push _).size = _
    rw [Array.size_push, hT, hz]
  have hz2 : ∀ q : Nat, q < xsz h → ((T.setVm vm').pushCell { cls := cs.cls, slots := cs.slots }).heap[q]? = H[q]? := fun q hq => by
    show (T.heap.push _)[q]? = _
    rw [hT, Array.getElem?_push, if_neg (by omega)]
  have hz3 : ((T.setVm vm').pushCell { cls := cs.cls, slots := cs.slots }).heap[xsz h]? = some (arrV cs.cls (xlen h a) (fun t => toV (xval h a t))) := by
    show (T.heap.push _)[xsz h]? = _
    rw [hT, ← hz, Array.getElem?_push_size, ecp]
  have hlo : xlo h ≤ s.heap.size := hs.gc.1
  have h3 : s.heap.size ≤ H.size := hS.1
  have R' := hR.newA (j := 0) (ty := .byte) rfl a2 a3 hz3 hz1 hz2
  obtain ⟨t, t1, t2⟩ := kk _ _ rfl rfl p l e R s m args below meth c _ locs (cells + 1) (slots + xlen h a) ls hs (by omega) (by omega) ⟨by omega, fun q g1 g2 => (hz2 q (by omega)).trans (hS.2.1 q g1 g2), hS.2.2⟩ R' hL _ rfl X1
  refine ⟨t, st1 t ?_, t2⟩
  rw [hT, hz]
  exact t1
theorem xw_castB {a idx : Nat} (hd : decode M.2.2.1 pc = .ok (.checkcast idx, 3)) (hl : Cond.classLink M.1 idx "[B" ∈ lw_all) (ca : xcls h a = 1000) (kw : xWp G M d K Q k (pc + 3) L (xr (some a) :: st) h) : xWp G M d K Q k pc L (xr (some a) :: st) h := by
  intro p l e R s m args below meth c H locs cells slots ls hs h1 h2 hS hR hL
  obtain ⟨cs, a1, a2, a3, a4, a5, a6, a7, a8⟩ := (hR.2 a).2 0 .byte ca rfl
  intro T hT X
  have hst : cs.vm.isStatics = false := by
    cases hv : cs.vm <;> first | rfl | exact absurd hv (a4.1 _)
  obtain ⟨vm', X', st'⟩ := X.checkcastYes hs.exec hs.own (hs.words _ hl) (a := a) (cell := cs) (by rw [hT]; exact a1) hst a3 (va_asg _ _) (g := F0 m pc ls ((xr (some a) :: st).map toV)) rfl rfl (by rw [hs.bytes]; exact hd)
  obtain ⟨t, a1, b1⟩ := kw p l e R s m args below meth c H locs cells slots ls hs h1 h2 hS hR hL (T.setVm vm') hT X'
  exact ⟨t, st' t a1, b1⟩
end XPD

/-! a private method, reached over an object of a class below -/
theorem x_selP {s : State} {args : Array Value} {C : String} {y y' : MethodName} (hs : (Cond.selects C y' y').before args s = true) (hc : y'.cls = y.cls) (hin : (Cond.instanceMethod y).before args s = true) (hp : (Cond.privateMethod y).before args s = true) (hy : y.cls ≠ "java/lang/invoke/MethodHandle" ∧ y.cls ≠ "java/lang/invoke/VarHandle") : (Cond.selects C y y).before args s = true := by
  obtain ⟨c2, r2, m2, q1, q2, q3, q4, kP, hkP, hkPi⟩ := Cond.selects_spec hs
  obtain ⟨mk, methM, hnamed, hmethM, -, -⟩ := Cond.instanceMethod_spec hin
  have hfound : s.methodFound? y.cls y.name y.desc = some mk := State.methodFound?_of_named hnamed hy
  have e1 := findClass_of_methodNamed hnamed
  have e2 := findClass_of_methodNamed q3
  rw [hc] at e2
  have e3 : m2.cls = mk.cls := Option.some.inj (e2.symm.trans e1)
  have hsel : selectMethod {} s.vm c2 mk = .method mk := selectMethod_private hmethM (Cond.privateMethod_at hp mk methM hnamed hmethM)
  rw [e3] at hkP
  simp only [Cond.before, Cond.holds, Cond.value, q1, hfound, hnamed, hsel, hkP]
  simp [hkPi]
section XPV
variable {G : xG} {M MY : xM} {d d' K : Nat} {Q P : xR → xH → Prop} {k k' pc : Nat} {L : List (Option xV)} {rest : List xV} {h : xH}
theorem xw_callVP {b ci : Nat} {r : vw_C} {n idx : Nat} {As : List xV} {st : List xV} (hd : decode M.2.2.1 pc = .ok (.invokevirtual idx, 3)) (hpl : xplain MY) (hm : xmeth MY n) (hlk : Cond.methodLink M.1 idx MY.2.1 ∈ lw_all) (hin : Cond.instanceMethod MY.2.1 ∈ lw_all) {y' : MethodName} (hse : Cond.selects r.1 y' y' ∈ lw_all) (hyc : y'.cls = MY.2.1.cls) (hpr : Cond.privateMethod MY.2.1 ∈ lw_all) (hc : vwCl[ci]? = some r) (hcls : xcls h b = ci + 1) (hn : As.length = n) (hst : st = As.reverse ++ xr (some b) :: rest) (hcat : (rest.map xcat).sum ≤ 8) (hdd : d' < d) (hk : k' ≤ k) (hC : xCn G MY d' k' (xr (some b) :: As) h P)
    (kn : ∀ (v : Option xV) (h' : xH), P (.inl v) h' → xWp G M d K Q (k - k') (pc + 3) L (v.toList ++ rest) h') (kt : ∀ (q : Nat) (h' : xH), P (.inr q) h' → xTh G M d K Q (k - k') pc L h' q) : xWp G M d K Q k pc L st h := by
  subst hst
  intro p l e R s m args below meth c H locs cells slots ls hs h1 h2 hS hR hL
  have hrm := hs.room
  have hml := hm.2.2.1
  have hws : ∀ w ∈ xws MY, ∀ (a' : Array Value) (U : State), s.WarmedH U.vm → w.before a' U = true := by
    rw [xws_plain hpl]
    exact pay_in hs.words (lw_meth hpl.2)
  have hci : Cond.code MY.2.1 MY.2.2.1 MY.2.2.2.1 MY.2.2.2.2.1 ∈ xws MY := by
    rw [xws_plain hpl]
    exact List.mem_cons_self
  have hfr : (({ frames := d', cells := k', slots := k', locals := 60 * d' } : Room)).frames + 1 ≤ R.frames := by show d' + 1 ≤ R.frames; omega
  have hloc : 8 + (MY.2.2.2.1 + 11) + (({ frames := d', cells := k', slots := k', locals := 60 * d' } : Room)).locals ≤ R.locals := by show 8 + (MY.2.2.2.1 + 11) + 60 * d' ≤ R.locals; omega
  obtain ⟨cellB, hcB1, hcB2, hcB3⟩ := xcell hs.gc hR hc hcls
  have cw := (show CallW R s args M.1 r.1 idx MY.2.1 MY.2.2.1 MY.2.2.2.1 MY.2.2.2.2.1 (xws MY) ({ frames := d', cells := k', slots := k', locals := 60 * d' } : Room) k' k' n from ⟨⟨rfl, rfl, hfr, hloc, hws, hci, hs.words _ hpl.2, (hs.words _ hm.2.2.2), hm.1, hm.len, hs.words _ hlk⟩, hs.words _ hin, x_selP (hs.words _ hse) hyc (hs.words _ hin) (hs.words _ hpr) hm.1⟩)
  refine xrun (aa := ((xr (some b) :: As).map toV).toArray) hs h1 h2 hS hL hk ?_ kn kt
  exact xx_runV (As := As.map toV) (rest := rest.map toV) (b := b) ⟨hs.exec, hs.bytes, hs.maxl, hs.own, hs.words⟩ (hC l) cw ⟨xBlind, ⟨cellB, hcB1, hcB2, hcB3⟩, fun U hU hW => ⟨rfl, xPre rfl hs.gc hS hR hU hW⟩⟩ rfl (by rw [List.length_map]; exact hn) (hL.1.trans rfl) (xstk_b _ _ _) (xcatsum hcat) hd ⟨by omega, by omega⟩
end XPV

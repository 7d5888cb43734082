/-! entry and calls -/
def xentL : List xV → List (Option xV)
  | [] => []
  | v :: vs => if xcat v = 2 then some v :: none :: xentL vs else some v :: xentL vs
def xent (args : List xV) (n : Nat) : List (Option xV) := xentL args ++ List.replicate (n - (xentL args).length) none
theorem xent_mem : ∀ (args : List xV) (i j : Nat) (v : xV), (xentL args)[j]? = some (some v) → (i + j, toV v) ∈ lv_args i (args.map toV)
  | [], i, j, v, h => by simp [xentL] at h
  | a :: as, i, j, v, h => by
    rw [xentL] at h
    show _ ∈ (i, toV a) :: lv_args (if (toV a).category = 2 then i + 2 else i + 1) (as.map toV)
    rw [toV_cat]
    by_cases c : xcat a = 2
    · rw [if_pos c] at h ⊢
      match j, h with
      | 0, h =>
        cases h
        exact List.mem_cons_self
      | 1, h => cases h
      | j + 2, h =>
        have := xent_mem as (i + 2) j v h
        rw [show i + (j + 2) = i + 2 + j by omega]
        exact List.mem_cons_of_mem _ this
    · rw [if_neg c] at h ⊢
      match j, h with
      | 0, h =>
        cases h
        exact List.mem_cons_self
      | j + 1, h =>
        have := xent_mem as (i + 1) j v h
        rw [show i + (j + 1) = i + 1 + j by omega]
        exact List.mem_cons_of_mem _ this
theorem xent_len : ∀ (args : List xV), (lg_sl (args.map toV)).length = (xentL args).length
  | [] => rfl
  | a :: as => by
    have ih := xent_len as
    unfold lg_sl at ih ⊢
    rw [List.map_cons, List.flatMap_cons, List.length_append, ih, xentL, toV_cat]
    by_cases c : xcat a = 2
    · rw [if_pos c, if_pos c]
      show 2 + _ = _
      simp only [List.length_cons]
      omega
    · rw [if_neg c, if_neg c]
      show 1 + _ = _
      simp only [List.length_cons]
      omega
theorem xent_at {args : List xV} {n j : Nat} {v : xV} (h : (xent args n)[j]? = some (some v)) : (j, toV v) ∈ lv_args 0 (args.map toV) := by
  unfold xent at h
  by_cases hj : j < (xentL args).length
  · rw [List.getElem?_append_left hj] at h
    have := xent_mem args 0 j v h
    rwa [Nat.zero_add] at this
  · rw [List.getElem?_append_right (by omega)] at h
    have := List.mem_of_getElem? h
    have := List.eq_of_mem_replicate this
    cases this
section XCALL
variable {G : xG} {M MY : xM} {d d' K : Nat} {Q P : xR → xH → Prop} {k k' pc : Nat} {L : List (Option xV)} {rest : List xV} {h : xH}
theorem xBlind {args : List xV} : FrameBlind (va_Pc (args.map toV) (fun U => xGC G (xlo h) U ∧ xRel G.1 h U U.heap)) := by
  intro a U g mk ⟨q1, q2, q3⟩
  exact ⟨q1, q2.warm (s := U) (U := U.calling g mk a) (State.WarmedH.refl U) q2.1 (fun _ _ _ => rfl), q3.moved (Vm.Alike.refl U.vm)⟩


theorem xPre {s U : State} {lo : Nat} {H : Heap} {locs : List Loc} (hlo : xlo h = lo) (hG : xGC G lo s) (hS : va_S (fun q => lo ≤ q) s.heap H locs) (hR : xRel G.1 h s H) (hU : U.heap = H) (hW : s.WarmedH U.vm) : xGC G (xlo h) U ∧ xRel G.1 h U U.heap := by
  subst hlo
  have hl : xlo h ≤ s.heap.size := hG.1
  have hs : s.heap.size ≤ H.size := hS.1
  exact ⟨hG.warm hW (by rw [hU]; omega) (fun a ha hn => by rw [hU]; exact hS.2.1 a ha hn), by rw [hU]; exact hR.moved hW.alike⟩
theorem xkeep {lo : Nat} {s st0 t T' : State} {H : Heap} {locs L' : List Loc} (h0 : st0.heap = H) (e1 : T'.heap = t.heap) (hS : va_S (fun q => lo ≤ q) s.heap H locs) (hL : ∀ q ∈ L', lo ≤ q.base) (hF : va_F (fun q => lo ≤ q) st0 t) : va_S (fun q => lo ≤ q) s.heap T'.heap (locs ++ L') := by
  obtain ⟨hz, hk⟩ := hF
  rw [h0] at hz hk
  have hs : s.heap.size ≤ H.size := hS.1
  refine ⟨by rw [e1]; omega, fun q g1 g2 => by rw [e1, hk q (by omega) g2]; exact hS.2.1 q g1 g2, fun q hq => ?_⟩
  rcases List.mem_append.mp hq with z | z
  · exact hS.2.2 q z
  · exact hL q z
theorem toV_inj_opt {v : Option Value} {w : Option xV} (h : Outcome.returned v = .returned (w.map toV)) : v = w.map toV := by
  injection h
theorem toList_map (w : Option xV) : (w.map toV).toList = w.toList.map toV := by cases w <;> rfl
theorem xrun {p : Program} {l : Launch} {e : Env} {R : Room} {s : State} {m : MethodId} {args : Array Value} {below : List Frame} {meth : Method} {c : Code} {H : Heap} {locs : List Loc} {cells slots : Nat} {ls : Array Slot} {st0 : List Value} {aa : Array Value}
    (hs : xSit G (xlo h) d K M p R s m args meth c) (h1 : cells + k ≤ K) (h2 : slots + k ≤ K) (hS : va_S (fun q => xlo h ≤ q) s.heap H locs) (hL : xhas ls M.2.2.2.1 L) (hk : k' ≤ k)
    (hrun : xx_Run p l e R s m args below meth c H locs cells slots k' k' (F0 m pc ls st0) (rest.map toV) (xQc G (xlo h) P aa) (xXC G (xlo h) P) (fun q => xlo h ≤ q))
    (kn : ∀ (v : Option xV) (h' : xH), P (.inl v) h' → xWp G M d K Q (k - k') (pc + 3) L (v.toList ++ rest) h') (kt : ∀ (q : Nat) (h' : xH), P (.inr q) h' → xTh G M d K Q (k - k') pc L h' q) :
    W p l e R s m args below meth c H locs cells slots (xFin G (xlo h) Q K below args s) (F0 m pc ls st0) := by
  intro T hT X
  rcases hrun T hT X with ⟨v, st1, t, T', L', e0, X', hL', e1, e2, ⟨w, h', ev, hP, hR', elo, hF⟩, hgo⟩ | ⟨q, st1, t, T', L', E, ce, e0, X', hL', e1, e2, ⟨h', hP, hR', elo, hF, hq, ci, r, c1, c2, c3⟩, hce, hcv, hcl, hst⟩
  · have hv := toV_inj_opt ev
    subst hv
    have hA : s.vm.Alike T'.vm := X'.warmed.alike
    have hR2 : xRel G.1 h' s T'.heap := by
      rw [e1]
      rw [e2] at hA
      exact hR'.moved hA.symm
    have hS2 := xkeep e0 e1 hS hL' hF
    have kn2 := kn w h' hP p l e R s m args below meth c T'.heap (locs ++ L') (cells + k') (slots + k') ls
    rw [elo] at kn2
    obtain ⟨t2, a1, b1⟩ := kn2 hs (by omega) (by omega) hS2 hR2 hL T' rfl X'
    refine ⟨t2, hgo t2 ?_, b1⟩
    rw [toList_map, ← List.map_append]
    exact a1
  · have hA : s.vm.Alike T'.vm := X'.warmed.alike
    have hR2 : xRel G.1 h' s T'.heap := by
      rw [e1]
      rw [e2] at hA
      exact hR'.moved hA.symm
    have hS2 := xkeep e0 e1 hS hL' hF
    have kt2 := kt q h' hP p l e R s m args below meth c T'.heap (locs ++ L') (cells + k') (slots + k') ls (rest.map toV)
    rw [elo] at kt2
    obtain ⟨t2, a1, b1⟩ := kt2 hs (by omega) (by omega) hS2 hR2 hL hq ⟨ci, r, c1, c2⟩ T' rfl X'
    exact ⟨t2, hst.trans a1, b1⟩
theorem xrun5 {p : Program} {l : Launch} {e : Env} {R : Room} {s : State} {m : MethodId} {args : Array Value} {below : List Frame} {meth : Method} {c : Code} {H : Heap} {locs : List Loc} {cells slots : Nat} {ls : Array Slot} {st0 : List Value} {aa : Array Value}
    (hs : xSit G (xlo h) d K M p R s m args meth c) (h1 : cells + k ≤ K) (h2 : slots + k ≤ K) (hS : va_S (fun q => xlo h ≤ q) s.heap H locs) (hL : xhas ls M.2.2.2.1 L) (hk : k' ≤ k)
    (hrun : xx_Run5 p l e R s m args below meth c H locs cells slots k' k' (F0 m pc ls st0) (rest.map toV) (xQc G (xlo h) P aa) (xXC G (xlo h) P) (fun q => xlo h ≤ q))
    (kn : ∀ (v : Option xV) (h' : xH), P (.inl v) h' → xWp G M d K Q (k - k') (pc + 5) L (v.toList ++ rest) h') (kt : ∀ (q : Nat) (h' : xH), P (.inr q) h' → xTh G M d K Q (k - k') pc L h' q) :
    W p l e R s m args below meth c H locs cells slots (xFin G (xlo h) Q K below args s) (F0 m pc ls st0) := by
  intro T hT X
  rcases hrun T hT X with ⟨v, st1, t, T', L', e0, X', hL', e1, e2, ⟨w, h', ev, hP, hR', elo, hF⟩, hgo⟩ | ⟨q, st1, t, T', L', E, ce, e0, X', hL', e1, e2, ⟨h', hP, hR', elo, hF, hq, ci, r, c1, c2, c3⟩, hce, hcv, hcl, hst⟩
  · have hv := toV_inj_opt ev
    subst hv
    have hA : s.vm.Alike T'.vm := X'.warmed.alike
    have hR2 : xRel G.1 h' s T'.heap := by
      rw [e1]
      rw [e2] at hA
      exact hR'.moved hA.symm
    have hS2 := xkeep e0 e1 hS hL' hF
    have kn2 := kn w h' hP p l e R s m args below meth c T'.heap (locs ++ L') (cells + k') (slots + k') ls
    rw [elo] at kn2
    obtain ⟨t2, a1, b1⟩ := kn2 hs (by omega) (by omega) hS2 hR2 hL T' rfl X'
    refine ⟨t2, hgo t2 ?_, b1⟩
    rw [toList_map, ← List.map_append]
    exact a1
  · have hA : s.vm.Alike T'.vm := X'.warmed.alike
    have hR2 : xRel G.1 h' s T'.heap := by
      rw [e1]
      rw [e2] at hA
      exact hR'.moved hA.symm
    have hS2 := xkeep e0 e1 hS hL' hF
    have kt2 := kt q h' hP p l e R s m args below meth c T'.heap (locs ++ L') (cells + k') (slots + k') ls (rest.map toV)
    rw [elo] at kt2
    obtain ⟨t2, a1, b1⟩ := kt2 hs (by omega) (by omega) hS2 hR2 hL hq ⟨ci, r, c1, c2⟩ T' rfl X'
    exact ⟨t2, hst.trans a1, b1⟩
/-- what a call asks of the method called, by the class files -/
def xmeth (MY : xM) (n : Nat) : Prop := (MY.2.1.cls ≠ "java/lang/invoke/MethodHandle" ∧ MY.2.1.cls ≠ "java/lang/invoke/VarHandle") ∧ (parseMethodDescriptor MY.2.1.desc).map (fun d => d.parameters.length) = some n ∧ MY.2.2.2.1 ≤ 41 ∧ Cond.initialized MY.2.1.cls ∈ lw_all
theorem xmeth.len {n : Nat} (hm : xmeth MY n) : ∀ sig, parseMethodDescriptor MY.2.1.desc = some sig → n = sig.parameters.length := by
  intro sig z
  have := hm.2.1
  rw [z] at this
  exact (Option.some.inj this).symm
theorem xcatsum {m : MethodId} {pc : Nat} {ls : Array Slot} {st0 : List Value} {rest : List xV} (h : (rest.map xcat).sum ≤ 8) : 2 * (F0 m pc ls st0).monitorRoom + ((rest.map toV).map fun v => v.category).sum ≤ 8 := by
  have hcat : ((rest.map toV).map fun v => v.category) = rest.map xcat := by
    rw [List.map_map]
    exact List.map_congr_left (fun v _ => toV_cat v)
  have hm : (F0 m pc ls st0).monitorRoom = 0 := rfl
  rw [hcat, hm]
  omega
theorem xstk_b (As rest : List xV) (b : Nat) : (As.reverse ++ xr (some b) :: rest).map toV = (As.map toV).reverse ++ .ref b :: rest.map toV := by
  simp [List.map_append, List.map_reverse]
  rfl
theorem xstk_s (As rest : List xV) : (As.reverse ++ rest).map toV = (As.map toV).reverse ++ rest.map toV := by
  simp [List.map_append, List.map_reverse]
/-- a plain method's words -/
def xplain (MY : xM) : Prop := MY.2.2.2.2.2 = [] ∧ Cond.code MY.2.1 MY.2.2.1 MY.2.2.2.1 MY.2.2.2.2.1 ∈ lw_all
def xwith (MY : xM) : Prop := MY.2.2.2.2.2 ≠ [] ∧ Cond.codeWith MY.2.1 MY.2.2.1 MY.2.2.2.1 MY.2.2.2.2.1 MY.2.2.2.2.2 ∈ lw_all
theorem xws_plain (hp : xplain MY) : xws MY = ws_ MY.2.1 MY.2.2.1 MY.2.2.2.1 MY.2.2.2.2.1 := by
  unfold xws; rw [hp.1]
theorem xws_with (hp : xwith MY) : xws MY = wsW_ MY.2.1 MY.2.2.1 MY.2.2.2.1 MY.2.2.2.2.1 MY.2.2.2.2.2 := by
  unfold xws
  split
  · rename_i e; exact absurd e hp.1
  · rfl

theorem xw_callV {b ci : Nat} {r : vw_C} {n idx : Nat} {As : List xV} {st : List xV} (hd : decode M.2.2.1 pc = .ok (.invokevirtual idx, 3)) (hpl : xplain MY) (hm : xmeth MY n) (hlk : Cond.methodLink M.1 idx MY.2.1 ∈ lw_all) (hin : Cond.instanceMethod MY.2.1 ∈ lw_all) (hse : Cond.selects r.1 MY.2.1 MY.2.1 ∈ lw_all) (hc : vwCl[ci]? = some r) (hcls : xcls h b = ci + 1) (hn : As.length = n) (hst : st = As.reverse ++ xr (some b) :: rest) (hcat : (rest.map xcat).sum ≤ 8) (hdd : d' < d) (hk : k' ≤ k) (hC : xCn G MY d' k' (xr (some b) :: As) h P)
    (kn : ∀ (v : Option xV) (h' : xH), P (.inl v) h' → xWp G M d K Q (k - k') (pc + 3) L (v.toList ++ rest) h') (kt : ∀ (q : Nat) (h' : xH), P (.inr q) h' → xTh G M d K Q (k - k') pc L h' q) : xWp G M d K Q k pc L st h := by
  subst hst
  intro p l e R s m args below meth c H locs cells slots ls hs h1 h2 hS hR hL
  have hrm := hs.room
  have hml := hm.2.2.1
  have hws : ∀ w ∈ xws MY, ∀ (a' : Array Value) (U : State), s.WarmedH U.vm → w.before a' U = true := by
    rw [xws_plain hpl]
    exact pay_in hs.words (lw_meth hpl.2)
  have hci : Cond.code MY.2.1 MY.2.2.1 MY.2.2.2.1 MY.2.2.2.2.1 ∈ xws MY := by
    rw [xws_plain hpl]
    exact List.mem_cons_self
  have hfr : (({ frames := d', cells := k', slots := k', locals := 60 * d' } : Room)).frames + 1 ≤ R.frames := by show d' + 1 ≤ R.frames; omega
  have hloc : 8 + (MY.2.2.2.1 + 11) + (({ frames := d', cells := k', slots := k', locals := 60 * d' } : Room)).locals ≤ R.locals := by show 8 + (MY.2.2.2.1 + 11) + 60 * d' ≤ R.locals; omega
  obtain ⟨cellB, hcB1, hcB2, hcB3⟩ := xcell hs.gc hR hc hcls
  have cw := (show CallW R s args M.1 r.1 idx MY.2.1 MY.2.2.1 MY.2.2.2.1 MY.2.2.2.2.1 (xws MY) ({ frames := d', cells := k', slots := k', locals := 60 * d' } : Room) k' k' n from ⟨⟨rfl, rfl, hfr, hloc, hws, hci, hs.words _ hpl.2, (hs.words _ hm.2.2.2), hm.1, hm.len, hs.words _ hlk⟩, hs.words _ hin, hs.words _ hse⟩)
  refine xrun (aa := ((xr (some b) :: As).map toV).toArray) hs h1 h2 hS hL hk ?_ kn kt
  exact xx_runV (As := As.map toV) (rest := rest.map toV) (b := b) ⟨hs.exec, hs.bytes, hs.maxl, hs.own, hs.words⟩ (hC l) cw ⟨xBlind, ⟨cellB, hcB1, hcB2, hcB3⟩, fun U hU hW => ⟨rfl, xPre rfl hs.gc hS hR hU hW⟩⟩ rfl (by rw [List.length_map]; exact hn) (hL.1.trans rfl) (xstk_b _ _ _) (xcatsum hcat) hd ⟨by omega, by omega⟩

theorem xw_callVW {b ci : Nat} {r : vw_C} {n idx : Nat} {As : List xV} {st : List xV} (hd : decode M.2.2.1 pc = .ok (.invokevirtual idx, 3)) (hpl : xwith MY) (hm : xmeth MY n) (hlk : Cond.methodLink M.1 idx MY.2.1 ∈ lw_all) (hin : Cond.instanceMethod MY.2.1 ∈ lw_all) (hse : Cond.selects r.1 MY.2.1 MY.2.1 ∈ lw_all) (hc : vwCl[ci]? = some r) (hcls : xcls h b = ci + 1) (hn : As.length = n) (hst : st = As.reverse ++ xr (some b) :: rest) (hcat : (rest.map xcat).sum ≤ 8) (hdd : d' < d) (hk : k' ≤ k) (hC : xCn G MY d' k' (xr (some b) :: As) h P)
    (kn : ∀ (v : Option xV) (h' : xH), P (.inl v) h' → xWp G M d K Q (k - k') (pc + 3) L (v.toList ++ rest) h') (kt : ∀ (q : Nat) (h' : xH), P (.inr q) h' → xTh G M d K Q (k - k') pc L h' q) : xWp G M d K Q k pc L st h := by
  subst hst
  intro p l e R s m args below meth c H locs cells slots ls hs h1 h2 hS hR hL
  have hrm := hs.room
  have hml := hm.2.2.1
  have hws : ∀ w ∈ xws MY, ∀ (a' : Array Value) (U : State), s.WarmedH U.vm → w.before a' U = true := by
    rw [xws_with hpl]
    exact pay_in hs.words (lw_methW hpl.2)
  have hci : Cond.codeWith MY.2.1 MY.2.2.1 MY.2.2.2.1 MY.2.2.2.2.1 MY.2.2.2.2.2 ∈ xws MY := by
    rw [xws_with hpl]
    exact List.mem_cons_self
  have hfr : (({ frames := d', cells := k', slots := k', locals := 60 * d' } : Room)).frames + 1 ≤ R.frames := by show d' + 1 ≤ R.frames; omega
  have hloc : 8 + (MY.2.2.2.1 + 11) + (({ frames := d', cells := k', slots := k', locals := 60 * d' } : Room)).locals ≤ R.locals := by show 8 + (MY.2.2.2.1 + 11) + 60 * d' ≤ R.locals; omega
  obtain ⟨cellB, hcB1, hcB2, hcB3⟩ := xcell hs.gc hR hc hcls
  have cw := (show xx_CVW R s args M.1 r.1 idx MY.2.1 MY.2.2.1 MY.2.2.2.1 MY.2.2.2.2.1 MY.2.2.2.2.2 (xws MY) ({ frames := d', cells := k', slots := k', locals := 60 * d' } : Room) k' k' n from ⟨⟨rfl, rfl, hfr, hloc, hws, hci⟩, hs.words _ hpl.2, (hs.words _ hm.2.2.2), hm.1, hm.len, hs.words _ hlk, hs.words _ hin, hs.words _ hse⟩)
  refine xrun (aa := ((xr (some b) :: As).map toV).toArray) hs h1 h2 hS hL hk ?_ kn kt
  exact xx_runVX (As := As.map toV) (rest := rest.map toV) (b := b) ⟨hs.exec, hs.bytes, hs.maxl, hs.own, hs.words⟩ (hC l) cw ⟨xBlind, ⟨cellB, hcB1, hcB2, hcB3⟩, fun U hU hW => ⟨rfl, xPre rfl hs.gc hS hR hU hW⟩⟩ rfl (by rw [List.length_map]; exact hn) (hL.1.trans rfl) (xstk_b _ _ _) (xcatsum hcat) hd ⟨by omega, by omega⟩

theorem xw_callS {n idx : Nat} {As : List xV} {st : List xV} (hd : decode M.2.2.1 pc = .ok (.invokestatic idx, 3)) (hpl : xplain MY) (hm : xmeth MY n) (hlk : Cond.methodLink M.1 idx MY.2.1 ∈ lw_all) (hst9 : Cond.static MY.2.1 ∈ lw_all) (hn : As.length = n) (hst : st = As.reverse ++ rest) (hcat : (rest.map xcat).sum ≤ 8) (hdd : d' < d) (hk : k' ≤ k) (hC : xCn G MY d' k' (As) h P)
    (kn : ∀ (v : Option xV) (h' : xH), P (.inl v) h' → xWp G M d K Q (k - k') (pc + 3) L (v.toList ++ rest) h') (kt : ∀ (q : Nat) (h' : xH), P (.inr q) h' → xTh G M d K Q (k - k') pc L h' q) : xWp G M d K Q k pc L st h := by
  subst hst
  intro p l e R s m args below meth c H locs cells slots ls hs h1 h2 hS hR hL
  have hrm := hs.room
  have hml := hm.2.2.1
  have hws : ∀ w ∈ xws MY, ∀ (a' : Array Value) (U : State), s.WarmedH U.vm → w.before a' U = true := by
    rw [xws_plain hpl]
    exact pay_in hs.words (lw_meth hpl.2)
  have hci : Cond.code MY.2.1 MY.2.2.1 MY.2.2.2.1 MY.2.2.2.2.1 ∈ xws MY := by
    rw [xws_plain hpl]
    exact List.mem_cons_self
  have hfr : (({ frames := d', cells := k', slots := k', locals := 60 * d' } : Room)).frames + 1 ≤ R.frames := by show d' + 1 ≤ R.frames; omega
  have hloc : 8 + (MY.2.2.2.1 + 11) + (({ frames := d', cells := k', slots := k', locals := 60 * d' } : Room)).locals ≤ R.locals := by show 8 + (MY.2.2.2.1 + 11) + 60 * d' ≤ R.locals; omega
  have cw := (show CallB R s args M.1 idx MY.2.1 MY.2.2.1 MY.2.2.2.1 MY.2.2.2.2.1 (xws MY) ({ frames := d', cells := k', slots := k', locals := 60 * d' } : Room) k' k' n ∧ (Cond.static MY.2.1).before args s = true from ⟨⟨rfl, rfl, hfr, hloc, hws, hci, hs.words _ hpl.2, (hs.words _ hm.2.2.2), hm.1, hm.len, hs.words _ hlk⟩, hs.words _ hst9⟩)
  refine xrun (aa := ((As).map toV).toArray) hs h1 h2 hS hL hk ?_ kn kt
  exact xx_runS (As := As.map toV) (rest := rest.map toV) ⟨hs.exec, hs.bytes, hs.maxl, hs.own, hs.words⟩ (hC l) cw ⟨xBlind, fun U hU hW => ⟨rfl, xPre rfl hs.gc hS hR hU hW⟩⟩ rfl (by rw [List.length_map]; exact hn) (hL.1.trans rfl) (xstk_s _ _) (xcatsum hcat) hd ⟨by omega, by omega⟩

theorem xw_callI {b : Nat} {n idx : Nat} {As : List xV} {st : List xV} (hd : decode M.2.2.1 pc = .ok (.invokespecial idx, 3)) (hpl : xplain MY) (hm : xmeth MY n) (hlk : Cond.methodLink M.1 idx MY.2.1 ∈ lw_all) (hin : Cond.instanceMethod MY.2.1 ∈ lw_all) (hnm : MY.2.1.name = "<init>") (hret : MY.2.2.2.2.1 = none) (hn : As.length = n) (hst : st = As.reverse ++ xr (some b) :: rest) (hcat : (rest.map xcat).sum ≤ 8) (hdd : d' < d) (hk : k' ≤ k) (hC : xCn G MY d' k' (xr (some b) :: As) h P)
    (kn : ∀ (v : Option xV) (h' : xH), P (.inl v) h' → xWp G M d K Q (k - k') (pc + 3) L (v.toList ++ rest) h') (kt : ∀ (q : Nat) (h' : xH), P (.inr q) h' → xTh G M d K Q (k - k') pc L h' q) : xWp G M d K Q k pc L st h := by
  subst hst
  intro p l e R s m args below meth c H locs cells slots ls hs h1 h2 hS hR hL
  have hrm := hs.room
  have hml := hm.2.2.1
  have hws : ∀ w ∈ xws MY, ∀ (a' : Array Value) (U : State), s.WarmedH U.vm → w.before a' U = true := by
    rw [xws_plain hpl]
    exact pay_in hs.words (lw_meth hpl.2)
  have hci : Cond.code MY.2.1 MY.2.2.1 MY.2.2.2.1 MY.2.2.2.2.1 ∈ xws MY := by
    rw [xws_plain hpl]
    exact List.mem_cons_self
  have hfr : (({ frames := d', cells := k', slots := k', locals := 60 * d' } : Room)).frames + 1 ≤ R.frames := by show d' + 1 ≤ R.frames; omega
  have hloc : 8 + (MY.2.2.2.1 + 11) + (({ frames := d', cells := k', slots := k', locals := 60 * d' } : Room)).locals ≤ R.locals := by show 8 + (MY.2.2.2.1 + 11) + 60 * d' ≤ R.locals; omega
  have cw := (show CallB R s args M.1 idx MY.2.1 MY.2.2.1 MY.2.2.2.1 none (xws MY) ({ frames := d', cells := k', slots := k', locals := 60 * d' } : Room) k' k' n ∧ MY.2.1.name = "<init>" ∧ (Cond.instanceMethod MY.2.1).before args s = true from ⟨⟨rfl, rfl, hfr, hloc, hws, hret ▸ hci, hret ▸ hs.words _ hpl.2, (hs.words _ hm.2.2.2), hm.1, hm.len, hs.words _ hlk⟩, hnm, hs.words _ hin⟩)
  refine xrun (aa := ((xr (some b) :: As).map toV).toArray) hs h1 h2 hS hL hk ?_ kn kt
  exact xx_runI (As := As.map toV) (rest := rest.map toV) (b := b) ⟨hs.exec, hs.bytes, hs.maxl, hs.own, hs.words⟩ (hC l) cw ⟨xBlind, fun U hU hW => ⟨rfl, xPre rfl hs.gc hS hR hU hW⟩⟩ rfl (by rw [List.length_map]; exact hn) (hL.1.trans rfl) (xstk_b _ _ _) (xcatsum hcat) hd ⟨by omega, by omega⟩

theorem xw_callIN {b : Nat} {n idx : Nat} {As : List xV} {st : List xV} (hd : decode M.2.2.1 pc = .ok (.invokespecial idx, 3)) (hpl : xplain MY) (hm : xmeth MY n) {host : String} (hlk : Cond.methodLinkNest M.1 idx MY.2.1 host ∈ lw_tbl) (hin : Cond.instanceMethod MY.2.1 ∈ lw_all) (hnm : MY.2.1.name = "<init>") (hret : MY.2.2.2.2.1 = none) (hn : As.length = n) (hst : st = As.reverse ++ xr (some b) :: rest) (hcat : (rest.map xcat).sum ≤ 8) (hdd : d' < d) (hk : k' ≤ k) (hC : xCn G MY d' k' (xr (some b) :: As) h P)
    (kn : ∀ (v : Option xV) (h' : xH), P (.inl v) h' → xWp G M d K Q (k - k') (pc + 3) L (v.toList ++ rest) h') (kt : ∀ (q : Nat) (h' : xH), P (.inr q) h' → xTh G M d K Q (k - k') pc L h' q) : xWp G M d K Q k pc L st h := by
  subst hst
  intro p l e R s m args below meth c H locs cells slots ls hs h1 h2 hS hR hL
  have hrm := hs.room
  have hml := hm.2.2.1
  have hws : ∀ w ∈ xws MY, ∀ (a' : Array Value) (U : State), s.WarmedH U.vm → w.before a' U = true := by
    rw [xws_plain hpl]
    exact pay_in hs.words (lw_meth hpl.2)
  have hci : Cond.code MY.2.1 MY.2.2.1 MY.2.2.2.1 MY.2.2.2.2.1 ∈ xws MY := by
    rw [xws_plain hpl]
    exact List.mem_cons_self
  have hfr : (({ frames := d', cells := k', slots := k', locals := 60 * d' } : Room)).frames + 1 ≤ R.frames := by show d' + 1 ≤ R.frames; omega
  have hloc : 8 + (MY.2.2.2.1 + 11) + (({ frames := d', cells := k', slots := k', locals := 60 * d' } : Room)).locals ≤ R.locals := by show 8 + (MY.2.2.2.1 + 11) + 60 * d' ≤ R.locals; omega
  have cw := (show va_CN R s args M.1 idx MY.2.1 host MY.2.2.1 MY.2.2.2.1 none (xws MY) ({ frames := d', cells := k', slots := k', locals := 60 * d' } : Room) k' k' n ∧ MY.2.1.name = "<init>" ∧ (Cond.instanceMethod MY.2.1).before args s = true from ⟨⟨⟨rfl, rfl, hfr, hloc, hws, hret ▸ hci⟩, hret ▸ hs.words _ hpl.2, (hs.words _ hm.2.2.2), hm.1, hm.len, (va_Nw.use rfl (hs.gc.tb _ hlk rfl))⟩, hnm, hs.words _ hin⟩)
  refine xrun (aa := ((xr (some b) :: As).map toV).toArray) hs h1 h2 hS hL hk ?_ kn kt
  exact xx_runIN (As := As.map toV) (rest := rest.map toV) (b := b) ⟨hs.exec, hs.bytes, hs.maxl, hs.own, hs.words⟩ (hC l) cw ⟨xBlind, fun U hU hW => ⟨rfl, xPre rfl hs.gc hS hR hU hW⟩⟩ rfl (by rw [List.length_map]; exact hn) (hL.1.trans rfl) (xstk_b _ _ _) (xcatsum hcat) hd ⟨by omega, by omega⟩

theorem xw_callVN {b ci : Nat} {r : vw_C} {n idx : Nat} {As : List xV} {st : List xV} (hd : decode M.2.2.1 pc = .ok (.invokevirtual idx, 3)) (hpl : xplain MY) (hm : xmeth MY n) {host : String} (hlk : Cond.methodLinkNest M.1 idx MY.2.1 host ∈ lw_tbl) (hin : Cond.instanceMethod MY.2.1 ∈ lw_all) (hse : Cond.selects r.1 MY.2.1 MY.2.1 ∈ lw_all) (hc : vwCl[ci]? = some r) (hcls : xcls h b = ci + 1) (hn : As.length = n) (hst : st = As.reverse ++ xr (some b) :: rest) (hcat : (rest.map xcat).sum ≤ 8) (hdd : d' < d) (hk : k' ≤ k) (hC : xCn G MY d' k' (xr (some b) :: As) h P)
    (kn : ∀ (v : Option xV) (h' : xH), P (.inl v) h' → xWp G M d K Q (k - k') (pc + 3) L (v.toList ++ rest) h') (kt : ∀ (q : Nat) (h' : xH), P (.inr q) h' → xTh G M d K Q (k - k') pc L h' q) : xWp G M d K Q k pc L st h := by
  subst hst
  intro p l e R s m args below meth c H locs cells slots ls hs h1 h2 hS hR hL
  have hrm := hs.room
  have hml := hm.2.2.1
  have hws : ∀ w ∈ xws MY, ∀ (a' : Array Value) (U : State), s.WarmedH U.vm → w.before a' U = true := by
    rw [xws_plain hpl]
    exact pay_in hs.words (lw_meth hpl.2)
  have hci : Cond.code MY.2.1 MY.2.2.1 MY.2.2.2.1 MY.2.2.2.2.1 ∈ xws MY := by
    rw [xws_plain hpl]
    exact List.mem_cons_self
  have hfr : (({ frames := d', cells := k', slots := k', locals := 60 * d' } : Room)).frames + 1 ≤ R.frames := by show d' + 1 ≤ R.frames; omega
  have hloc : 8 + (MY.2.2.2.1 + 11) + (({ frames := d', cells := k', slots := k', locals := 60 * d' } : Room)).locals ≤ R.locals := by show 8 + (MY.2.2.2.1 + 11) + 60 * d' ≤ R.locals; omega
  obtain ⟨cellB, hcB1, hcB2, hcB3⟩ := xcell hs.gc hR hc hcls
  have cw := (show va_CN R s args M.1 idx MY.2.1 host MY.2.2.1 MY.2.2.2.1 MY.2.2.2.2.1 (xws MY) ({ frames := d', cells := k', slots := k', locals := 60 * d' } : Room) k' k' n ∧ (Cond.instanceMethod MY.2.1).before args s = true ∧ (Cond.selects r.1 MY.2.1 MY.2.1).before args s = true from ⟨⟨⟨rfl, rfl, hfr, hloc, hws, hci⟩, hs.words _ hpl.2, (hs.words _ hm.2.2.2), hm.1, hm.len, (va_Nw.use rfl (hs.gc.tb _ hlk rfl))⟩, hs.words _ hin, hs.words _ hse⟩)
  refine xrun (aa := ((xr (some b) :: As).map toV).toArray) hs h1 h2 hS hL hk ?_ kn kt
  exact xx_runVN (As := As.map toV) (rest := rest.map toV) (b := b) ⟨hs.exec, hs.bytes, hs.maxl, hs.own, hs.words⟩ (hC l) cw ⟨xBlind, ⟨cellB, hcB1, hcB2, hcB3⟩, fun U hU hW => ⟨rfl, xPre rfl hs.gc hS hR hU hW⟩⟩ rfl (by rw [List.length_map]; exact hn) (hL.1.trans rfl) (xstk_b _ _ _) (xcatsum hcat) hd ⟨by omega, by omega⟩

theorem xw_callSN {n idx : Nat} {As : List xV} {st : List xV} (hd : decode M.2.2.1 pc = .ok (.invokestatic idx, 3)) (hpl : xplain MY) (hm : xmeth MY n) {host : String} (hlk : Cond.methodLinkNest M.1 idx MY.2.1 host ∈ lw_tbl) (hst9 : Cond.static MY.2.1 ∈ lw_all) (hn : As.length = n) (hst : st = As.reverse ++ rest) (hcat : (rest.map xcat).sum ≤ 8) (hdd : d' < d) (hk : k' ≤ k) (hC : xCn G MY d' k' (As) h P)
    (kn : ∀ (v : Option xV) (h' : xH), P (.inl v) h' → xWp G M d K Q (k - k') (pc + 3) L (v.toList ++ rest) h') (kt : ∀ (q : Nat) (h' : xH), P (.inr q) h' → xTh G M d K Q (k - k') pc L h' q) : xWp G M d K Q k pc L st h := by
  subst hst
  intro p l e R s m args below meth c H locs cells slots ls hs h1 h2 hS hR hL
  have hrm := hs.room
  have hml := hm.2.2.1
  have hws : ∀ w ∈ xws MY, ∀ (a' : Array Value) (U : State), s.WarmedH U.vm → w.before a' U = true := by
    rw [xws_plain hpl]
    exact pay_in hs.words (lw_meth hpl.2)
  have hci : Cond.code MY.2.1 MY.2.2.1 MY.2.2.2.1 MY.2.2.2.2.1 ∈ xws MY := by
    rw [xws_plain hpl]
    exact List.mem_cons_self
  have hfr : (({ frames := d', cells := k', slots := k', locals := 60 * d' } : Room)).frames + 1 ≤ R.frames := by show d' + 1 ≤ R.frames; omega
  have hloc : 8 + (MY.2.2.2.1 + 11) + (({ frames := d', cells := k', slots := k', locals := 60 * d' } : Room)).locals ≤ R.locals := by show 8 + (MY.2.2.2.1 + 11) + 60 * d' ≤ R.locals; omega
  have cw := (show va_CN R s args M.1 idx MY.2.1 host MY.2.2.1 MY.2.2.2.1 MY.2.2.2.2.1 (xws MY) ({ frames := d', cells := k', slots := k', locals := 60 * d' } : Room) k' k' n ∧ (Cond.static MY.2.1).before args s = true ∧ True from ⟨⟨⟨rfl, rfl, hfr, hloc, hws, hci⟩, hs.words _ hpl.2, (hs.words _ hm.2.2.2), hm.1, hm.len, (va_Nw.use rfl (hs.gc.tb _ hlk rfl))⟩, hs.words _ hst9, trivial⟩)
  refine xrun (aa := ((As).map toV).toArray) hs h1 h2 hS hL hk ?_ kn kt
  exact xx_runSN (As := As.map toV) (rest := rest.map toV) ⟨hs.exec, hs.bytes, hs.maxl, hs.own, hs.words⟩ (hC l) cw ⟨xBlind, fun U hU hW => ⟨rfl, xPre rfl hs.gc hS hR hU hW⟩⟩ rfl (by rw [List.length_map]; exact hn) (hL.1.trans rfl) (xstk_s _ _) (xcatsum hcat) hd ⟨by omega, by omega⟩

theorem xw_callU {b ci : Nat} {r : vw_C} {n idx : Nat} {As : List xV} {st : List xV} (hd : decode M.2.2.1 pc = .ok (.invokevirtual idx, 3)) (hpl : xplain MY) (hm : xmeth MY n) {x : MethodName} {owner : String} (hlk : Cond.methodLink M.1 idx x ∈ lw_all) (hsm : Cond.sameMethod x.cls owner x.name x.desc ∈ lw_all) (hdc : Cond.declares ⟨owner, x.name, x.desc⟩ ∈ lw_tbl) (how : owner ≠ "java/lang/invoke/MethodHandle" ∧ owner ≠ "java/lang/invoke/VarHandle") (hxd : x.desc = MY.2.1.desc) (hse : Cond.selects r.1 x MY.2.1 ∈ lw_all) (hin : Cond.instanceMethod MY.2.1 ∈ lw_all) (hc : vwCl[ci]? = some r) (hcls : xcls h b = ci + 1) (hn : As.length = n) (hst : st = As.reverse ++ xr (some b) :: rest) (hcat : (rest.map xcat).sum ≤ 8) (hdd : d' < d) (hk : k' ≤ k) (hC : xCn G MY d' k' (xr (some b) :: As) h P)
    (kn : ∀ (v : Option xV) (h' : xH), P (.inl v) h' → xWp G M d K Q (k - k') (pc + 3) L (v.toList ++ rest) h') (kt : ∀ (q : Nat) (h' : xH), P (.inr q) h' → xTh G M d K Q (k - k') pc L h' q) : xWp G M d K Q k pc L st h := by
  subst hst
  intro p l e R s m args below meth c H locs cells slots ls hs h1 h2 hS hR hL
  have hrm := hs.room
  have hml := hm.2.2.1
  have hws : ∀ w ∈ xws MY, ∀ (a' : Array Value) (U : State), s.WarmedH U.vm → w.before a' U = true := by
    rw [xws_plain hpl]
    exact pay_in hs.words (lw_meth hpl.2)
  have hci : Cond.code MY.2.1 MY.2.2.1 MY.2.2.2.1 MY.2.2.2.2.1 ∈ xws MY := by
    rw [xws_plain hpl]
    exact List.mem_cons_self
  have hfr : (({ frames := d', cells := k', slots := k', locals := 60 * d' } : Room)).frames + 1 ≤ R.frames := by show d' + 1 ≤ R.frames; omega
  have hloc : 8 + (MY.2.2.2.1 + 11) + (({ frames := d', cells := k', slots := k', locals := 60 * d' } : Room)).locals ≤ R.locals := by show 8 + (MY.2.2.2.1 + 11) + 60 * d' ≤ R.locals; omega
  obtain ⟨cellB, hcB1, hcB2, hcB3⟩ := xcell hs.gc hR hc hcls
  have cw := (show va_CU R s args M.1 r.1 owner idx x MY.2.1 MY.2.2.1 MY.2.2.2.1 MY.2.2.2.2.1 (xws MY) ({ frames := d', cells := k', slots := k', locals := 60 * d' } : Room) k' k' n from ⟨⟨rfl, rfl, hfr, hloc, hws, hci⟩, hs.words _ hpl.2, (hs.words _ hm.2.2.2), how, (by rw [hxd]; exact hm.len), hs.words _ hlk, hs.words _ hsm, va_Decl.abs (hs.gc.tb _ hdc rfl), hs.words _ hse, hs.words _ hin⟩)
  refine xrun (aa := ((xr (some b) :: As).map toV).toArray) hs h1 h2 hS hL hk ?_ kn kt
  exact xx_runU (As := As.map toV) (rest := rest.map toV) (b := b) ⟨hs.exec, hs.bytes, hs.maxl, hs.own, hs.words⟩ (hC l) cw ⟨xBlind, ⟨cellB, hcB1, hcB2, hcB3⟩, fun U hU hW => ⟨rfl, xPre rfl hs.gc hS hR hU hW⟩⟩ rfl (by rw [List.length_map]; exact hn) (hL.1.trans rfl) (xstk_b _ _ _) (xcatsum hcat) hd ⟨by omega, by omega⟩

theorem xw_callF {b ci cnt : Nat} {r : vw_C} {n idx : Nat} {As : List xV} {st : List xV} (hd : decode M.2.2.1 pc = .ok (.invokeinterface idx cnt, 5)) (hpl : xplain MY) (hm : xmeth MY n) {x : MethodName} (hlk : Cond.methodLink M.1 idx x ∈ lw_all) (hfw : (r.1, x, MY.2.1) ∈ xfw) (hxd : x.desc = MY.2.1.desc) (hse : Cond.selects r.1 x MY.2.1 ∈ lw_all) (hin : Cond.instanceMethod MY.2.1 ∈ lw_all) (hc : vwCl[ci]? = some r) (hcls : xcls h b = ci + 1) (hn : As.length = n) (hst : st = As.reverse ++ xr (some b) :: rest) (hcat : (rest.map xcat).sum ≤ 8) (hdd : d' < d) (hk : k' ≤ k) (hC : xCn G MY d' k' (xr (some b) :: As) h P)
    (kn : ∀ (v : Option xV) (h' : xH), P (.inl v) h' → xWp G M d K Q (k - k') (pc + 5) L (v.toList ++ rest) h') (kt : ∀ (q : Nat) (h' : xH), P (.inr q) h' → xTh G M d K Q (k - k') pc L h' q) : xWp G M d K Q k pc L st h := by
  subst hst
  intro p l e R s m args below meth c H locs cells slots ls hs h1 h2 hS hR hL
  have hrm := hs.room
  have hml := hm.2.2.1
  have hws : ∀ w ∈ xws MY, ∀ (a' : Array Value) (U : State), s.WarmedH U.vm → w.before a' U = true := by
    rw [xws_plain hpl]
    exact pay_in hs.words (lw_meth hpl.2)
  have hci : Cond.code MY.2.1 MY.2.2.1 MY.2.2.2.1 MY.2.2.2.2.1 ∈ xws MY := by
    rw [xws_plain hpl]
    exact List.mem_cons_self
  have hfr : (({ frames := d', cells := k', slots := k', locals := 60 * d' } : Room)).frames + 1 ≤ R.frames := by show d' + 1 ≤ R.frames; omega
  have hloc : 8 + (MY.2.2.2.1 + 11) + (({ frames := d', cells := k', slots := k', locals := 60 * d' } : Room)).locals ≤ R.locals := by show 8 + (MY.2.2.2.1 + 11) + 60 * d' ≤ R.locals; omega
  obtain ⟨cellB, hcB1, hcB2, hcB3⟩ := xcell hs.gc hR hc hcls
  have hf9 := hs.gc.2.2.2.1 _ hfw
  have cw := (show va_CI R s args M.1 r.1 idx x MY.2.1 MY.2.2.1 MY.2.2.2.1 MY.2.2.2.2.1 (xws MY) ({ frames := d', cells := k', slots := k', locals := 60 * d' } : Room) k' k' n from ⟨⟨rfl, rfl, hfr, hloc, hws, hci⟩, hs.words _ hlk, va_any rfl hf9.1, va_any rfl hf9.2.1, hs.words _ hse, hs.words _ hin, va_any rfl hf9.2.2.1, va_any rfl hf9.2.2.2.1, va_any rfl hf9.2.2.2.2, (hs.words _ hm.2.2.2), hs.words _ hpl.2, xfw_ok _ hfw, (by rw [hxd]; exact hm.len)⟩)
  refine xrun5 (aa := ((xr (some b) :: As).map toV).toArray) hs h1 h2 hS hL hk ?_ kn kt
  exact xx_runF (As := As.map toV) (rest := rest.map toV) (b := b) (hs.gc.kn.1 ci r hc).2 ⟨hs.exec, hs.bytes, hs.maxl, hs.own, hs.words⟩ (hC l) cw ⟨xBlind, ⟨cellB, hcB1, hcB2, hcB3⟩, fun U hU hW => ⟨rfl, xPre rfl hs.gc hS hR hU hW⟩⟩ rfl (by rw [List.length_map]; exact hn) (hL.1.trans rfl) (xstk_b _ _ _) (xcatsum hcat) hd ⟨by omega, by omega⟩

theorem xw_callSU {b ci : Nat} {r : vw_C} {n idx : Nat} {As : List xV} {st : List xV} (hd : decode M.2.2.1 pc = .ok (.invokespecial idx, 3)) (hpl : xplain MY) (hm : xmeth MY n) (hlk : Cond.methodLink M.1 idx MY.2.1 ∈ lw_all) (hsm : Cond.sameMethod MY.2.1.cls MY.2.1.cls MY.2.1.name MY.2.1.desc ∈ lw_all) (hsu : Cond.superclass M.1 MY.2.1.cls ∈ lw_all) (hin : Cond.instanceMethod MY.2.1 ∈ lw_all) (hnm : MY.2.1.name ≠ "<init>") (hc : vwCl[ci]? = some r) (hcls : xcls h b = ci + 1) (hn : As.length = n) (hst : st = As.reverse ++ xr (some b) :: rest) (hcat : (rest.map xcat).sum ≤ 8) (hdd : d' < d) (hk : k' ≤ k) (hC : xCn G MY d' k' (xr (some b) :: As) h P)
    (kn : ∀ (v : Option xV) (h' : xH), P (.inl v) h' → xWp G M d K Q (k - k') (pc + 3) L (v.toList ++ rest) h') (kt : ∀ (q : Nat) (h' : xH), P (.inr q) h' → xTh G M d K Q (k - k') pc L h' q) : xWp G M d K Q k pc L st h := by
  subst hst
  intro p l e R s m args below meth c H locs cells slots ls hs h1 h2 hS hR hL
  have hrm := hs.room
  have hml := hm.2.2.1
  have hws : ∀ w ∈ xws MY, ∀ (a' : Array Value) (U : State), s.WarmedH U.vm → w.before a' U = true := by
    rw [xws_plain hpl]
    exact pay_in hs.words (lw_meth hpl.2)
  have hci : Cond.code MY.2.1 MY.2.2.1 MY.2.2.2.1 MY.2.2.2.2.1 ∈ xws MY := by
    rw [xws_plain hpl]
    exact List.mem_cons_self
  have hfr : (({ frames := d', cells := k', slots := k', locals := 60 * d' } : Room)).frames + 1 ≤ R.frames := by show d' + 1 ≤ R.frames; omega
  have hloc : 8 + (MY.2.2.2.1 + 11) + (({ frames := d', cells := k', slots := k', locals := 60 * d' } : Room)).locals ≤ R.locals := by show 8 + (MY.2.2.2.1 + 11) + 60 * d' ≤ R.locals; omega
  obtain ⟨cellB, hcB1, hcB2, hcB3⟩ := xcell hs.gc hR hc hcls
  have cw := (show va_CS R s args M.1 idx MY.2.1 MY.2.2.1 MY.2.2.2.1 MY.2.2.2.2.1 (xws MY) ({ frames := d', cells := k', slots := k', locals := 60 * d' } : Room) k' k' n from ⟨⟨rfl, rfl, hfr, hloc, hws, hci⟩, hs.words _ hlk, hs.words _ hsm, hs.words _ hsu, hs.words _ hin, (hs.words _ hm.2.2.2), hs.words _ hpl.2, hnm, hm.len⟩)
  refine xrun (aa := ((xr (some b) :: As).map toV).toArray) hs h1 h2 hS hL hk ?_ kn kt
  exact xx_runSU (As := As.map toV) (rest := rest.map toV) (b := b) (C := r.1) (hs.gc.kn.1 ci r hc).2 ⟨hs.exec, hs.bytes, hs.maxl, hs.own, hs.words⟩ (hC l) cw ⟨xBlind, ⟨cellB, hcB1, hcB2, hcB3⟩, fun U hU hW => ⟨rfl, xPre rfl hs.gc hS hR hU hW⟩⟩ rfl (by rw [List.length_map]; exact hn) (hL.1.trans rfl) (xstk_b _ _ _) (xcatsum hcat) hd ⟨by omega, by omega⟩

theorem xw_callUW {b ci : Nat} {r : vw_C} {n idx : Nat} {As : List xV} {st : List xV} (hd : decode M.2.2.1 pc = .ok (.invokevirtual idx, 3)) (hpl : xwith MY) (hm : xmeth MY n) {x : MethodName} {owner : String} (hlk : Cond.methodLink M.1 idx x ∈ lw_all) (hsm : Cond.sameMethod x.cls owner x.name x.desc ∈ lw_all) (hdc : Cond.declares ⟨owner, x.name, x.desc⟩ ∈ lw_tbl) (how : owner ≠ "java/lang/invoke/MethodHandle" ∧ owner ≠ "java/lang/invoke/VarHandle") (hxd : x.desc = MY.2.1.desc) (hse : Cond.selects r.1 x MY.2.1 ∈ lw_all) (hin : Cond.instanceMethod MY.2.1 ∈ lw_all) (hc : vwCl[ci]? = some r) (hcls : xcls h b = ci + 1) (hn : As.length = n) (hst : st = As.reverse ++ xr (some b) :: rest) (hcat : (rest.map xcat).sum ≤ 8) (hdd : d' < d) (hk : k' ≤ k) (hC : xCn G MY d' k' (xr (some b) :: As) h P)
    (kn : ∀ (v : Option xV) (h' : xH), P (.inl v) h' → xWp G M d K Q (k - k') (pc + 3) L (v.toList ++ rest) h') (kt : ∀ (q : Nat) (h' : xH), P (.inr q) h' → xTh G M d K Q (k - k') pc L h' q) : xWp G M d K Q k pc L st h := by
  subst hst
  intro p l e R s m args below meth c H locs cells slots ls hs h1 h2 hS hR hL
  have hrm := hs.room
  have hml := hm.2.2.1
  have hws : ∀ w ∈ xws MY, ∀ (a' : Array Value) (U : State), s.WarmedH U.vm → w.before a' U = true := by
    rw [xws_with hpl]
    exact pay_in hs.words (lw_methW hpl.2)
  have hci : Cond.codeWith MY.2.1 MY.2.2.1 MY.2.2.2.1 MY.2.2.2.2.1 MY.2.2.2.2.2 ∈ xws MY := by
    rw [xws_with hpl]
    exact List.mem_cons_self
  have hfr : (({ frames := d', cells := k', slots := k', locals := 60 * d' } : Room)).frames + 1 ≤ R.frames := by show d' + 1 ≤ R.frames; omega
  have hloc : 8 + (MY.2.2.2.1 + 11) + (({ frames := d', cells := k', slots := k', locals := 60 * d' } : Room)).locals ≤ R.locals := by show 8 + (MY.2.2.2.1 + 11) + 60 * d' ≤ R.locals; omega
  obtain ⟨cellB, hcB1, hcB2, hcB3⟩ := xcell hs.gc hR hc hcls
  have cw := True.intro
  refine xrun (aa := ((xr (some b) :: As).map toV).toArray) hs h1 h2 hS hL hk ?_ kn kt
  exact xx_runUX (As := As.map toV) (rest := rest.map toV) (b := b) (C := r.1) (maxL := MY.2.2.2.1) ⟨hs.exec, hs.bytes, hs.maxl, hs.own, hs.words⟩ (hC l) rfl rfl hfr hloc hws hci (hs.words _ hm.2.2.2) (hs.words _ hlk) (hs.words _ hsm) (va_Decl.abs (hs.gc.tb _ hdc rfl)) how (hs.words _ hse) (hs.words _ hin) (n := n) (by rw [hxd]; exact hm.len) ⟨xBlind, ⟨cellB, hcB1, hcB2, hcB3⟩, fun U hU hW => ⟨rfl, xPre rfl hs.gc hS hR hU hW⟩⟩ rfl (by rw [List.length_map]; exact hn) (hL.1.trans rfl) (xstk_b _ _ _) (xcatsum hcat) hd ⟨by omega, by omega⟩

theorem xw_callSNW {n idx : Nat} {As : List xV} {st : List xV} (hd : decode M.2.2.1 pc = .ok (.invokestatic idx, 3)) (hpl : xwith MY) (hm : xmeth MY n) {host : String} (hlk : Cond.methodLinkNest M.1 idx MY.2.1 host ∈ lw_tbl) (hst9 : Cond.static MY.2.1 ∈ lw_all) (hn : As.length = n) (hst : st = As.reverse ++ rest) (hcat : (rest.map xcat).sum ≤ 8) (hdd : d' < d) (hk : k' ≤ k) (hC : xCn G MY d' k' (As) h P)
    (kn : ∀ (v : Option xV) (h' : xH), P (.inl v) h' → xWp G M d K Q (k - k') (pc + 3) L (v.toList ++ rest) h') (kt : ∀ (q : Nat) (h' : xH), P (.inr q) h' → xTh G M d K Q (k - k') pc L h' q) : xWp G M d K Q k pc L st h := by
  subst hst
  intro p l e R s m args below meth c H locs cells slots ls hs h1 h2 hS hR hL
  have hrm := hs.room
  have hml := hm.2.2.1
  have hws : ∀ w ∈ xws MY, ∀ (a' : Array Value) (U : State), s.WarmedH U.vm → w.before a' U = true := by
    rw [xws_with hpl]
    exact pay_in hs.words (lw_methW hpl.2)
  have hci : Cond.codeWith MY.2.1 MY.2.2.1 MY.2.2.2.1 MY.2.2.2.2.1 MY.2.2.2.2.2 ∈ xws MY := by
    rw [xws_with hpl]
    exact List.mem_cons_self
  have hfr : (({ frames := d', cells := k', slots := k', locals := 60 * d' } : Room)).frames + 1 ≤ R.frames := by show d' + 1 ≤ R.frames; omega
  have hloc : 8 + (MY.2.2.2.1 + 11) + (({ frames := d', cells := k', slots := k', locals := 60 * d' } : Room)).locals ≤ R.locals := by show 8 + (MY.2.2.2.1 + 11) + 60 * d' ≤ R.locals; omega
  have cw := True.intro
  refine xrun (aa := ((As).map toV).toArray) hs h1 h2 hS hL hk ?_ kn kt
  exact xx_runSNX (As := As.map toV) (rest := rest.map toV) (maxL := MY.2.2.2.1) ⟨hs.exec, hs.bytes, hs.maxl, hs.own, hs.words⟩ (hC l) rfl rfl hfr hloc hws hci (hs.words _ hm.2.2.2) (hs.words _ hpl.2) hm.1 (va_Nw.use rfl (hs.gc.tb _ hlk rfl)) (hs.words _ hst9) (n := n) hm.len ⟨xBlind, fun U hU hW => ⟨rfl, xPre rfl hs.gc hS hR hU hW⟩⟩ rfl (by rw [List.length_map]; exact hn) (hL.1.trans rfl) (xstk_s _ _) (xcatsum hcat) hd ⟨by omega, by omega⟩

theorem xw_callO {b ci : Nat} {r : vw_C} {n idx : Nat} {As : List xV} {st : List xV} (hd : decode M.2.2.1 pc = .ok (.invokevirtual idx, 3)) (hpl : xplain MY) (hm : xmeth MY n) {x : MethodName} {owner : String} {b0 : ByteArray} {m0 : Nat} {r0 : Option FieldType} (hlk : Cond.methodLink M.1 idx x ∈ lw_all) (hsm : Cond.sameMethod x.cls owner x.name x.desc ∈ lw_all) (hdi : Cond.instanceMethod ⟨owner, x.name, x.desc⟩ ∈ lw_all) (hdo : Cond.code ⟨owner, x.name, x.desc⟩ b0 m0 r0 ∈ lw_all) (how : owner ≠ "java/lang/invoke/MethodHandle" ∧ owner ≠ "java/lang/invoke/VarHandle") (hxd : x.desc = MY.2.1.desc) (hse : Cond.selects r.1 x MY.2.1 ∈ lw_all) (hin : Cond.instanceMethod MY.2.1 ∈ lw_all) (hc : vwCl[ci]? = some r) (hcls : xcls h b = ci + 1) (hn : As.length = n) (hst : st = As.reverse ++ xr (some b) :: rest) (hcat : (rest.map xcat).sum ≤ 8) (hdd : d' < d) (hk : k' ≤ k) (hC : xCn G MY d' k' (xr (some b) :: As) h P)
    (kn : ∀ (v : Option xV) (h' : xH), P (.inl v) h' → xWp G M d K Q (k - k') (pc + 3) L (v.toList ++ rest) h') (kt : ∀ (q : Nat) (h' : xH), P (.inr q) h' → xTh G M d K Q (k - k') pc L h' q) : xWp G M d K Q k pc L st h := by
  subst hst
  intro p l e R s m args below meth c H locs cells slots ls hs h1 h2 hS hR hL
  have hrm := hs.room
  have hml := hm.2.2.1
  have hws : ∀ w ∈ xws MY, ∀ (a' : Array Value) (U : State), s.WarmedH U.vm → w.before a' U = true := by
    rw [xws_plain hpl]
    exact pay_in hs.words (lw_meth hpl.2)
  have hci : Cond.code MY.2.1 MY.2.2.1 MY.2.2.2.1 MY.2.2.2.2.1 ∈ xws MY := by
    rw [xws_plain hpl]
    exact List.mem_cons_self
  have hfr : (({ frames := d', cells := k', slots := k', locals := 60 * d' } : Room)).frames + 1 ≤ R.frames := by show d' + 1 ≤ R.frames; omega
  have hloc : 8 + (MY.2.2.2.1 + 11) + (({ frames := d', cells := k', slots := k', locals := 60 * d' } : Room)).locals ≤ R.locals := by show 8 + (MY.2.2.2.1 + 11) + 60 * d' ≤ R.locals; omega
  obtain ⟨cellB, hcB1, hcB2, hcB3⟩ := xcell hs.gc hR hc hcls
  have cw := (show va_CU R s args M.1 r.1 owner idx x MY.2.1 MY.2.2.1 MY.2.2.2.1 MY.2.2.2.2.1 (xws MY) ({ frames := d', cells := k', slots := k', locals := 60 * d' } : Room) k' k' n from ⟨⟨rfl, rfl, hfr, hloc, hws, hci⟩, hs.words _ hpl.2, (hs.words _ hm.2.2.2), how, (by rw [hxd]; exact hm.len), hs.words _ hlk, hs.words _ hsm, va_Decl.of (hs.words _ hdi) (hs.words _ hdo), hs.words _ hse, hs.words _ hin⟩)
  refine xrun (aa := ((xr (some b) :: As).map toV).toArray) hs h1 h2 hS hL hk ?_ kn kt
  exact xx_runU (As := As.map toV) (rest := rest.map toV) (b := b) ⟨hs.exec, hs.bytes, hs.maxl, hs.own, hs.words⟩ (hC l) cw ⟨xBlind, ⟨cellB, hcB1, hcB2, hcB3⟩, fun U hU hW => ⟨rfl, xPre rfl hs.gc hS hR hU hW⟩⟩ rfl (by rw [List.length_map]; exact hn) (hL.1.trans rfl) (xstk_b _ _ _) (xcatsum hcat) hd ⟨by omega, by omega⟩

theorem x_ldcWS {p : Program} {l : Launch} {e : Env} {R : Room} {s : State} {m : MethodId} {args : Array Value} {below : List Frame} {meth : Method} {c : Code} {T : State} {locs : List Loc} {cells slots : Nat}
    (X : Stand p l e R s m args below meth c T locs cells slots) (hexec : p.tables.exec = Jvm.exec) {own text : String} {index : Nat} {a : Addr} (hown : s.vm.findClass own = some m.cls)
    (hconst : (Cond.stringRef own index text).before args s = true) (hev : (Term.string own index).eval args s none [] s = some (.ref a)) {g : JFrame} (hg : g.method = m) (hdg : decode c.code g.pc = .ok (.ldc_w index, 3)) :
    ∀ target, Steps p.tables e below (T.setTop { g with pc := g.pc + 3, stack := .ref a :: g.stack }) target → Steps p.tables e below (T.setTop g) target := by
  obtain ⟨k, cf, i, a', hk, hcf, hcp, -, hr, hev'⟩ := Cond.stringRef_spec hown hconst
  cases hev.symm.trans hev'
  obtain ⟨k', hk', he⟩ := X.warmed.alike.2.2 _ _ hk
  have hr' : k'.resolved[index]? = some (some (.string a)) := by
    rcases X.warmed.entry hk hk' index with h | ⟨h, -⟩
    · rw [h]; exact hr
    · rw [hr] at h; cases h
  intro target hrest
  subst hg
  jvm_step X.here [hexec, hdg, ldc_w.wp_string (e := e) (s := T) (f := g) X.here.top hk' (by rw [he]; exact hcf) hcp hr']
  exact hrest
theorem xw_ldcws {i idx : Nat} {tx : String} {st : List xV} (hd : decode M.2.2.1 pc = .ok (.ldc_w idx, 3)) (hi : xstr[i]? = some (M.1, idx, tx)) (kk : xWp G M d K Q k (pc + 3) L (xr (some (G.2.2 i)) :: st) h) : xWp G M d K Q k pc L st h := by
  intro p l e R s m args below meth c H locs cells slots ls hs h1 h2 hS hR hL T hT X
  obtain ⟨t, a1, b1⟩ := kk p l e R s m args below meth c H locs cells slots ls hs h1 h2 hS hR hL T hT X
  have hZ := hs.gc.2.2.2.2.2.2.2 i _ hi
  exact ⟨t, x_ldcWS X hs.exec hs.own (text := tx) (a := G.2.2 i) hZ.1 hZ.2 (g := F0 m pc ls (st.map toV)) rfl (by rw [hs.bytes]; exact hd) t a1, b1⟩

theorem xCn.mono {args : List xV} (hP : ∀ r h', P r h' → Q r h') (hc : xCn G M d K args h P) : xCn G M d K args h Q := by
  intro l
  have h1 := hc l
  unfold xx_Met at h1 ⊢
  refine MetFree.mono h1 (fun _ _ z => z) (fun _ _ _ _ _ _ => trivial) (fun a s o t _ hq => ?_)
  exact hq.elim (fun ⟨⟨v, h', e1, hQ, r⟩, L⟩ => Or.inl ⟨⟨v, h', e1, hP _ _ hQ, r⟩, L⟩) (fun ⟨q, e, E, ce, L, ⟨h', hQ, r⟩, rest⟩ => Or.inr ⟨q, e, E, ce, L, ⟨h', hP _ _ hQ, r⟩, rest⟩)
/-- a method's contract out of its body -/
theorem xCn_of {args : List xV} (hpl : xplain M) (hy : plainName M.2.1.cls = true) (hown : M.1 = M.2.1.cls) (hlen : (xentL args).length ≤ M.2.2.2.1) (hW : xWp G M d K Q K 0 (xent args M.2.2.2.1) [] h) : xCn G M d K args h Q := by
  intro l
  rw [xws_plain hpl]
  refine xx_ofW (cc := M.2.2.1) (maxL := M.2.2.2.1) (ret := M.2.2.2.2.1) hy rfl ?_
  intro p e s m aa below meth c s1 B hml ht hv
  obtain ⟨ha, hG, hR⟩ := hv
  subst ha
  have hts := atoms_spec (ws := ws_ M.2.1 M.2.2.1 M.2.2.2.1 M.2.2.2.2.1) B.pre
  have hts : ∀ w ∈ lw_all, w.before _ s = true := fun w h => hts w (List.mem_cons_of_mem _ h)
  rw [lg_entry_eq]
  have hl := lv_entry (args.map toV) (n := M.2.2.2.1) (by rw [xent_len]; exact hlen)
  refine hW p l e _ s m _ below meth c s.heap [] 0 0 _ ?_ (by omega) (by omega) va_S.rf hR ?_
  · refine ⟨B.exec, B.bytes, hml, B.returns, B.notSynchronized, by rw [hown]; exact findClass_of_methodNamed B.named, (name_of_methodNamed B.named B.method).1, hts, hG, ?_, Nat.le_refl _, Nat.le_refl _, Nat.le_refl _, Nat.le_refl _⟩
    rw [hpl.1]
    cases hh : c.exceptionTable.toList with
    | nil => rfl
    | cons a b => exact (ht a (by rw [hh]; exact List.mem_cons_self)).elim
  · exact xhas.of hl.1 hl.2.1 (fun i v hi => hl.2.2 _ (xent_at hi))
theorem xCn_ofW {args : List xV} (hpl : xwith M) (hy : plainName M.2.1.cls = true) (hown : M.1 = M.2.1.cls) (hlen : (xentL args).length ≤ M.2.2.2.1) (hW : xWp G M d K Q K 0 (xent args M.2.2.2.1) [] h) : xCn G M d K args h Q := by
  intro l
  rw [xws_with hpl]
  refine xx_ofWH (cc := M.2.2.1) (maxL := M.2.2.2.1) (ret := M.2.2.2.2.1) (hh := M.2.2.2.2.2) hy rfl ?_
  intro p e s m aa below meth c s1 B hml hv
  obtain ⟨ha, hG, hR⟩ := hv
  subst ha
  have hts := atoms_spec (ws := wsW_ M.2.1 M.2.2.1 M.2.2.2.1 M.2.2.2.2.1 M.2.2.2.2.2) B.pre
  have hcw := hts _ List.mem_cons_self
  have hts : ∀ w ∈ lw_all, w.before _ s = true := fun w h => hts w (List.mem_cons_of_mem _ h)
  rw [lg_entry_eq]
  have hl := lv_entry (args.map toV) (n := M.2.2.2.1) (by rw [xent_len]; exact hlen)
  refine hW p l e _ s m _ below meth c s.heap [] 0 0 _ ?_ (by omega) (by omega) va_S.rf hR ?_
  · exact ⟨B.exec, B.bytes, hml, B.returns, B.notSynchronized, by rw [hown]; exact findClass_of_methodNamed B.named, (name_of_methodNamed B.named B.method).1, hts, hG, xx_table (x := M.2.1) B hcw, Nat.le_refl _, Nat.le_refl _, Nat.le_refl _, Nat.le_refl _⟩
  · exact xhas.of hl.1 hl.2.1 (fun i v hi => hl.2.2 _ (xent_at hi))

end XCALL

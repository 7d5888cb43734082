/-! System.arraycopy of bytes -/
def xcpy (h : xH) (a b i j n : Nat) : xH := xfil h b (fun t => if j ≤ t ∧ t < j + n then xval h a (i + (t - j)) else xval h b t)
theorem x_copied {cs : Cell} {cC : ClassId} {i j n N : Nat} {f g : Nat → xV} (hi : i < 2147483648) (hj : j < 2147483648) (hn : n < 2147483648) (h1 : i + n ≤ cs.slots.size) (h2 : j + n ≤ N) (hs : ∀ t, t < cs.slots.size → cs.slots[t]? = some (toV (f t))) :
    copied cs (arrV cC N (fun t => toV (g t))) (nI i) (nI j) (nI n) = arrV cC N (fun t => toV (if j ≤ t ∧ t < j + n then f (i + (t - j)) else g t)) := by
  unfold copied
  rw [nI_clamp hi, nI_clamp hj, nI_clamp hn]
  obtain ⟨q1, q2, q3, q4, q5⟩ := Cell.storeRun_facts (arrV cC N (fun t => toV (g t))) j (cs.stretch i n)
  rw [Cell.eq_with_slots q1 q2 q4 q5]
  have e : ((arrV cC N (fun t => toV (g t))).storeRun j (cs.stretch i n)).slots = (arrV cC N (fun t => toV (if j ≤ t ∧ t < j + n then f (i + (t - j)) else g t))).slots := by
    apply Array.ext_getElem?
    intro t
    have hl := Cell.stretch_length cs i n
    have := Cell.storePairs_get (arrV cC N (fun t => toV (g t))) j (cs.stretch i n) 0 t (by rw [hl, arrV_size]; omega)
    rw [show (arrV cC N (fun t => toV (g t))).storeRun j (cs.stretch i n) = (arrV cC N (fun t => toV (g t))).storePairs j ((cs.stretch i n).zipIdx 0) from rfl, this, hl]
    by_cases c : j ≤ t ∧ t < j + n
    · rw [if_pos (by omega), arrV_read cC _ (by omega), if_pos c]
      have ht : t - (j + 0) < n := by omega
      unfold Cell.stretch
      rw [List.getElem?_map, List.getElem?_range ht]
      show some (cs.slots.getD (i + (t - (j + 0))) .null) = _
      have hb : i + (t - j) < cs.slots.size := by omega
      have := hs (i + (t - j)) hb
      rw [Nat.add_zero, Array.getD_eq_getD_getElem?, this]
      rfl
    · rw [if_neg (by omega)]
      by_cases ht : t < N
      · rw [arrV_read cC _ ht, arrV_read cC _ ht, if_neg c]
      · rw [Array.getElem?_eq_none (by rw [arrV_size]; omega), Array.getElem?_eq_none (by rw [arrV_size]; omega)]
  rw [e]
  rfl
section XPC
variable {G : xG} {M MY : xM} {d d' K : Nat} {Q P : xR → xH → Prop} {k k' pc : Nat} {L : List (Option xV)} {st : List xV} {h : xH}
theorem xw_acopyB {a b i j n idx : Nat} {x y z : Int32} (hd : decode M.2.2.1 pc = .ok (.invokestatic idx, 3)) (hl : Cond.methodLink M.1 idx Stand.acN ∈ lw_all) (hnat : Cond.native Stand.acN ∈ lw_all) (hst9 : Cond.static Stand.acN ∈ lw_all) (hini : Cond.initialized "java/lang/System" ∈ lw_all) (hdp : 1 ≤ d) (hst : (st.map xcat).sum ≤ 8)
    (ca : xcls h a = 1000) (cb : xcls h b = 1000) (hlo : xlo h ≤ b) (hx : x = nI i) (hy : y = nI j) (hz : z = nI n) (hi : i + n ≤ xlen h a) (hj : j + n ≤ xlen h b) (ha2 : xlen h a < 2147483648) (hb2 : xlen h b < 2147483648) (hfit : ∀ t, t < n → ∃ v : Int32, xval h a (i + t) = xi v ∧ fits .byte (.int v) = true)
    (kk : ∀ h' : xH, h' = xcpy h a b i j n → xWp G M d K Q k (pc + 3) L st h') : xWp G M d K Q k pc L (xi z :: xi y :: xr (some b) :: xi x :: xr (some a) :: st) h := by
  subst hx hy hz
  intro p l e R s m args below meth c H locs cells slots ls hs h1 h2 hS hR hL
  have hrm := hs.room
  have hcat : ((st.map toV).map fun v => v.category) = st.map xcat := by
    rw [List.map_map]
    exact List.map_congr_left (fun v _ => toV_cat v)
  obtain ⟨cs, a1, a2, a3, a4, a5, a6, a7, a8⟩ := (hR.2 a).2 0 .byte ca rfl
  obtain ⟨cd, b1, b2, b3, b4, b5, b6, b7, b8⟩ := (hR.2 b).2 0 .byte cb rfl
  obtain ⟨a41, ks, a42, sC, a43⟩ := a4
  obtain ⟨b41, kd, b42, dC, b43⟩ := b4
  have hcd := b8 hlo
  have hsz : ∀ {x : Nat}, x < 2147483648 → (nI x).toInt = (x : Int) := fun h => nI_toInt h
  intro T hT X
  obtain ⟨vm₁, hW, X1, st1⟩ := X.arraycopyK hs.exec hs.own (hs.words _ hl) (hs.words _ hnat) (hs.words _ hst9) (hs.words _ hini) (src := a) (dst := b) (srcPos := nI i) (destPos := nI j) (n := nI n) (cs := cs) (cd := cd) (by rw [hT]; exact a1) (by rw [hT]; exact b1) a41 b41 a5 b5 a42 b42 a43 b43 rfl
    (nI_pos (by omega)) (nI_pos (by omega)) (nI_pos (by omega)) (by rw [hsz (by omega), hsz (by omega), a6]; omega) (by rw [hsz (by omega), hsz (by omega), b6]; omega)
    (fun vm' hW' t ht => by
      rw [nI_clamp (by omega)] at ht
      rw [nI_clamp (by omega)]
      obtain ⟨v, e1, e2⟩ := hfit t ht
      have := a7 (i + t) (by omega)
      rw [Array.getD_eq_getD_getElem?, this, e1]
      exact ⟨e2, trivial⟩)
    (g := F0 m pc ls (xi (nI n) :: xi (nI j) :: xr (some b) :: xi (nI i) :: xr (some a) :: st |>.map toV)) rfl (hL.1.trans hs.maxl.symm) (rest := st.map toV) rfl (by rw [hs.bytes]; exact hd) (by omega) (by
      show 2 * 0 + (((st.map toV).map fun v => v.category).sum) + (7 + 11) ≤ R.locals
      rw [hcat]; omega)
  have ecp : copied cs cd (nI i) (nI j) (nI n) = arrV cd.cls (xlen h b) (fun t => toV (if j ≤ t ∧ t < j + n then xval h a (i + (t - j)) else xval h b t)) := by
    rw [hcd]
    exact x_copied (by omega) (by omega) (by omega) (by rw [a6]; exact hi) hj (fun t ht => a7 t (by rw [← a6]; exact ht))
  have hbT : (T.setVm vm₁).heap[b]? = some cd := by show T.heap[b]? = some cd; rw [hT]; exact b1
  have hz1 : ((T.setVm vm₁).setCell b (copied cs cd (nI i) (nI j) (nI n))).heap.size = H.size := by
    show (T.heap.setIfInBounds b _).size = _
    rw [Array.size_setIfInBounds, hT]
  have hz2 : ∀ q : Nat, q ≠ b → ((T.setVm vm₁).setCell b (copied cs cd (nI i) (nI j) (nI n))).heap[q]? = H[q]? := fun q hq => by
    rw [State.heap_setCell_other (fun z => hq z.symm)]; show T.heap[q]? = _; rw [hT]
  have R' := hR.afil (f := fun t => if j ≤ t ∧ t < j + n then xval h a (i + (t - j)) else xval h b t) (j := 0) (ty := .byte) (H' := ((T.setVm vm₁).setCell b (copied cs cd (nI i) (nI j) (nI n))).heap) rfl cb b1 (by rw [← ecp]; exact State.heap_setCell_self hbT) hz1 hz2
  obtain ⟨t, t1, t2⟩ := kk _ rfl p l e R s m args below meth c _ (locs ++ Stand.copyLocs b (nI j).toNatClampNeg (nI n).toNatClampNeg) cells slots ls hs h1 h2 ⟨by rw [hz1]; exact hS.1, fun q g1 g2 => by rw [hz2 q (fun z => g2 (by rw [z]; exact hlo))]; exact hS.2.1 q g1 g2, fun q hq => (List.mem_append.mp hq).elim (hS.2.2 q) (fun z => by rw [Stand.copyLocs_base z]; exact hlo)⟩ R' hL _ rfl X1
  exact ⟨t, st1 t t1, t2⟩
end XPC

/-! the province is read -/
def cAbs (x : Int32) : Int32 := if 0 ≤ x then x else 0 - x
/-- where all stands, and what is open, in bounds -/
def wG (W : Nat → Int32) : Prop := (∀ i, i < nH W → ∀ j, j < 2 → ∃ x, x ≤ 30 ∧ pH W i j = nI x) ∧ (∀ s, s < nS W → (∀ j, j < 2 → ∃ x, x ≤ 30 ∧ pS W s j = nI x) ∧ (pS W s 5 = 0 ∨ pS W s 5 = 1) ∧ (pS W s 6 = 0 ∨ pS W s 6 = 1))
theorem cAbs_away {x y : Int32} (hx : ∃ a, a ≤ 30 ∧ x = nI a) (hy : ∃ a, a ≤ 30 ∧ y = nI a) : cAbs (x - y) = pAway x y ∧ cAbs (x - y) = pAway y x := by
  obtain ⟨a, ha, rfl⟩ := hx
  obtain ⟨b, hb, rfl⟩ := hy
  exact (by decide +kernel : ∀ (a b : Fin 31), cAbs (nI a.1 - nI b.1) = pAway (nI a.1) (nI b.1) ∧ cAbs (nI a.1 - nI b.1) = pAway (nI b.1) (nI a.1)) ⟨a, by omega⟩ ⟨b, by omega⟩
def dE (hs L : List Nat) : List Nat := L.map fun i => hs.getD i 0
theorem bit_or {m s t : Nat} (hm : m < 64) (hs : s < 6) (ht : t < 6) : (m ||| 1 <<< s).testBit t = (m.testBit t || decide (s = t)) :=
  (by decide +kernel : ∀ (m : Fin 64) (s t : Fin 6), (m.1 ||| 1 <<< s.1).testBit t.1 = (m.1.testBit t.1 || decide (s.1 = t.1))) ⟨m, hm⟩ ⟨s, hs⟩ ⟨t, ht⟩
theorem pMaskF_bit {W : Nat → Int32} {m s t : Nat} (hm : m < 64) (hs : s < 6) (ht : t < 6) : (pMaskF W m s).testBit t = (m.testBit t || (pOpen W s && decide (s = t))) := by
  unfold pMaskF
  split
  · rename_i e
    rw [bit_or hm hs ht, e, Bool.true_and]
  · rename_i e
    rw [Bool.eq_false_iff.mpr e, Bool.false_and, Bool.or_false]
theorem pMask_go {W : Nat → Int32} {t : Nat} (ht : t < 6) : ∀ (j i m : Nat), i + j ≤ 6 → m < 64 → ((List.range' i j).foldl (pMaskF W) m).testBit t = (m.testBit t || (decide (i ≤ t ∧ t < i + j) && pOpen W t)) := by
  intro j
  induction j with
  | zero =>
    intro i m _ _
    rw [List.range'_zero, List.foldl_nil, decide_eq_false (by omega), Bool.false_and, Bool.or_false]
  | succ j ih =>
    intro i m hi hm
    rw [List.range'_succ, List.foldl_cons, ih (i + 1) _ (by omega) (pMaskF_lt hm (by omega)), pMaskF_bit hm (by omega) ht]
    by_cases e : i = t
    · subst e
      rw [decide_eq_true (show i = i from rfl), decide_eq_false (show ¬ (i + 1 ≤ i ∧ i < i + 1 + j) by omega), decide_eq_true (show i ≤ i ∧ i < i + (j + 1) by omega)]
      simp
    · rw [decide_eq_false e, Bool.and_false, Bool.or_false]
      congr 2
      exact decide_eq_decide.mpr (by omega)
theorem pMask_bit {W : Nat → Int32} {s : Nat} (p : pW W) (hs : s < nS W) : (pMask W).testBit s = pOpen W s := by
  have := p.2.2.2
  unfold pMask
  rw [pMask_go (by omega) (nS W) 0 0 (by omega) (by decide), decide_eq_true (by omega)]
  simp
theorem fold_filter {α : Type} {c : Nat → Bool} {f : α → Nat → α} : ∀ (l : List Nat) (n : α), l.foldl (fun n a => if c a then f n a else n) n = (l.filter c).foldl f n
  | [], _ => rfl
  | a :: l, n => by
    rw [List.foldl_cons, List.filter_cons]
    cases h : c a
    · simp only [Bool.false_eq_true, ↓reduceIte]
      exact fold_filter l n
    · simp only [↓reduceIte]
      exact fold_filter l _
theorem fold_idx {α : Type} {f : α → Nat → α} (L : List Nat) : ∀ (j i : Nat) (n : α), i + j = L.length → (List.range' i j).foldl (fun n a => f n (L.getD a 0)) n = (L.drop i).foldl f n := by
  intro j
  induction j with
  | zero =>
    intro i n hi
    rw [List.range'_zero, List.drop_eq_nil_of_le (by omega)]
    rfl
  | succ j ih =>
    intro i n hi
    rw [List.range'_succ, List.foldl_cons, ih (i + 1) _ (by omega), List.drop_eq_getElem_cons (show i < L.length by omega), List.foldl_cons]
    congr 2
    rw [List.getD_eq_getElem?_getD, List.getElem?_eq_getElem (show i < L.length by omega)]
    rfl
theorem pMany_len {W : Nat → Int32} {x : Int32} : pMany W x = (pDrinks W x).length := by
  have go : ∀ (l : List Nat) (n : Nat), l.foldl (pManyF W x) n = n + (l.filter fun a => decide (oI (pWell W a) = x)).length := by
    intro l
    induction l with
    | nil => intro n; rfl
    | cons a l ih =>
      intro n
      rw [List.foldl_cons, ih, List.filter_cons]
      unfold pManyF
      by_cases h : oI (pWell W a) = x
      · rw [if_pos h, if_pos (decide_eq_true h), List.length_cons]
        omega
      · rw [if_neg h, if_neg (fun z => h (of_decide_eq_true z))]
  unfold pMany pDrinks
  rw [go, Nat.zero_add]
theorem pAsked_sum {W : Nat → Int32} {x : Int32} : (pDrinks W x).foldl (fun n a => n + pH W a 2) 0 = pAsked W x := by
  unfold pAsked pDrinks
  rw [← fold_filter]
  congr 1
  funext n a
  unfold pAskedF
  by_cases h : oI (pWell W a) = x
  · rw [if_pos h, if_pos (decide_eq_true h)]
  · rw [if_neg h, if_neg (fun z => h (of_decide_eq_true z))]
theorem oI_inj {o : Option Nat} {s : Nat} (ho : ∀ t, o = some t → t < 6) (hs : s < 6) : oI o = nI s ↔ o = some s := by
  rcases o with _ | t
  · refine ⟨fun z => ?_, fun z => by cases z⟩
    have : (-1 : Int) = (s : Int) := (congrArg Int32.toInt z).trans (nI_toInt (by omega))
    omega
  · have := ho t rfl
    refine ⟨fun z => ?_, fun z => by cases z; rfl⟩
    rw [(nI_eq (a := t) (b := s) (by omega) (by omega)).mp z]
theorem pNear_lt {W : Nat → Int32} {a mm : Nat} : ∀ t, pNear W a mm = some t → t < nS W := by
  have go : ∀ (j i : Nat) (o : Option Nat), i + j ≤ nS W → (∀ t, o = some t → t < nS W) → ∀ t, (List.range' i j).foldl (pNearF W a mm) o = some t → t < nS W := by
    intro j
    induction j with
    | zero => exact fun i o _ ho => ho
    | succ j ih =>
      intro i o hi ho
      rw [List.range'_succ, List.foldl_cons]
      refine ih (i + 1) _ (by omega) fun t ht => ?_
      unfold pNearF at ht
      split at ht
      · split at ht
        · cases ht; omega
        · split at ht
          · exact ho t ht
          · cases ht; omega
      · exact ho t ht
  exact go (nS W) 0 none (by omega) (fun t e => by cases e)
section XPD
variable {G : xG} {d k : Nat} {h h' h0 : xH} {T : Nat → xH → Nat → Prop} {S : List Nat} {p N i j s c a b e r ka mm w : Nat} {es hs ss : List Nat} {W W' : Nat → Int32} {nd x y z v x' y' : Int32}
theorem far_c {F : Int32 → xH → Nat → Prop} (hd : 1 < d) (a0 : xcls h a = 13 ∨ xcls h a = 14) (a1 : xval h a 1 = xi x) (a2 : xval h a 2 = xi y) (b0 : xcls h b = 13 ∨ xcls h b = 14) (b1 : xval h b 1 = xi x') (b2 : xval h b 2 = xi y') (hQ : F (cAbs (x - x') + cAbs (y - y')) h k) : xCall G d k mX6_far [xr (some a), xr (some b)] h (xkI F T) := by
  refine xCall_of (d' := 1) hd (Nat.zero_le k) (vc_X6_far ⟨a0, _, a1, b, rfl, b0, _, b1, by decide, fun n4 e4 => ⟨a0, _, a2, b0, _, b2, by decide, fun n7 e7 => ?_⟩⟩)
  subst e4 e7
  exact hQ
theorem far_sh_c {F : Int32 → xH → Nat → Prop} (hd : 1 < d) (q : isSt h a s W) (r : isHm h b i W) (X : wG W) (hi : i < nH W) (hs : s < nS W) (hQ : F (pFar W i s) h k) : xCall G d k mX6_far [xr (some a), xr (some b)] h (xkI F T) := by
  refine far_c hd (Or.inr q.1) (q.2.2 0 (by decide)) (q.2.2 1 (by decide)) (Or.inl r.1) (r.2.2 0 (by decide)) (r.2.2 1 (by decide)) ?_
  show F (cAbs (pS W s 0 - pH W i 0) + cAbs (pS W s 1 - pH W i 1)) h k
  rw [(cAbs_away ((X.2 s hs).1 0 (by decide)) (X.1 i hi 0 (by decide))).2, (cAbs_away ((X.2 s hs).1 1 (by decide)) (X.1 i hi 1 (by decide))).2]
  exact hQ
theorem sgives_c {F : Int32 → xH → Nat → Prop} (hd : 1 < d) (q : isSt h a s W) (X : pS W s 6 = 0 ∨ pS W s 6 = 1) (hQ : F (pGives W s) h k) : xCall G d k mX8_gives [xr (some a)] h (xkI F T) := by
  have q7 : xval h a 7 = xi (pS W s 6) := q.2.2 6 (by decide)
  have q5 : xval h a 5 = xi (pS W s 3) := q.2.2 4 (by decide)
  have e : ∀ v : Int32, (if (0 : Int32) < v then v else 0) = pCut v := by
    intro v
    unfold pCut
    by_cases h1 : (0 : Int32) < v
    · rw [if_pos h1, if_pos (Int32.le_of_lt h1)]
    · rw [if_neg h1]
      by_cases h2 : (0 : Int32) ≤ v
      · rw [if_pos h2]
        exact Int32.le_antisymm h2 (Int32.not_lt.mp h1)
      · rw [if_neg h2]
  unfold pGives pPump at hQ
  refine xCall_of (d' := 1) hd (Nat.zero_le k) (vc_X8_gives ⟨q.1, _, q7, fun z => ⟨q.1, _, q5, by decide, fun n3 e3 => ?_⟩, fun z => ⟨q.1, _, q5, by decide, fun n3 e3 => ?_⟩⟩)
  · rw [decide_eq_false (by rw [z]; decide), if_neg Bool.false_ne_true, ← e] at hQ
    subst e3; exact hQ
  · rw [decide_eq_true (X.resolve_left z), if_pos rfl, ← e] at hQ
    subst e3; exact hQ
theorem sopens_c {F : Int32 → xH → Nat → Prop} (hd : 1 < d) (q : isSt h a s W) (hQ : F (pPrice W s) h k) : xCall G d k mX8_opens [xr (some a)] h (xkI F T) :=
  xCall_of (d' := 1) hd (Nat.zero_le k) (vc_X8_opens ⟨q.1, _, q.2.2 3 (by decide), q.1, _, q.2.2 4 (by decide), hQ⟩)
theorem wo12 (q : isPr G h N p hs ss W nd) (X : wG W) (ha : hs[i]? = some a) (c : xcls h w = 19) (e : xval h w 0 = xr (some a)) {D : Nat} (hD : 3 < D) : isWo G D 0 h w ss (fun s => pFar W i s) := by
  intro h' m s b hb F T k hk hQ
  have q' := q.ex m
  have c' := m.cl' c (by decide)
  exact ⟨_, by rw [c']; exact dsp_HamletWells_Worth_of_19, xCall_of (d' := 3) hD (Nat.zero_le k) (vc_X12_of ⟨fun b' e' => by cases e'; exact (q'.st hb).cs.2.1, c', xCall_of (d' := 2) (by decide) (Nat.zero_le _) (vc_X12_of_2 ⟨c', _, m.vl' c (by decide) (by simp) e, b, rfl, (q'.st hb).1, far_sh_c (by decide) (q'.st hb) (q'.hm ha) X (q.hi ha) (q.si hb) (hQ h' xMod.rf)⟩)⟩)⟩
theorem ak11 (q : isPr G h N p hs ss W nd) (X : wG W) (c : xcls h w = 18) {D : Nat} (hD : 2 < D) : isAk G D 0 h w ss (fun s => (pMask W).testBit s) := by
  intro h' m s b hb F T k hk hQ
  have q' := q.ex m
  have c' := m.cl' c (by decide)
  have hs := q.si hb
  have hv := (X.2 s hs).2.1
  have e6 : xval h' b 6 = xi (pS W s 5) := (q'.st hb).2.2 5 (by decide)
  have ev : pS W s 5 = xb (pOpen W s) := by
    unfold pOpen
    rcases hv with z | z <;> rw [z] <;> rfl
  have hQ' : F (xb ((pMask W).testBit s)) h' (k - 0) := hQ h' xMod.rf
  rw [pMask_bit q.pw hs] at hQ'
  exact ⟨_, by rw [c']; exact dsp_HamletWells_Asked_is_18, xCall_of (d' := 2) hD (Nat.zero_le k) (vc_X11_is ⟨fun b' e' => by cases e'; exact (q'.st hb).cs.2.1, c', xCall_of (d' := 1) (by decide) (Nat.zero_le _) (vc_X11_is_2 ⟨b, rfl, (q'.st hb).1, _, e6.trans (congrArg xi ev), xb_01 _, xb_01 _, hQ'⟩)⟩)⟩
theorem pr_so (q : isPr G h N p hs ss W nd) : ∃ r, xval h p 1 = xr (some r) ∧ xcls h r = 3 ∧ isRow G h r ss := by
  obtain ⟨⟨rh, lh, ah, rs, ls, as, mh, ms, ⟨a1, a2, a3⟩, -, ⟨b1, b2, b3, b4, b5⟩, -⟩, -⟩ := q
  exact ⟨rs, a3, b1, ls, ms, b1, b2, b4⟩
theorem pr_ho (q : isPr G h N p hs ss W nd) : ∃ r, xval h p 0 = xr (some r) ∧ xcls h r = 3 ∧ isRow G h r hs := by
  obtain ⟨⟨rh, lh, ah, rs, ls, as, mh, ms, ⟨a1, a2, a3⟩, ⟨b1, b2, b3, b4, b5⟩, -⟩, -⟩ := q
  exact ⟨rh, a2, b1, lh, mh, b1, b2, b4⟩
theorem isRow.ex (q : isRow G h r es) (m : xExt h h') : isRow G h' r es := by
  obtain ⟨l, mc, a, b, q⟩ := q
  exact ⟨l, mc, m.cl' a (by decide), m.vl' a (by decide) (by simp) b, q.ex m⟩
theorem oE_some {o : Option Nat} (e : oE es o = some b) : ∃ t, o = some t ∧ es[t]? = some b := by
  rcases o with _ | t
  · cases e
  · exact ⟨t, rfl, e⟩
theorem nearest_c {F : Option Nat → xH → Nat → Prop} (hd : 8 < d) (hk : 9 + ss.length * ka ≤ k) (q : isPr G h N p hs ss W nd) (X : wG W) (ha : hs[i]? = some a) (wa : isAk G 7 ka h w ss (fun s => mm.testBit s)) (hQ : ∀ h', xExt h h' → F (oE ss (pNear W i mm)) h' (k - (9 + ss.length * ka))) : xCall G d k mX1_nearest [xr (some p), xr (some a), xr (some w)] h (xkR F T) := by
  obtain ⟨r, r1, r2, r3⟩ := pr_so q
  refine xCall_of (d' := 8) hd hk (vc_X1_nearest ⟨q.cl, _, r1, by omega, fun h2 a3 ea eh => ?_⟩)
  have x2 : xExt h h2 := eh ▸ xMod.rf.new
  have c2 : xcls h2 a3 = 19 := by subst eh; simp (decide := true) only [true_and, and_true, and_self, exists_eq_left, exists_eq_left', forall_eq, forall_eq', Sum.inl.injEq, Sum.inr.injEq, Option.some.injEq, xcls_put, xlen_put, xval_put, xsz_put, xlo_put, xcls_new, xlen_new, xval_new, xsz_new, xlo_new, ↓reduceIte, reduceCtorEq, and_false, false_and, not_true_eq_false, not_false_eq_true, implies_true, forall_const, true_implies, false_implies, ne_eq, ea]
  have hz : xsz h ≤ a3 := by omega
  refine xCall_of (d' := 1) (by decide) (Nat.zero_le _) (vc_X12_init ⟨c2, fun h3 e3 => ⟨by rw [e3]; exact c2, fun h4 e4 => ⟨by decide, ?_⟩⟩⟩)
  have x4 : xExt h h4 := e4 ▸ (e3 ▸ x2.put (Or.inr hz)).put (Or.inr hz)
  have c4 : xcls h4 a3 = 19 := by rw [e4, e3]; exact c2
  have v4 : xval h4 a3 0 = xr (some a) := by rw [e4]; simp (decide := true) only [true_and, and_true, and_self, exists_eq_left, exists_eq_left', forall_eq, forall_eq', Sum.inl.injEq, Sum.inr.injEq, Option.some.injEq, xcls_put, xlen_put, xval_put, xsz_put, xlo_put, xcls_new, xlen_new, xval_new, xsz_new, xlo_new, ↓reduceIte, reduceCtorEq, and_false, false_and, not_true_eq_false, not_false_eq_true, implies_true, forall_const, true_implies, false_implies, ne_eq]
  have q4 := q.ex x4
  refine least_c (D := 7) (by decide) (by decide) (by rw [Nat.mul_zero, Nat.add_zero]; omega) (r3.ex x4).xc (wo12 q4 X ha c4 v4 (by decide)) (wa.ex x4) fun h5 x5 => ?_
  have q5 := q4.ex x5
  refine ⟨fun b' e' => ?_, ?_⟩
  · obtain ⟨t, -, et⟩ := oE_some e'
    exact (q5.st et).cs.2.1
  · have := hQ h5 (x4.tr x5)
    unfold pNear at this
    rw [q.ns] at this
    exact this
theorem well_c {F : Option Nat → xH → Nat → Prop} (hd : 9 < d) (hk : 11 ≤ k) (q : isPr G h N p hs ss W nd) (X : wG W) (ha : hs[i]? = some a) (hQ : ∀ h', xExt h h' → F (oE ss (pWell W i)) h' (k - 11)) : xCall G d k mX1_well [xr (some p), xr (some a)] h (xkR F T) := by
  refine xCall_of (d' := 9) hd hk (vc_X1_well ⟨by decide, fun h1 a2 ea eh => ?_⟩)
  have x1 : xExt h h1 := eh ▸ xMod.rf.new
  have c1 : xcls h1 a2 = 18 := by subst eh; simp (decide := true) only [true_and, and_true, and_self, exists_eq_left, exists_eq_left', forall_eq, forall_eq', Sum.inl.injEq, Sum.inr.injEq, Option.some.injEq, xcls_put, xlen_put, xval_put, xsz_put, xlo_put, xcls_new, xlen_new, xval_new, xsz_new, xlo_new, ↓reduceIte, reduceCtorEq, and_false, false_and, not_true_eq_false, not_false_eq_true, implies_true, forall_const, true_implies, false_implies, ne_eq, ea]
  have hz : xsz h ≤ a2 := by omega
  refine xCall_of (d' := 1) (by decide) (Nat.zero_le _) (vc_X11_init ⟨c1, fun h2 e2 => ⟨by decide, ?_⟩⟩)
  have x2 : xExt h h2 := e2 ▸ x1.put (Or.inr hz)
  have c2 : xcls h2 a2 = 18 := by rw [e2]; exact c1
  have q2 := q.ex x2
  exact ⟨q2.cl, nearest_c (ka := 0) (by decide) (by omega) q2 X ha (ak11 q2 X c2 (by decide)) fun h3 x3 => hQ h3 (x2.tr x3)⟩
theorem dE_app {L L' : List Nat} : dE hs (L ++ L') = dE hs L ++ dE hs L' := List.map_append
theorem dE_len {L : List Nat} : (dE hs L).length = L.length := List.length_map _
theorem dE_at {L : List Nat} {t : Nat} (h1 : (dE hs L)[i]? = some b) (hL : ∀ t, t ∈ L → t < hs.length) (ht : L[i]? = some t) : hs[t]? = some b := by
  unfold dE at h1
  rw [List.getElem?_map, ht] at h1
  have hl := hL t (List.mem_of_getElem? ht)
  simp only [Option.map_some, Option.some.injEq] at h1
  rw [List.getD_eq_getElem?_getD, List.getElem?_eq_getElem hl] at h1
  rw [List.getElem?_eq_getElem hl]
  exact congrArg some h1
theorem drinkers_l {K : Nat} {Q : xR → xH → Prop} {it ll : Nat} (q : isPr G h0 N p hs ss W nd) (X : wG W) (hb : ss[s]? = some b) (hit : xsz h0 ≤ it) (hll : xsz h0 ≤ ll) : ∀ j i h kk ns acc mc, i + j = hs.length → isRI G h it hs i → xExt h0 h → isLN h ll ns (dE hs acc) mc → (∀ n, n ∈ ns → xsz h0 ≤ n) → acc.length ≤ i → j * 15 ≤ kk →
    (∀ h' ns mc, xExt h0 h' → (∀ n, n ∈ ns → xsz h0 ≤ n) → isLN h' ll ns (dE hs (acc ++ (List.range' i j).filter fun a => decide (oI (pWell W a) = nI s))) mc → Q (.inl (some (xr (some ll)))) h') →
    xWp G mX1_drinkers 10 K Q kk 16 [some (xr (some p)), some (xr (some b)), some (xr (some ll)), some (xr (some it)), none] [] h := by
  have hl := q.lh
  have hls := q.ls
  have hsl := (List.getElem?_eq_some_iff.mp hb).1
  intro j
  induction j with
  | zero =>
    intro i h kk ns acc mc hi qi x L hn ha hk hQ
    refine vc_X1_drinkers_16 ⟨it, rfl, ri_has (by decide) qi ⟨fun _ => hQ h ns mc x hn ?_, fun z => absurd (xb1.mp z) (by rw [decide_eq_true_iff]; omega)⟩⟩
    rw [List.range'_zero, List.filter_nil, List.append_nil]
    exact L
  | succ j ih =>
    intro i h kk ns acc mc hi qi x L hn ha hk hQ
    rw [Nat.succ_mul] at hk
    obtain ⟨e, he⟩ : ∃ e, hs[i]? = some e := ⟨hs[i]'(by omega), List.getElem?_eq_getElem _⟩
    have hgd : hs.getD i 0 = e := by rw [List.getD_eq_getElem?_getD, he]; rfl
    refine vc_X1_drinkers_16 ⟨it, rfl, ri_has (by decide) qi ⟨fun z => absurd (xb0.mp z) (by rw [decide_eq_false_iff_not]; omega), fun _ => ri_next (by decide) qi he fun h1 m1 q1 => ?_⟩⟩
    have x1 := x.t1 m1 hit
    have p1 := q.ex x1
    have L1 : isLN h1 ll ns (dE hs acc) mc := L.md m1 (fun y hy => by
      rw [List.mem_singleton.mp hy]
      rw [qi.cl]; decide)
    refine ⟨fun b' e' => by cases e'; exact (p1.hm he).cs.2.1, p1.cl, well_c (by decide) (by omega) p1 X he fun h2 x2 => ⟨fun z => ?_, fun z => ⟨ll, rfl, (L1.ex x2).1, ll_addLast_c (by decide) (by omega) (L1.ex x2) (by rw [dE_len]; omega) fun h3 m3 L3 => ?_⟩⟩⟩
    · have hno : ¬ oI (pWell W i) = nI s := fun y => z (by
        rw [(oI_inj (fun t ht => by have := pNear_lt t ht; have := q.ns; omega) (by omega)).mp y]
        exact hb)
      rw [List.range'_succ, List.filter_cons, if_neg (fun y => hno (of_decide_eq_true y))] at hQ
      exact ih (i + 1) h2 _ ns acc mc (by omega) (q1.ex x2) (x1.tr x2) (L1.ex x2) hn (by omega) (by omega) hQ
    · have hyes : oI (pWell W i) = nI s := by
        obtain ⟨t, ht, htb⟩ := oE_some z
        rw [ht, q.2.2.2.1.inj hls htb hb]
        rfl
      rw [List.range'_succ, List.filter_cons, if_pos (decide_eq_true hyes)] at hQ
      have hs3 : ∀ y, y ∈ ll :: ns → xsz h0 ≤ y := fun y hy => by
        rcases List.mem_cons.mp hy with e | e
        · rw [e]; exact hll
        · exact hn y e
      have L3' : isLN h3 ll (ns ++ [xsz h2]) (dE hs (acc ++ [i])) (mc + 1) := by
        rw [dE_app]
        show isLN h3 ll (ns ++ [xsz h2]) (dE hs acc ++ [hs.getD i 0]) (mc + 1)
        rw [hgd]
        exact L3
      have q3 : isRI G h3 it hs (i + 1) := (q1.ex x2).md m3 (fun y hy => by
        rcases List.mem_cons.mp hy with e | e
        · rw [e, (L1.ex x2).1]; decide
        · obtain ⟨t, ht⟩ := List.mem_iff_getElem?.mp e
          rw [((L1.ex x2).2.2.2.2.2.2.2.1 t y ht).1]; decide)
      refine ih (i + 1) h3 _ (ns ++ [xsz h2]) (acc ++ [i]) (mc + 1) (by omega) q3 ((x1.tr x2).tn m3 (fun y hy => Or.inr (hs3 y hy))) L3' ?_ (by rw [List.length_append, List.length_singleton]; omega) (by omega) ?_
      · intro n hn'
        rcases List.mem_append.mp hn' with e | e
        · exact hn n e
        · rw [List.mem_singleton.mp e]
          have := (x1.tr x2).2.1
          exact this
      · rw [List.append_assoc]
        exact hQ
end XPD

/-! the province: drinkers, what is asked, what is open, costs -/
def bNx (m j : Nat) : Int32 := if bFrom m j = 0 then -1 else nI (bLow (bFrom m j))
theorem bs_nx0 {m j s : Nat} (hm : m < 64) (hj : j < 7) (h : bFrom m j = 0) (h1 : j ≤ s) (h2 : s < 6) : m.testBit s = false :=
  (by decide +kernel : ∀ (m : Fin 64) (j : Fin 7) (s : Fin 6), bFrom m.1 j.1 = 0 → j.1 ≤ s.1 → m.1.testBit s.1 = false) ⟨m, hm⟩ ⟨j, hj⟩ ⟨s, h2⟩ h h1
theorem bs_nx1 {m j : Nat} (hm : m < 64) (hj : j < 7) (h : bFrom m j ≠ 0) : j ≤ bLow (bFrom m j) ∧ bLow (bFrom m j) < 6 ∧ m.testBit (bLow (bFrom m j)) = true :=
  (by decide +kernel : ∀ (m : Fin 64) (j : Fin 7), bFrom m.1 j.1 ≠ 0 → j.1 ≤ bLow (bFrom m.1 j.1) ∧ bLow (bFrom m.1 j.1) < 6 ∧ m.1.testBit (bLow (bFrom m.1 j.1)) = true) ⟨m, hm⟩ ⟨j, hj⟩ h
theorem bs_nx2 {m j s : Nat} (hm : m < 64) (hj : j < 7) (h : bFrom m j ≠ 0) (h1 : j ≤ s) (h2 : s < bLow (bFrom m j)) : m.testBit s = false := by
  have h3 := (bs_nx1 hm hj h).2.1
  exact (by decide +kernel : ∀ (m : Fin 64) (j : Fin 7) (s : Fin 6), bFrom m.1 j.1 ≠ 0 → j.1 ≤ s.1 → s.1 < bLow (bFrom m.1 j.1) → m.1.testBit s.1 = false) ⟨m, hm⟩ ⟨j, hj⟩ ⟨s, by omega⟩ h h1 h2
theorem bs_in {m n s : Nat} (hn : n ≤ 6) (hm : m < 2 ^ n) (hs : s < 6) (h : m.testBit s = true) : s < n := by
  have hm' : m < 64 := Nat.lt_of_lt_of_le hm (Nat.pow_le_pow_right (by decide) hn)
  exact (by decide +kernel : ∀ (n : Fin 7) (m : Fin 64) (s : Fin 6), m.1 < 2 ^ n.1 → m.1.testBit s.1 = true → s.1 < n.1) ⟨n, by omega⟩ ⟨m, hm'⟩ ⟨s, hs⟩ hm h
theorem fold_skip {α : Type} {f : α → Nat → α} {n : Nat} : ∀ (r j : Nat) (v : α), j + r ≤ n → (∀ s, j ≤ s → s < j + r → ∀ v, f v s = v) → (List.range' j (n - j)).foldl f v = (List.range' (j + r) (n - (j + r))).foldl f v := by
  intro r
  induction r with
  | zero => intro j v _ _; rfl
  | succ r ih =>
    intro j v hj h
    rw [show n - j = (n - (j + 1)) + 1 by omega, List.range'_succ, List.foldl_cons, h j (Nat.le_refl _) (by omega) v, ih (j + 1) v (by omega) (fun s h1 h2 => h s (by omega) (by omega)), show j + 1 + r = j + (r + 1) by omega]
def cCost (W : Nat → Int32) (mm : Nat) : Int32 := if pPlan W mm then pCost W mm else -6
theorem pCost_00 {W : Nat → Int32} (h : nH W = 0) : pCost W 0 = 0 := by
  have e : pCostS W 0 = fun v _ => v := by
    funext v s
    unfold pCostS
    rw [Nat.zero_testBit]
    rfl
  have e2 : ∀ (l : List Nat) (v : Int32), l.foldl (fun v _ => v) v = v := by
    intro l
    induction l with
    | nil => intro v; rfl
    | cons a l ih => intro v; exact ih v
  unfold pCost pOpening
  rw [h, List.range'_zero, List.foldl_nil, e, e2]
section XPC
variable {G : xG} {d k : Nat} {h h' h0 : xH} {T : Nat → xH → Nat → Prop} {S : List Nat} {p N i j s c a b e r ka mm w m : Nat} {es hs ss : List Nat} {W W' : Nat → Int32} {nd x y z v x' y' : Int32}
theorem drinkers_c {F : Option Nat → xH → Nat → Prop} (hd : 10 < d) (hk : 131 ≤ k) (q : isPr G h N p hs ss W nd) (X : wG W) (hb : ss[s]? = some b) (hQ : ∀ h' ll ns mc, xExt h h' → xsz h ≤ ll → (∀ n, n ∈ ns → xsz h ≤ n) → isLN h' ll ns (dE hs (pDrinks W (nI s))) mc → F (some ll) h' (k - 131)) : xCall G d k mX1_drinkers [xr (some p), xr (some b)] h (xkR F T) := by
  have hl := q.lh
  refine xCall_of (d' := 10) hd hk (vc_X1_drinkers ⟨by decide, fun h1 a2 ea eh => ?_⟩)
  have x1 : xExt h h1 := eh ▸ xMod.rf.new
  have c1 : xcls h1 a2 = 17 := by subst eh; simp (decide := true) only [true_and, and_true, and_self, exists_eq_left, exists_eq_left', forall_eq, forall_eq', Sum.inl.injEq, Sum.inr.injEq, Option.some.injEq, xcls_put, xlen_put, xval_put, xsz_put, xlo_put, xcls_new, xlen_new, xval_new, xsz_new, xlo_new, ↓reduceIte, reduceCtorEq, and_false, false_and, not_true_eq_false, not_false_eq_true, implies_true, forall_const, true_implies, false_implies, ne_eq, ea]
  have hz : xsz h ≤ a2 := by omega
  refine ll_init_c (by decide) c1 (by subst eh; (simp (decide := true) only [true_and, and_true, and_self, exists_eq_left, exists_eq_left', forall_eq, forall_eq', Sum.inl.injEq, Sum.inr.injEq, Option.some.injEq, xcls_put, xlen_put, xval_put, xsz_put, xlo_put, xcls_new, xlen_new, xval_new, xsz_new, xlo_new, ↓reduceIte, reduceCtorEq, and_false, false_and, not_true_eq_false, not_false_eq_true, implies_true, forall_const, true_implies, false_implies, ne_eq, ea] <;> rfl)) (by subst eh; (simp (decide := true) only [true_and, and_true, and_self, exists_eq_left, exists_eq_left', forall_eq, forall_eq', Sum.inl.injEq, Sum.inr.injEq, Option.some.injEq, xcls_put, xlen_put, xval_put, xsz_put, xlo_put, xcls_new, xlen_new, xval_new, xsz_new, xlo_new, ↓reduceIte, reduceCtorEq, and_false, false_and, not_true_eq_false, not_false_eq_true, implies_true, forall_const, true_implies, false_implies, ne_eq, ea] <;> rfl)) fun h3 m3 L3 => ?_
  have x3 := x1.t1 m3 hz
  have p3 := q.ex x3
  refine pr_h p3 fun r R _ => row_iter_c (by decide) (by decide) R fun h4 it x4 hit qi => ?_
  have hit0 : xsz h ≤ it := Nat.le_trans x3.2.1 hit
  refine drinkers_l q X hb hit0 hz hs.length 0 h4 _ [] [] 0 (Nat.zero_add _) qi (x3.tr x4) (L3.ex x4) (fun n hn => by cases hn) (Nat.le_refl _) (by show hs.length * 15 ≤ 131 - 5 - 0 - 6; omega) fun h5 ns mc x5 hn L5 => hQ h5 a2 ns mc x5 hz hn ?_
  unfold pDrinks
  rw [q.nh]
  exact L5
theorem wo20 {ll : Nat} {L : List Nat} (q : isPr G h N p hs ss W nd) (hL : ∀ t, t ∈ L → t < hs.length) (c : xcls h w = 33) {D : Nat} (hD : 2 < D) : isWo G D 0 h w (dE hs L) (fun i => pH W (L.getD i 0) 2) := by
  intro h' m i b hb F T k hk hQ
  have q' := q.ex m
  have c' := m.cl' c (by decide)
  have hi : i < L.length := by rw [← dE_len (hs := hs)]; exact (List.getElem?_eq_some_iff.mp hb).1
  have ht : L[i]? = some (L.getD i 0) := by rw [List.getD_eq_getElem?_getD, List.getElem?_eq_getElem hi]; rfl
  have hm := q'.hm (dE_at hb hL ht)
  exact ⟨_, by rw [c']; exact dsp_HamletWells_Worth_of_33, xCall_of (d' := 2) hD (Nat.zero_le k) (vc_X20_of ⟨fun b' e' => by cases e'; exact hm.cs.2.1, c', xCall_of (d' := 1) (by decide) (Nat.zero_le _) (vc_X20_of_2 ⟨b, rfl, hm.1, _, hm.2.2 2 (by decide), hQ h' xMod.rf⟩)⟩)⟩
theorem pDrinks_lt {x : Int32} : ∀ t, t ∈ pDrinks W x → t < nH W := by
  intro t ht
  unfold pDrinks at ht
  have := (List.mem_filter.mp ht).1
  rw [List.mem_range'_1] at this
  omega
theorem pDrinks_len {x : Int32} : (pDrinks W x).length ≤ nH W := by
  unfold pDrinks
  refine Nat.le_trans (List.length_filter_le _ _) ?_
  rw [List.length_range']
  exact Nat.le_refl _
theorem asked_c {F : Int32 → xH → Nat → Prop} (hd : 11 < d) (hk : 139 ≤ k) (q : isPr G h N p hs ss W nd) (X : wG W) (hb : ss[s]? = some b) (hQ : ∀ h', xExt h h' → F (pAsked W (nI s)) h' (k - 139)) : xCall G d k mX1_asked [xr (some p), xr (some b)] h (xkI F T) := by
  refine xCall_of (d' := 11) hd hk (vc_X1_asked ⟨q.cl, drinkers_c (by decide) (by decide) q X hb fun h1 ll ns mc x1 hll hn L1 => ⟨by decide, fun h4 a5 ea eh => ?_⟩⟩)
  have x4 : xExt h h4 := eh ▸ x1.new
  have c4 : xcls h4 a5 = 33 := by subst eh; simp (decide := true) only [true_and, and_true, and_self, exists_eq_left, exists_eq_left', forall_eq, forall_eq', Sum.inl.injEq, Sum.inr.injEq, Option.some.injEq, xcls_put, xlen_put, xval_put, xsz_put, xlo_put, xcls_new, xlen_new, xval_new, xsz_new, xlo_new, ↓reduceIte, reduceCtorEq, and_false, false_and, not_true_eq_false, not_false_eq_true, implies_true, forall_const, true_implies, false_implies, ne_eq, ea]
  have hz : xsz h ≤ a5 := by rw [ea]; exact x1.2.1
  have L4 : isLN h4 ll ns (dE hs (pDrinks W (nI s))) mc := L1.ex (eh ▸ xMod.rf.new)
  refine xCall_of (d' := 1) (by decide) (Nat.zero_le _) (vc_X20_init ⟨c4, fun h5 e5 => ⟨by decide, ?_⟩⟩)
  have m5 : xMod [a5] h4 h5 := e5 ▸ xMod.rf.put (Or.inl (by simp))
  have x5 := x4.t1 m5 hz
  have c5 : xcls h5 a5 = 33 := by rw [e5]; exact c4
  have L5 : isLN h5 ll ns (dE hs (pDrinks W (nI s))) mc := L4.md m5 (fun y hy => by rw [List.mem_singleton.mp hy, c4]; decide)
  have hL : ∀ t, t ∈ pDrinks W (nI s) → t < hs.length := fun t ht => by rw [← q.nh]; exact pDrinks_lt t ht
  refine sum_c (D := 7) (by decide) (by decide) (by rw [Nat.mul_zero]; decide) (Or.inr ⟨ns, mc, L5⟩) (wo20 (ll := ll) (q.ex x5) hL c5 (by decide)) fun h6 x6 => ?_
  have := hQ h6 (x5.tr x6)
  rw [dE_len, fold_idx (f := fun n a => n + pH W a 2) (pDrinks W (nI s)) _ 0 0 (by omega), List.drop_zero, pAsked_sum]
  exact this
theorem bOff_no (h : mm.testBit i = false) : bOff mm i = mm := by unfold bOff; rw [h]; rfl
theorem isBS.lt (q : isBS h b w m) : m < 64 := q.2.2.2.2.1
theorem isBS.ex (q : isBS h b w m) (x : xExt h h') : isBS h' b w m := q.md x (by simp) (by simp)
theorem open_l {K : Nat} {Q : xR → xH → Prop} {it : Nat} (g8 : G.2.1 8 = xi 1) (q : isPr G h0 N p hs ss W nd) (X : wG W) (hit : xsz h0 ≤ it) (hb : xsz h0 ≤ b) (hw : xsz h0 ≤ w) : ∀ j i h kk mm, i + j = ss.length → isRI G h it ss i → xExt h0 h → isBS h b w mm → (∀ t, i ≤ t → t < 6 → mm.testBit t = false) →
    (∀ h', xExt h0 h' → isBS h' b w ((List.range' i j).foldl (pMaskF W) mm) → Q (.inl (some (xr (some b)))) h') → xWp G mX1_open 5 K Q kk 16 [none, some (xr (some b)), some (xr (some it)), none] [] h := by
  have hls := q.ls
  intro j
  induction j with
  | zero =>
    intro i h kk mm hi qi x B hm hQ
    exact vc_X1_open_16 ⟨it, rfl, ri_has (by decide) qi ⟨fun _ => hQ h x B, fun z => absurd (xb1.mp z) (by rw [decide_eq_true_iff]; omega)⟩⟩
  | succ j ih =>
    intro i h kk mm hi qi x B hm hQ
    obtain ⟨e, he⟩ : ∃ e, ss[i]? = some e := ⟨ss[i]'(by omega), List.getElem?_eq_getElem _⟩
    rw [List.range'_succ, List.foldl_cons] at hQ
    refine vc_X1_open_16 ⟨it, rfl, ri_has (by decide) qi ⟨fun z => absurd (xb0.mp z) (by rw [decide_eq_false_iff_not]; omega), fun _ => ri_next (by decide) qi he fun h1 m1 q1 => ?_⟩⟩
    have x1 := x.t1 m1 hit
    have p1 := q.ex x1
    have st := p1.st he
    have hs := q.si he
    have B1 : isBS h1 b w mm := B.md m1 (fun y => by have := List.mem_singleton.mp y; have h1 := B.1; rw [this, qi.cl] at h1; cases h1) (fun y => by have := List.mem_singleton.mp y; have h1 := B.2.2.1; rw [this, qi.cl] at h1; cases h1)
    have ev : pS W i 5 = xb (pOpen W i) := by
      unfold pOpen
      rcases (X.2 i hs).2.1 with z | z <;> rw [z] <;> rfl
    refine ⟨fun b' e' => by cases e'; exact st.cs.2.1, e, rfl, st.1, _, st.2.1, st.1, _, (st.2.2 5 (by decide)).trans (congrArg xi ev), b, rfl, B1.1, bs_set_c (by decide) g8 B1 (by omega) fun h2 m2 B2 => ?_⟩
    have e2 : (if pOpen W i = true then mm ||| 1 <<< i else bOff mm i) = pMaskF W mm i := by
      unfold pMaskF
      rw [bOff_no (hm i (Nat.le_refl _) (by omega))]
    rw [e2] at B2
    have hm2 : ∀ x, x ∈ [b, w] → xsz h0 ≤ x := fun y hy => by
      simp only [List.mem_cons, List.not_mem_nil, or_false] at hy
      rcases hy with rfl | rfl
      · exact hb
      · exact hw
    refine ih (i + 1) h2 _ (pMaskF W mm i) (by omega) (q1.md m2 (fun y hy => ?_)) (x1.tn m2 (fun y hy => Or.inr (hm2 y hy))) B2 (fun t h1 h2 => ?_) hQ
    · simp only [List.mem_cons, List.not_mem_nil, or_false] at hy
      rcases hy with rfl | rfl
      · rw [B1.1]; decide
      · rw [B1.2.2.1]; decide
    · rw [pMaskF_bit B.lt (by omega) h2, hm t (by omega) h2, decide_eq_false (show ¬ i = t by omega), Bool.and_false]
      rfl
theorem open_c {F : Option Nat → xH → Nat → Prop} (hd : 5 < d) (hk : 12 ≤ k) (g8 : G.2.1 8 = xi 1) (q : isPr G h N p hs ss W nd) (X : wG W) (hQ : ∀ h' b w, xExt h h' → xsz h ≤ b → xsz h ≤ w → isBS h' b w (pMask W) → F (some b) h' (k - 12)) : xCall G d k mX1_open [xr (some p)] h (xkR F T) := by
  refine xCall_of (d' := 5) hd hk (vc_X1_open ⟨by decide, fun h1 a2 ea eh => ?_⟩)
  have x1 : xExt h h1 := eh ▸ xMod.rf.new
  have c1 : xcls h1 a2 = 24 := by subst eh; simp (decide := true) only [true_and, and_true, and_self, exists_eq_left, exists_eq_left', forall_eq, forall_eq', Sum.inl.injEq, Sum.inr.injEq, Option.some.injEq, xcls_put, xlen_put, xval_put, xsz_put, xlo_put, xcls_new, xlen_new, xval_new, xsz_new, xlo_new, ↓reduceIte, reduceCtorEq, and_false, false_and, not_true_eq_false, not_false_eq_true, implies_true, forall_const, true_implies, false_implies, ne_eq, ea]
  have hz : xsz h ≤ a2 := by omega
  refine bs_init_c (by decide) (by decide) c1 fun h3 m3 B3 => ?_
  have x3 := x1.t1 m3 hz
  have hw : xsz h ≤ xsz h1 := x1.2.1
  refine pr_s (q.ex x3) fun r R _ => row_iter_c (by decide) (by decide) R fun h4 it x4 hit qi => ?_
  refine open_l g8 q X (Nat.le_trans x3.2.1 hit) hz hw ss.length 0 h4 _ 0 (Nat.zero_add _) qi (x3.tr x4) (B3.ex x4) (fun t _ _ => Nat.zero_testBit t) fun h5 x5 B5 => hQ h5 a2 (xsz h1) x5 hz hw ?_
  unfold pMask
  rw [q.ns]
  exact B5
theorem openMany_c {F : Int32 → xH → Nat → Prop} (hd : 6 < d) (hk : 12 ≤ k) (g8 : G.2.1 8 = xi 1) (q : isPr G h N p hs ss W nd) (X : wG W) (hQ : ∀ h', xExt h h' → F (nI (bCard (pMask W))) h' (k - 12)) : xCall G d k mX1_openMany [xr (some p)] h (xkI F T) :=
  xCall_of (d' := 6) hd hk (vc_X1_openMany ⟨q.cl, open_c (by decide) (Nat.le_refl _) g8 q X fun h1 b w x1 _ _ B1 => ⟨b, rfl, B1.1, bs_card_c (by decide) B1 (hQ h1 x1)⟩⟩)
theorem ak21 (g8 : G.2.1 8 = xi 1) (q : isPr G h N p hs ss W nd) (B : isBS h b w mm) (c : xcls h a = 34) (e : xval h a 0 = xr (some b)) {D : Nat} (hD : 4 < D) : isAk G D 0 h a ss (fun s => mm.testBit s) := by
  intro h' m s t ht F T k hk hQ
  have q' := q.ex m
  have c' := m.cl' c (by decide)
  have hs := q.si ht
  have hns := q.ns
  have hls := q.ls
  have hQ' : F (xb (mm.testBit s)) h' (k - 0) := hQ h' xMod.rf
  have st := q'.st ht
  exact ⟨_, by rw [c']; exact dsp_HamletWells_Asked_is_34, xCall_of (d' := 4) hD (Nat.zero_le k) (vc_X21_is ⟨fun b' e' => by cases e'; exact st.cs.2.1, c', xCall_of (d' := 3) (by decide) (Nat.zero_le _) (vc_X21_is_2 ⟨c', _, m.vl' c (by decide) (by simp) e, t, rfl, st.1, _, st.2.1, b, rfl, (B.ex m).1, bs_get_c (by decide) g8 (B.ex m) (by omega) ⟨xb_01 _, xb_01 _, hQ'⟩⟩)⟩)⟩
theorem cost_2 {K : Nat} {Q : xR → xH → Prop} {it : Nat} (q : isPr G h0 N p hs ss W nd) (X : wG W) (wa : isAk G 7 0 h0 a ss (fun s => mm.testBit s)) (hm : pSet W mm) (hz : mm ≠ 0) (hit : xsz h0 ≤ it) : ∀ j i v h kk, i + j = hs.length → isRI G h it hs i → xExt h0 h → j * 9 ≤ kk →
    (∀ h', xExt h0 h' → Q (.inl (some (xi ((List.range' i j).foldl (pCostH W mm) v)))) h') → xWp G mX1_cost 9 K Q kk 83 [some (xr (some p)), none, some (xi v), some (xr (some a)), some (xr (some it)), none] [] h := by
  intro j
  induction j with
  | zero =>
    intro i v h kk hi qi x hk hQ
    exact vc_X1_cost_83 ⟨it, rfl, ri_has (by decide) qi ⟨fun _ => hQ h x, fun z => absurd (xb1.mp z) (by rw [decide_eq_true_iff]; omega)⟩⟩
  | succ j ih =>
    intro i v h kk hi qi x hk hQ
    rw [Nat.succ_mul] at hk
    obtain ⟨e, he⟩ : ∃ e, hs[i]? = some e := ⟨hs[i]'(by omega), List.getElem?_eq_getElem _⟩
    rw [List.range'_succ, List.foldl_cons] at hQ
    obtain ⟨t, ht⟩ := pNear_some (a := i) q.pw hm hz
    have htl := pNear_lt t ht
    refine vc_X1_cost_83 ⟨it, rfl, ri_has (by decide) qi ⟨fun z => absurd (xb0.mp z) (by rw [decide_eq_false_iff_not]; omega), fun _ => ri_next (by decide) qi he fun h1 m1 q1 => ?_⟩⟩
    have x1 := x.t1 m1 hit
    have p1 := q.ex x1
    have st := p1.hm he
    refine ⟨fun b' e' => by cases e'; exact st.cs.2.1, e, rfl, st.1, _, st.2.2 2 (by decide), p1.cl, nearest_c (ka := 0) (by decide) (by omega) p1 X he (wa.ex x1) fun h2 x2 => ?_⟩
    have p2 := p1.ex x2
    obtain ⟨b, hb⟩ := q.sx htl
    have e3 : oE ss (pNear W i mm) = some b := by rw [ht]; exact hb
    refine ⟨b, e3, (p2.st hb).1, far_sh_c (by decide) (p2.st hb) (p2.hm he) X (q.hi he) htl ?_⟩
    refine ih (i + 1) _ h2 _ (by omega) (q1.ex x2) (x1.tr x2) (by omega) ?_
    unfold pCostH at hQ
    rw [ht] at hQ
    exact hQ
theorem cost_1 {K : Nat} {Q : xR → xH → Prop} (g8 : G.2.1 8 = xi 1) (q : isPr G h N p hs ss W nd) (X : wG W) (B : isBS h b w mm) (hm : pSet W mm) (hz : mm ≠ 0) {kk : Nat} (hk : 81 ≤ kk)
    (hQ : ∀ h', xExt h h' → Q (.inl (some (xi (pCost W mm)))) h') : ∀ n j v, 6 ≤ j + n → j ≤ 6 → (List.range' j (nS W - j)).foldl (pCostS W mm) v = pOpening W mm → 
    xWp G mX1_cost 9 K Q kk 32 [some (xr (some p)), some (xr (some b)), some (xi v), some (xi (bNx mm j)), none, none] [] h := by
  have hm' := pSet_lt q.pw hm
  have hn6 := q.pw.2.2.2
  have hl := q.lh
  have fin : ∀ j v, j ≤ 6 → bFrom mm j = 0 → (List.range' j (nS W - j)).foldl (pCostS W mm) v = pOpening W mm → xWp G mX1_cost 9 K Q kk 32 [some (xr (some p)), some (xr (some b)), some (xi v), some (xi (bNx mm j)), none, none] [] h := by
    intro j v hj h0 hv
    have hv2 : v = pOpening W mm := by
      rw [← hv]
      by_cases hjn : j ≤ nS W
      · have := fold_skip (f := pCostS W mm) (n := nS W) (nS W - j) j v (by omega) (fun s h1 h2 v => by unfold pCostS; rw [bs_nx0 hm' (by omega) h0 h1 (by omega)]; rfl)
        rw [this, show nS W - (j + (nS W - j)) = 0 by omega]
        rfl
      · rw [show nS W - j = 0 by omega]
        rfl
    have en : bNx mm j = -1 := by unfold bNx; rw [if_pos h0]
    rw [en]
    refine vc_X1_cost_32 ⟨fun _ => ⟨by omega, fun h13 a14 ea eh => ?_⟩, fun z => absurd (by decide) z⟩
    have x1 : xExt h h13 := eh ▸ xMod.rf.new
    have c1 : xcls h13 a14 = 34 := by subst eh; simp (decide := true) only [true_and, and_true, and_self, exists_eq_left, exists_eq_left', forall_eq, forall_eq', Sum.inl.injEq, Sum.inr.injEq, Option.some.injEq, xcls_put, xlen_put, xval_put, xsz_put, xlo_put, xcls_new, xlen_new, xval_new, xsz_new, xlo_new, ↓reduceIte, reduceCtorEq, and_false, false_and, not_true_eq_false, not_false_eq_true, implies_true, forall_const, true_implies, false_implies, ne_eq, ea]
    have hz2 : xsz h ≤ a14 := by omega
    refine xCall_of (d' := 1) (by decide) (Nat.zero_le _) (vc_X21_init ⟨c1, fun h2 e2 => ⟨by rw [e2]; exact c1, fun h3 e3 => ⟨by decide, ?_⟩⟩⟩)
    have x3 : xExt h h3 := e3 ▸ (e2 ▸ x1.put (Or.inr hz2)).put (Or.inr hz2)
    have c3 : xcls h3 a14 = 34 := by rw [e3, e2]; exact c1
    have v3 : xval h3 a14 0 = xr (some b) := by rw [e3]; simp (decide := true) only [true_and, and_true, and_self, exists_eq_left, exists_eq_left', forall_eq, forall_eq', Sum.inl.injEq, Sum.inr.injEq, Option.some.injEq, xcls_put, xlen_put, xval_put, xsz_put, xlo_put, xcls_new, xlen_new, xval_new, xsz_new, xlo_new, ↓reduceIte, reduceCtorEq, and_false, false_and, not_true_eq_false, not_false_eq_true, implies_true, forall_const, true_implies, false_implies, ne_eq]
    have p3 := q.ex x3
    have wa := ak21 g8 p3 (B.ex x3) c3 v3 (show 4 < 7 by decide)
    refine pr_h p3 fun r R _ => row_iter_c (by decide) (by omega) R fun h4 it x4 hit qi => ?_
    refine cost_2 p3 X wa hm hz hit hs.length 0 v h4 _ (Nat.zero_add _) qi x4 (by omega) fun h5 x5 => ?_
    have := hQ h5 (x3.tr x5)
    unfold pCost at this
    rw [q.nh, ← hv2] at this
    exact this
  intro n
  induction n with
  | zero =>
    intro j v hj hj6 hv
    have e : j = 6 := by omega
    subst e
    exact fin 6 v (Nat.le_refl _) ((by decide +kernel : ∀ m : Fin 64, bFrom m.1 6 = 0) ⟨mm, hm'⟩) hv
  | succ n ih =>
    intro j v hj hj6 hv
    by_cases h0 : bFrom mm j = 0
    · exact fin j v hj6 h0 hv
    · obtain ⟨t1, t2, t3⟩ := bs_nx1 hm' (by omega) h0
      have t4 := fun s h1 h2 => bs_nx2 (s := s) hm' (show j < 7 by omega) h0 h1 h2
      have en : bNx mm j = nI (bLow (bFrom mm j)) := by unfold bNx; rw [if_neg h0]
      rw [en]
      generalize bLow (bFrom mm j) = t at *
      have t5 : t < nS W := bs_in hn6 hm t2 t3
      obtain ⟨st, hst⟩ := q.sx t5
      refine vc_X1_cost_32 ⟨fun z => absurd z (nI_pos (by omega)), fun _ => pr_s q fun r R _ => row_of_c (by decide) R hst (q.st hst).cs.1 ⟨fun b' e' => by cases e'; exact (q.st hst).cs.2.1, st, rfl, (q.st hst).1, sopens_c (by decide) (q.st hst) ⟨b, rfl, B.1, ?_⟩⟩⟩
      rw [nI_1]
      refine bs_next_c (by decide) g8 B (by omega) ?_
      refine ih (t + 1) (v + pPrice W t) (by omega) (by omega) ?_
      rw [← hv]
      have := fold_skip (f := pCostS W mm) (n := nS W) (t - j) j v (by omega) (fun s h1 h2 v => by unfold pCostS; rw [t4 s h1 (by omega)]; rfl)
      rw [this, show j + (t - j) = t by omega, show nS W - t = (nS W - (t + 1)) + 1 by omega, List.range'_succ, List.foldl_cons]
      congr 1
      unfold pCostS
      rw [t3]
      rfl
theorem cost_c {F : Int32 → xH → Nat → Prop} (hd : 9 < d) (hk : 81 ≤ k) (g8 : G.2.1 8 = xi 1) (q : isPr G h N p hs ss W nd) (X : wG W) (B : isBS h b w mm) (hm : pSet W mm) (hQ : ∀ h', xExt h h' → F (cCost W mm) h' (k - 81)) : xCall G d k mX1_cost [xr (some p), xr (some b)] h (xkI F T) := by
  have hl := q.lh
  unfold cCost at hQ
  refine xCall_of (d' := 9) hd hk (vc_X1_cost ⟨b, rfl, B.1, bs_isEmpty_c (by decide) B ⟨fun z => ⟨B.1, bs_next_c (by decide) g8 B (by decide) ?_⟩, fun z => pr_h q fun r R _ => row_many_c (by decide) R ⟨fun y => ?_, fun y => ?_⟩⟩⟩)
  · have hz : mm ≠ 0 := of_decide_eq_false (xb0.mp z)
    rw [if_pos (pPlan_of hz)] at hQ
    exact cost_1 g8 q X B hm hz (by decide) hQ 6 0 0 (by decide) (by decide) rfl
  · have hz : mm = 0 := of_decide_eq_true (xb1.mp z)
    have hn : ¬ nH W = 0 := fun e => y (by rw [← q.nh, e]; rfl)
    have hp : pPlan W mm = false := by unfold pPlan; rw [if_pos hz, decide_eq_false hn]
    rw [hp, if_neg Bool.false_ne_true] at hQ
    exact hQ h xMod.rf
  · have hz : mm = 0 := of_decide_eq_true (xb1.mp z)
    have hn : nH W = 0 := by rw [q.nh]; exact (nI_eq (b := 0) (by omega) (by decide)).mp y
    have hp : pPlan W mm = true := by unfold pPlan; rw [if_pos hz, decide_eq_true hn]
    rw [hp, if_pos rfl, hz, pCost_00 hn] at hQ
    exact hQ h xMod.rf
end XPC

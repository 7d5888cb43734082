/-! the class: accounts, shares -/
def cDrink (W : Nat → Int32) : Int32 := (List.range' 0 (nS W)).foldl (fun n s => n + nI (pMany W (nI s))) 0
def cCostB (W : Nat → Int32) : Int32 := match pBest W with | none => -6 | some t => pCost W t
def cCounted (W : Nat → Int32) : Bool := decide (cDrink W = if nI (bCard (pMask W)) ≤ 0 then 0 else nI (nH W)) && decide (pSumS W 7 = pSumH W 4) && decide (pSumS W 6 + W 4 = 3) && decide (cCostB W = cLB W (nS W) 0 0 0 (-6))
section XXC
variable {G : xG} {d k : Nat} {h h' h0 : xH} {T : Nat → xH → Nat → Prop} {S : List Nat} {x p N i j s c a b e r ka mm w m ll ad arr : Nat} {es hs ss ps : List Nat} {W W' : Nat → Int32} {nd y z v x' y' fd : Int32}
theorem sum_h {F : Int32 → xH → Nat → Prop} {D k0 : Nat} {f : Nat → Int32} (hd : D < d) (hD : 6 < D) (hk : 6 + hs.length * k0 ≤ k) (q : isPr G h N p hs ss W nd) (w' : isWo G D k0 h w hs f) (hr : xval h p 0 = xr (some r)) (hQ : ∀ h', xExt h h' → F ((List.range' 0 (nH W)).foldl (fun n a => n + f a) 0) h' (k - (6 + hs.length * k0))) : xCall G d k mX0_sum [xr (some r), xr (some w)] h (xkI F T) := by
  obtain ⟨r', r1, r2, r3⟩ := pr_ho q
  have e : r' = r := by have := r1.symm.trans hr; simpa using this
  subst e
  rw [q.nh] at hQ
  exact sum_c hd hD hk r3.xc w' hQ
theorem sum_s {F : Int32 → xH → Nat → Prop} {D k0 : Nat} {f : Nat → Int32} (hd : D < d) (hD : 6 < D) (hk : 6 + ss.length * k0 ≤ k) (q : isPr G h N p hs ss W nd) (w' : isWo G D k0 h w ss f) (hr : xval h p 1 = xr (some r)) (hQ : ∀ h', xExt h h' → F ((List.range' 0 (nS W)).foldl (fun n a => n + f a) 0) h' (k - (6 + ss.length * k0))) : xCall G d k mX0_sum [xr (some r), xr (some w)] h (xkI F T) := by
  obtain ⟨r', r1, r2, r3⟩ := pr_so q
  have e : r' = r := by have := r1.symm.trans hr; simpa using this
  subst e
  rw [q.ns] at hQ
  exact sum_c hd hD hk r3.xc w' hQ
theorem counted_d {Kc : Nat} {Q : xR → xH → Prop} {it : Nat} (q : isNw G h0 x p hs ss W nd) (X : wG W) (hit : xsz h0 ≤ it) : ∀ j i n h kk, i + j = ss.length → isRI G h it ss i → xExt h0 h → 131 * j ≤ kk →
    (∀ h' kk', xExt h0 h' → kk - 131 * j ≤ kk' → xWp G mX0_isCounted 18 Kc Q kk' 49 [some (xr (some x)), some (xi ((List.range' i j).foldl (fun n s => n + nI (pMany W (nI s))) n)), none, none, none, none] [] h') →
    xWp G mX0_isCounted 18 Kc Q kk 13 [some (xr (some x)), some (xi n), some (xr (some it)), none, none, none] [] h := by
  intro j
  induction j with
  | zero =>
    intro i n h kk hi qi x0 hk hQ
    exact vd_X0_isCounted_13 ⟨it, rfl, ri_has (by decide) qi ⟨fun _ => hQ h _ x0 (by omega), fun z => absurd (xb1.mp z) (by rw [decide_eq_true_iff]; omega)⟩⟩
  | succ j ih =>
    intro i n h kk hi qi x0 hk hQ
    obtain ⟨e, he⟩ : ∃ e, ss[i]? = some e := ⟨ss[i]'(by omega), List.getElem?_eq_getElem _⟩
    rw [List.range'_succ, List.foldl_cons] at hQ
    refine vd_X0_isCounted_13 ⟨it, rfl, ri_has (by decide) qi ⟨fun z => absurd (xb0.mp z) (by rw [decide_eq_false_iff_not]; omega), fun _ => ri_next (by decide) qi he fun h1 m1 q1 => ?_⟩⟩
    have x1 := x0.t1 m1 hit
    have p1 := q.ex x1
    refine ⟨fun b' e' => by cases e'; exact (p1.pr.st he).cs.2.1, p1.1, _, p1.2.1, p, rfl, p1.pr.cl, drinkers_c (by decide) (by omega) p1.pr X he fun h2 ll ns mc x2 _ _ L2 => ⟨ll, rfl, L2.1, ll_size_c (by decide) L2 ?_⟩⟩
    rw [dE_len, ← pMany_len]
    exact ih (i + 1) _ h2 _ (by omega) (q1.ex x2) (x1.tr x2) (by omega) fun h' kk' a1 a2 => hQ h' kk' a1 (by omega)
theorem counted_148 {Kc : Nat} {Q : xR → xH → Prop} {c4 c5 : Bool} {kk : Nat} (g8 : G.2.1 8 = xi 1) (q : isNw G h x p hs ss W nd) (X : wG W) (hk : 5197 ≤ kk)
    (hQ : ∀ h', xExt h h' → Q (.inl (some (xi (xb (c4 && c5 && decide (pSumS W 6 + W 4 = 3) && decide (v = cLB W (nS W) 0 0 0 (-6))))))) h') :
    xWp G mX0_isCounted 18 Kc Q kk 148 [some (xr (some x)), none, none, some (xi v), some (xi (xb c4)), some (xi (xb c5))] [] h := by
  obtain ⟨r, r1, r2, r3⟩ := pr_so q.pr
  refine vd_X0_isCounted_148 ⟨fun z => ?_, fun z => ⟨fun z2 => ?_, fun z2 => ⟨q.1, _, q.2.1, p, rfl, q.pr.cl, _, r1, by omega, fun h1 a ea eh => ?_⟩⟩⟩
  · have := hQ h xMod.rf
    rw [xb0.mp z] at this
    exact this
  · have := hQ h xMod.rf
    rw [xb1.mp z, xb0.mp z2] at this
    exact this
  · rw [xb1.mp z, xb1.mp z2] at hQ
    have x1 : xExt h h1 := eh ▸ xMod.rf.new
    have c1 : xcls h1 a = 43 := by subst eh; simp (decide := true) only [true_and, and_true, and_self, exists_eq_left, exists_eq_left', forall_eq, forall_eq', Sum.inl.injEq, Sum.inr.injEq, Option.some.injEq, xcls_put, xlen_put, xval_put, xsz_put, xlo_put, xcls_new, xlen_new, xval_new, xsz_new, xlo_new, ↓reduceIte, reduceCtorEq, and_false, false_and, not_true_eq_false, not_false_eq_true, implies_true, forall_const, true_implies, false_implies, ne_eq, ea]
    refine xCall_of (d' := 1) (by decide) (Nat.zero_le _) (vc_X29_init ⟨by decide, ?_⟩)
    have q1 := q.ex x1
    refine sum_s (D := 7) (by decide) (by decide) (by omega) q1.pr (wo29 q1.pr X c1 (by decide)) (x1.vl' q.pr.cl (by decide) (by simp) r1) fun h2 x2 => ?_
    have q2 := q1.ex x2
    refine ⟨q2.1, _, q2.2.1, p, rfl, pr_f q2.pr 4 (by decide) (by decide) (by decide) ⟨fun u => ?_, fun u => ⟨q2.1, xagain_c (by decide) (by omega) g8 q2 X fun h3 x3 => ⟨fun t => ?_, fun t => ?_⟩⟩⟩⟩
    · have := hQ h2 (x1.tr x2)
      rw [decide_eq_false (show ¬ pSumS W 6 + W 4 = 3 from u)] at this
      exact this
    · have := hQ h3 ((x1.tr x2).tr x3)
      rw [decide_eq_true (show pSumS W 6 + W 4 = 3 from u), decide_eq_false t] at this
      exact this
    · have := hQ h3 ((x1.tr x2).tr x3)
      rw [decide_eq_true (show pSumS W 6 + W 4 = 3 from u), decide_eq_true t] at this
      exact this
theorem counted_104 {Kc : Nat} {Q : xR → xH → Prop} {c4 : Bool} {kk : Nat} (g8 : G.2.1 8 = xi 1) (q : isNw G h x p hs ss W nd) (X : wG W) (hk : 5211 ≤ kk)
    (hQ : ∀ h', xExt h h' → Q (.inl (some (xi (xb (c4 && decide (pSumS W 7 = pSumH W 4) && decide (pSumS W 6 + W 4 = 3) && decide (v = cLB W (nS W) 0 0 0 (-6))))))) h') :
    xWp G mX0_isCounted 18 Kc Q kk 104 [some (xr (some x)), none, none, some (xi v), some (xi (xb c4)), none] [] h := by
  obtain ⟨r, r1, r2, r3⟩ := pr_so q.pr
  obtain ⟨r', r1', r2', r3'⟩ := pr_ho q.pr
  refine vd_X0_isCounted_104 ⟨q.1, _, q.2.1, p, rfl, q.pr.cl, _, r1, by omega, fun h1 a ea eh => ?_⟩
  have x1 : xExt h h1 := eh ▸ xMod.rf.new
  have c1 : xcls h1 a = 41 := by subst eh; simp (decide := true) only [true_and, and_true, and_self, exists_eq_left, exists_eq_left', forall_eq, forall_eq', Sum.inl.injEq, Sum.inr.injEq, Option.some.injEq, xcls_put, xlen_put, xval_put, xsz_put, xlo_put, xcls_new, xlen_new, xval_new, xsz_new, xlo_new, ↓reduceIte, reduceCtorEq, and_false, false_and, not_true_eq_false, not_false_eq_true, implies_true, forall_const, true_implies, false_implies, ne_eq, ea]
  refine xCall_of (d' := 1) (by decide) (Nat.zero_le _) (vc_X27_init ⟨by decide, ?_⟩)
  have q1 := q.ex x1
  refine sum_s (D := 7) (by decide) (by decide) (by omega) q1.pr (wo27 q1.pr c1 (by decide)) (x1.vl' q.pr.cl (by decide) (by simp) r1) fun h2 x2 => ?_
  have q2 := q1.ex x2
  have x02 := x1.tr x2
  refine ⟨q2.1, _, q2.2.1, p, rfl, q2.pr.cl, _, x02.vl' q.pr.cl (by decide) (by simp) r1', by omega, fun h3 a3 ea3 eh3 => ?_⟩
  have x3 : xExt h2 h3 := eh3 ▸ xMod.rf.new
  have c3 : xcls h3 a3 = 42 := by subst eh3; simp (decide := true) only [true_and, and_true, and_self, exists_eq_left, exists_eq_left', forall_eq, forall_eq', Sum.inl.injEq, Sum.inr.injEq, Option.some.injEq, xcls_put, xlen_put, xval_put, xsz_put, xlo_put, xcls_new, xlen_new, xval_new, xsz_new, xlo_new, ↓reduceIte, reduceCtorEq, and_false, false_and, not_true_eq_false, not_false_eq_true, implies_true, forall_const, true_implies, false_implies, ne_eq, ea3]
  refine xCall_of (d' := 1) (by decide) (Nat.zero_le _) (vc_X28_init ⟨by decide, ?_⟩)
  have q3 := q2.ex x3
  refine sum_h (D := 7) (by decide) (by decide) (by omega) q3.pr (wo28 q3.pr c3 (by decide)) ((x02.tr x3).vl' q.pr.cl (by decide) (by simp) r1') fun h4 x4 => ⟨fun u => ?_, fun u => ?_⟩
  · refine counted_148 (c5 := false) g8 (q3.ex x4) X (by omega) fun h5 x5 => ?_
    have := hQ h5 (((x02.tr x3).tr x4).tr x5)
    rw [decide_eq_false (show ¬ pSumS W 7 = pSumH W 4 from u)] at this
    exact this
  · refine counted_148 (c5 := true) g8 (q3.ex x4) X (by omega) fun h5 x5 => ?_
    have := hQ h5 (((x02.tr x3).tr x4).tr x5)
    rw [decide_eq_true (show pSumS W 7 = pSumH W 4 from u)] at this
    exact this
theorem xisCounted_c {F : Int32 → xH → Nat → Prop} (hd : 18 < d) (hk : 12000 ≤ k) (g8 : G.2.1 8 = xi 1) (q : isNw G h x p hs ss W nd) (X : wG W) (K : wK W) (hQ : ∀ h', xExt h h' → F (xb (cCounted W)) h' (k - 12000)) : xCall G d k mX0_isCounted [xr (some x)] h (xkI F T) := by
  have h6 := q.pr.pw.2.2.2
  have h8 := q.pr.pw.2.1
  have hns := q.pr.ns
  have hnh := q.pr.nh
  have h64 := (b_pow h6).2
  have hcd := (by decide +kernel : ∀ m : Fin 64, bCard m.1 ≤ 6) ⟨pMask W, pSet_lt q.pr.pw (pMask_ok q.pr.pw)⟩
  unfold cCounted at hQ
  refine xCall_of (d' := 18) hd hk (vd_X0_isCounted ⟨q.1, _, q.2.1, p, rfl, pr_s q.pr fun r R _ => row_iter_c (by decide) (by decide) R fun h1 it x1 hit qi => ?_⟩)
  refine counted_d q X hit ss.length 0 0 h1 _ (Nat.zero_add _) qi x1 (by omega) fun h2 k2 x2 hk2 => ?_
  have ed : (List.range' 0 ss.length).foldl (fun n s => n + nI (pMany W (nI s))) 0 = cDrink W := by unfold cDrink; rw [hns]
  rw [ed]
  have k2' : 11200 ≤ k2 := by omega
  have q2 := q.ex x2
  have tail : ∀ h3 k3, xExt h h3 → 5300 ≤ k3 → xWp G mX0_isCounted 18 12000 (fun r h' => xkI F T r h' (k - 12000)) k3 69 [some (xr (some x)), some (xi (cDrink W)), none, some (xi (cCostB W)), none, none] [] h3 := by
    intro h3 k3 x3 hk3
    have q3 := q.ex x3
    have fin : ∀ (c4 : Bool) h4 k4, xExt h3 h4 → 5250 ≤ k4 → c4 = decide (cDrink W = if nI (bCard (pMask W)) ≤ 0 then 0 else nI (nH W)) → xWp G mX0_isCounted 18 12000 (fun r h' => xkI F T r h' (k - 12000)) k4 104 [some (xr (some x)), none, none, some (xi (cCostB W)), some (xi (xb c4)), none] [] h4 := by
      intro c4 h4 k4 x4 hk4 e4
      subst e4
      exact counted_104 g8 (q3.ex x4) X (by omega) fun h5 x5 => hQ h5 ((x3.tr x4).tr x5)
    refine vd_X0_isCounted_69 ⟨q3.1, _, q3.2.1, p, rfl, q3.pr.cl, openMany_c (by decide) (by omega) g8 q3.pr X fun h4 x4 => ⟨fun u => ⟨fun t => ?_, fun t => ?_⟩, fun u => ⟨(q3.ex x4).1, _, (q3.ex x4).2.1, p, rfl, pr_h (q3.ex x4).pr fun r R _ => row_many_c (by decide) R ⟨fun t => ?_, fun t => ?_⟩⟩⟩⟩
    · exact fin false h4 _ x4 (by omega) (by rw [if_pos u, decide_eq_false t])
    · exact fin true h4 _ x4 (by omega) (by rw [if_pos u, decide_eq_true t])
    · exact fin false h4 _ x4 (by omega) (by rw [if_neg u, hnh, decide_eq_false t])
    · exact fin true h4 _ x4 (by omega) (by rw [if_neg u, hnh, decide_eq_true t])
  refine vd_X0_isCounted_49 ⟨q2.1, xcheapest_c (by decide) (by omega) g8 q2 X K fun h3 x3 => ?_⟩
  have q3 := q2.ex x3
  cases hb : pBest W with
  | none =>
    have ec : cCostB W = -6 := by unfold cCostB; rw [hb]
    rw [ec] at tail
    exact ⟨fun z => absurd z (by decide), fun _ => tail h3 _ (x2.tr x3) (by omega)⟩
  | some t =>
    have hok : ∀ t, pBest W = some t → pSet W t ∧ pPlan W t = true := by
      have go : ∀ (l : List Nat) (o : Option Nat), (∀ i, i ∈ l → pSet W i) → (∀ t, o = some t → pSet W t ∧ pPlan W t = true) → ∀ t, l.foldl (pBestF W) o = some t → pSet W t ∧ pPlan W t = true := by
        intro l
        induction l with
        | nil => exact fun o _ ho => ho
        | cons a l ih => exact fun o hl ho => ih _ (fun i hi => hl i (List.mem_cons_of_mem _ hi)) (pBestF_ok ho (hl a List.mem_cons_self))
      exact go _ none (fun i hi => by rw [List.mem_range'_1] at hi; exact (show i < 2 ^ nS W by omega)) (fun t e => by cases e)
    obtain ⟨t1, t2⟩ := hok t hb
    have t3 : t < 2 ^ nS W := t1
    have ec : cCostB W = pCost W t := by unfold cCostB; rw [hb]
    have ea : pCostA W (nI t) = pCost W t := by
      unfold pCostA
      rw [if_pos ((pHas_iff (by omega)).mpr ⟨t, t3, rfl⟩), nI_clamp (by omega), if_pos t2]
    rw [ec] at tail
    refine ⟨fun _ => ⟨q3.1, xcost_c (by decide) (by omega) g8 q3 X fun h4 x4 => ?_⟩, fun z => absurd (nI_le (a := 0) (Nat.zero_le t) (by omega)) z⟩
    rw [show bI (some t) = nI t from rfl, ea]
    exact tail h4 _ ((x2.tr x3).tr x4) (by omega)
theorem xmeanWay_c {F : UInt64 → xH → Nat → Prop} (hd : 13 < d) (hk : 125 ≤ k) (g8 : G.2.1 8 = xi 1) (q : isNw G h x p hs ss W nd) (X : wG W) (hp : nH W ≠ 0 → pPeople W ≠ 0) (b1 : (pPeople W).toInt.natAbs < 2 ^ 24) (b2 : (pWay W).toInt.natAbs < 2 ^ 24) (hQ : ∀ h', xExt h h' → F (pMean W) h' (k - 125)) : xCall G d k mX0_meanWay [xr (some x)] h (xkD F T) := by
  have h8 := q.pr.lh
  obtain ⟨r, r1, r2, r3⟩ := pr_ho q.pr
  unfold pMean at hQ
  refine xCall_of (d' := 13) hd hk (vc_X0_meanWay ⟨q.1, _, q.2.1, p, rfl, q.pr.cl, _, r1, by decide, fun h1 a ea eh => ?_⟩)
  have x1 : xExt h h1 := eh ▸ xMod.rf.new
  have c1 : xcls h1 a = 44 := by subst eh; simp (decide := true) only [true_and, and_true, and_self, exists_eq_left, exists_eq_left', forall_eq, forall_eq', Sum.inl.injEq, Sum.inr.injEq, Option.some.injEq, xcls_put, xlen_put, xval_put, xsz_put, xlo_put, xcls_new, xlen_new, xval_new, xsz_new, xlo_new, ↓reduceIte, reduceCtorEq, and_false, false_and, not_true_eq_false, not_false_eq_true, implies_true, forall_const, true_implies, false_implies, ne_eq, ea]
  refine xCall_of (d' := 1) (by decide) (Nat.zero_le _) (vc_X30_init ⟨by decide, ?_⟩)
  have q1 := q.ex x1
  refine sum_h (D := 7) (by decide) (by decide) (by rw [Nat.mul_zero]; decide) q1.pr (wo30 q1.pr c1 (by decide)) (x1.vl' q.pr.cl (by decide) (by simp) r1) fun h2 x2 => ⟨fun u => ?_, fun u => ?_⟩
  · have hn : nH W = 0 := by
      by_cases hn : nH W = 0
      · exact hn
      · exact absurd u (hp hn)
    rw [if_pos hn] at hQ
    exact hQ h2 (x1.tr x2)
  · have hn : nH W ≠ 0 := fun e => u (by rw [e]; rfl)
    rw [if_neg hn] at hQ
    have q2 := q1.ex x2
    refine ⟨q2.1, _, q2.2.1, p, rfl, q2.pr.cl, openMany_c (by decide) (by rw [Nat.mul_zero]; decide) g8 q2.pr X fun h3 x3 => ⟨fun t => ?_, fun t => ?_⟩⟩
    · have hm : pMask W ≠ 0 := fun e => t ((bCard_0 (pSet_lt q.pr.pw (pMask_ok q.pr.pw))).mpr e)
      rw [if_neg hm] at hQ
      have q3 := q2.ex x3
      have x03 := (x1.tr x2).tr x3
      refine ⟨q3.1, _, q3.2.1, p, rfl, q3.pr.cl, _, x03.vl' q.pr.cl (by decide) (by simp) r1, by rw [Nat.mul_zero]; decide, fun h4 a4 ea4 eh4 => ?_⟩
      have x4 : xExt h3 h4 := eh4 ▸ xMod.rf.new
      have c4 : xcls h4 a4 = 45 := by subst eh4; simp (decide := true) only [true_and, and_true, and_self, exists_eq_left, exists_eq_left', forall_eq, forall_eq', Sum.inl.injEq, Sum.inr.injEq, Option.some.injEq, xcls_put, xlen_put, xval_put, xsz_put, xlo_put, xcls_new, xlen_new, xval_new, xsz_new, xlo_new, ↓reduceIte, reduceCtorEq, and_false, false_and, not_true_eq_false, not_false_eq_true, implies_true, forall_const, true_implies, false_implies, ne_eq, ea4]
      refine xCall_of (d' := 1) (by decide) (Nat.zero_le _) (vc_X31_init ⟨c4, fun h5 e5 => ⟨by decide, ?_⟩⟩)
      have x5 : xExt h3 h5 := e5 ▸ x4.put (Or.inr (by omega))
      have c5 : xcls h5 a4 = 45 := by rw [e5]; exact c4
      have v5 : xval h5 a4 0 = xr (some x) := by rw [e5]; simp (decide := true) only [true_and, and_true, and_self, exists_eq_left, exists_eq_left', forall_eq, forall_eq', Sum.inl.injEq, Sum.inr.injEq, Option.some.injEq, xcls_put, xlen_put, xval_put, xsz_put, xlo_put, xcls_new, xlen_new, xval_new, xsz_new, xlo_new, ↓reduceIte, reduceCtorEq, and_false, false_and, not_true_eq_false, not_false_eq_true, implies_true, forall_const, true_implies, false_implies, ne_eq]
      have q5 := q3.ex x5
      refine sum_h (D := 12) (k0 := 11) (by decide) (by decide) (by rw [Nat.mul_zero]; omega) q5.pr (wo31 q5 X hm c5 v5 (by decide)) ((x03.tr x5).vl' q.pr.cl (by decide) (by simp) r1) fun h6 x6 => ⟨n64_div b2 b1 u, hQ h6 ((x03.tr x5).tr x6)⟩
    · have hm : pMask W = 0 := (bCard_0 (pSet_lt q.pr.pw (pMask_ok q.pr.pw))).mp t
      rw [if_pos hm] at hQ
      exact hQ h3 ((x1.tr x2).tr x3)
theorem xwaterShare_c {F : UInt32 → xH → Nat → Prop} (hd : 8 < d) (hk : 7 ≤ k) (q : isNw G h x p hs ss W nd) (hn : nd = W 6 + W 5) (hg : pSumH W 4 = W 6) (b1 : (W 6).toInt.natAbs < 2 ^ 24) (b2 : (W 6 + W 5).toInt.natAbs < 2 ^ 24) (hQ : ∀ h', xExt h h' → F (pShare W) h' (k - 7)) : xCall G d k mX0_waterShare [xr (some x)] h (xkF F T) := by
  obtain ⟨r, r1, r2, r3⟩ := pr_ho q.pr
  unfold pShare at hQ
  subst hn
  refine xCall_of (d' := 8) hd hk (vc_X0_waterShare ⟨q.1, _, q.2.1, p, rfl, q.pr.cl, _, q.pr.2.1.2, fun z => ⟨q.1, _, q.2.1, p, rfl, q.pr.cl, _, r1, by decide, fun h1 a ea eh => ?_⟩, fun z => ?_⟩)
  · rw [if_neg z] at hQ
    have x1 : xExt h h1 := eh ▸ xMod.rf.new
    have c1 : xcls h1 a = 42 := by subst eh; simp (decide := true) only [true_and, and_true, and_self, exists_eq_left, exists_eq_left', forall_eq, forall_eq', Sum.inl.injEq, Sum.inr.injEq, Option.some.injEq, xcls_put, xlen_put, xval_put, xsz_put, xlo_put, xcls_new, xlen_new, xval_new, xsz_new, xlo_new, ↓reduceIte, reduceCtorEq, and_false, false_and, not_true_eq_false, not_false_eq_true, implies_true, forall_const, true_implies, false_implies, ne_eq, ea]
    refine xCall_of (d' := 1) (by decide) (Nat.zero_le _) (vc_X28_init ⟨by decide, ?_⟩)
    have q1 := q.ex x1
    refine sum_h (D := 7) (by decide) (by decide) (by rw [Nat.mul_zero]; decide) q1.pr (wo28 q1.pr c1 (by decide)) (x1.vl' q.pr.cl (by decide) (by simp) r1) fun h2 x2 => ?_
    have q2 := q1.ex x2
    have hg' : (List.range' 0 (nH W)).foldl (fun n a => n + pH W a 4) 0 = W 6 := hg
    rw [hg']
    exact ⟨q2.1, _, q2.2.1, p, rfl, q2.pr.cl, _, q2.pr.2.1.2, n32_div b1 b2 z, hQ h2 (x1.tr x2)⟩
  · rw [if_pos z] at hQ
    exact hQ h xMod.rf
def cAccount (W : Nat → Int32) (fd n x : Int32) : Int32 :=
  if x = 0 then W 0 else if x = 1 then W 1 else if x = 2 then W 2 else if x = 3 then W 3 else if x = 4 then nI (bCard (pMask W)) else if x = 5 then pPeople W
  else if x = 6 then W 4 else if x = 7 then pSumH W 3 else if x = 8 then pSumS W 7 else if x = 9 then W 7 else if x = 10 then W 8 else if x = 11 then W 9 else if x = 12 then W 10 else if x = 13 then W 11
  else if x = 14 then fd else if x = 15 then n else -2
theorem xaccount_c {F : Int32 → xH → Nat → Prop} (hd : 8 < d) (hk : 12 ≤ k) (g8 : G.2.1 8 = xi 1) (q : isNw G h x p hs ss W nd) (X : wG W) (f6 : xval h x 6 = xi fd) (f2 : xval h x 2 = xr (some ad)) (AD : isAD h ad arr ps) (hQ : ∀ h', xExt h h' → F (cAccount W fd (nI ps.length) y) h' (k - 12)) : xCall G d k mX0_account [xr (some x), xi y] h (xkI F T) := by
  obtain ⟨r, r1, r2, r3⟩ := pr_ho q.pr
  obtain ⟨r', r1', r2', r3'⟩ := pr_so q.pr
  unfold cAccount at hQ
  have hQ0 := hQ h xMod.rf
  refine xCall_of (d' := 8) hd hk (vc_X0_account ?_)
  refine ⟨fun e => ?_, fun e => ?_, fun e => ?_, fun e => ?_, fun e => ?_, fun e => ?_, fun e => ?_, fun e => ?_, fun e => ?_, fun e => ?_, fun e => ?_, fun e => ?_, fun e => ?_, fun e => ?_, fun e => ?_, fun e => ?_, fun e => ?_⟩
  · subst e; exact ⟨q.1, _, q.2.1, p, rfl, pr_f q.pr 2 (by decide) (by decide) (by decide) hQ0⟩
  · subst e; exact ⟨q.1, _, q.2.1, p, rfl, pr_f q.pr 3 (by decide) (by decide) (by decide) hQ0⟩
  · subst e; exact ⟨q.1, _, q.2.1, p, rfl, pr_h q.pr fun r R _ => row_many_c (by decide) R (by rw [← q.pr.2.2.2.2.1]; exact hQ0)⟩
  · subst e; exact ⟨q.1, _, q.2.1, p, rfl, pr_s q.pr fun r R _ => row_many_c (by decide) R (by rw [← q.pr.2.2.2.2.2]; exact hQ0)⟩
  · subst e; exact ⟨q.1, _, q.2.1, p, rfl, q.pr.cl, openMany_c (by decide) (by decide) g8 q.pr X hQ⟩
  · subst e
    refine ⟨q.1, _, q.2.1, p, rfl, q.pr.cl, _, r1, by decide, fun h1 a ea eh => ?_⟩
    have x1 : xExt h h1 := eh ▸ xMod.rf.new
    have c1 : xcls h1 a = 44 := by subst eh; simp (decide := true) only [true_and, and_true, and_self, exists_eq_left, exists_eq_left', forall_eq, forall_eq', Sum.inl.injEq, Sum.inr.injEq, Option.some.injEq, xcls_put, xlen_put, xval_put, xsz_put, xlo_put, xcls_new, xlen_new, xval_new, xsz_new, xlo_new, ↓reduceIte, reduceCtorEq, and_false, false_and, not_true_eq_false, not_false_eq_true, implies_true, forall_const, true_implies, false_implies, ne_eq, ea]
    refine xCall_of (d' := 1) (by decide) (Nat.zero_le _) (vc_X30_init ⟨by decide, ?_⟩)
    exact sum_h (D := 7) (by decide) (by decide) (by rw [Nat.mul_zero]; decide) (q.ex x1).pr (wo30 (q.ex x1).pr c1 (by decide)) (x1.vl' q.pr.cl (by decide) (by simp) r1) fun h2 x2 => hQ h2 (x1.tr x2)
  · subst e; exact ⟨q.1, _, q.2.1, p, rfl, pr_f q.pr 4 (by decide) (by decide) (by decide) hQ0⟩
  · subst e
    refine ⟨q.1, _, q.2.1, p, rfl, q.pr.cl, _, r1, by decide, fun h1 a ea eh => ?_⟩
    have x1 : xExt h h1 := eh ▸ xMod.rf.new
    have c1 : xcls h1 a = 46 := by subst eh; simp (decide := true) only [true_and, and_true, and_self, exists_eq_left, exists_eq_left', forall_eq, forall_eq', Sum.inl.injEq, Sum.inr.injEq, Option.some.injEq, xcls_put, xlen_put, xval_put, xsz_put, xlo_put, xcls_new, xlen_new, xval_new, xsz_new, xlo_new, ↓reduceIte, reduceCtorEq, and_false, false_and, not_true_eq_false, not_false_eq_true, implies_true, forall_const, true_implies, false_implies, ne_eq, ea]
    refine xCall_of (d' := 1) (by decide) (Nat.zero_le _) (vc_X32_init ⟨by decide, ?_⟩)
    exact sum_h (D := 7) (by decide) (by decide) (by rw [Nat.mul_zero]; decide) (q.ex x1).pr (wo32 (q.ex x1).pr c1 (by decide)) (x1.vl' q.pr.cl (by decide) (by simp) r1) fun h2 x2 => hQ h2 (x1.tr x2)
  · subst e
    refine ⟨q.1, _, q.2.1, p, rfl, q.pr.cl, _, r1', by decide, fun h1 a ea eh => ?_⟩
    have x1 : xExt h h1 := eh ▸ xMod.rf.new
    have c1 : xcls h1 a = 41 := by subst eh; simp (decide := true) only [true_and, and_true, and_self, exists_eq_left, exists_eq_left', forall_eq, forall_eq', Sum.inl.injEq, Sum.inr.injEq, Option.some.injEq, xcls_put, xlen_put, xval_put, xsz_put, xlo_put, xcls_new, xlen_new, xval_new, xsz_new, xlo_new, ↓reduceIte, reduceCtorEq, and_false, false_and, not_true_eq_false, not_false_eq_true, implies_true, forall_const, true_implies, false_implies, ne_eq, ea]
    refine xCall_of (d' := 1) (by decide) (Nat.zero_le _) (vc_X27_init ⟨by decide, ?_⟩)
    exact sum_s (D := 7) (by decide) (by decide) (by rw [Nat.mul_zero]; decide) (q.ex x1).pr (wo27 (q.ex x1).pr c1 (by decide)) (x1.vl' q.pr.cl (by decide) (by simp) r1') fun h2 x2 => hQ h2 (x1.tr x2)
  · subst e; exact ⟨q.1, _, q.2.1, p, rfl, pr_f q.pr 6 (by decide) (by decide) (by decide) hQ0⟩
  · subst e; exact ⟨q.1, _, q.2.1, p, rfl, pr_f q.pr 7 (by decide) (by decide) (by decide) hQ0⟩
  · subst e; exact ⟨q.1, _, q.2.1, p, rfl, pr_f q.pr 8 (by decide) (by decide) (by decide) hQ0⟩
  · subst e; exact ⟨q.1, _, q.2.1, p, rfl, pr_f q.pr 9 (by decide) (by decide) (by decide) hQ0⟩
  · subst e; exact ⟨q.1, _, q.2.1, p, rfl, pr_f q.pr 10 (by decide) (by decide) (by decide) hQ0⟩
  · subst e; exact ⟨q.1, _, f6, hQ0⟩
  · subst e; exact ⟨q.1, _, f2, ad, rfl, AD.1, ad_size_c (by decide) AD hQ0⟩
  · rw [if_neg (by rintro rfl; exact absurd e (by decide)), if_neg (by rintro rfl; exact absurd e (by decide)), if_neg (by rintro rfl; exact absurd e (by decide)), if_neg (by rintro rfl; exact absurd e (by decide)), if_neg (by rintro rfl; exact absurd e (by decide)), if_neg (by rintro rfl; exact absurd e (by decide)), if_neg (by rintro rfl; exact absurd e (by decide)), if_neg (by rintro rfl; exact absurd e (by decide)), if_neg (by rintro rfl; exact absurd e (by decide)), if_neg (by rintro rfl; exact absurd e (by decide)), if_neg (by rintro rfl; exact absurd e (by decide)), if_neg (by rintro rfl; exact absurd e (by decide)), if_neg (by rintro rfl; exact absurd e (by decide)), if_neg (by rintro rfl; exact absurd e (by decide)), if_neg (by rintro rfl; exact absurd e (by decide)), if_neg (by rintro rfl; exact absurd e (by decide))] at hQ0
    exact hQ0
end XXC

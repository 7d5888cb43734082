/-! the province: hamlets and sites are told -/
theorem pZ_at {W : Nat → Int32} {p q : Nat} : ∀ k, pZ W p k q = if p ≤ q ∧ q < p + k then 0 else W q
  | 0 => by rw [if_neg (by omega)]; rfl
  | k + 1 => by
    unfold pZ uW
    by_cases h : q = p + k
    · rw [if_pos h, if_pos (by omega)]
    · rw [if_neg h, pZ_at k]
      by_cases h2 : p ≤ q ∧ q < p + k
      · rw [if_pos h2, if_pos (by omega)]
      · rw [if_neg h2, if_neg (by omega)]
theorem pTellsH_at {W : Nat → Int32} {x y z : Int32} (q : Nat) : pTellsH W x y z q = if q = 2 then W 2 + 1 else if q = 13 + 6 * nH W + 2 then z else if q = 13 + 6 * nH W + 1 then y else if q = 13 + 6 * nH W then x else if 13 + 6 * nH W ≤ q ∧ q < 13 + 6 * nH W + 6 then 0 else W q := by
  by_cases h : q = 2
  · subst h
    rw [if_pos rfl]
    exact pTellsH_23.1
  · rw [if_neg h]
    unfold pTellsH
    rw [uW_ne h]
    unfold uW
    rw [pZ_at]
theorem pTellsS_at {W : Nat → Int32} {x y z w : Int32} (q : Nat) : pTellsS W x y z w q = if q = 3 then W 3 + 1 else if q = 61 + 8 * nS W + 4 then w else if q = 61 + 8 * nS W + 3 then z else if q = 61 + 8 * nS W + 2 then z else if q = 61 + 8 * nS W + 1 then y else if q = 61 + 8 * nS W then x else if 61 + 8 * nS W ≤ q ∧ q < 61 + 8 * nS W + 8 then 0 else W q := by
  by_cases h : q = 3
  · subst h
    rw [if_pos rfl]
    exact pTellsS_23.2
  · rw [if_neg h]
    unfold pTellsS
    unfold uW
    rw [pZ_at, if_neg h]
    rfl
theorem tellH_H {W : Nat → Int32} {x y z : Int32} {i j : Nat} (hn : nH W < 8) (hi : i < 8) (hj : j < 6) : pH (pTellsH W x y z) i j = if i = nH W then (if j = 0 then x else if j = 1 then y else if j = 2 then z else 0) else pH W i j := by
  unfold pH
  rw [pTellsH_at, if_neg (by omega)]
  by_cases h : i = nH W
  · subst h
    rw [if_pos rfl]
    by_cases j0 : j = 0
    · rw [if_pos j0, if_neg (by omega), if_neg (by omega), if_pos (by omega)]
    · by_cases j1 : j = 1
      · rw [if_neg j0, if_pos j1, if_neg (by omega), if_pos (by omega)]
      · by_cases j2 : j = 2
        · rw [if_neg j0, if_neg j1, if_pos j2, if_pos (by omega)]
        · rw [if_neg j0, if_neg j1, if_neg j2, if_neg (by omega), if_neg (by omega), if_neg (by omega), if_pos (by omega)]
  · rw [if_neg h, if_neg (by omega), if_neg (by omega), if_neg (by omega), if_neg (by omega)]
theorem tellH_S {W : Nat → Int32} {x y z : Int32} {s j : Nat} (hn : nH W < 8) : pS (pTellsH W x y z) s j = pS W s j := by
  unfold pS
  rw [pTellsH_at, if_neg (by omega), if_neg (by omega), if_neg (by omega), if_neg (by omega), if_neg (by omega)]
theorem tellS_H {W : Nat → Int32} {x y z w : Int32} {i j : Nat} (hi : i < 8) (hj : j < 6) : pH (pTellsS W x y z w) i j = pH W i j := by
  unfold pH
  rw [pTellsS_at, if_neg (by omega), if_neg (by omega), if_neg (by omega), if_neg (by omega), if_neg (by omega), if_neg (by omega), if_neg (by omega)]
theorem tellS_S {W : Nat → Int32} {x y z w : Int32} {s j : Nat} (hj : j < 8) : pS (pTellsS W x y z w) s j = if s = nS W then (if j = 0 then x else if j = 1 then y else if j = 2 then z else if j = 3 then z else if j = 4 then w else 0) else pS W s j := by
  unfold pS
  rw [pTellsS_at, if_neg (by omega)]
  by_cases h : s = nS W
  · subst h
    rw [if_pos rfl]
    by_cases j0 : j = 0
    · rw [if_pos j0, if_neg (by omega), if_neg (by omega), if_neg (by omega), if_neg (by omega), if_pos (by omega)]
    · by_cases j1 : j = 1
      · rw [if_neg j0, if_pos j1, if_neg (by omega), if_neg (by omega), if_neg (by omega), if_pos (by omega)]
      · by_cases j2 : j = 2
        · rw [if_neg j0, if_neg j1, if_pos j2, if_neg (by omega), if_neg (by omega), if_pos (by omega)]
        · by_cases j3 : j = 3
          · rw [if_neg j0, if_neg j1, if_neg j2, if_pos j3, if_neg (by omega), if_pos (by omega)]
          · by_cases j4 : j = 4
            · rw [if_neg j0, if_neg j1, if_neg j2, if_neg j3, if_pos j4, if_pos (by omega)]
            · rw [if_neg j0, if_neg j1, if_neg j2, if_neg j3, if_neg j4, if_neg (by omega), if_neg (by omega), if_neg (by omega), if_neg (by omega), if_neg (by omega), if_pos (by omega)]
  · rw [if_neg h, if_neg (by omega), if_neg (by omega), if_neg (by omega), if_neg (by omega), if_neg (by omega), if_neg (by omega)]
section XPT
variable {G : xG} {d k : Nat} {h h' h0 : xH} {T : Nat → xH → Nat → Prop} {S : List Nat} {x p N N0 i j s c a b e r ka mm w m ll n o al most : Nat} {es hs ss hs' ss' : List Nat} {W W' f g X' Y' : Nat → Int32} {nd y z v u x' y' t mc : Int32}
theorem phamlet_c {F : Int32 → xH → Nat → Prop} (hd : 7 < d) (hk : 34 ≤ k) (gk : gK G) (q : isPr G h N p hs ss W nd) (hN : N ≤ xsz h)
    (hF : nH W < 8 → pHamletAt W x' y = none → ∀ h' hs', xGr N h h' → isPr G h' N p hs' ss (pTellsH W x' y z) nd → F (nI (nH W)) h' (k - 34))
    (hT1 : nH W = 8 → ∀ h' e, xExt h h' → xsz h ≤ e → isRf h' e 1 8 none → T e h' (k - 34))
    (hT2 : nH W < 8 → ∀ t, pHamletAt W x' y = some t → ∀ h' e, xExt h h' → xsz h ≤ e → isRf h' e 2 (nI t) none → T e h' (k - 34)) : xCall G d k mX1_hamlet [xr (some p), xi x', xi y, xi z] h (xkI F T) := by
  have hnh := q.nh
  have hl := q.lh
  have hfind : ((List.range' 0 hs.length).find? fun t => decide (pH W t 0 = x' ∧ pH W t 1 = y)) = pHamletAt W x' y := by unfold pHamletAt; rw [hnh]
  obtain ⟨rh, lh, ah, rs, ls, as, mh, ms, ⟨a1, a2, a3⟩, ⟨b1, b2, b3, b4, b5⟩, -⟩ := id q.1
  refine xCall_of (d' := 7) hd hk (vc_X1_hamlet ⟨a1, _, a2, rh, rfl, b1, asks_c (by decide) (by decide) gk b1 b2 b3 b4 (by decide) (pr_stH q) (fun hlt hno h3 x3 => ?_) (fun hnl h3 e x3 hz r3 => hT1 (by omega) h3 e x3 hz r3) (fun hlt t ht h3 e x3 hz r3 => hT2 (by omega) t (by rw [← hfind]; exact ht) h3 e x3 hz r3)⟩)
  rw [hfind] at hno
  have q3 := q.ex x3
  have a23 : xval h3 p 0 = xr (some rh) := x3.vl' a1 (by decide) (by simp) a2
  refine ⟨q3.cl, _, a23, by decide, fun h6 a7 ea eh => ?_⟩
  have x6 : xExt h3 h6 := eh ▸ xMod.rf.new
  have c6 : xcls h6 a7 = 13 := by subst eh; simp (decide := true) only [true_and, and_true, and_self, exists_eq_left, exists_eq_left', forall_eq, forall_eq', Sum.inl.injEq, Sum.inr.injEq, Option.some.injEq, xcls_put, xlen_put, xval_put, xsz_put, xlo_put, xcls_new, xlen_new, xval_new, xsz_new, xlo_new, ↓reduceIte, reduceCtorEq, and_false, false_and, not_true_eq_false, not_false_eq_true, implies_true, forall_const, true_implies, false_implies, ne_eq, ea]
  have v6 : ∀ j, 4 ≤ j → xval h6 a7 j = xdf (tyX7 j) := fun j hj => by subst eh; simp (decide := true) only [true_and, and_true, and_self, exists_eq_left, exists_eq_left', forall_eq, forall_eq', Sum.inl.injEq, Sum.inr.injEq, Option.some.injEq, xcls_put, xlen_put, xval_put, xsz_put, xlo_put, xcls_new, xlen_new, xval_new, xsz_new, xlo_new, ↓reduceIte, reduceCtorEq, and_false, false_and, not_true_eq_false, not_false_eq_true, implies_true, forall_const, true_implies, false_implies, ne_eq, ea]
  have hz7 : xsz h3 ≤ a7 := by omega
  have q6 := q3.ex x6
  refine pr_h q6 fun r R _ => row_many_c (by decide) R (hm_new_c (by decide) c6 fun h13 m13 w0 w1 w2 w3 wr => ?_)
  have x13 : xExt h3 h13 := x6.t1 m13 hz7
  have q13 := q3.ex x13
  have a213 : xval h13 p 0 = xr (some rh) := x13.vl' q3.cl (by decide) (by simp) a23
  have c13 : xcls h13 a7 = 13 := m13.cl' c6 (by decide)
  have hN13 : N ≤ xsz h13 := by have := (x3.tr x13).2.1; omega
  have hNa : N ≤ a7 := by have := x3.2.1; omega
  refine ⟨rh, rfl, (x3.tr x13).cl' b1 (by decide), laysH_c (by decide) (by decide) q13.1 a213 hlt hN13 hNa c13 fun h16 S' m16 hS q16 => ?_⟩
  have cS : ∀ x, x ∈ S' → xcls h13 x ≠ 13 ∧ xcls h13 x ≠ 14 ∧ xcls h13 x ≠ 2 := fun x hx => by rcases (hS x hx).1 with z | z <;> rw [z] <;> decide
  have gr : xGr N h h16 := ((xGr.ex x3).tr (xGr.ex x13)).tr (xGr.of m16 (fun x hx => (hS x hx).2))
  have hn8 : nH W < 8 := by omega
  have hm : isHm h13 a7 (nH W) (pTellsH W x' y z) := by
    refine ⟨c13, by rw [hnh]; exact w0, fun j hj => ?_⟩
    rw [tellH_H hn8 hn8 hj, if_pos rfl]
    match j, hj with
    | 0, _ => exact w1
    | 1, _ => exact w2
    | 2, _ => exact w3
    | 3, _ => exact (wr 4 (by decide)).trans (v6 4 (by decide))
    | 4, _ => exact (wr 5 (by decide)).trans (v6 5 (by decide))
    | 5, _ => exact (wr 6 (by decide)).trans (v6 6 (by decide))
    | j + 6, h6 => exact absurd h6 (by omega)
  have qP : isPr G h16 N p (hs ++ [a7]) ss (pTellsH W x' y z) nd := by
    refine ⟨q16, (q13.2.1.md m16 q13.cl (fun y => (cS p y).2.2 q13.cl)).uo (fun t h1 h2 h3 => by rw [pTellsH_at, if_neg h2, if_neg (by omega), if_neg (by omega), if_neg (by omega), if_neg (by omega)]), fun t a ha => ?_, (q13.2.2.2.1.md m16 (fun x hx => (cS x hx).2.1)).uo q.ls (fun s j h1 h2 => tellH_S hn8), ?_, ?_⟩
    · by_cases hlt2 : t < hs.length
      · rw [List.getElem?_append_left hlt2] at ha
        obtain ⟨y1, y2, y3⟩ := (q13.hm ha).md m16 (fun y => (cS a y).1 (q13.hm ha).1)
        refine ⟨y1, y2, fun j hj => ?_⟩
        rw [tellH_H hn8 (by omega) hj, if_neg (by omega)]
        exact y3 j hj
      · have ht1 := (List.getElem?_eq_some_iff.mp ha).1
        rw [List.length_append, List.length_singleton] at ht1
        have et : t = nH W := by omega
        rw [List.getElem?_append_right (by omega), et, hnh, Nat.sub_self] at ha
        cases ha
        rw [et]
        exact hm.md m16 (fun y => (cS a7 y).1 c13)
    · rw [pTellsH_23.1, q.2.2.2.2.1, List.length_append]
      exact nI_1 _
    · rw [pTellsH_23.2]
      exact q.2.2.2.2.2
  refine pr_h qP fun r R _ => row_many_c (by decide) R ?_
  rw [List.length_append, List.length_singleton, nI_pred, ← hnh]
  exact hF hn8 hno h16 _ gr qP
theorem psite_c {F : Int32 → xH → Nat → Prop} (hd : 7 < d) (hk : 36 ≤ k) (gk : gK G) (q : isPr G h N p hs ss W nd) (hN : N ≤ xsz h)
    (hF : nS W < 6 → pSiteAt W x' y = none → ∀ h' ss', xGr N h h' → isPr G h' N p hs ss' (pTellsS W x' y z u) nd → F (nI (nS W)) h' (k - 36))
    (hT1 : nS W = 6 → ∀ h' e, xExt h h' → xsz h ≤ e → isRf h' e 1 6 none → T e h' (k - 36))
    (hT2 : nS W < 6 → ∀ t, pSiteAt W x' y = some t → ∀ h' e, xExt h h' → xsz h ≤ e → isRf h' e 2 (nI t) none → T e h' (k - 36)) : xCall G d k mX1_site [xr (some p), xi x', xi y, xi z, xi u] h (xkI F T) := by
  have hns := q.ns
  have hl := q.ls
  have hfind : ((List.range' 0 ss.length).find? fun t => decide (pS W t 0 = x' ∧ pS W t 1 = y)) = pSiteAt W x' y := by unfold pSiteAt; rw [hns]
  obtain ⟨rh, lh, ah, rs, ls, as, mh, ms, ⟨a1, a2, a3⟩, -, ⟨b1, b2, b3, b4, b5⟩, -⟩ := id q.1
  refine xCall_of (d' := 7) hd hk (vc_X1_site ⟨a1, _, a3, rs, rfl, b1, asks_c (by decide) (by decide) gk b1 b2 b3 b4 (by decide) (pr_stS q) (fun hlt hno h3 x3 => ?_) (fun hnl h3 e x3 hz r3 => hT1 (by omega) h3 e x3 hz r3) (fun hlt t ht h3 e x3 hz r3 => hT2 (by omega) t (by rw [← hfind]; exact ht) h3 e x3 hz r3)⟩)
  rw [hfind] at hno
  have q3 := q.ex x3
  have a23 : xval h3 p 1 = xr (some rs) := x3.vl' a1 (by decide) (by simp) a3
  refine ⟨q3.cl, _, a23, by decide, fun h6 a7 ea eh => ?_⟩
  have x6 : xExt h3 h6 := eh ▸ xMod.rf.new
  have c6 : xcls h6 a7 = 14 := by subst eh; simp (decide := true) only [true_and, and_true, and_self, exists_eq_left, exists_eq_left', forall_eq, forall_eq', Sum.inl.injEq, Sum.inr.injEq, Option.some.injEq, xcls_put, xlen_put, xval_put, xsz_put, xlo_put, xcls_new, xlen_new, xval_new, xsz_new, xlo_new, ↓reduceIte, reduceCtorEq, and_false, false_and, not_true_eq_false, not_false_eq_true, implies_true, forall_const, true_implies, false_implies, ne_eq, ea]
  have v6 : ∀ j, 6 ≤ j → xval h6 a7 j = xdf (tyX8 j) := fun j hj => by subst eh; simp (decide := true) only [true_and, and_true, and_self, exists_eq_left, exists_eq_left', forall_eq, forall_eq', Sum.inl.injEq, Sum.inr.injEq, Option.some.injEq, xcls_put, xlen_put, xval_put, xsz_put, xlo_put, xcls_new, xlen_new, xval_new, xsz_new, xlo_new, ↓reduceIte, reduceCtorEq, and_false, false_and, not_true_eq_false, not_false_eq_true, implies_true, forall_const, true_implies, false_implies, ne_eq, ea]
  have hz7 : xsz h3 ≤ a7 := by omega
  have q6 := q3.ex x6
  refine pr_s q6 fun r R _ => row_many_c (by decide) R (st_new_c (by decide) c6 fun h13 m13 w0 w1 w2 w3 w5 w4 wr => ?_)
  have x13 : xExt h3 h13 := x6.t1 m13 hz7
  have q13 := q3.ex x13
  have a213 : xval h13 p 1 = xr (some rs) := x13.vl' q3.cl (by decide) (by simp) a23
  have c13 : xcls h13 a7 = 14 := m13.cl' c6 (by decide)
  have hN13 : N ≤ xsz h13 := by have := (x3.tr x13).2.1; omega
  have hNa : N ≤ a7 := by have := x3.2.1; omega
  refine ⟨rs, rfl, (x3.tr x13).cl' b1 (by decide), laysS_c (by decide) (by decide) q13.1 a213 hlt hN13 hNa c13 fun h16 S' m16 hS q16 => ?_⟩
  have cS : ∀ x, x ∈ S' → xcls h13 x ≠ 13 ∧ xcls h13 x ≠ 14 ∧ xcls h13 x ≠ 2 := fun x hx => by rcases (hS x hx).1 with z | z <;> rw [z] <;> decide
  have gr : xGr N h h16 := ((xGr.ex x3).tr (xGr.ex x13)).tr (xGr.of m16 (fun x hx => (hS x hx).2))
  have hn6 : nS W < 6 := by omega
  have hm : isSt h13 a7 (nS W) (pTellsS W x' y z u) := by
    refine ⟨c13, by rw [hns]; exact w0, fun j hj => ?_⟩
    rw [tellS_S (stF_lt hj), if_pos rfl]
    match j, hj with
    | 0, _ => exact w1
    | 1, _ => exact w2
    | 2, _ => exact w3
    | 3, _ => exact w4
    | 4, _ => exact w5
    | 5, _ => exact (wr 6 (by decide)).trans (v6 6 (by decide))
    | 6, _ => exact (wr 7 (by decide)).trans (v6 7 (by decide))
    | 7, _ => exact (wr 8 (by decide)).trans (v6 8 (by decide))
    | j + 8, h6 => exact absurd h6 (by omega)
  have qP : isPr G h16 N p hs (ss ++ [a7]) (pTellsS W x' y z u) nd := by
    refine ⟨q16, (q13.2.1.md m16 q13.cl (fun y => (cS p y).2.2 q13.cl)).uo (fun t h1 h2 h3 => by rw [pTellsS_at, if_neg h3, if_neg (by omega), if_neg (by omega), if_neg (by omega), if_neg (by omega), if_neg (by omega), if_neg (by omega)]), (q13.2.2.1.md m16 (fun x hx => (cS x hx).1)).uo q.lh (fun i j h1 h2 => tellS_H h1 h2), fun t a ha => ?_, ?_, ?_⟩
    · by_cases hlt2 : t < ss.length
      · rw [List.getElem?_append_left hlt2] at ha
        obtain ⟨y1, y2, y3⟩ := (q13.st ha).md m16 (fun y => (cS a y).2.1 (q13.st ha).1)
        refine ⟨y1, y2, fun j hj => ?_⟩
        rw [tellS_S (stF_lt hj), if_neg (by omega)]
        exact y3 j hj
      · have ht1 := (List.getElem?_eq_some_iff.mp ha).1
        rw [List.length_append, List.length_singleton] at ht1
        have et : t = nS W := by omega
        rw [List.getElem?_append_right (by omega), et, hns, Nat.sub_self] at ha
        cases ha
        rw [et]
        exact hm.md m16 (fun y => (cS a7 y).2.1 c13)
    · rw [pTellsS_23.1]
      exact q.2.2.2.2.1
    · rw [pTellsS_23.2, q.2.2.2.2.2, List.length_append]
      exact nI_1 _
  refine pr_s qP fun r R _ => row_many_c (by decide) R ?_
  rw [List.length_append, List.length_singleton, nI_pred, ← hns]
  exact hF hn6 hno h16 _ gr qP
end XPT

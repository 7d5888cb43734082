/-! the class: plans as numbers, the cheapest one -/
def isNw (G : xG) (h : xH) (x p : Nat) (hs ss : List Nat) (W : Nat → Int32) (nd : Int32) : Prop := xcls h x = 1 ∧ xval h x 0 = xr (some p) ∧ isPr G h 0 p hs ss W nd
/-- no plan costs less than nothing, and none less than its opening -/
def wK (W : Nat → Int32) : Prop := ∀ mm, pSet W mm → pPlan W mm = true → 0 ≤ pCost W mm
def cLess (c l : Int32) : Bool := decide (0 ≤ c ∧ (l < 0 ∨ c < l))
def oC (W : Nat → Int32) (o : Option Nat) : Int32 := match o with | none => -6 | some t => pCost W t
theorem b_mod {m j : Nat} (hm : m < 64) (hj : j < 6) : (if m.testBit j = true then (m % 2 ^ j) ||| 1 <<< j else bOff (m % 2 ^ j) j) = m % 2 ^ (j + 1) ∧ m % 2 ^ j < 64 :=
  (by decide +kernel : ∀ (m : Fin 64) (j : Fin 6), (if m.1.testBit j.1 = true then (m.1 % 2 ^ j.1) ||| 1 <<< j.1 else bOff (m.1 % 2 ^ j.1) j.1) = m.1 % 2 ^ (j.1 + 1) ∧ m.1 % 2 ^ j.1 < 64) ⟨m, hm⟩ ⟨j, hj⟩
theorem b_mod0 {m j : Nat} (hm : m < 64) (hj : j < 7) (h : bFrom m j = 0) : m % 2 ^ j = m :=
  (by decide +kernel : ∀ (m : Fin 64) (j : Fin 7), bFrom m.1 j.1 = 0 → m.1 % 2 ^ j.1 = m.1) ⟨m, hm⟩ ⟨j, hj⟩ h
theorem b_mod1 {m j : Nat} (hm : m < 64) (hj : j < 7) (h : bFrom m j ≠ 0) : m % 2 ^ j ||| 1 <<< bLow (bFrom m j) = m % 2 ^ (bLow (bFrom m j) + 1) ∧ m % 2 ^ j < 64 :=
  (by decide +kernel : ∀ (m : Fin 64) (j : Fin 7), bFrom m.1 j.1 ≠ 0 → m.1 % 2 ^ j.1 ||| 1 <<< bLow (bFrom m.1 j.1) = m.1 % 2 ^ (bLow (bFrom m.1 j.1) + 1) ∧ m.1 % 2 ^ j.1 < 64) ⟨m, hm⟩ ⟨j, hj⟩ h
theorem b_flip {m j : Nat} (hm : m < 64) (hj : j < 6) : (m ^^^ 1 <<< j) ^^^ 1 <<< j = m ∧ m ^^^ 1 <<< j < 64 ∧ (m.testBit j = false → m ^^^ 1 <<< j = m ||| 1 <<< j) ∧ (m.testBit j = true → m ^^^ 1 <<< j = bOff m j) :=
  (by decide +kernel : ∀ (m : Fin 64) (j : Fin 6), (m.1 ^^^ 1 <<< j.1) ^^^ 1 <<< j.1 = m.1 ∧ m.1 ^^^ 1 <<< j.1 < 64 ∧ (m.1.testBit j.1 = false → m.1 ^^^ 1 <<< j.1 = m.1 ||| 1 <<< j.1) ∧ (m.1.testBit j.1 = true → m.1 ^^^ 1 <<< j.1 = bOff m.1 j.1)) ⟨m, hm⟩ ⟨j, hj⟩
section XXP
variable {G : xG} {d k : Nat} {h h' h0 : xH} {T : Nat → xH → Nat → Prop} {S : List Nat} {x p N i j s c a b e r ka mm w m : Nat} {es hs ss : List Nat} {W W' : Nat → Int32} {nd y z v x' y' : Int32}
theorem isNw.ex (q : isNw G h x p hs ss W nd) (m : xExt h h') : isNw G h' x p hs ss W nd := ⟨m.cl' q.1 (by decide), m.vl' q.1 (by decide) (by simp) q.2.1, q.2.2.ex m⟩
theorem isNw.pr (q : isNw G h x p hs ss W nd) : isPr G h 0 p hs ss W nd := q.2.2
theorem xisPlan_c {F : Int32 → xH → Nat → Prop} (hd : 3 < d) (q : isNw G h x p hs ss W nd) (hQ : F (xb (pHas (2 ^ nS W) y)) h k) : xCall G d k mX0_isPlan [xr (some x), xi y] h (xkI F T) := by
  have hns := q.pr.ns
  have hp := b_pow q.pr.pw.2.2.2
  obtain ⟨q1, q2, q3⟩ := q
  refine xCall_of (d' := 3) hd (Nat.zero_le k) (vc_X0_isPlan ⟨q1, _, q2, p, rfl, pr_s q3 fun r R _ => row_many_c (by decide) R ?_⟩)
  rw [← hns, hp.1]
  exact in_c (by decide) ⟨xb_01 _, hQ⟩
theorem xplan_l {K : Nat} {Q : xR → xH → Prop} (g8 : G.2.1 8 = xi 1) (hm : mm < 64) (hb : xsz h0 ≤ b) (hw : xsz h0 ≤ w) : ∀ j i h kk, i + j = 6 → xExt h0 h → isBS h b w (mm % 2 ^ i) → (∀ h', xExt h0 h' → isBS h' b w mm → Q (.inl (some (xr (some b)))) h') → xWp G mX0_plan 5 K Q kk 10 [some (xi (nI mm)), some (xr (some b)), some (xi (nI i))] [] h := by
  have hm2 : ∀ y, y ∈ [b, w] → xsz h0 ≤ y := fun y hy => by
    simp only [List.mem_cons, List.not_mem_nil, or_false] at hy
    rcases hy with rfl | rfl
    · exact hb
    · exact hw
  intro j
  induction j with
  | zero =>
    intro i h kk hi x B hQ
    have e : i = 6 := by omega
    subst e
    rw [Nat.mod_eq_of_lt (show mm < 2 ^ 6 from hm)] at B
    exact vc_X0_plan_10 ⟨fun _ => hQ h x B, fun z => absurd (by decide) z⟩
  | succ j ih =>
    intro i h kk hi x B hQ
    obtain ⟨e1, e2⟩ := b_mod (j := i) hm (by omega)
    refine vc_X0_plan_10 ⟨fun z => absurd ((nI_leI (a := 6) (by decide) (by omega)).mp z) (by omega), fun _ => ⟨fun z => ⟨b, rfl, B.1, bs_set_c (c := false) (by decide) g8 B (by omega) fun h2 m2 B2 => ?_⟩, fun z => ⟨b, rfl, B.1, bs_set_c (c := true) (by decide) g8 B (by omega) fun h2 m2 B2 => ?_⟩⟩⟩
    · rw [nI_1]
      have hf : mm.testBit i = false := Bool.eq_false_iff.mpr fun y => z ((b_has hm (by omega)).mpr y)
      rw [hf] at e1
      rw [e1] at B2
      exact ih (i + 1) h2 _ (by omega) (x.tn m2 (fun y hy => Or.inr (hm2 y hy))) B2 hQ
    · rw [nI_1]
      have hf : mm.testBit i = true := (b_has hm (by omega)).mp z
      rw [hf] at e1
      rw [e1] at B2
      exact ih (i + 1) h2 _ (by omega) (x.tn m2 (fun y hy => Or.inr (hm2 y hy))) B2 hQ
theorem xplan_c {F : Option Nat → xH → Nat → Prop} (hd : 5 < d) (hk : 6 ≤ k) (g8 : G.2.1 8 = xi 1) (hm : mm < 64) (hQ : ∀ h' b w, xExt h h' → xsz h ≤ b → xsz h ≤ w → isBS h' b w mm → F (some b) h' (k - 6)) : xCall G d k mX0_plan [xi (nI mm)] h (xkR F T) := by
  refine xCall_of (d' := 5) hd hk (vc_X0_plan ⟨by decide, fun h1 a2 ea eh => ?_⟩)
  have x1 : xExt h h1 := eh ▸ xMod.rf.new
  have c1 : xcls h1 a2 = 24 := by subst eh; simp (decide := true) only [true_and, and_true, and_self, exists_eq_left, exists_eq_left', forall_eq, forall_eq', Sum.inl.injEq, Sum.inr.injEq, Option.some.injEq, xcls_put, xlen_put, xval_put, xsz_put, xlo_put, xcls_new, xlen_new, xval_new, xsz_new, xlo_new, ↓reduceIte, reduceCtorEq, and_false, false_and, not_true_eq_false, not_false_eq_true, implies_true, forall_const, true_implies, false_implies, ne_eq, ea]
  have hz : xsz h ≤ a2 := by omega
  refine bs_init_c (by decide) (by decide) c1 fun h3 m3 B3 => ?_
  refine xplan_l g8 hm hz x1.2.1 6 0 h3 _ rfl (x1.t1 m3 hz) ?_ fun h4 x4 B4 => hQ h4 a2 (xsz h1) x4 hz x1.2.1 B4
  rw [Nat.pow_zero, Nat.mod_one]
  exact B3
theorem xset_l {K : Nat} {Q : xR → xH → Prop} (g8 : G.2.1 8 = xi 1) (B : isBS h b w mm) (hQ : Q (.inl (some (xi (nI mm)))) h) : ∀ n j kk, 6 ≤ j + n → j ≤ 6 → xWp G mX0_set 4 K Q kk 8 [some (xr (some b)), some (xi (nI (mm % 2 ^ j))), some (xi (bNx mm j))] [] h := by
  have hm := B.lt
  intro n
  induction n with
  | zero =>
    intro j kk hj hj6
    have e : j = 6 := by omega
    subst e
    have h0 : bFrom mm 6 = 0 := (by decide +kernel : ∀ m : Fin 64, bFrom m.1 6 = 0) ⟨mm, hm⟩
    rw [b_mod0 hm (by decide) h0]
    have en : bNx mm 6 = -1 := by unfold bNx; rw [if_pos h0]
    rw [en]
    exact vc_X0_set_8 ⟨fun _ => hQ, fun z => absurd (by decide) z⟩
  | succ n ih =>
    intro j kk hj hj6
    by_cases h0 : bFrom mm j = 0
    · rw [b_mod0 hm (by omega) h0]
      have en : bNx mm j = -1 := by unfold bNx; rw [if_pos h0]
      rw [en]
      exact vc_X0_set_8 ⟨fun _ => hQ, fun z => absurd (by decide) z⟩
    · obtain ⟨t1, t2, t3⟩ := bs_nx1 hm (show j < 7 by omega) h0
      obtain ⟨o1, o2⟩ := b_mod1 hm (show j < 7 by omega) h0
      have en : bNx mm j = nI (bLow (bFrom mm j)) := by unfold bNx; rw [if_neg h0]
      rw [en]
      generalize bLow (bFrom mm j) = t at *
      refine vc_X0_set_8 ⟨fun z => absurd z (nI_pos (by omega)), fun _ => ⟨b, rfl, B.1, ?_⟩⟩
      rw [nI_1, (b_or o2 t2).1, o1]
      exact bs_next_c (by decide) g8 B (by omega) (ih (t + 1) _ (by omega) (by omega))
theorem xset_c {F : Int32 → xH → Nat → Prop} (hd : 4 < d) (g8 : G.2.1 8 = xi 1) (B : isBS h b w mm) (hQ : F (nI mm) h k) : xCall G d k mX0_set [xr (some b)] h (xkI F T) := by
  refine xCall_of (d' := 4) hd (Nat.zero_le k) (vc_X0_set ⟨b, rfl, B.1, bs_next_c (by decide) g8 B (by decide) ?_⟩)
  have := xset_l (G := G) (K := 0) (Q := fun r h' => xkI F T r h' (k - 0)) g8 B hQ 6 0 (0 - 0) (by decide) (by decide)
  rw [Nat.pow_zero, Nat.mod_one] at this
  exact this
theorem isLess_c {F : Int32 → xH → Nat → Prop} (hd : 1 < d) (hQ : F (xb (cLess y z)) h k) : xCall G d k mX0_isLess [xi y, xi z] h (xkI F T) := by
  unfold cLess at hQ
  refine xCall_of (d' := 1) hd (Nat.zero_le k) (vc_X0_isLess ⟨fun u => ?_, fun u => ⟨fun v => ?_, fun v => ⟨fun t => ?_, fun t => ?_⟩⟩⟩)
  · rw [decide_eq_false (fun e => Int32.not_le.mpr u e.1)] at hQ; exact hQ
  · rw [decide_eq_true ⟨Int32.not_lt.mp u, Or.inl v⟩] at hQ; exact hQ
  · rw [decide_eq_false (fun e => e.2.elim v (fun e2 => Int32.not_lt.mpr t e2))] at hQ; exact hQ
  · rw [decide_eq_true ⟨Int32.not_lt.mp u, Or.inr (Int32.not_le.mp t)⟩] at hQ; exact hQ
theorem xcost_c {F : Int32 → xH → Nat → Prop} (hd : 10 < d) (hk : 87 ≤ k) (g8 : G.2.1 8 = xi 1) (q : isNw G h x p hs ss W nd) (X : wG W) (hQ : ∀ h', xExt h h' → F (pCostA W y) h' (k - 87)) : xCall G d k mX0_cost [xr (some x), xi y] h (xkI F T) := by
  have h64 := (b_pow q.pr.pw.2.2.2).2
  unfold pCostA at hQ
  refine xCall_of (d' := 10) hd hk (vc_X0_cost ⟨q.1, xisPlan_c (by decide) q ⟨fun z => ?_, fun z => ⟨q.1, _, q.2.1, ?_⟩⟩⟩)
  · rw [xb0.mp z, if_neg Bool.false_ne_true] at hQ
    exact hQ h xMod.rf
  · have hb := xb1.mp z
    obtain ⟨mm, hs, rfl⟩ := (pHas_iff (by omega)).mp hb
    rw [if_pos hb, nI_clamp (by omega)] at hQ
    refine xplan_c (by decide) (by decide) g8 (by omega) fun h1 b w x1 _ _ B1 => ⟨p, rfl, (q.pr.ex x1).cl, cost_c (by decide) (by decide) g8 (q.pr.ex x1) X B1 hs fun h2 x2 => ?_⟩
    have := hQ h2 (x1.tr x2)
    unfold cCost
    exact this
theorem oC_less {o : Option Nat} (K : wK W) (ho : ∀ t, o = some t → pSet W t ∧ pPlan W t = true) (hi : pSet W i) : 
    (cLess (cCost W i) (oC W o) = true → pBestF W o i = some i ∧ oC W (some i) = cCost W i) ∧ (cLess (cCost W i) (oC W o) = false → pBestF W o i = o) := by
  unfold cLess pBestF cCost
  by_cases hp : pPlan W i = true
  · have k1 := K i hi hp
    rw [if_pos hp, if_pos hp, decide_eq_true_iff, decide_eq_false_iff_not]
    rcases o with _ | t
    · exact ⟨fun _ => ⟨rfl, rfl⟩, fun z => absurd ⟨k1, Or.inl (show (-6 : Int32) < 0 by decide)⟩ z⟩
    · obtain ⟨t1, t2⟩ := ho t rfl
      have k2 := K t t1 t2
      refine ⟨fun z => ⟨?_, rfl⟩, fun z => ?_⟩
      · have : pCost W i < pCost W t := z.2.resolve_left (Int32.not_lt.mpr k2)
        simp only
        rw [if_neg (Int32.not_le.mpr this)]
      · have : ¬ pCost W i < pCost W t := fun y => z ⟨k1, Or.inr y⟩
        simp only
        rw [if_pos (Int32.not_lt.mp this)]
  · rw [if_neg hp, if_neg hp]
    refine ⟨fun z => ?_, fun _ => rfl⟩
    rw [decide_eq_true_iff] at z
    exact absurd z.1 (by decide)
theorem xcheap_l {Kc : Nat} {Q : xR → xH → Prop} (g8 : G.2.1 8 = xi 1) (q : isNw G h0 x p hs ss W nd) (X : wG W) (K : wK W) : ∀ j i o h kk, i + j = 2 ^ nS W → (∀ t, o = some t → pSet W t ∧ pPlan W t = true) → xExt h0 h → j * 87 ≤ kk →
    (∀ h', xExt h0 h' → Q (.inl (some (xi (bI ((List.range' i j).foldl (pBestF W) o))))) h') → xWp G mX0_cheapest 10 Kc Q kk 8 [some (xr (some x)), some (xi (bI o)), some (xi (oC W o)), some (xi (nI i)), none] [] h := by
  have hp := b_pow q.pr.pw.2.2.2
  have hns := q.pr.ns
  intro j
  induction j with
  | zero =>
    intro i o h kk hi ho x0 hk hQ
    have q' := q.ex x0
    refine vc_X0_cheapest_8 ⟨q'.1, _, q'.2.1, p, rfl, pr_s q'.pr fun r R _ => row_many_c (by decide) R ⟨fun _ => hQ h x0, fun z => absurd ?_ z⟩⟩
    rw [← hns, hp.1]
    exact nI_le (by omega) (by omega)
  | succ j ih =>
    intro i o h kk hi ho x0 hk hQ
    rw [Nat.succ_mul] at hk
    have q' := q.ex x0
    have hset : pSet W i := (show i < 2 ^ nS W by omega)
    have hl := oC_less K ho hset
    have hok := pBestF_ok ho hset
    rw [List.range'_succ, List.foldl_cons] at hQ
    refine vc_X0_cheapest_8 ⟨q'.1, _, q'.2.1, p, rfl, pr_s q'.pr fun r R _ => row_many_c (by decide) R ⟨fun z => ?_, fun _ => ⟨q'.1, _, q'.2.1, xplan_c (by decide) (by omega) g8 (by omega) fun h1 b w x1 _ _ B1 => ⟨p, rfl, (q'.pr.ex x1).cl, cost_c (by decide) (by omega) g8 (q'.pr.ex x1) X B1 hset fun h2 x2 => isLess_c (by decide) ⟨fun z => ?_, fun z => ?_⟩⟩⟩⟩⟩
    · rw [← hns, hp.1] at z
      exact absurd ((nI_leI (by omega) (by omega)).mp z) (by omega)
    · rw [nI_1]
      have e := hl.2 (xb0.mp z)
      rw [e] at hQ
      exact ih (i + 1) o h2 _ (by omega) ho ((x0.tr x1).tr x2) (by omega) hQ
    · rw [nI_1]
      obtain ⟨e, e2⟩ := hl.1 (xb1.mp z)
      rw [e] at hQ hok
      rw [← e2]
      exact ih (i + 1) (some i) h2 _ (by omega) hok ((x0.tr x1).tr x2) (by omega) hQ
theorem xcheapest_c {F : Int32 → xH → Nat → Prop} (hd : 10 < d) (hk : 5568 ≤ k) (g8 : G.2.1 8 = xi 1) (q : isNw G h x p hs ss W nd) (X : wG W) (K : wK W) (hQ : ∀ h', xExt h h' → F (bI (pBest W)) h' (k - 5568)) : xCall G d k mX0_cheapest [xr (some x)] h (xkI F T) := by
  have hp := b_pow q.pr.pw.2.2.2
  exact xCall_of (d' := 10) hd hk (vc_X0_cheapest (xcheap_l g8 q X K _ 0 none h _ (Nat.zero_add _) (fun t e => by cases e) xMod.rf (by omega) hQ))
theorem costWith_c {F : Int32 → xH → Nat → Prop} (hd : 10 < d) (hk : 81 ≤ k) (g8 : G.2.1 8 = xi 1) (q : isNw G h x p hs ss W nd) (X : wG W) (B : isBS h b w mm) (hi : i < 6) (hm : pSet W (mm ^^^ 1 <<< i)) (hQ : ∀ h', xMod [b, w] h h' → isBS h' b w mm → isNw G h' x p hs ss W nd → F (cCost W (mm ^^^ 1 <<< i)) h' (k - 81)) : xCall G d k mX0_costWith [xr (some x), xr (some b), xi (nI i)] h (xkI F T) := by
  have cl : ∀ {h1 : xH} {m1 : Nat}, isBS h1 b w m1 → ∀ y, y ∈ [b, w] → pIc (xcls h1 y) ∧ xcls h1 y ≠ 1 := fun B1 y hy => by
    simp only [List.mem_cons, List.not_mem_nil, or_false] at hy
    rcases hy with rfl | rfl
    · rw [B1.1]; exact ⟨⟨by decide, by decide, by decide, by decide, by decide, by decide, by decide⟩, by decide⟩
    · rw [B1.2.2.1]; exact ⟨⟨by decide, by decide, by decide, by decide, by decide, by decide, by decide⟩, by decide⟩
  have md : ∀ {h1 h2 : xH} {m1 : Nat}, isBS h1 b w m1 → xMod [b, w] h1 h2 → isNw G h1 x p hs ss W nd → isNw G h2 x p hs ss W nd := fun B1 m q1 =>
    ⟨m.cl' q1.1 (by decide), m.vl' q1.1 (by decide) (fun z => (cl B1 x z).2 q1.1) q1.2.1, q1.2.2.md m (fun y hy => (cl B1 y hy).1)⟩
  refine xCall_of (d' := 10) hd hk (vc_X0_costWith ⟨b, rfl, B.1, bs_flip_c (by decide) g8 B hi fun h1 m1 B1 => ?_⟩)
  have q1 := md B m1 q
  refine ⟨q1.1, _, q1.2.1, p, rfl, q1.pr.cl, cost_c (by decide) (by decide) g8 q1.pr X B1 hm fun h2 x2 => ⟨(B1.ex x2).1, bs_flip_c (by decide) g8 (B1.ex x2) hi fun h3 m3 B3 => ?_⟩⟩
  rw [(b_flip B.lt hi).1] at B3
  exact hQ h3 ((m1.tx x2).tr m3) B3 (md (B1.ex x2) m3 (q1.ex x2))
end XXP

/-! the class: branch and bound, the greedy plan -/
def cLB (W : Nat → Int32) : Nat → Nat → Nat → Int32 → Int32 → Int32
  | 0, _, mm, op, l => if 0 ≤ l ∧ l ≤ op then l else if cLess (cCost W mm) l then cCost W mm else l
  | n + 1, nx, mm, op, l => if 0 ≤ l ∧ l ≤ op then l else cLB W n (nx + 1) (mm ||| 1 <<< nx) (op + pPrice W nx) (cLB W n (nx + 1) mm op l)
theorem b_setclr {m j : Nat} (hm : m < 64) (hj : j < 6) (h : m.testBit j = false) : bOff (m ||| 1 <<< j) j = m ∧ m ||| 1 <<< j < 64 :=
  (by decide +kernel : ∀ (m : Fin 64) (j : Fin 6), m.1.testBit j.1 = false → bOff (m.1 ||| 1 <<< j.1) j.1 = m.1 ∧ m.1 ||| 1 <<< j.1 < 64) ⟨m, hm⟩ ⟨j, hj⟩ h
theorem b_below {m n : Nat} (hm : m < 64) (hn : n ≤ 6) (h : ∀ t, n ≤ t → t < 6 → m.testBit t = false) : m < 2 ^ n :=
  (by decide +kernel : ∀ (m : Fin 64) (n : Fin 7), (∀ t : Fin 6, n.1 ≤ t.1 → m.1.testBit t.1 = false) → m.1 < 2 ^ n.1) ⟨m, hm⟩ ⟨n, by omega⟩ (fun t ht => h t.1 ht t.2)
theorem pNext_lt {W : Nat → Int32} {mm t : Nat} (ho : pNext W mm = some t) : t < nS W := by
  have go : ∀ (j i : Nat) (o : Option Nat), i + j ≤ nS W → (∀ t, o = some t → t < nS W) → ∀ t, (List.range' i j).foldl (pNextF W mm) o = some t → t < nS W := by
    intro j
    induction j with
    | zero => exact fun i o _ ho => ho
    | succ j ih =>
      intro i o hi ho
      rw [List.range'_succ, List.foldl_cons]
      refine ih (i + 1) _ (by omega) fun t ht => ?_
      unfold pNextF at ht
      split at ht
      · exact ho t ht
      · split at ht
        · cases ht; omega
        · split at ht
          · exact ho t ht
          · cases ht; omega
  exact go (nS W) 0 none (by omega) (fun t e => by cases e) t ho
theorem gk_1 {a kk kk' n : Nat} (h0 : a + 972 ≤ kk) (h1 : kk - n * 162 ≤ kk') (h2 : n ≤ 6) : a ≤ kk' := by omega
def oX (W : Nat → Int32) (mm : Nat) (o : Option Nat) : Int32 := match o with | none => -6 | some t => pCost W (mm ||| 1 <<< t)
section XXA
variable {G : xG} {d k : Nat} {h h' h0 : xH} {T : Nat → xH → Nat → Prop} {S : List Nat} {x p N i j s c a b e r ka mm w m : Nat} {es hs ss : List Nat} {W W' : Nat → Int32} {nd y z v x' y' : Int32}
theorem bs_pIc (B : isBS h b w mm) : ∀ y, y ∈ [b, w] → pIc (xcls h y) ∧ xcls h y ≠ 1 := fun y hy => by
  simp only [List.mem_cons, List.not_mem_nil, or_false] at hy
  rcases hy with rfl | rfl
  · rw [B.1]; exact ⟨⟨by decide, by decide, by decide, by decide, by decide, by decide, by decide⟩, by decide⟩
  · rw [B.2.2.1]; exact ⟨⟨by decide, by decide, by decide, by decide, by decide, by decide, by decide⟩, by decide⟩
theorem isNw.md (q : isNw G h x p hs ss W nd) (m : xMod S h h') (h1 : ∀ y, y ∈ S → pIc (xcls h y) ∧ xcls h y ≠ 1) : isNw G h' x p hs ss W nd :=
  ⟨m.cl' q.1 (by decide), m.vl' q.1 (by decide) (fun z => (h1 x z).2 q.1) q.2.1, q.2.2.md m (fun y hy => (h1 y hy).1)⟩
theorem leastBehind_c (g8 : G.2.1 8 = xi 1) (X : wG W) : ∀ (n next mm : Nat) (op l : Int32) (h : xH) (d k : Nat) (F : Int32 → xH → Nat → Prop) (T : Nat → xH → Nat → Prop), next + n = nS W → 10 + n < d → 81 * 2 ^ n ≤ k → isNw G h x p hs ss W nd → isBS h b w mm → (∀ t, next ≤ t → t < 6 → mm.testBit t = false) →
    (∀ h', xMod [b, w] h h' → isBS h' b w mm → isNw G h' x p hs ss W nd → F (cLB W n next mm op l) h' (k - 81 * 2 ^ n)) → xCall G d k mX0_leastBehind [xr (some x), xr (some b), xi (nI next), xi op, xi l] h (xkI F T) := by
  intro n
  induction n with
  | zero =>
    intro next mm op l h d k F T hn hd hk q B hb hQ
    have h6 := q.pr.pw.2.2.2
    have hns := q.pr.ns
    unfold cLB at hQ
    refine xCall_of (d' := 10) hd hk (vc_X0_leastBehind ⟨fun z => ?_, fun z => ⟨fun z2 => ?_, fun z2 => ?_⟩⟩)
    rotate_left 2
    · rw [if_pos ⟨Int32.not_lt.mp z, Int32.not_lt.mp z2⟩] at hQ
      exact hQ h xMod.rf B q
    all_goals
      have hnp : ¬ (0 ≤ l ∧ l ≤ op) := by first | exact fun e => Int32.not_le.mpr z e.1 | exact fun e => Int32.not_le.mpr z2 e.2
      rw [if_neg hnp] at hQ
      refine ⟨q.1, _, q.2.1, p, rfl, pr_s q.pr fun r R _ => row_many_c (by decide) R ⟨fun y => absurd (congrArg nI (by omega)) y, fun _ => ⟨q.1, _, q.2.1, p, rfl, q.pr.cl, cost_c (by decide) (by decide) g8 q.pr X B (b_below B.lt h6 (fun t h1 h2 => hb t (by omega) h2)) fun h1 x1 => isLess_c (by decide) ⟨fun y => ?_, fun y => ?_⟩⟩⟩⟩
      · rw [xb0.mp y, if_neg Bool.false_ne_true] at hQ
        exact hQ h1 x1.of (B.ex x1) (q.ex x1)
      · rw [xb1.mp y, if_pos rfl] at hQ
        exact hQ h1 x1.of (B.ex x1) (q.ex x1)
  | succ n ih =>
    intro next mm op l h d k F T hn hd hk q B hb hQ
    have h6 := q.pr.pw.2.2.2
    have hns := q.pr.ns
    unfold cLB at hQ
    rw [Nat.pow_succ] at hk hQ
    obtain ⟨st, hst⟩ := q.pr.sx (i := next) (by omega)
    refine xCall_of (d' := 10 + (n + 1)) hd hk (vc_X0_leastBehind ⟨fun z => ?_, fun z => ⟨fun z2 => ?_, fun z2 => ?_⟩⟩)
    rotate_left 2
    · rw [if_pos ⟨Int32.not_lt.mp z, Int32.not_lt.mp z2⟩] at hQ
      exact hQ h xMod.rf B q
    all_goals
      have hnp : ¬ (0 ≤ l ∧ l ≤ op) := by first | exact fun e => Int32.not_le.mpr z e.1 | exact fun e => Int32.not_le.mpr z2 e.2
      rw [if_neg hnp] at hQ
      refine ⟨q.1, _, q.2.1, p, rfl, pr_s q.pr fun r R _ => row_many_c (by omega) R ⟨fun _ => ⟨q.1, ?_⟩, fun y => absurd ((nI_eq (by omega) (by omega)).mp y) (by omega)⟩⟩
      rw [nI_1]
      refine ih (next + 1) mm op l h _ _ _ _ (by omega) (by omega) (by omega) q B (fun t h1 h2 => hb t (by omega) h2) fun h1 m1 B1 q1 => ⟨b, rfl, B1.1, bs_set2_c (by omega) g8 B1 (by omega) fun h2 m2 B2 => ?_⟩
      have q2 := q1.md m2 (bs_pIc B1)
      refine ⟨q2.1, _, q2.2.1, p, rfl, pr_s q2.pr fun r R _ => row_of_c (by omega) R hst (q2.pr.st hst).cs.1 ⟨fun b' e' => by cases e'; exact (q2.pr.st hst).cs.2.1, st, rfl, (q2.pr.st hst).1, sopens_c (by omega) (q2.pr.st hst) ⟨q2.1, ?_⟩⟩⟩
      refine ih (next + 1) (mm ||| 1 <<< next) _ _ h2 _ _ _ _ (by omega) (by omega) (by omega) q2 B2 (fun t h1 h2 => by rw [bit_or B.lt (by omega) h2, hb t (by omega) h2, decide_eq_false (by omega)]; rfl) fun h3 m3 B3 q3 => ⟨B3.1, bs_clear_c (by omega) g8 B3 (by omega) fun h4 m4 B4 => ?_⟩
      rw [(b_setclr B.lt (by omega) (hb next (Nat.le_refl _) (by omega))).1] at B4
      exact hQ h4 (((m1.tr m2).tr m3).tr m4) B4 (q3.md m4 (bs_pIc B3))
theorem xagain_c {F : Int32 → xH → Nat → Prop} (hd : 17 < d) (hk : 5190 ≤ k) (g8 : G.2.1 8 = xi 1) (q : isNw G h x p hs ss W nd) (X : wG W) (hQ : ∀ h', xExt h h' → F (cLB W (nS W) 0 0 0 (-6)) h' (k - 5190)) : xCall G d k mX0_cheapestAgain [xr (some x)] h (xkI F T) := by
  have h6 := q.pr.pw.2.2.2
  have hp := (b_pow h6).2
  refine xCall_of (d' := 17) hd hk (vc_X0_cheapestAgain ⟨by decide, fun h1 a2 ea eh => ?_⟩)
  have x1 : xExt h h1 := eh ▸ xMod.rf.new
  have c1 : xcls h1 a2 = 24 := by subst eh; simp (decide := true) only [true_and, and_true, and_self, exists_eq_left, exists_eq_left', forall_eq, forall_eq', Sum.inl.injEq, Sum.inr.injEq, Option.some.injEq, xcls_put, xlen_put, xval_put, xsz_put, xlo_put, xcls_new, xlen_new, xval_new, xsz_new, xlo_new, ↓reduceIte, reduceCtorEq, and_false, false_and, not_true_eq_false, not_false_eq_true, implies_true, forall_const, true_implies, false_implies, ne_eq, ea]
  have hz : xsz h ≤ a2 := by omega
  refine bs_init_c (by decide) (by decide) c1 fun h3 m3 B3 => ?_
  have x3 := x1.t1 m3 hz
  have hm2 : ∀ y, y ∈ [a2, xsz h1] → xsz h ≤ y := fun y hy => by
    simp only [List.mem_cons, List.not_mem_nil, or_false] at hy
    rcases hy with rfl | rfl
    · exact hz
    · exact x1.2.1
  refine ⟨(q.ex x3).1, leastBehind_c g8 X (nS W) 0 0 0 (-6) h3 17 _ _ _ (Nat.zero_add _) (by omega) (by omega) (q.ex x3) B3 (fun t _ _ => Nat.zero_testBit t) fun h4 m4 _ _ => hQ h4 (x3.tn m4 (fun y hy => Or.inr (hm2 y hy)))⟩
theorem greedy_i {Kc : Nat} {Q : xR → xH → Prop} (g8 : G.2.1 8 = xi 1) (X : wG W) (K : wK W) (hm : pSet W mm) : ∀ j i o h kk, i + j = nS W → (∀ t, o = some t → t < nS W) → isNw G h x p hs ss W nd → isBS h b w mm → xMod [b, w] h0 h → j * 162 ≤ kk →
    (∀ h' kk', xMod [b, w] h0 h' → isBS h' b w mm → isNw G h' x p hs ss W nd → kk - j * 162 ≤ kk' → xWp G mX0_greedy 11 Kc Q kk' 33 [some (xr (some x)), some (xr (some b)), some (xi y), none, some (xi (oI ((List.range' i j).foldl (pNextF W mm) o))), some (xi (oX W mm ((List.range' i j).foldl (pNextF W mm) o))), some (xi (nI (nS W)))] [] h') →
    xWp G mX0_greedy 11 Kc Q kk 33 [some (xr (some x)), some (xr (some b)), some (xi y), none, some (xi (oI o)), some (xi (oX W mm o)), some (xi (nI i))] [] h := by
  intro j
  induction j with
  | zero =>
    intro i o h kk hi ho q B x0 hk hQ
    have e : i = nS W := by omega
    subst e
    exact hQ h kk x0 B q (by omega)
  | succ j ih =>
    intro i o h kk hi ho q B x0 hk hQ
    rw [Nat.succ_mul] at hk
    have h6 := q.pr.pw.2.2.2
    have hns := q.pr.ns
    have hi' : i < nS W := by omega
    rw [List.range'_succ, List.foldl_cons] at hQ
    have hor := b_orlt h6 hm hi'
    have hor2 := b_flip B.lt (show i < 6 by omega)
    have kc := K _ (show pSet W (mm ||| 1 <<< i) from hor.1) (pPlan_of hor.2)
    refine vc_X0_greedy_33 ⟨q.1, _, q.2.1, p, rfl, pr_s q.pr fun r R _ => row_many_c (by decide) R ⟨fun z => absurd ((nI_leI (by omega) (by omega)).mp z) (by omega), fun _ => ⟨b, rfl, B.1, bs_get_c (by decide) g8 B (by omega) ⟨fun z => ?_, fun z => ?_⟩⟩⟩⟩
    · rw [nI_1]
      have e : pNextF W mm o i = o := by unfold pNextF; rw [xb1.mp z]; rfl
      rw [e] at hQ
      exact ih (i + 1) o h _ (by omega) ho q B x0 (by omega) fun h' kk' a1 a2 a3 a4 => hQ h' kk' a1 a2 a3 (by omega)
    · have hb := xb0.mp z
      have ec : cCost W (mm ^^^ 1 <<< i) = pCost W (mm ||| 1 <<< i) := by unfold cCost; rw [hor2.2.2.1 hb, if_pos (pPlan_of hor.2)]
      have hse : pSet W (mm ^^^ 1 <<< i) := by rw [hor2.2.2.1 hb]; exact hor.1
      refine ⟨q.1, costWith_c (by decide) (by omega) g8 q X B (by omega) hse fun h1 m1 B1 q1 => isLess_c (by decide) ⟨fun z2 => ?_, fun z2 => ⟨q1.1, costWith_c (by decide) (by omega) g8 q1 X B1 (by omega) hse fun h2 m2 B2 q2 => ?_⟩⟩⟩
      · rw [nI_1]
        have hl := xb0.mp z2
        rw [ec] at hl
        have e : pNextF W mm o i = o := by
          unfold pNextF
          rw [hb]
          rcases o with _ | t
          · exfalso
            unfold cLess oX at hl
            rw [decide_eq_false_iff_not] at hl
            exact hl ⟨kc, Or.inl (show (-6 : Int32) < 0 by decide)⟩
          · unfold cLess oX at hl
            rw [decide_eq_false_iff_not] at hl
            simp only [Bool.false_eq_true, ↓reduceIte]
            rw [if_pos (Int32.not_lt.mp fun y => hl ⟨kc, Or.inr y⟩)]
        rw [e] at hQ
        exact ih (i + 1) o h1 _ (by omega) ho q1 B1 (x0.tr m1) (by omega) fun h' kk' a1 a2 a3 a4 => hQ h' kk' a1 a2 a3 (by omega)
      · rw [nI_1, ec]
        have hl := xb1.mp z2
        rw [ec] at hl
        have e : pNextF W mm o i = some i := by
          unfold pNextF
          rw [hb]
          rcases o with _ | t
          · rfl
          · unfold cLess oX at hl
            rw [decide_eq_true_iff] at hl
            simp only [Bool.false_eq_true, ↓reduceIte]
            have ht := b_orlt h6 hm (ho t rfl)
            have kt := K _ (show pSet W (mm ||| 1 <<< t) from ht.1) (pPlan_of ht.2)
            rw [if_neg (Int32.not_le.mpr (hl.2.resolve_left (Int32.not_lt.mpr kt)))]
        rw [e] at hQ
        exact ih (i + 1) (some i) h2 _ (by omega) (fun t e => by cases e; exact hi') q2 B2 ((x0.tr m1).tr m2) (by omega) fun h' kk' a1 a2 a3 a4 => hQ h' kk' a1 a2 a3 (by omega)
theorem greedy_o {Kc : Nat} {Q : xR → xH → Prop} (g8 : G.2.1 8 = xi 1) (X : wG W) (K : wK W) : ∀ j mm h kk, bFree (nS W) mm ≤ j → pSet W mm → isNw G h x p hs ss W nd → isBS h b w mm → xMod [b, w] h0 h → (j + 1) * 972 ≤ kk →
    (∀ h', xMod [b, w] h0 h' → Q (.inl (some (xi (if pPlan W (pGreedyN W j mm) then nI (pGreedyN W j mm) else -6)))) h') →
    xWp G mX0_greedy 11 Kc Q kk 19 [some (xr (some x)), some (xr (some b)), some (xi (cCost W mm)), some (xi (1 : Int32)), none, none, none] [] h := by
  have stop : ∀ mm h kk, pSet W mm → isBS h b w mm → (Q (.inl (some (xi (if pPlan W mm then nI mm else -6)))) h) → xWp G mX0_greedy 11 Kc Q kk 19 [some (xr (some x)), some (xr (some b)), some (xi (cCost W mm)), some (xi (0 : Int32)), none, none, none] [] h := by
    intro mm h kk hm B hQ
    refine vc_X0_greedy_19 ⟨fun _ => ⟨fun z => xset_c (by decide) g8 B ?_, fun z => ?_⟩, fun z => absurd rfl z⟩
    · have hp : pPlan W mm = true := by
        cases hp : pPlan W mm
        · unfold cCost at z; rw [hp, if_neg Bool.false_ne_true] at z; exact absurd z (by decide)
        · rfl
      rw [hp, if_pos rfl] at hQ
      exact hQ
    · have hp : pPlan W mm = false := by
        cases hp : pPlan W mm
        · rfl
        · unfold cCost at z; rw [hp, if_pos rfl] at z; exact absurd (K mm hm hp) z
      rw [hp, if_neg Bool.false_ne_true] at hQ
      exact hQ
  intro j
  induction j with
  | zero =>
    intro mm h kk hj hm q B x0 hk hQ
    have h6 := q.pr.pw.2.2.2
    have hns := q.pr.ns
    refine vc_X0_greedy_19 ⟨fun z => absurd z (by decide), fun _ => greedy_i g8 X K hm (nS W) 0 none h _ (Nat.zero_add _) (fun t e => by cases e) q B x0 (by omega) fun h1 kk' x1 B1 q1 hk1 => ?_⟩
    have hno : pNext W mm = none := by
      cases ho : pNext W mm with
      | none => rfl
      | some t =>
        have h1 := pNext_free (nS W) 0 none (fun t e => by cases e) t ho
        have h2 : t < nS W := pNext_lt ho
        have := b_free h6 hm h2 h1
        omega
    show xWp G mX0_greedy 11 Kc Q kk' 33 [some (xr (some x)), some (xr (some b)), some (xi (cCost W mm)), none, some (xi (oI (pNext W mm))), some (xi (oX W mm (pNext W mm))), some (xi (nI (nS W)))] [] h1
    rw [hno]
    refine vc_X0_greedy_33 ⟨q1.1, _, q1.2.1, p, rfl, pr_s q1.pr fun r R _ => row_many_c (by decide) R ⟨fun _ => ⟨fun _ => ⟨fun _ => stop mm h1 _ hm B1 (hQ h1 x1), fun z => absurd rfl z⟩, fun z => absurd (by decide) z⟩, fun z => absurd (by rw [hns]; exact nI_le (Nat.le_refl _) (by omega)) z⟩⟩
  | succ j ih =>
    intro mm h kk hj hm q B x0 hk hQ
    have h6 := q.pr.pw.2.2.2
    have hns := q.pr.ns
    unfold pGreedyN at hQ
    have hk0 : (j + 1) * 972 + 972 ≤ kk := by rw [← Nat.succ_mul]; exact hk
    refine vc_X0_greedy_19 ⟨fun z => absurd z (by decide), fun _ => greedy_i g8 X K hm (nS W) 0 none h _ (Nat.zero_add _) (fun t e => by cases e) q B x0 (by omega) fun h1 kk' x1 B1 q1 hk1 => ?_⟩
    show xWp G mX0_greedy 11 Kc Q kk' 33 [some (xr (some x)), some (xr (some b)), some (xi (cCost W mm)), none, some (xi (oI (pNext W mm))), some (xi (oX W mm (pNext W mm))), some (xi (nI (nS W)))] [] h1
    cases ho : pNext W mm with
    | none =>
      rw [ho] at hQ
      refine vc_X0_greedy_33 ⟨q1.1, _, q1.2.1, p, rfl, pr_s q1.pr fun r R _ => row_many_c (by decide) R ⟨fun _ => ⟨fun _ => ⟨fun _ => stop mm h1 _ hm B1 (hQ h1 x1), fun z => absurd rfl z⟩, fun z => absurd (by decide) z⟩, fun z => absurd (by rw [hns]; exact nI_le (Nat.le_refl _) (by omega)) z⟩⟩
    | some t =>
      have hk2 : (j + 1) * 972 ≤ kk' := gk_1 hk0 hk1 h6
      have ht : t < nS W := pNext_lt ho
      have hf := pNext_free (nS W) 0 none (fun t e => by cases e) t ho
      have hor := b_orlt h6 hm ht
      have kt := K _ (show pSet W (mm ||| 1 <<< t) from hor.1) (pPlan_of hor.2)
      have eg : cLess (pCost W (mm ||| 1 <<< t)) (cCost W mm) = pGoes W mm t := by
        unfold cLess cCost pGoes
        cases hp : pPlan W mm with
        | false => exact decide_eq_true ⟨kt, Or.inl (show (-6 : Int32) < 0 by decide)⟩
        | true =>
          have km := K mm hm hp
          simp only [↓reduceIte, Bool.not_true, Bool.false_or]
          refine decide_eq_decide.mpr ⟨fun z => Int32.not_le.mpr (z.2.resolve_left (Int32.not_lt.mpr km)), fun z => ⟨kt, Or.inr (Int32.not_le.mp z)⟩⟩
      rw [ho] at hQ
      refine vc_X0_greedy_33 ⟨q1.1, _, q1.2.1, p, rfl, pr_s q1.pr fun r R _ => row_many_c (by decide) R ⟨fun _ => ⟨fun z => absurd z (nI_pos (by omega)), fun _ => isLess_c (by decide) ⟨fun z => ⟨fun _ => stop mm h1 _ hm B1 ?_, fun z => absurd rfl z⟩, fun z => ⟨fun z2 => absurd z2 (by decide), fun _ => ⟨b, rfl, B1.1, bs_set2_c (by decide) g8 B1 (by omega) fun h2 m2 B2 => ?_⟩⟩⟩⟩, fun z => absurd (by rw [hns]; exact nI_le (Nat.le_refl _) (by omega)) z⟩⟩
      · have hg : pGoes W mm t = false := eg.symm.trans (xb0.mp z)
        have := hQ h1 x1
        simp only [hg, Bool.false_eq_true, ↓reduceIte] at this
        exact this
      · have hg : pGoes W mm t = true := eg.symm.trans (xb1.mp z)
        simp only [hg, ↓reduceIte] at hQ
        have ec : oX W mm (some t) = cCost W (mm ||| 1 <<< t) := by unfold cCost oX; rw [if_pos (pPlan_of hor.2)]
        rw [ec]
        have hbf : bFree (nS W) (mm ||| 1 <<< t) ≤ j := by have := b_free h6 hm ht hf; omega
        refine ih (mm ||| 1 <<< t) h2 _ hbf hor.1 (q1.md m2 (bs_pIc B1)) B2 (x1.tr m2) ?_ ?_
        · exact hk2
        · exact hQ
theorem xgreedy_c {F : Int32 → xH → Nat → Prop} (hd : 11 < d) (hk : 6891 ≤ k) (g8 : G.2.1 8 = xi 1) (q : isNw G h x p hs ss W nd) (X : wG W) (K : wK W) (hQ : ∀ h', xExt h h' → F (pGreedyA W) h' (k - 6891)) : xCall G d k mX0_greedy [xr (some x)] h (xkI F T) := by
  have h6 := q.pr.pw.2.2.2
  refine xCall_of (d' := 11) hd hk (vc_X0_greedy ⟨by decide, fun h1 a2 ea eh => ?_⟩)
  have x1 : xExt h h1 := eh ▸ xMod.rf.new
  have c1 : xcls h1 a2 = 24 := by subst eh; simp (decide := true) only [true_and, and_true, and_self, exists_eq_left, exists_eq_left', forall_eq, forall_eq', Sum.inl.injEq, Sum.inr.injEq, Option.some.injEq, xcls_put, xlen_put, xval_put, xsz_put, xlo_put, xcls_new, xlen_new, xval_new, xsz_new, xlo_new, ↓reduceIte, reduceCtorEq, and_false, false_and, not_true_eq_false, not_false_eq_true, implies_true, forall_const, true_implies, false_implies, ne_eq, ea]
  have hz : xsz h ≤ a2 := by omega
  refine bs_init_c (by decide) (by decide) c1 fun h3 m3 B3 => ?_
  have x3 := x1.t1 m3 hz
  have hm2 : ∀ y, y ∈ [a2, xsz h1] → xsz h ≤ y := fun y hy => by
    simp only [List.mem_cons, List.not_mem_nil, or_false] at hy
    rcases hy with rfl | rfl
    · exact hz
    · exact x1.2.1
  have q3 := q.ex x3
  have h0 : pSet W 0 := Nat.two_pow_pos _
  refine ⟨q3.1, _, q3.2.1, p, rfl, q3.pr.cl, cost_c (by decide) (by decide) g8 q3.pr X B3 h0 fun h4 x4 => ?_⟩
  refine greedy_o g8 X K 6 0 h4 _ ?_ h0 (q3.ex x4) (B3.ex x4) (h0 := h4) xMod.rf (by omega) fun h5 m5 => hQ h5 ((x3.tr x4).tn m5 (fun y hy => Or.inr (hm2 y hy)))
  unfold bFree
  refine Nat.le_trans (List.length_filter_le _ _) ?_
  rw [List.length_range]
  exact h6
end XXA

/-! the class: the best swap; what a site saves; what lies ahead -/
def swD : Nat × Nat := (0, 0)
def swStep (W : Nat → Int32) (mm : Nat) (st : Int32 × Int32) (q : Nat × Nat) : Int32 × Int32 := if swC W mm q < st.2 then (10 * nI q.1 + nI q.2, swC W mm q) else st
theorem pSwap_fold {W : Nat → Int32} {mm : Nat} : pSwap W mm = ((swT mm (nS W)).foldl (swStep W mm) (-6, pCost W mm)).1 := by
  unfold pSwap swT
  rw [List.foldl_flatMap]
  congr 2
  funext st o
  unfold pSwapG
  rw [List.foldl_map, ← fold_filter]
  congr 1
theorem swap_lst {W : Nat → Int32} {mm : Nat} (Z : List (Nat × Nat)) : ∀ (j i : Nat) (b : Option Nat) (st : Int32 × Int32), i + j = Z.length → (∀ t, b = some t → st = (10 * nI (Z.getD t swD).1 + nI (Z.getD t swD).2, swC W mm (Z.getD t swD)) ∧ swC W mm (Z.getD t swD) < pCost W mm) → (b = none → st = (-6, pCost W mm)) →
    ((Z.drop i).foldl (swStep W mm) st).1 = match (List.range' i j).foldl (lstF (fun t => decide (¬ pCost W mm ≤ swC W mm (Z.getD t swD))) (fun t => swC W mm (Z.getD t swD))) b with
      | none => -6
      | some t => 10 * nI (Z.getD t swD).1 + nI (Z.getD t swD).2 := by
  intro j
  induction j with
  | zero =>
    intro i b st hi h1 h2
    rw [List.drop_eq_nil_of_le (by omega), List.range'_zero, List.foldl_nil, List.foldl_nil]
    rcases b with _ | t
    · rw [h2 rfl]
    · rw [(h1 t rfl).1]
  | succ j ih =>
    intro i b st hi h1 h2
    have hl : i < Z.length := by omega
    have hg : Z.getD i swD = Z[i] := by rw [List.getD_eq_getElem?_getD, List.getElem?_eq_getElem hl]; rfl
    rw [List.drop_eq_getElem_cons hl, List.foldl_cons, List.range'_succ, List.foldl_cons]
    refine ih (i + 1) _ _ (by omega) (fun t ht => ?_) (fun ht => ?_)
    · unfold lstF at ht
      unfold swStep
      rw [← hg]
      rcases b with _ | u
      · rw [h2 rfl]
        split at ht
        · rename_i hc
          cases ht
          have hc' := Int32.not_le.mp (of_decide_eq_true hc)
          rw [if_pos hc']
          exact ⟨rfl, hc'⟩
        · cases ht
      · obtain ⟨a1, a2⟩ := h1 u rfl
        rw [a1]
        split at ht
        · rename_i hc
          have hc' := Int32.not_le.mp (of_decide_eq_true hc)
          simp only at ht
          split at ht
          · rename_i hle
            cases ht
            rw [if_neg (Int32.not_lt.mpr hle)]
            exact ⟨rfl, a2⟩
          · rename_i hle
            cases ht
            rw [if_pos (Int32.not_le.mp hle)]
            exact ⟨rfl, hc'⟩
        · rename_i hc
          cases ht
          have hc' : pCost W mm ≤ swC W mm (Z.getD i swD) := Decidable.not_not.mp fun y => hc (decide_eq_true y)
          rw [if_neg (Int32.not_lt.mpr (Int32.le_trans (Int32.le_of_lt a2) hc'))]
          exact ⟨rfl, a2⟩
    · unfold lstF at ht
      unfold swStep
      rw [← hg]
      rcases b with _ | u
      · rw [h2 rfl]
        split at ht
        · cases ht
        · rename_i hc
          have hc' : pCost W mm ≤ swC W mm (Z.getD i swD) := Decidable.not_not.mp fun y => hc (decide_eq_true y)
          rw [if_neg (Int32.not_lt.mpr hc')]
      · exfalso
        split at ht
        · simp only at ht
          split at ht <;> cases ht
        · cases ht
section XXV
variable {G : xG} {d k : Nat} {h h' h0 : xH} {T : Nat → xH → Nat → Prop} {S : List Nat} {x p N i j s c a b e r ka mm w m ll : Nat} {es hs ss : List Nat} {W W' : Nat → Int32} {nd y z v x' y' : Int32} {Z : List (Nat × Nat)}
theorem isSL.ex (a : isSL h N ll es W mm Z) (m : xExt h h') : isSL h' N ll es W mm Z := a.md m (fun x hx => by cases hx)
theorem getD_at {t : Nat} {q : Nat × Nat} (h : Z[t]? = some q) : Z.getD t swD = q := by rw [List.getD_eq_getElem?_getD, h]; rfl
theorem swap_c {F : Int32 → xH → Nat → Prop} (hd : 12 < d) (hk : 3313 ≤ k) (g8 : G.2.1 8 = xi 1) (q : isNw G h x p hs ss W nd) (X : wG W) (hQ : ∀ h', xExt h h' → F (pSwapA W y) h' (k - 3313)) : xCall G d k mX0_swap [xr (some x), xi y] h (xkI F T) := by
  have h64 := (b_pow q.pr.pw.2.2.2).2
  unfold pSwapA at hQ
  refine xCall_of (d' := 12) hd hk (vc_X0_swap ⟨q.1, xisPlan_c (by decide) q ⟨fun z => ⟨q.1, _, q.2.1, ?_⟩, fun z => ?_⟩⟩)
  · have hb := xb1.mp z
    obtain ⟨mm, hs', rfl⟩ := (pHas_iff (by omega)).mp hb
    rw [if_pos hb, nI_clamp (by omega)] at hQ
    have hm : pSet W mm := hs'
    refine xplan_c (by decide) (by decide) g8 (by omega) fun h1 b w x1 _ _ B1 => ⟨p, rfl, (q.pr.ex x1).cl, cost_c (by decide) (by decide) g8 (q.pr.ex x1) X B1 hs' fun h2 x2 => xplan_c (by decide) (by decide) g8 (by omega) fun h3 b3 w3 x3 hb3 hw3 B3 => ?_⟩
    have x03 := (x1.tr x2).tr x3
    have q3 := q.ex x03
    have hzn : ∀ y, y ∈ [b3, w3] → xsz h ≤ y := fun y hy => by
      have h12 := (x1.tr x2).2.1
      simp only [List.mem_cons, List.not_mem_nil, or_false] at hy
      rcases hy with rfl | rfl <;> omega
    refine ⟨q3.1, swaps_c (by decide) (by decide) g8 q3 X B3 hm fun h4 ll es m4 q4 L4 => ⟨by decide, fun h18 a19 ea eh => ?_⟩⟩
    have x4 := x03.tn m4 (fun y hy => Or.inr (hzn y hy))
    have m18 : xExt h4 h18 := eh ▸ xMod.rf.new
    have c18 : xcls h18 a19 = 36 := by subst eh; simp (decide := true) only [true_and, and_true, and_self, exists_eq_left, exists_eq_left', forall_eq, forall_eq', Sum.inl.injEq, Sum.inr.injEq, Option.some.injEq, xcls_put, xlen_put, xval_put, xsz_put, xlo_put, xcls_new, xlen_new, xval_new, xsz_new, xlo_new, ↓reduceIte, reduceCtorEq, and_false, false_and, not_true_eq_false, not_false_eq_true, implies_true, forall_const, true_implies, false_implies, ne_eq, ea]
    have hz19 : xsz h4 ≤ a19 := by omega
    refine xCall_of (d' := 1) (by decide) (Nat.zero_le _) (vc_X23_init ⟨c18, fun h5 e5 => ⟨by rw [e5]; exact c18, fun h6 e6 => ⟨by decide, ⟨by decide, fun h22 a23 ea2 eh2 => ?_⟩⟩⟩⟩)
    have m6 : xExt h4 h6 := e6 ▸ (e5 ▸ m18.put (Or.inr hz19)).put (Or.inr hz19)
    have c6 : xcls h6 a19 = 36 := by rw [e6, e5]; exact c18
    have v6 : xval h6 a19 0 = xi (cCost W mm) := by rw [e6]; simp (decide := true) only [true_and, and_true, and_self, exists_eq_left, exists_eq_left', forall_eq, forall_eq', Sum.inl.injEq, Sum.inr.injEq, Option.some.injEq, xcls_put, xlen_put, xval_put, xsz_put, xlo_put, xcls_new, xlen_new, xval_new, xsz_new, xlo_new, ↓reduceIte, reduceCtorEq, and_false, false_and, not_true_eq_false, not_false_eq_true, implies_true, forall_const, true_implies, false_implies, ne_eq]
    have m22 : xExt h6 h22 := eh2 ▸ xMod.rf.new
    have c22 : xcls h22 a23 = 37 := by subst eh2; simp (decide := true) only [true_and, and_true, and_self, exists_eq_left, exists_eq_left', forall_eq, forall_eq', Sum.inl.injEq, Sum.inr.injEq, Option.some.injEq, xcls_put, xlen_put, xval_put, xsz_put, xlo_put, xcls_new, xlen_new, xval_new, xsz_new, xlo_new, ↓reduceIte, reduceCtorEq, and_false, false_and, not_true_eq_false, not_false_eq_true, implies_true, forall_const, true_implies, false_implies, ne_eq, ea2]
    have hz23 : xsz h6 ≤ a23 := by omega
    refine xCall_of (d' := 1) (by decide) (Nat.zero_le _) (vc_X24_init ⟨c22, fun h7 e7 => ⟨by decide, ?_⟩⟩)
    have m7 : xExt h6 h7 := e7 ▸ m22.put (Or.inr hz23)
    have c7 : xcls h7 a23 = 37 := by rw [e7]; exact c22
    have c67 : xcls h7 a19 = 36 := m7.cl' c6 (by decide)
    have v67 : xval h7 a19 0 = xi (cCost W mm) := m7.vl' c6 (by decide) (by simp) v6
    have L7 := L4.ex (m6.tr m7)
    have hsz : es.length = (swT mm (nS W)).length := L7.2.2.1
    have sw : ∀ {h8 : xH}, xExt h7 h8 → ∀ i e, es[i]? = some e → isSw h8 e W mm ((swT mm (nS W)).getD i swD) := fun m8 i e he => by
      have hi := (List.getElem?_eq_some_iff.mp he).1
      have hq : (swT mm (nS W))[i]? = some ((swT mm (nS W)).getD i swD) := by rw [List.getD_eq_getElem?_getD, List.getElem?_eq_getElem (by omega)]; rfl
      exact (L7.ex m8).2.2.2 i e _ he hq
    have wo : isWo G 7 0 h7 a23 es (fun t => swC W mm ((swT mm (nS W)).getD t swD)) := by
      intro h8 m8 i e he F' T' k' _ hQ'
      have c8 := m8.cl' c7 (by decide)
      have s8 := sw m8 i e he
      exact ⟨_, by rw [c8]; exact dsp_HamletWells_Worth_of_37, xCall_of (d' := 3) (by decide) (Nat.zero_le _) (vc_X24_of ⟨fun b' e' => by cases e'; rw [s8.1]; decide, c8, xCall_of (d' := 2) (by decide) (Nat.zero_le _) (vc_X24_of_2 ⟨e, rfl, s8.1, xCall_of (d' := 1) (by decide) (Nat.zero_le _) (vc_X22_cost ⟨s8.1, _, s8.2.2.2, hQ' h8 xMod.rf⟩)⟩)⟩)⟩
    have wa : isAk G 7 0 h7 a19 es (fun t => decide (¬ cCost W mm ≤ swC W mm ((swT mm (nS W)).getD t swD))) := by
      intro h8 m8 i e he F' T' k' _ hQ'
      have c8 := m8.cl' c67 (by decide)
      have v8 := m8.vl' c67 (by decide) (by simp) v67
      have s8 := sw m8 i e he
      have hQ8 : F' (xb (decide (¬ cCost W mm ≤ swC W mm ((swT mm (nS W)).getD i swD)))) h8 (k' - 0) := hQ' h8 xMod.rf
      refine ⟨_, by rw [c8]; exact dsp_HamletWells_Asked_is_36, xCall_of (d' := 3) (by decide) (Nat.zero_le _) (vc_X23_is ⟨fun b' e' => by cases e'; rw [s8.1]; decide, c8, xCall_of (d' := 2) (by decide) (Nat.zero_le _) (vc_X23_is_2 ⟨e, rfl, s8.1, xCall_of (d' := 1) (by decide) (Nat.zero_le _) (vc_X22_cost ⟨s8.1, _, s8.2.2.2, c8, _, v8, fun u => ⟨Or.inl rfl, ?_⟩, fun u => ⟨Or.inr rfl, ?_⟩⟩)⟩)⟩)⟩
      · rw [decide_eq_false (not_not_intro u)] at hQ8; exact hQ8
      · rw [decide_eq_true u] at hQ8; exact hQ8
    have hcl : Option Nat := none
    refine least_c (D := 7) (by decide) (by decide) (by rw [Nat.zero_add, Nat.mul_zero]; decide) (Or.inr (by obtain ⟨⟨ns, mc, a, _⟩, _⟩ := L7; exact ⟨ns, mc, a⟩)) wo wa fun h8 x8 => ?_
    have hlt : ∀ t, (List.range' 0 es.length).foldl (lstF (fun t => decide (¬ cCost W mm ≤ swC W mm ((swT mm (nS W)).getD t swD))) (fun t => swC W mm ((swT mm (nS W)).getD t swD))) none = some t → t < es.length := lst_lt es.length 0 none (by omega) (fun t e => by cases e)
    have fin : (if mm = 0 then -6 else pSwap W mm) = match (List.range' 0 es.length).foldl (lstF (fun t => decide (¬ cCost W mm ≤ swC W mm ((swT mm (nS W)).getD t swD))) (fun t => swC W mm ((swT mm (nS W)).getD t swD))) none with
        | none => -6
        | some t => 10 * nI ((swT mm (nS W)).getD t swD).1 + nI ((swT mm (nS W)).getD t swD).2 := by
      by_cases h0 : mm = 0
      · have hT : swT mm (nS W) = [] := by
          unfold swT
          rw [h0]
          simp only [Nat.zero_testBit, Bool.false_and]
          have : ∀ l : List Nat, (l.flatMap fun o => (((List.range' 0 (nS W)).filter fun _ => false).map fun c => (o, c))) = [] := by
            intro l
            have hf : ∀ l : List Nat, (l.filter fun _ => false) = [] := fun l => List.filter_eq_nil_iff.mpr (fun _ _ => Bool.false_ne_true)
            induction l with
            | nil => rfl
            | cons a l ih => rw [List.flatMap_cons, ih, hf]; rfl
          exact this _
        rw [if_pos h0, hsz, hT]
        rfl
      · have ec : cCost W mm = pCost W mm := by unfold cCost; rw [if_pos (pPlan_of h0)]
        rw [if_neg h0, ec, pSwap_fold, hsz]
        have := swap_lst (W := W) (mm := mm) (swT mm (nS W)) (swT mm (nS W)).length 0 none (-6, pCost W mm) (by omega) (fun t e => by cases e) (fun _ => rfl)
        rw [List.drop_zero] at this
        exact this
    rw [fin] at hQ
    generalize (List.range' 0 es.length).foldl (lstF (fun t => decide (¬ cCost W mm ≤ swC W mm ((swT mm (nS W)).getD t swD))) (fun t => swC W mm ((swT mm (nS W)).getD t swD))) none = rr at *
    have x48 := m6.tr (m7.tr x8)
    rcases rr with _ | t
    · exact ⟨(fun b' e' => by cases e'), (fun a29 e' => by cases e'), fun _ => hQ h8 (x4.tr x48)⟩
    · have ht := hlt t rfl
      have he : es[t]? = some (es[t]) := List.getElem?_eq_getElem ht
      have eo : oE es (some t) = some (es[t]) := he
      have s8 := sw x8 t _ he
      rw [eo]
      refine ⟨(fun b' e' => by cases e'; rw [s8.1]; decide), fun a29 e' => ?_, (fun e' => by cases e')⟩
      cases e'
      exact ⟨s8.1, xCall_of (d' := 1) (by decide) (Nat.zero_le _) (vc_X22_out ⟨s8.1, _, s8.2.1, s8.1, xCall_of (d' := 1) (by decide) (Nat.zero_le _) (vc_X22_comes ⟨s8.1, _, s8.2.2.1, hQ h8 (x4.tr x48)⟩)⟩)⟩
  · rw [xb0.mp z, if_neg Bool.false_ne_true] at hQ
    exact hQ h xMod.rf
theorem bCard_0 (hm : mm < 64) : nI (bCard mm) = 0 ↔ mm = 0 :=
  (by decide +kernel : ∀ m : Fin 64, nI (bCard m.1) = 0 ↔ m.1 = 0) ⟨mm, hm⟩
theorem saves_c {F : Int32 → xH → Nat → Prop} (hd : 11 < d) (hk : 186 ≤ k) (g8 : G.2.1 8 = xi 1) (q : isNw G h x p hs ss W nd) (X : wG W) (hQ : ∀ h', xExt h h' → F (pSavesA W y) h' (k - 186)) : xCall G d k mX0_saves [xr (some x), xi y] h (xkI F T) := by
  have h6 := q.pr.pw.2.2.2
  have hns := q.pr.ns
  unfold pSavesA at hQ
  refine xCall_of (d' := 11) hd hk (vc_X0_saves ⟨q.1, _, q.2.1, p, rfl, pr_s q.pr fun r R _ => row_has_c (by decide) R ⟨fun z => ?_, fun z => ⟨q.1, _, q.2.1, p, rfl, ?_⟩⟩⟩)
  · rw [← hns] at z
    rw [xb0.mp z, if_neg Bool.false_ne_true] at hQ
    exact hQ h xMod.rf
  · rw [← hns] at z
    have hb := xb1.mp z
    obtain ⟨s, hs', rfl⟩ := (pHas_iff (by omega)).mp hb
    rw [if_pos hb, nI_clamp (by omega)] at hQ
    obtain ⟨st, hst⟩ := q.pr.sx hs'
    have ev : pS W s 5 = xb (pOpen W s) := by
      unfold pOpen
      rcases (X.2 s hs').2.1 with z | z <;> rw [z] <;> rfl
    refine pr_s q.pr fun r R _ => row_of_c (by decide) R hst (q.pr.st hst).cs.1 ⟨fun b' e' => by cases e'; exact (q.pr.st hst).cs.2.1, st, rfl, (q.pr.st hst).1, _, ((q.pr.st hst).2.2 5 (by decide)).trans (congrArg xi ev), fun y => ?_, fun y => ⟨q.1, _, q.2.1, p, rfl, q.pr.cl, openMany_c (by decide) (by decide) g8 q.pr X fun h1 x1 => ⟨fun u => ?_, fun u => ?_⟩⟩⟩
    · rw [if_pos (xb1.mp y)] at hQ
      exact hQ h xMod.rf
    · have q1 := q.ex x1
      have hmn : pMask W ≠ 0 := fun e => u ((bCard_0 (pSet_lt q.pr.pw (pMask_ok q.pr.pw))).mpr e)
      have hop : pOpen W s = false := xb0.mp y
      rw [if_neg (by rw [hop]; exact Bool.false_ne_true), if_neg hmn] at hQ
      refine ⟨q1.1, _, q1.2.1, p, rfl, q1.pr.cl, open_c (by decide) (by decide) g8 q1.pr X fun h2 b w x2 hb2 hw2 B2 => ?_⟩
      have q2 := q1.ex x2
      refine ⟨q2.1, _, q2.2.1, p, rfl, q2.pr.cl, cost_c (by decide) (by decide) g8 q2.pr X B2 (pMask_ok q.pr.pw) fun h3 x3 => ?_⟩
      have q3 := q2.ex x3
      have hfl := b_flip B2.lt (show s < 6 by omega)
      have hbit : (pMask W).testBit s = false := by rw [pMask_bit q.pr.pw hs']; exact hop
      have hor := b_orlt h6 (pMask_ok q.pr.pw) hs'
      refine ⟨q3.1, costWith_c (by decide) (by decide) g8 q3 X (B2.ex x3) (by omega) (by rw [hfl.2.2.1 hbit]; exact hor.1) fun h4 m4 _ _ => ?_⟩
      have := hQ h4 (((x1.tr x2).tr x3).tn m4 (fun y hy => Or.inr (by
        have h12 := x1.2.1
        simp only [List.mem_cons, List.not_mem_nil, or_false] at hy
        rcases hy with rfl | rfl <;> omega)))
      have e1 : cCost W (pMask W) = pCost W (pMask W) := by unfold cCost; rw [if_pos (pPlan_of hmn)]
      have e2 : cCost W (pMask W ^^^ 1 <<< s) = pCost W (pMask W ||| 1 <<< s) := by unfold cCost; rw [hfl.2.2.1 hbit, if_pos (pPlan_of hor.2)]
      rw [e1, e2]
      exact this
    · have hmn : pMask W = 0 := (bCard_0 (pSet_lt q.pr.pw (pMask_ok q.pr.pw))).mp u
      have hop : pOpen W s = false := xb0.mp y
      rw [if_neg (by rw [hop]; exact Bool.false_ne_true), if_pos hmn] at hQ
      exact hQ h1 x1
end XXV

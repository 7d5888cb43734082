/-! the twin: numbers of hamlets and sites, what is asked, costs -/
def pHas (n : Nat) (x : Int32) : Bool := pIn x 0 (nI n - 1)
theorem pIn_iff {x lo hi : Int32} : pIn x lo hi = true ↔ lo.toInt ≤ x.toInt ∧ x.toInt ≤ hi.toInt := by
  unfold pIn
  rw [decide_eq_true_iff, Int32.lt_iff_toInt_lt, Int32.lt_iff_toInt_lt]
  omega
theorem nI_m1 {n : Nat} (hn : n < 2147483648) : (nI n - 1).toInt = (n : Int) - 1 := by
  rw [show nI n - 1 = iI ((n : Int) - 1) from by rw [← iI_n, show (1 : Int32) = iI 1 from rfl, iI_sub]]
  exact iI_toInt (by omega) (by omega)
theorem pHas_iff {n : Nat} {x : Int32} (hn : n < 2147483648) : pHas n x = true ↔ ∃ s, s < n ∧ x = nI s := by
  unfold pHas
  rw [pIn_iff, nI_m1 hn]
  constructor
  · rintro ⟨h1, h2⟩
    have h1' : 0 ≤ x.toInt := h1
    refine ⟨x.toInt.toNat, by omega, ?_⟩
    rw [← iI_n, Int.toNat_of_nonneg h1']
    exact iI_of x
  · rintro ⟨s, hs, rfl⟩
    rw [nI_toInt (by omega)]
    refine ⟨?_, by omega⟩
    show (0 : Int) ≤ _
    omega
def pPlan (W : Nat → Int32) (mm : Nat) : Bool := if mm = 0 then decide (nH W = 0) else true
theorem pPlan_nz {W : Nat → Int32} {mm : Nat} (h : pPlan W mm = true) (hn : nH W ≠ 0) : mm ≠ 0 := fun e => by
  unfold pPlan at h
  rw [if_pos e] at h
  exact hn (of_decide_eq_true h)
def pCostS (W : Nat → Int32) (mm : Nat) (v : Int32) (s : Nat) : Int32 := if mm.testBit s then v + pPrice W s else v
def pOpening (W : Nat → Int32) (mm : Nat) : Int32 := (List.range' 0 (nS W)).foldl (pCostS W mm) 0
def pCostH (W : Nat → Int32) (mm : Nat) (v : Int32) (a : Nat) : Int32 := v + pH W a 2 * pFar W a ((pNear W a mm).getD 0)
def pCost (W : Nat → Int32) (mm : Nat) : Int32 := (List.range' 0 (nH W)).foldl (pCostH W mm) (pOpening W mm)
def pSet (W : Nat → Int32) (mm : Nat) : Prop := mm < 2 ^ nS W
theorem pNear_go {W : Nat → Int32} {a mm : Nat} : ∀ (j i : Nat) (o : Option Nat), (o ≠ none ∨ ∃ s, i ≤ s ∧ s < i + j ∧ mm.testBit s = true) → (List.range' i j).foldl (pNearF W a mm) o ≠ none := by
  intro j
  induction j with
  | zero =>
    rintro i o (h | ⟨s, h1, h2, -⟩)
    · exact h
    · omega
  | succ j ih =>
    intro i o h
    rw [List.range'_succ, List.foldl_cons]
    refine ih (i + 1) _ ?_
    by_cases hb : mm.testBit i = true
    · refine Or.inl ?_
      unfold pNearF
      rw [if_pos hb]
      rcases o with _ | u
      · simp
      · simp only
        split <;> simp
    · have e : pNearF W a mm o i = o := by unfold pNearF; rw [if_neg hb]
      rw [e]
      rcases h with h | ⟨s, h1, h2, h3⟩
      · exact Or.inl h
      · refine Or.inr ⟨s, ?_, by omega, h3⟩
        rcases Nat.lt_or_eq_of_le h1 with h4 | h4
        · exact h4
        · exact absurd (h4 ▸ h3) hb
theorem b_any {mm n : Nat} (hn : n ≤ 6) (h : mm < 2 ^ n) (h0 : mm ≠ 0) : ∃ s, s < n ∧ mm.testBit s = true := by
  have hm : mm < 64 := Nat.lt_of_lt_of_le h (Nat.pow_le_pow_right (by decide) hn)
  exact (by decide +kernel : ∀ (n : Fin 7) (mm : Fin 64), mm.1 < 2 ^ n.1 → mm.1 ≠ 0 → ∃ s, s < n.1 ∧ mm.1.testBit s = true) ⟨n, by omega⟩ ⟨mm, hm⟩ h h0
theorem pNear_some {W : Nat → Int32} {a mm : Nat} (p : pW W) (h : pSet W mm) (h0 : mm ≠ 0) : ∃ t, pNear W a mm = some t := by
  obtain ⟨s, h1, h2⟩ := b_any p.2.2.2 h h0
  have := pNear_go (W := W) (a := a) (mm := mm) (nS W) 0 none (Or.inr ⟨s, by omega, by omega, h2⟩)
  exact Option.ne_none_iff_exists'.mp this
theorem pSet_lt {W : Nat → Int32} {mm : Nat} (p : pW W) (h : pSet W mm) : mm < 64 := Nat.lt_of_lt_of_le h (Nat.pow_le_pow_right (by decide) p.2.2.2)
section XTC
variable {G : xG} {d k : Nat} {h h' : xH} {T : Nat → xH → Nat → Prop} {S : List Nat} {m : Nat} {A : Nat → Nat} {V : Nat → Nat → Int32} {a b c s i j mm : Nat} {x : Int32}
theorem t_isHamlet_c {F : Int32 → xH → Nat → Prop} (hd : 2 < d) (q : isTw h m A V) (p : pW (V 4)) (hQ : F (xb (pHas (nH (V 4)) x)) h k) : xCall G d k mX3_isHamlet [xr (some m), xi x] h (xkI F T) :=
  xCall_of (d' := 2) hd (Nat.zero_le k) (vc_X3_isHamlet ⟨q.cl, _, q.rr 4 (by decide), _, rfl, q.kk 4 (by decide), 2, rfl, by decide, (by rw [q.ll 4 (by decide)]; decide), _, (q.vv 4 (by decide)).trans (congrArg xi p.1), t_isBetween_c (by decide) ⟨by unfold xb; split <;> simp, hQ⟩⟩)
theorem t_isSite_c {F : Int32 → xH → Nat → Prop} (hd : 2 < d) (q : isTw h m A V) (p : pW (V 4)) (hQ : F (xb (pHas (nS (V 4)) x)) h k) : xCall G d k mX3_isSite [xr (some m), xi x] h (xkI F T) :=
  xCall_of (d' := 2) hd (Nat.zero_le k) (vc_X3_isSite ⟨q.cl, _, q.rr 4 (by decide), _, rfl, q.kk 4 (by decide), 3, rfl, by decide, (by rw [q.ll 4 (by decide)]; decide), _, (q.vv 4 (by decide)).trans (congrArg xi p.2.2.1), t_isBetween_c (by decide) ⟨by unfold xb; split <;> simp, hQ⟩⟩)
theorem t_hamletsOf_l {K : Nat} {Q : xR → xH → Prop} (q : isTw h m A V) (p : pW (V 4)) : ∀ j i n, i + j = nH (V 4) → Q (.inl (some (xi (nI ((List.range' i j).foldl (pManyF (V 4) x) n))))) h → xWp G mX3_hamletsOf 5 K Q k 4 [some (xr (some m)), some (xi x), some (xi (nI n)), some (xi (nI i))] [] h := by
  have p2 := p.2.1
  intro j
  induction j with
  | zero => exact fun i n hi hQ => vc_X3_hamletsOf_4 ⟨q.cl, _, q.rr 4 (by decide), _, rfl, q.kk 4 (by decide), 2, rfl, by decide, (by rw [q.ll 4 (by decide)]; decide), _, (q.vv 4 (by decide)).trans (congrArg xi p.1), fun _ => hQ, fun z => absurd (nI_le (by omega) (by omega)) z⟩
  | succ j ih =>
    intro i n hi hQ
    rw [List.range'_succ, List.foldl_cons] at hQ
    have go : ∀ n', pManyF (V 4) x n i = n' → xWp G mX3_hamletsOf 5 K Q k 4 [some (xr (some m)), some (xi x), some (xi (nI n')), some (xi (nI (i + 1)))] [] h := fun n' e => ih (i + 1) n' (by omega) (e ▸ hQ)
    refine vc_X3_hamletsOf_4 ⟨q.cl, _, q.rr 4 (by decide), _, rfl, q.kk 4 (by decide), 2, rfl, by decide, (by rw [q.ll 4 (by decide)]; decide), _, (q.vv 4 (by decide)).trans (congrArg xi p.1), fun z => absurd ((nI_leI (by omega) (by omega)).mp z) (by omega), fun _ => ⟨q.cl, t_well_c (by decide) q p (by omega) fun hl => ⟨fun z => ?_, fun z => ?_⟩⟩⟩
    · rw [nI_1, Int32.add_zero]
      exact go n (by unfold pManyF; rw [if_neg z])
    · rw [nI_1, nI_1]
      exact go (n + 1) (by unfold pManyF; rw [if_pos z])
theorem t_hamletsOf_c {F : Int32 → xH → Nat → Prop} (hd : 5 < d) (q : isTw h m A V) (p : pW (V 4)) (hQ : F (nI (pMany (V 4) x)) h k) : xCall G d k mX3_hamletsOf [xr (some m), xi x] h (xkI F T) :=
  xCall_of (d' := 5) hd (Nat.zero_le k) (vc_X3_hamletsOf (t_hamletsOf_l q p (nH (V 4)) 0 0 (by omega) hQ))
theorem t_asked_l {K : Nat} {Q : xR → xH → Prop} (q : isTw h m A V) (p : pW (V 4)) : ∀ j i n, i + j = nH (V 4) → Q (.inl (some (xi ((List.range' i j).foldl (pAskedF (V 4) x) n)))) h → xWp G mX3_asked 5 K Q k 4 [some (xr (some m)), some (xi x), some (xi n), some (xi (nI i))] [] h := by
  have p2 := p.2.1
  intro j
  induction j with
  | zero => exact fun i n hi hQ => vc_X3_asked_4 ⟨q.cl, _, q.rr 4 (by decide), _, rfl, q.kk 4 (by decide), 2, rfl, by decide, (by rw [q.ll 4 (by decide)]; decide), _, (q.vv 4 (by decide)).trans (congrArg xi p.1), fun _ => hQ, fun z => absurd (nI_le (by omega) (by omega)) z⟩
  | succ j ih =>
    intro i n hi hQ
    rw [List.range'_succ, List.foldl_cons] at hQ
    have go : ∀ n', pAskedF (V 4) x n i = n' → xWp G mX3_asked 5 K Q k 4 [some (xr (some m)), some (xi x), some (xi n'), some (xi (nI (i + 1)))] [] h := fun n' e => ih (i + 1) n' (by omega) (e ▸ hQ)
    refine vc_X3_asked_4 ⟨q.cl, _, q.rr 4 (by decide), _, rfl, q.kk 4 (by decide), 2, rfl, by decide, (by rw [q.ll 4 (by decide)]; decide), _, (q.vv 4 (by decide)).trans (congrArg xi p.1), fun z => absurd ((nI_leI (by omega) (by omega)).mp z) (by omega), fun _ => ⟨q.cl, t_well_c (by decide) q p (by omega) fun hl => ⟨fun z => ?_, fun z => ⟨q.cl, t_hI (by decide) q i 2 (by omega) ?_⟩⟩⟩⟩
    · rw [nI_1, Int32.add_zero]
      exact go n (by unfold pAskedF; rw [if_neg z])
    · rw [nI_1]
      exact go _ (by unfold pAskedF; rw [if_pos z])
theorem t_asked_c {F : Int32 → xH → Nat → Prop} (hd : 5 < d) (q : isTw h m A V) (p : pW (V 4)) (hQ : F (pAsked (V 4) x) h k) : xCall G d k mX3_asked [xr (some m), xi x] h (xkI F T) :=
  xCall_of (d' := 5) hd (Nat.zero_le k) (vc_X3_asked (t_asked_l q p (nH (V 4)) 0 0 (by omega) hQ))
theorem t_people_l {K : Nat} {Q : xR → xH → Prop} (q : isTw h m A V) (p : pW (V 4)) : ∀ j i n, i + j = nH (V 4) → Q (.inl (some (xi ((List.range' i j).foldl (fun n a => n + pH (V 4) a 2) n)))) h → xWp G mX3_people 2 K Q k 4 [some (xr (some m)), some (xi n), some (xi (nI i))] [] h := by
  have p2 := p.2.1
  intro j
  induction j with
  | zero => exact fun i n hi hQ => vc_X3_people_4 ⟨q.cl, _, q.rr 4 (by decide), _, rfl, q.kk 4 (by decide), 2, rfl, by decide, (by rw [q.ll 4 (by decide)]; decide), _, (q.vv 4 (by decide)).trans (congrArg xi p.1), fun _ => hQ, fun z => absurd (nI_le (by omega) (by omega)) z⟩
  | succ j ih =>
    intro i n hi hQ
    rw [List.range'_succ, List.foldl_cons] at hQ
    refine vc_X3_people_4 ⟨q.cl, _, q.rr 4 (by decide), _, rfl, q.kk 4 (by decide), 2, rfl, by decide, (by rw [q.ll 4 (by decide)]; decide), _, (q.vv 4 (by decide)).trans (congrArg xi p.1), fun z => absurd ((nI_leI (by omega) (by omega)).mp z) (by omega), fun _ => ⟨q.cl, t_hI (by decide) q i 2 (by omega) ?_⟩⟩
    rw [nI_1]
    exact ih (i + 1) _ (by omega) hQ
theorem t_people_c {F : Int32 → xH → Nat → Prop} (hd : 2 < d) (q : isTw h m A V) (p : pW (V 4)) (hQ : F (pPeople (V 4)) h k) : xCall G d k mX3_people [xr (some m)] h (xkI F T) :=
  xCall_of (d' := 2) hd (Nat.zero_le k) (vc_X3_people (t_people_l q p (nH (V 4)) 0 0 (by omega) hQ))
theorem t_isPlan_c {F : Int32 → xH → Nat → Prop} (hd : 1 < d) (q : isTw h m A V) (p : pW (V 4)) (hm : mm < 64) (hQ : F (xb (pPlan (V 4) mm)) h k) : xCall G d k mX3_isPlan [xr (some m), xi (nI mm)] h (xkI F T) := by
  have p2 := p.2.1
  unfold pPlan at hQ
  refine xCall_of (d' := 1) hd (Nat.zero_le k) (vc_X3_isPlan ⟨fun z => ?_, fun z => ⟨q.cl, _, q.rr 4 (by decide), _, rfl, q.kk 4 (by decide), 2, rfl, by decide, (by rw [q.ll 4 (by decide)]; decide), _, (q.vv 4 (by decide)).trans (congrArg xi p.1), fun y => ?_, fun y => ?_⟩⟩)
  · rw [if_neg (fun e : mm = 0 => z (by rw [e]; rfl))] at hQ; exact hQ
  · have e0 : mm = 0 := (nI_eq (by omega) (by decide)).mp z
    have e1 : ¬ nH (V 4) = 0 := fun e => y (by rw [e]; rfl)
    rw [if_pos e0, decide_eq_false e1] at hQ; exact hQ
  · have e1 : nH (V 4) = 0 := (nI_eq (by omega) (by decide)).mp y
    have e0 : mm = 0 := (nI_eq (by omega) (by decide)).mp z
    rw [if_pos e0, decide_eq_true e1] at hQ; exact hQ
theorem t_costOf_2 {K : Nat} {Q : xR → xH → Prop} (q : isTw h m A V) (p : pW (V 4)) (hm : pSet (V 4) mm) (h0 : pPlan (V 4) mm = true) : ∀ j i v, i + j = nH (V 4) → Q (.inl (some (xi ((List.range' i j).foldl (pCostH (V 4) mm) v)))) h → xWp G mX3_costOf 4 K Q k 42 [some (xr (some m)), some (xi (nI mm)), some (xi v), some (xi (nI i))] [] h := by
  have p2 := p.2.1
  have p4 := p.2.2.2
  have hm' := pSet_lt p hm
  intro j
  induction j with
  | zero => exact fun i n hi hQ => vc_X3_costOf_42 ⟨q.cl, _, q.rr 4 (by decide), _, rfl, q.kk 4 (by decide), 2, rfl, by decide, (by rw [q.ll 4 (by decide)]; decide), _, (q.vv 4 (by decide)).trans (congrArg xi p.1), fun _ => hQ, fun z => absurd (nI_le (by omega) (by omega)) z⟩
  | succ j ih =>
    intro i v hi hQ
    rw [List.range'_succ, List.foldl_cons] at hQ
    have hz : mm ≠ 0 := pPlan_nz h0 (by omega)
    obtain ⟨t, ht⟩ := pNear_some (a := i) p hm hz
    refine vc_X3_costOf_42 ⟨q.cl, _, q.rr 4 (by decide), _, rfl, q.kk 4 (by decide), 2, rfl, by decide, (by rw [q.ll 4 (by decide)]; decide), _, (q.vv 4 (by decide)).trans (congrArg xi p.1), fun z => absurd ((nI_leI (by omega) (by omega)).mp z) (by omega), fun _ => ⟨q.cl, t_hI (by decide) q i 2 (by omega) ⟨q.cl, t_nearest_c (by decide) q p (by omega) hm' fun hl => ⟨q.cl, ?_⟩⟩⟩⟩
    have hQ' := hQ
    rw [ht]
    refine t_far_c (by decide) q (by omega) (hl t ht) ?_
    rw [nI_1]
    refine ih (i + 1) _ (by omega) ?_
    unfold pCostH at hQ
    rw [ht] at hQ
    exact hQ
theorem t_costOf_1 {K : Nat} {Q : xR → xH → Prop} (q : isTw h m A V) (p : pW (V 4)) (hm : pSet (V 4) mm) (h0 : pPlan (V 4) mm = true) : ∀ j i v, i + j = nS (V 4) → (Q (.inl (some (xi ((List.range' 0 (nH (V 4))).foldl (pCostH (V 4) mm) ((List.range' i j).foldl (pCostS (V 4) mm) v))))) h) → xWp G mX3_costOf 4 K Q k 4 [some (xr (some m)), some (xi (nI mm)), some (xi v), some (xi (nI i))] [] h := by
  have p4 := p.2.2.2
  have hm' := pSet_lt p hm
  intro j
  induction j with
  | zero => exact fun i v hi hQ => vc_X3_costOf_4 ⟨q.cl, _, q.rr 4 (by decide), _, rfl, q.kk 4 (by decide), 3, rfl, by decide, (by rw [q.ll 4 (by decide)]; decide), _, (q.vv 4 (by decide)).trans (congrArg xi p.2.2.1), fun _ => t_costOf_2 q p hm h0 (nH (V 4)) 0 v (by omega) hQ, fun z => absurd (nI_le (by omega) (by omega)) z⟩
  | succ j ih =>
    intro i v hi hQ
    rw [List.range'_succ, List.foldl_cons] at hQ
    refine vc_X3_costOf_4 ⟨q.cl, _, q.rr 4 (by decide), _, rfl, q.kk 4 (by decide), 3, rfl, by decide, (by rw [q.ll 4 (by decide)]; decide), _, (q.vv 4 (by decide)).trans (congrArg xi p.2.2.1), fun z => absurd ((nI_leI (by omega) (by omega)).mp z) (by omega), fun _ => t_has_c (by decide) hm' (by omega) ⟨fun z => ?_, fun z => ⟨q.cl, t_price_c (by decide) q (by omega) ?_⟩⟩⟩
    · rw [nI_1, Int32.add_zero]
      refine ih (i + 1) v (by omega) ?_
      have e : pCostS (V 4) mm v i = v := by unfold pCostS; rw [xb0.mp z]; rfl
      rw [e] at hQ
      exact hQ
    · rw [nI_1]
      refine ih (i + 1) _ (by omega) ?_
      have e : pCostS (V 4) mm v i = v + pPrice (V 4) i := by unfold pCostS; rw [xb1.mp z]; rfl
      rw [e] at hQ
      exact hQ
theorem t_costOf_c {F : Int32 → xH → Nat → Prop} (hd : 4 < d) (q : isTw h m A V) (p : pW (V 4)) (hm : pSet (V 4) mm) (h0 : pPlan (V 4) mm = true) (hQ : F (pCost (V 4) mm) h k) : xCall G d k mX3_costOf [xr (some m), xi (nI mm)] h (xkI F T) :=
  xCall_of (d' := 4) hd (Nat.zero_le k) (vc_X3_costOf (t_costOf_1 q p hm h0 (nS (V 4)) 0 0 (by omega) hQ))
end XTC

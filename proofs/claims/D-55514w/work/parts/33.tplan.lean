/-! the twin: plans -/
theorem tU_ne {V : Nat → Nat → Int32} {f g i : Nat} {v : Int32} (h : g ≠ f) : tU V f i v g = V g := by
  funext j
  unfold tU
  rw [if_neg (fun z => h z.1)]
theorem tU_eq {V : Nat → Nat → Int32} {f i : Nat} {v : Int32} : tU V f i v f i = v := if_pos ⟨rfl, rfl⟩
theorem tU_tU {V : Nat → Nat → Int32} {f i : Nat} {v w : Int32} : tU (tU V f i v) f i w = tU V f i w := by
  funext g j
  unfold tU
  split <;> rfl
def bI (o : Option Nat) : Int32 := match o with | none => -6 | some s => nI s
def pBestF (W : Nat → Int32) (o : Option Nat) (mm : Nat) : Option Nat := if pPlan W mm then (match o with | none => some mm | some t => if pCost W t ≤ pCost W mm then some t else some mm) else o
def pBest (W : Nat → Int32) : Option Nat := (List.range' 0 (2 ^ nS W)).foldl (pBestF W) none
def pFindF (W : Nat → Int32) (l : Int32) (mm : Nat) : Int32 := if pPlan W mm then (if l < 0 then pCost W mm else if pOpening W mm ≤ l then (if l ≤ pCost W mm then l else pCost W mm) else l) else l
def pAgain (W : Nat → Int32) : Int32 := (List.range' 0 (2 ^ nS W)).foldl (pFindF W) (-6)
def pNextF (W : Nat → Int32) (mm : Nat) (o : Option Nat) (s : Nat) : Option Nat := if mm.testBit s then o else (match o with | none => some s | some t => if pCost W (mm ||| 1 <<< t) ≤ pCost W (mm ||| 1 <<< s) then some t else some s)
def pNext (W : Nat → Int32) (mm : Nat) : Option Nat := (List.range' 0 (nS W)).foldl (pNextF W mm) none
theorem b_pow {n : Nat} (hn : n ≤ 6) : ((1 : Int32) <<< (nI n &&& 31)) = nI (2 ^ n) ∧ 2 ^ n ≤ 64 :=
  (by decide +kernel : ∀ n : Fin 7, ((1 : Int32) <<< (nI n.1 &&& 31)) = nI (2 ^ n.1) ∧ 2 ^ n.1 ≤ 64) ⟨n, by omega⟩
theorem b_orlt {n m s : Nat} (hn : n ≤ 6) (hm : m < 2 ^ n) (hs : s < n) : m ||| 1 <<< s < 2 ^ n ∧ m ||| 1 <<< s ≠ 0 := by
  have h6 : m < 64 := Nat.lt_of_lt_of_le hm (Nat.pow_le_pow_right (by decide) hn)
  exact (by decide +kernel : ∀ (n : Fin 7) (m : Fin 64) (s : Fin 6), m.1 < 2 ^ n.1 → s.1 < n.1 → m.1 ||| 1 <<< s.1 < 2 ^ n.1 ∧ m.1 ||| 1 <<< s.1 ≠ 0) ⟨n, by omega⟩ ⟨m, h6⟩ ⟨s, by omega⟩ hm hs
theorem pPlan_of {W : Nat → Int32} {mm : Nat} (h : mm ≠ 0) : pPlan W mm = true := by unfold pPlan; rw [if_neg h]
theorem pBestF_ok {W : Nat → Int32} {o : Option Nat} {i : Nat} (ho : ∀ t, o = some t → pSet W t ∧ pPlan W t = true) (hi : pSet W i) : ∀ t, pBestF W o i = some t → pSet W t ∧ pPlan W t = true := by
  intro t ht
  unfold pBestF at ht
  by_cases hb : pPlan W i = true
  · rw [if_pos hb] at ht
    rcases o with _ | u
    · cases ht; exact ⟨hi, hb⟩
    · simp only at ht
      by_cases hc : pCost W u ≤ pCost W i
      · rw [if_pos hc] at ht; exact ho t ht
      · rw [if_neg hc] at ht; cases ht; exact ⟨hi, hb⟩
  · rw [if_neg hb] at ht; exact ho t ht
section XTP
variable {G : xG} {d k : Nat} {h h' : xH} {T : Nat → xH → Nat → Prop} {S : List Nat} {m : Nat} {A : Nat → Nat} {V : Nat → Nat → Int32} {a b c s i j mm : Nat} {x : Int32}
theorem t_isSet_c {F : Int32 → xH → Nat → Prop} (hd : 2 < d) (q : isTw h m A V) (p : pW (V 4)) (hQ : F (xb (pHas (2 ^ nS (V 4)) x)) h k) : xCall G d k mX3_isSet [xr (some m), xi x] h (xkI F T) :=
  xCall_of (d' := 2) hd (Nat.zero_le k) (vc_X3_isSet ⟨q.cl, _, q.rr 4 (by decide), _, rfl, q.kk 4 (by decide), 3, rfl, by decide, (by rw [q.ll 4 (by decide)]; decide), _, (q.vv 4 (by decide)).trans (congrArg xi p.2.2.1), by rw [(b_pow p.2.2.2).1]; exact t_isBetween_c (by decide) ⟨by unfold xb; split <;> simp, hQ⟩⟩)
def pCostA (W : Nat → Int32) (x : Int32) : Int32 := if pHas (2 ^ nS W) x then (if pPlan W x.toNatClampNeg then pCost W x.toNatClampNeg else -6) else -2
theorem t_cost_c {F : Int32 → xH → Nat → Prop} (hd : 5 < d) (q : isTw h m A V) (p : pW (V 4)) (hQ : F (pCostA (V 4) x) h k) : xCall G d k mX3_cost [xr (some m), xi x] h (xkI F T) := by
  have h64 := (b_pow p.2.2.2).2
  refine xCall_of (d' := 5) hd (Nat.zero_le k) (vc_X3_cost ⟨q.cl, t_isSet_c (by decide) q p ⟨fun z => ⟨q.cl, ?_⟩, fun z => ?_⟩⟩)
  · have hb := xb1.mp z
    obtain ⟨s, hs, rfl⟩ := (pHas_iff (by omega)).mp hb
    unfold pCostA at hQ
    rw [if_pos hb, nI_clamp (by omega)] at hQ
    refine t_isPlan_c (by decide) q p (by omega) ⟨fun y => ?_, fun y => ⟨q.cl, ?_⟩⟩
    · rw [xb0.mp y, if_neg Bool.false_ne_true] at hQ; exact hQ
    · have hp := xb1.mp y
      rw [hp, if_pos rfl] at hQ
      exact t_costOf_c (by decide) q p hs hp hQ
  · unfold pCostA at hQ
    rw [xb0.mp z, if_neg Bool.false_ne_true] at hQ; exact hQ
theorem t_best_l {K : Nat} {Q : xR → xH → Prop} (q : isTw h m A V) (p : pW (V 4)) : ∀ j i o, i + j = 2 ^ nS (V 4) → (∀ t, o = some t → pSet (V 4) t ∧ pPlan (V 4) t = true) → ((∀ t, (List.range' i j).foldl (pBestF (V 4)) o = some t → pSet (V 4) t ∧ pPlan (V 4) t = true) → Q (.inl (some (xi (bI ((List.range' i j).foldl (pBestF (V 4)) o))))) h) → xWp G mX3_best 5 K Q k 5 [some (xr (some m)), some (xi (bI o)), some (xi (nI i))] [] h := by
  have p4 := b_pow p.2.2.2
  intro j
  induction j with
  | zero => exact fun i o hi ho hQ => vc_X3_best_5 ⟨q.cl, _, q.rr 4 (by decide), _, rfl, q.kk 4 (by decide), 3, rfl, by decide, (by rw [q.ll 4 (by decide)]; decide), _, (q.vv 4 (by decide)).trans (congrArg xi p.2.2.1), fun _ => hQ ho, fun z => absurd (by rw [p4.1]; exact nI_le (by omega) (by omega)) z⟩
  | succ j ih =>
    intro i o hi ho hQ
    have hs : pSet (V 4) i := (show i < 2 ^ nS (V 4) by omega)
    have hl := pBestF_ok ho hs
    rw [List.range'_succ, List.foldl_cons] at hQ
    have go : ∀ o', pBestF (V 4) o i = o' → xWp G mX3_best 5 K Q k 5 [some (xr (some m)), some (xi (bI o')), some (xi (nI (i + 1)))] [] h := by
      intro o' e
      subst e
      exact ih (i + 1) _ (by omega) hl hQ
    refine vc_X3_best_5 ⟨q.cl, _, q.rr 4 (by decide), _, rfl, q.kk 4 (by decide), 3, rfl, by decide, (by rw [q.ll 4 (by decide)]; decide), _, (q.vv 4 (by decide)).trans (congrArg xi p.2.2.1), fun z => ?_, fun _ => ⟨q.cl, t_isPlan_c (by decide) q p (by omega) ⟨fun z => ?_, fun z => ?_⟩⟩⟩
    · rw [p4.1] at z
      exact absurd ((nI_leI (by omega) (by omega)).mp z) (by omega)
    · rw [nI_1]
      exact go o (by unfold pBestF; rw [xb0.mp z]; rfl)
    · have hb := xb1.mp z
      rw [nI_1]
      rcases o with _ | u
      · exact ⟨fun _ => go (some i) (by unfold pBestF; rw [hb]; rfl), fun y => absurd (by decide) y⟩
      · obtain ⟨u1, u2⟩ := ho u rfl
        have u3 : u < 2 ^ nS (V 4) := u1
        refine ⟨fun y => absurd y (nI_pos (by omega)), fun _ => ⟨q.cl, t_costOf_c (by decide) q p hs hb ⟨q.cl, t_costOf_c (by decide) q p u1 u2 ⟨fun y => ?_, fun y => ?_⟩⟩⟩⟩
        · exact go (some u) (by unfold pBestF; rw [hb]; simp only [↓reduceIte]; rw [if_pos y])
        · exact go (some i) (by unfold pBestF; rw [hb]; simp only [↓reduceIte]; rw [if_neg y])
theorem t_best_c {F : Int32 → xH → Nat → Prop} (hd : 5 < d) (q : isTw h m A V) (p : pW (V 4)) (hQ : (∀ t, pBest (V 4) = some t → pSet (V 4) t ∧ pPlan (V 4) t = true) → F (bI (pBest (V 4))) h k) : xCall G d k mX3_best [xr (some m)] h (xkI F T) :=
  xCall_of (d' := 5) hd (Nat.zero_le k) (vc_X3_best (t_best_l q p _ 0 none (by omega) (fun t e => by cases e) hQ))
theorem t_cheapest_c {F : Int32 → xH → Nat → Prop} (hd : 6 < d) (q : isTw h m A V) (p : pW (V 4)) (hQ : F (bI (pBest (V 4))) h k) : xCall G d k mX3_cheapest [xr (some m)] h (xkI F T) :=
  xCall_of (d' := 6) hd (Nat.zero_le k) (vc_X3_cheapest ⟨q.cl, t_best_c (by decide) q p fun _ => hQ⟩)
theorem t_next_l {K : Nat} {Q : xR → xH → Prop} (q : isTw h m A V) (p : pW (V 4)) (hm : pSet (V 4) mm) : ∀ j i o, i + j = nS (V 4) → (∀ t, o = some t → t < nS (V 4)) → ((∀ t, (List.range' i j).foldl (pNextF (V 4) mm) o = some t → t < nS (V 4)) → Q (.inl (some (xi (oI ((List.range' i j).foldl (pNextF (V 4) mm) o))))) h) → xWp G mX3_next 5 K Q k 4 [some (xr (some m)), some (xi (nI mm)), some (xi (oI o)), some (xi (nI i))] [] h := by
  have p4 := p.2.2.2
  have hm' := pSet_lt p hm
  intro j
  induction j with
  | zero => exact fun i o hi ho hQ => vc_X3_next_4 ⟨q.cl, _, q.rr 4 (by decide), _, rfl, q.kk 4 (by decide), 3, rfl, by decide, (by rw [q.ll 4 (by decide)]; decide), _, (q.vv 4 (by decide)).trans (congrArg xi p.2.2.1), fun _ => hQ ho, fun z => absurd (nI_le (by omega) (by omega)) z⟩
  | succ j ih =>
    intro i o hi ho hQ
    rw [List.range'_succ, List.foldl_cons] at hQ
    have go : ∀ o', (∀ t, o' = some t → t < nS (V 4)) → pNextF (V 4) mm o i = o' → xWp G mX3_next 5 K Q k 4 [some (xr (some m)), some (xi (nI mm)), some (xi (oI o')), some (xi (nI (i + 1)))] [] h := by
      intro o' e0 e
      subst e
      exact ih (i + 1) _ (by omega) e0 hQ
    refine vc_X3_next_4 ⟨q.cl, _, q.rr 4 (by decide), _, rfl, q.kk 4 (by decide), 3, rfl, by decide, (by rw [q.ll 4 (by decide)]; decide), _, (q.vv 4 (by decide)).trans (congrArg xi p.2.2.1), fun z => absurd ((nI_leI (by omega) (by omega)).mp z) (by omega), fun _ => t_has_c (by decide) hm' (by omega) ⟨fun z => ?_, fun z => ?_⟩⟩
    · have hb := xb0.mp z
      rw [nI_1]
      have si : ∀ t, some i = some t → t < nS (V 4) := fun t e => by cases e; omega
      rcases o with _ | u
      · exact ⟨fun _ => go (some i) si (by unfold pNextF; rw [hb]; rfl), fun y => absurd (by decide) y⟩
      · have hu := ho u rfl
        obtain ⟨o1, o2⟩ := b_orlt p4 hm (show i < nS (V 4) by omega)
        obtain ⟨o3, o4⟩ := b_orlt p4 hm hu
        refine ⟨fun y => absurd y (nI_pos (by omega)), fun _ => ⟨q.cl, ?_⟩⟩
        rw [(b_or hm' (by omega)).1]
        refine t_costOf_c (by decide) q p o1 (pPlan_of o2) ⟨q.cl, ?_⟩
        show xCall _ _ _ _ [_, xi (nI mm ||| ((1 : Int32) <<< (nI u &&& 31)))] _ _
        rw [(b_or hm' (by omega)).1]
        refine t_costOf_c (by decide) q p o3 (pPlan_of o4) ⟨fun y => ?_, fun y => ?_⟩
        · exact go (some u) ho (by unfold pNextF; rw [hb]; simp only [Bool.false_eq_true, ↓reduceIte]; rw [if_pos y])
        · exact go (some i) si (by unfold pNextF; rw [hb]; simp only [Bool.false_eq_true, ↓reduceIte]; rw [if_neg y])
    · rw [nI_1]
      exact go o ho (by unfold pNextF; rw [xb1.mp z]; rfl)
theorem t_next_c {F : Int32 → xH → Nat → Prop} (hd : 5 < d) (q : isTw h m A V) (p : pW (V 4)) (hm : pSet (V 4) mm) (hQ : (∀ t, pNext (V 4) mm = some t → t < nS (V 4)) → F (oI (pNext (V 4) mm)) h k) : xCall G d k mX3_next [xr (some m), xi (nI mm)] h (xkI F T) :=
  xCall_of (d' := 5) hd (Nat.zero_le k) (vc_X3_next (t_next_l q p hm (nS (V 4)) 0 none (by omega) (fun t e => by cases e) hQ))
end XTP

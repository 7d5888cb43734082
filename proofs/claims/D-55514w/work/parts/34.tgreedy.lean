/-! the twin: branch and bound's stand-in, greedy, swap, saves -/
def bFree (n m : Nat) : Nat := ((List.range n).filter fun s => !m.testBit s).length
theorem b_free {n m s : Nat} (hn : n ≤ 6) (hm : m < 2 ^ n) (hs : s < n) (ht : m.testBit s = false) : bFree n (m ||| 1 <<< s) < bFree n m := by
  have h6 : m < 64 := Nat.lt_of_lt_of_le hm (Nat.pow_le_pow_right (by decide) hn)
  exact (by decide +kernel : ∀ (n : Fin 7) (m : Fin 64) (s : Fin 6), m.1 < 2 ^ n.1 → s.1 < n.1 → m.1.testBit s.1 = false → bFree n.1 (m.1 ||| 1 <<< s.1) < bFree n.1 m.1) ⟨n, by omega⟩ ⟨m, h6⟩ ⟨s, by omega⟩ hm hs ht
def pGoes (W : Nat → Int32) (mm t : Nat) : Bool := !pPlan W mm || decide (¬ pCost W mm ≤ pCost W (mm ||| 1 <<< t))
def pGreedyN (W : Nat → Int32) : Nat → Nat → Nat
  | 0, mm => mm
  | j + 1, mm => match pNext W mm with
    | none => mm
    | some t => if pGoes W mm t then pGreedyN W j (mm ||| 1 <<< t) else mm
def pGreedyA (W : Nat → Int32) : Int32 := if pPlan W (pGreedyN W 6 0) then nI (pGreedyN W 6 0) else -6
theorem pNext_free {W : Nat → Int32} {mm : Nat} : ∀ (j i : Nat) (o : Option Nat), (∀ t, o = some t → mm.testBit t = false) → ∀ t, (List.range' i j).foldl (pNextF W mm) o = some t → mm.testBit t = false := by
  intro j
  induction j with
  | zero => exact fun i o ho => ho
  | succ j ih =>
    intro i o ho
    rw [List.range'_succ, List.foldl_cons]
    refine ih (i + 1) _ fun t ht => ?_
    unfold pNextF at ht
    by_cases hb : mm.testBit i = true
    · rw [if_pos hb] at ht; exact ho t ht
    · rw [if_neg hb] at ht
      have hb' : mm.testBit i = false := by simpa using hb
      rcases o with _ | u
      · cases ht; exact hb'
      · simp only at ht
        split at ht
        · exact ho t ht
        · cases ht; exact hb'
def pSwapF (W : Nat → Int32) (mm out : Nat) (st : Int32 × Int32) (i : Nat) : Int32 × Int32 := if mm.testBit out && !mm.testBit i then (if pCost W (bOff mm out ||| 1 <<< i) < st.2 then (10 * nI out + nI i, pCost W (bOff mm out ||| 1 <<< i)) else st) else st
def pSwapG (W : Nat → Int32) (mm : Nat) (st : Int32 × Int32) (out : Nat) : Int32 × Int32 := (List.range' 0 (nS W)).foldl (pSwapF W mm out) st
def pSwap (W : Nat → Int32) (mm : Nat) : Int32 := ((List.range' 0 (nS W)).foldl (pSwapG W mm) (-6, pCost W mm)).1
def pSwapA (W : Nat → Int32) (x : Int32) : Int32 := if pHas (2 ^ nS W) x then (if x.toNatClampNeg = 0 then -6 else pSwap W x.toNatClampNeg) else -2
theorem b_off {m s i : Nat} (hm : m < 64) (hs : s < 6) (hi : i < 6) : ((nI m &&& (((1 : Int32) <<< (nI s &&& 31)) ^^^ (-1 : Int32))) ||| ((1 : Int32) <<< (nI i &&& 31))) = nI (bOff m s ||| 1 <<< i) :=
  (by decide +kernel : ∀ (a : Fin 64) (b : Fin 6) (c : Fin 6), ((nI a.1 &&& (((1 : Int32) <<< (nI b.1 &&& 31)) ^^^ (-1 : Int32))) ||| ((1 : Int32) <<< (nI c.1 &&& 31))) = nI (bOff a.1 b.1 ||| 1 <<< c.1)) ⟨m, hm⟩ ⟨s, hs⟩ ⟨i, hi⟩
theorem b_offlt {n m s : Nat} (hn : n ≤ 6) (hm : m < 2 ^ n) (hs : s < n) : bOff m s < 2 ^ n := by
  have h6 : m < 64 := Nat.lt_of_lt_of_le hm (Nat.pow_le_pow_right (by decide) hn)
  exact (by decide +kernel : ∀ (n : Fin 7) (m : Fin 64) (s : Fin 6), m.1 < 2 ^ n.1 → s.1 < n.1 → bOff m.1 s.1 < 2 ^ n.1) ⟨n, by omega⟩ ⟨m, h6⟩ ⟨s, by omega⟩ hm hs
def pSavesA (W : Nat → Int32) (x : Int32) : Int32 := if pHas (nS W) x then (if pOpen W x.toNatClampNeg then -10000 else if pMask W = 0 then -10000 else pCost W (pMask W) - pCost W (pMask W ||| 1 <<< x.toNatClampNeg)) else -10000
theorem pMask_set {W : Nat → Int32} (p : pW W) : ∀ (j i mm : Nat), i + j ≤ nS W → mm < 2 ^ nS W → (List.range' i j).foldl (pMaskF W) mm < 2 ^ nS W := by
  have p4 := p.2.2.2
  intro j
  induction j with
  | zero => exact fun i mm _ h => h
  | succ j ih =>
    intro i mm hi h
    rw [List.range'_succ, List.foldl_cons]
    refine ih (i + 1) _ (by omega) ?_
    unfold pMaskF
    split
    · exact (b_orlt p4 h (by omega)).1
    · exact h
theorem pMask_ok {W : Nat → Int32} (p : pW W) : pSet W (pMask W) := pMask_set p (nS W) 0 0 (by omega) (Nat.two_pow_pos _)
section XTG
variable {G : xG} {d k : Nat} {h h' : xH} {T : Nat → xH → Nat → Prop} {S : List Nat} {m : Nat} {A : Nat → Nat} {V : Nat → Nat → Int32} {a b c s i j mm : Nat} {x : Int32}
theorem t_finds_2 {K : Nat} {Q : xR → xH → Prop} {l : Int32} {h0 : xH} {N : Nat} (p : pW (V 4)) (hm : pSet (V 4) mm) (h0' : pPlan (V 4) mm = true)
    (go : ∀ h' l', isTw h' m A (tU V 11 0 l') → xMod (tS m A) h0 h' → pFindF (V 4) l mm = l' → xWp G mX3_finds 5 K Q k 2 [some (xr (some m)), some (xi (nI N)), some (xi (nI (mm + 1))), none, none] [] h')
    (q : isTw h m A (tU V 11 0 l)) (x0 : xMod (tS m A) h0 h) :
    ∀ j i v, i + j = nS (V 4) → (List.range' i j).foldl (pCostS (V 4) mm) v = pOpening (V 4) mm → xWp G mX3_finds 5 K Q k 23 [some (xr (some m)), some (xi (nI N)), some (xi (nI mm)), some (xi v), some (xi (nI i))] [] h := by
  have p4 := p.2.2.2
  have hm' := pSet_lt p hm
  have e4 : tU V 11 0 l 4 = V 4 := tU_ne (by decide)
  have q3 : xval h (A 4) 3 = xi (nI (nS (V 4))) := (q.vv 4 (by decide)).trans (congrArg xi (by rw [e4]; exact p.2.2.1))
  have q11 : xval h m 11 = xi l := (q.ff 11 rfl).trans (by rw [tU_eq])
  have cost : ∀ {F : Int32 → xH → Nat → Prop} {T}, F (pCost (V 4) mm) h k → xCall G 5 k mX3_costOf [xr (some m), xi (nI mm)] h (xkI F T) := by
    intro F T hF
    refine t_costOf_c (by decide) q (by rw [e4]; exact p) (by rw [e4]; exact hm) (by rw [e4]; exact h0') ?_
    rw [e4]
    exact hF
  have put : ∀ l', isTw (xput h m 11 (xi l')) m A (tU V 11 0 l') := fun l' => by
    have := q.pf 11 rfl l'
    rw [tU_tU] at this
    exact this
  intro j
  induction j with
  | zero =>
    intro i v hi hv
    have hv' : v = pOpening (V 4) mm := hv
    refine vc_X3_finds_23 ⟨q.cl, _, q.rr 4 (by decide), _, rfl, q.kk 4 (by decide), 3, rfl, by decide, (by rw [q.ll 4 (by decide)]; decide), _, q3, fun _ => ⟨q.cl, _, q11, fun hl => ⟨q.cl, cost ?_⟩, fun hl => ⟨q.cl, _, q11, fun y => ⟨q.cl, cost ?_⟩, fun y => ?_⟩⟩, fun z => absurd (nI_le (by omega) (by omega)) z⟩
    · refine ⟨q.cl, _, q11, fun _ => ⟨q.cl, fun h13 e13 => ?_⟩, fun z => absurd hl z⟩
      subst e13
      rw [nI_1]
      exact go _ _ (put _) (x0.tf (fun _ z => z) _ _) (by unfold pFindF; rw [h0', if_pos rfl, if_pos hl])
    · refine ⟨q.cl, _, q11, fun z => absurd z hl, fun _ => ⟨q.cl, _, q11, fun w => ⟨q.cl, _, q11, q.cl, fun h16 e16 => ?_⟩, fun w => ⟨q.cl, fun h17 e17 => ?_⟩⟩⟩
      · subst e16
        rw [nI_1]
        exact go _ _ (put _) (x0.tf (fun _ z => z) _ _) (by unfold pFindF; rw [h0', if_pos rfl, if_neg hl, if_pos (hv' ▸ y), if_pos w])
      · subst e17
        rw [nI_1]
        exact go _ _ (put _) (x0.tf (fun _ z => z) _ _) (by unfold pFindF; rw [h0', if_pos rfl, if_neg hl, if_pos (hv' ▸ y), if_neg w])
    · rw [nI_1]
      exact go _ _ q x0 (by unfold pFindF; rw [h0', if_pos rfl, if_neg hl, if_neg (hv' ▸ y)])
  | succ j ih =>
    intro i v hi hv
    rw [List.range'_succ, List.foldl_cons] at hv
    refine vc_X3_finds_23 ⟨q.cl, _, q.rr 4 (by decide), _, rfl, q.kk 4 (by decide), 3, rfl, by decide, (by rw [q.ll 4 (by decide)]; decide), _, q3, fun z => absurd ((nI_leI (by omega) (by omega)).mp z) (by omega), fun _ => t_has_c (by decide) hm' (by omega) ⟨fun z => ?_, fun z => ⟨q.cl, t_price_c (by decide) q (by omega) ?_⟩⟩⟩
    · rw [nI_1, Int32.add_zero]
      refine ih (i + 1) v (by omega) ?_
      have e : pCostS (V 4) mm v i = v := by unfold pCostS; rw [xb0.mp z]; rfl
      rw [e] at hv
      exact hv
    · rw [nI_1, e4]
      refine ih (i + 1) _ (by omega) ?_
      have e : pCostS (V 4) mm v i = v + pPrice (V 4) i := by unfold pCostS; rw [xb1.mp z]; rfl
      rw [e] at hv
      exact hv
theorem t_finds_1 {K : Nat} {Q : xR → xH → Prop} {h0 : xH} (p : pW (V 4)) (lf : Int32)
    (hQ : ∀ h', isTw h' m A (tU V 11 0 lf) → xMod (tS m A) h0 h' → Q (.inl none) h') :
    ∀ j i l h, i + j = 2 ^ nS (V 4) → isTw h m A (tU V 11 0 l) → xMod (tS m A) h0 h → (List.range' i j).foldl (pFindF (V 4)) l = lf → xWp G mX3_finds 5 K Q k 2 [some (xr (some m)), some (xi (nI (2 ^ nS (V 4)))), some (xi (nI i)), none, none] [] h := by
  have p4 := b_pow p.2.2.2
  intro j
  induction j with
  | zero =>
    intro i l h hi q x0 e
    have e' : l = lf := e
    subst e'
    exact vc_X3_finds_2 ⟨fun _ => hQ h q x0, fun z => absurd (nI_le (by omega) (by omega)) z⟩
  | succ j ih =>
    intro i l h hi q x0 e
    have e4 : tU V 11 0 l 4 = V 4 := tU_ne (by decide)
    rw [List.range'_succ, List.foldl_cons] at e
    refine vc_X3_finds_2 ⟨fun z => absurd ((nI_leI (by omega) (by omega)).mp z) (by omega), fun _ => ⟨q.cl, t_isPlan_c (by decide) q (by rw [e4]; exact p) (by omega) ⟨fun z => ?_, fun z => ?_⟩⟩⟩
    · rw [e4] at z
      refine t_finds_2 (mm := i) (l := l) (h0 := h0) p (show i < 2 ^ nS (V 4) by omega) (xb1.mp z) ?_ q x0 (nS (V 4)) 0 0 (by omega) rfl
      intro h' l' q' x' el
      exact ih (i + 1) l' h' (by omega) q' x' (by rw [← el]; exact e)
    · rw [e4] at z
      rw [nI_1]
      refine ih (i + 1) l h (by omega) q x0 ?_
      have : pFindF (V 4) l i = l := by unfold pFindF; rw [xb0.mp z]; rfl
      rw [this] at e
      exact e
theorem t_cheapestAgain_c {F : Int32 → xH → Nat → Prop} (hd : 6 < d) (q : isTw h m A V) (p : pW (V 4)) (hQ : ∀ h', isTw h' m A (tU V 11 0 (pAgain (V 4))) → xMod (tS m A) h h' → F (pAgain (V 4)) h' k) : xCall G d k mX3_cheapestAgain [xr (some m)] h (xkI F T) := by
  have e4 : ∀ l, tU V 11 0 l 4 = V 4 := fun l => tU_ne (by decide)
  refine xCall_of (d' := 6) hd (Nat.zero_le k) (vc_X3_cheapestAgain ⟨q.cl, fun h1 e1 => ?_⟩)
  have q1 := q.pf 11 rfl (-6)
  have x1 : xMod (tS m A) h (xput h m 11 (xi (-6))) := xMod.rf.tf (fun _ z => z) 11 _
  subst e1
  have q3 : xval (xput h m 11 (xi (-6))) (A 4) 3 = xi (nI (nS (V 4))) := (q1.vv 4 (by decide)).trans (congrArg xi (by rw [e4]; exact p.2.2.1))
  refine ⟨q1.cl, _, q1.rr 4 (by decide), _, rfl, q1.kk 4 (by decide), 3, rfl, by decide, (by rw [q1.ll 4 (by decide)]; decide), _, q3, q1.cl, ?_⟩
  rw [(b_pow p.2.2.2).1]
  refine xCall_of (d' := 5) (by decide) (Nat.zero_le _) (vc_X3_finds ?_)
  refine t_finds_1 (h0 := h) p (pAgain (V 4)) ?_ (2 ^ nS (V 4)) 0 (-6) _ (by omega) q1 x1 rfl
  intro h' q' x'
  exact ⟨q'.cl, _, (q'.ff 11 rfl).trans (by rw [tU_eq]), hQ h' q' x'⟩
end XTG

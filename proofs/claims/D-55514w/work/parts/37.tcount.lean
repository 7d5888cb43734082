/-! the twin: accounts -/
def pSumS (W : Nat → Int32) (c : Nat) : Int32 := (List.range' 0 (nS W)).foldl (fun n s => n + pS W s c) 0
def pSumH (W : Nat → Int32) (c : Nat) : Int32 := (List.range' 0 (nH W)).foldl (fun n a => n + pH W a c) 0
def pDrinkN (W : Nat → Int32) (n : Int32) (s : Nat) : Int32 := if pOpen W s then n + nI (pMany W (nI s)) else n
def pDrinkS (W : Nat → Int32) : Int32 := (List.range' 0 (nS W)).foldl (pDrinkN W) 0
def pSame (W : Nat → Int32) : Bool := match pBest W with | none => decide (¬ 0 ≤ pAgain W) | some t => decide (pCost W t = pAgain W)
def pCounted (W : Nat → Int32) : Bool := decide (pSumS W 7 = pSumH W 4) && pSame W && decide (pSumS W 6 + W 4 = 3) && (decide (pMask W = 0) || decide (pDrinkS W = W 2))
def bCardF (m : Nat) (n k : Nat) : Nat := n + (m.testBit k).toNat
theorem b_cardF {m : Nat} (hm : m < 64) : (List.range' 0 6).foldl (bCardF m) 0 = bCard m :=
  (by decide +kernel : ∀ a : Fin 64, (List.range' 0 6).foldl (bCardF a.1) 0 = bCard a.1) ⟨m, hm⟩
theorem b_bit {m s : Nat} (hm : m < 64) (hs : s < 6) : ((nI m >>> (nI s &&& 31)) &&& (1 : Int32)) = nI (m.testBit s).toNat :=
  (by decide +kernel : ∀ (a : Fin 64) (b : Fin 6), ((nI a.1 >>> (nI b.1 &&& 31)) &&& (1 : Int32)) = nI (a.1.testBit b.1).toNat) ⟨m, hm⟩ ⟨s, hs⟩
def pAccount (V : Nat → Nat → Int32) (x : Int32) : Int32 :=
  if x = 0 then V 4 0 else if x = 1 then V 4 1 else if x = 2 then V 4 2 else if x = 3 then V 4 3 else if x = 4 then nI (bCard (pMask (V 4))) else if x = 5 then pPeople (V 4)
  else if x = 6 then V 4 4 else if x = 7 then V 4 5 else if x = 8 then V 4 6 else if x = 9 then V 4 7 else if x = 10 then V 4 8 else if x = 11 then V 4 9 else if x = 12 then V 4 10 else if x = 13 then V 4 11
  else if x = 14 then V 15 0 else if x = 15 then V 8 0 else -2
section XTN
variable {G : xG} {d k : Nat} {h h' : xH} {T : Nat → xH → Nat → Prop} {S : List Nat} {m : Nat} {A : Nat → Nat} {V : Nat → Nat → Int32} {a b c s i j mm : Nat} {x y : Int32}
theorem t_sizeOf_l {K : Nat} {Q : xR → xH → Prop} (hm : mm < 64) : ∀ j i n, i + j = 6 → Q (.inl (some (xi (nI ((List.range' i j).foldl (bCardF mm) n))))) h → xWp G mX3_sizeOf 1 K Q k 4 [some (xi (nI mm)), some (xi (nI n)), some (xi (nI i))] [] h := by
  intro j
  induction j with
  | zero => exact fun i n hi hQ => vc_X3_sizeOf_4 ⟨fun _ => hQ, fun z => absurd (nI_le (a := 6) (by omega) (by omega)) z⟩
  | succ j ih =>
    intro i n hi hQ
    rw [List.range'_succ, List.foldl_cons] at hQ
    refine vc_X3_sizeOf_4 ⟨fun z => absurd ((nI_leI (a := 6) (by omega) (by omega)).mp z) (by omega), fun _ => ?_⟩
    rw [nI_1, b_bit hm (by omega), nI_add]
    exact ih (i + 1) _ (by omega) hQ
theorem t_sizeOf_c {F : Int32 → xH → Nat → Prop} (hd : 1 < d) (hm : mm < 64) (hQ : F (nI (bCard mm)) h k) : xCall G d k mX3_sizeOf [xi (nI mm)] h (xkI F T) :=
  xCall_of (d' := 1) hd (Nat.zero_le k) (vc_X3_sizeOf (t_sizeOf_l hm 6 0 0 (by omega) (by rw [b_cardF hm]; exact hQ)))
theorem t_pumpsOn_l {K : Nat} {Q : xR → xH → Prop} (q : isTw h m A V) (p : pW (V 4)) : ∀ j i n, i + j = nS (V 4) → Q (.inl (some (xi ((List.range' i j).foldl (fun n s => n + pS (V 4) s 6) n)))) h → xWp G mX3_pumpsOn 2 K Q k 4 [some (xr (some m)), some (xi n), some (xi (nI i))] [] h := by
  have p4 := p.2.2.2
  intro j
  induction j with
  | zero => exact fun i n hi hQ => vc_X3_pumpsOn_4 ⟨q.cl, _, q.rr 4 (by decide), _, rfl, q.kk 4 (by decide), 3, rfl, by decide, (by rw [q.ll 4 (by decide)]; decide), _, (q.vv 4 (by decide)).trans (congrArg xi p.2.2.1), fun _ => hQ, fun z => absurd (nI_le (by omega) (by omega)) z⟩
  | succ j ih =>
    intro i n hi hQ
    rw [List.range'_succ, List.foldl_cons] at hQ
    refine vc_X3_pumpsOn_4 ⟨q.cl, _, q.rr 4 (by decide), _, rfl, q.kk 4 (by decide), 3, rfl, by decide, (by rw [q.ll 4 (by decide)]; decide), _, (q.vv 4 (by decide)).trans (congrArg xi p.2.2.1), fun z => absurd ((nI_leI (by omega) (by omega)).mp z) (by omega), fun _ => ⟨q.cl, t_sI (by decide) q i 6 (by omega) ?_⟩⟩
    rw [nI_1]
    exact ih (i + 1) _ (by omega) hQ
theorem t_pumpsOn_c {F : Int32 → xH → Nat → Prop} (hd : 2 < d) (q : isTw h m A V) (p : pW (V 4)) (hQ : F (pSumS (V 4) 6) h k) : xCall G d k mX3_pumpsOn [xr (some m)] h (xkI F T) :=
  xCall_of (d' := 2) hd (Nat.zero_le k) (vc_X3_pumpsOn (t_pumpsOn_l q p (nS (V 4)) 0 0 (by omega) hQ))
theorem t_counted_3 {K : Nat} {Q : xR → xH → Prop} {g dr : Int32} (q : isTw h m A V) (p : pW (V 4)) 
    (hQ : ∀ h', isTw h' m A (tU V 11 0 (pAgain (V 4))) → xMod (tS m A) h h' → Q (.inl (some (xi (xb (decide (g = pSumH (V 4) 4) && pSame (V 4) && decide (pSumS (V 4) 6 + V 4 4 = 3) && (decide (pMask (V 4) = 0) || decide (dr = V 4 2))))))) h') :
    ∀ j i n, i + j = nH (V 4) → (List.range' i j).foldl (fun n a => n + pH (V 4) a 4) n = pSumH (V 4) 4 → xWp G mX3_isCounted 7 K Q k 75 [some (xr (some m)), some (xi g), some (xi dr), some (xi n), some (xi (nI i)), none] [] h := by
  have p2 := p.2.1
  have e4 : tU V 11 0 (pAgain (V 4)) 4 = V 4 := tU_ne (by decide)
  intro j
  induction j with
  | succ j ih =>
    intro i n hi e
    rw [List.range'_succ, List.foldl_cons] at e
    refine vc_X3_isCounted_75 ⟨q.cl, _, q.rr 4 (by decide), _, rfl, q.kk 4 (by decide), 2, rfl, by decide, (by rw [q.ll 4 (by decide)]; decide), _, (q.vv 4 (by decide)).trans (congrArg xi p.1), fun z => absurd ((nI_leI (by omega) (by omega)).mp z) (by omega), fun _ => ⟨q.cl, t_hI (by decide) q i 4 (by omega) ?_⟩⟩
    rw [nI_1]
    exact ih (i + 1) _ (by omega) e
  | zero =>
    intro i n hi e
    have e' : n = pSumH (V 4) 4 := e
    subst e'
    -- what comes behind the comparison of the costs
    have tail : ∀ (h28 : xH) (T0 : Nat → xH → Nat → Prop), isTw h28 m A (tU V 11 0 (pAgain (V 4))) → xMod (tS m A) h h28 → g = pSumH (V 4) 4 → pSame (V 4) = true →
        xCall G 7 k mX3_pumpsOn [xr (some m)] h28 (xkI (fun n33 h31 k32 => xcls h31 m = 6 ∧ ∃ o34 : Option Nat, xval h31 m 4 = xr o34 ∧ ∃ a35, o34 = some a35 ∧ xcls h31 a35 = 1003 ∧ ∃ i36 : Nat, (4 : Int32) = nI i36 ∧ i36 < 2147483648 ∧ i36 < xlen h31 a35 ∧ ∃ n37 : Int32, xval h31 a35 i36 = xi n37 ∧ ((¬ (n33 + n37) = (3 : Int32) → Q (.inl (some (xi (0 : Int32)))) h31) ∧ ((n33 + n37) = (3 : Int32) → xcls h31 m = 6 ∧ xCall G 7 k32 mX3_openOnes [xr (some m)] h31 (xkI (fun n40 h38 k39 => ((n40 = 0 → Q (.inl (some (xi (1 : Int32)))) h38) ∧ (¬ n40 = 0 → xcls h38 m = 6 ∧ ∃ o41 : Option Nat, xval h38 m 4 = xr o41 ∧ ∃ a42, o41 = some a42 ∧ xcls h38 a42 = 1003 ∧ ∃ i43 : Nat, (2 : Int32) = nI i43 ∧ i43 < 2147483648 ∧ i43 < xlen h38 a42 ∧ ∃ n44 : Int32, xval h38 a42 i43 = xi n44 ∧ ((¬ dr = n44 → Q (.inl (some (xi (0 : Int32)))) h38) ∧ (dr = n44 → Q (.inl (some (xi (1 : Int32)))) h38))))) T0)))) T0) := by
      intro h28 T0 q x eg es
      have hQ := hQ h28 q x
      rw [decide_eq_true eg, es] at hQ
      have v : ∀ c, c < 112 → xval h28 (A 4) c = xi (V 4 c) := fun c hc => (q.vv 4 hc).trans (by rw [e4])
      refine t_pumpsOn_c (by decide) q (by rw [e4]; exact p) ?_
      rw [e4]
      refine ⟨q.cl, _, q.rr 4 (by decide), _, rfl, q.kk 4 (by decide), 4, rfl, by decide, (by rw [q.ll 4 (by decide)]; decide), _, v 4 (by decide), fun z => ?_, fun z => ⟨q.cl, t_openOnes_c (by decide) q (by rw [e4]; exact p) ?_⟩⟩
      · rw [decide_eq_false z] at hQ; exact hQ
      · rw [e4]
        rw [decide_eq_true z] at hQ
        intro hl
        refine ⟨fun y => ?_, fun y => ⟨q.cl, _, q.rr 4 (by decide), _, rfl, q.kk 4 (by decide), 2, rfl, by decide, (by rw [q.ll 4 (by decide)]; decide), _, v 2 (by decide), fun w => ?_, fun w => ?_⟩⟩
        · rw [decide_eq_true ((nI_eq (by omega) (by decide)).mp y)] at hQ; exact hQ
        · rw [decide_eq_false (fun e : pMask (V 4) = 0 => y (by rw [e]; rfl)), decide_eq_false w] at hQ; exact hQ
        · rw [decide_eq_true w, Bool.or_true] at hQ; exact hQ
    have tailF : ∀ (h28 : xH), isTw h28 m A (tU V 11 0 (pAgain (V 4))) → xMod (tS m A) h h28 → (¬ g = pSumH (V 4) 4 ∨ pSame (V 4) = false) → Q (.inl (some (xi (0 : Int32)))) h28 := by
      intro h28 q x o
      have hQ := hQ h28 q x
      rcases o with o | o
      · rw [decide_eq_false o] at hQ; exact hQ
      · rw [o, Bool.and_false] at hQ; exact hQ
    refine vc_X3_isCounted_75 ⟨q.cl, _, q.rr 4 (by decide), _, rfl, q.kk 4 (by decide), 2, rfl, by decide, (by rw [q.ll 4 (by decide)]; decide), _, (q.vv 4 (by decide)).trans (congrArg xi p.1), fun _ => ⟨q.cl, t_best_c (by decide) q p fun hb => ?_⟩, fun z => absurd (nI_le (by omega) (by omega)) z⟩
    cases eb : pBest (V 4) with
    | none =>
      refine ⟨fun z => absurd z (by decide), fun _ => ⟨q.cl, t_cheapestAgain_c (by decide) q p fun h' q' x' => ⟨fun z => ⟨fun y => tailF h' q' x' (Or.inl y), fun y => ⟨fun _ => tailF h' q' x' (Or.inr ?_), fun w => absurd rfl w⟩⟩, fun z => ⟨fun y => tailF h' q' x' (Or.inl y), fun y => ⟨fun w => absurd w (by decide), fun _ => ⟨q'.cl, tail h' _ q' x' y ?_⟩⟩⟩⟩⟩⟩
      · unfold pSame; rw [eb]; exact decide_eq_false (fun w => w z)
      · unfold pSame; rw [eb]; exact decide_eq_true z
    | some t =>
      obtain ⟨b1, b2⟩ := hb t eb
      have b3 := pSet_lt p b1
      refine ⟨fun _ => ⟨q.cl, t_costOf_c (by decide) q p b1 b2 ⟨q.cl, t_cheapestAgain_c (by decide) q p fun h' q' x' => ⟨fun z => ⟨fun y => tailF h' q' x' (Or.inl y), fun y => ⟨fun _ => tailF h' q' x' (Or.inr ?_), fun w => absurd rfl w⟩⟩, fun z => ⟨fun y => tailF h' q' x' (Or.inl y), fun y => ⟨fun w => absurd w (by decide), fun _ => ⟨q'.cl, tail h' _ q' x' y ?_⟩⟩⟩⟩⟩⟩, fun z => absurd (nI_le (Nat.zero_le t) (by omega)) z⟩
      · unfold pSame; rw [eb]; exact decide_eq_false z
      · unfold pSame; rw [eb]; exact decide_eq_true z
theorem t_counted_2 {K : Nat} {Q : xR → xH → Prop} {g : Int32} (q : isTw h m A V) (p : pW (V 4)) 
    (hQ : ∀ h', isTw h' m A (tU V 11 0 (pAgain (V 4))) → xMod (tS m A) h h' → Q (.inl (some (xi (xb (decide (g = pSumH (V 4) 4) && pSame (V 4) && decide (pSumS (V 4) 6 + V 4 4 = 3) && (decide (pMask (V 4) = 0) || decide (pDrinkS (V 4) = V 4 2))))))) h') :
    ∀ j i n, i + j = nS (V 4) → (List.range' i j).foldl (pDrinkN (V 4)) n = pDrinkS (V 4) → xWp G mX3_isCounted 7 K Q k 34 [some (xr (some m)), some (xi g), some (xi n), some (xi (nI i)), none, none] [] h := by
  have p4 := p.2.2.2
  intro j
  induction j with
  | succ j ih =>
    intro i n hi e
    rw [List.range'_succ, List.foldl_cons] at e
    refine vc_X3_isCounted_34 ⟨q.cl, _, q.rr 4 (by decide), _, rfl, q.kk 4 (by decide), 3, rfl, by decide, (by rw [q.ll 4 (by decide)]; decide), _, (q.vv 4 (by decide)).trans (congrArg xi p.2.2.1), fun z => absurd ((nI_leI (by omega) (by omega)).mp z) (by omega), fun _ => ⟨q.cl, t_isWell_c (by decide) q (by omega) ⟨fun z => ?_, fun z => ⟨q.cl, t_hamletsOf_c (by decide) q p ?_⟩⟩⟩⟩
    · rw [nI_1, Int32.add_zero]
      refine ih (i + 1) n (by omega) ?_
      have : pDrinkN (V 4) n i = n := by unfold pDrinkN; rw [xb0.mp z]; rfl
      rw [this] at e; exact e
    · rw [nI_1]
      refine ih (i + 1) _ (by omega) ?_
      have : pDrinkN (V 4) n i = n + nI (pMany (V 4) (nI i)) := by unfold pDrinkN; rw [xb1.mp z]; rfl
      rw [this] at e; exact e
  | zero =>
    intro i n hi e
    have e' : n = pDrinkS (V 4) := e
    subst e'
    exact vc_X3_isCounted_34 ⟨q.cl, _, q.rr 4 (by decide), _, rfl, q.kk 4 (by decide), 3, rfl, by decide, (by rw [q.ll 4 (by decide)]; decide), _, (q.vv 4 (by decide)).trans (congrArg xi p.2.2.1), fun _ => t_counted_3 q p hQ (nH (V 4)) 0 0 (by omega) rfl, fun z => absurd (nI_le (by omega) (by omega)) z⟩
theorem t_counted_1 {K : Nat} {Q : xR → xH → Prop} (q : isTw h m A V) (p : pW (V 4)) 
    (hQ : ∀ h', isTw h' m A (tU V 11 0 (pAgain (V 4))) → xMod (tS m A) h h' → Q (.inl (some (xi (xb (pCounted (V 4)))))) h') :
    ∀ j i n, i + j = nS (V 4) → (List.range' i j).foldl (fun n s => n + pS (V 4) s 7) n = pSumS (V 4) 7 → xWp G mX3_isCounted 7 K Q k 6 [some (xr (some m)), some (xi n), some (xi (0 : Int32)), some (xi (nI i)), none, none] [] h := by
  have p4 := p.2.2.2
  intro j
  induction j with
  | succ j ih =>
    intro i n hi e
    rw [List.range'_succ, List.foldl_cons] at e
    refine vc_X3_isCounted_6 ⟨q.cl, _, q.rr 4 (by decide), _, rfl, q.kk 4 (by decide), 3, rfl, by decide, (by rw [q.ll 4 (by decide)]; decide), _, (q.vv 4 (by decide)).trans (congrArg xi p.2.2.1), fun z => absurd ((nI_leI (by omega) (by omega)).mp z) (by omega), fun _ => ⟨q.cl, t_sI (by decide) q i 7 (by omega) ?_⟩⟩
    rw [nI_1]
    exact ih (i + 1) _ (by omega) e
  | zero =>
    intro i n hi e
    have e' : n = pSumS (V 4) 7 := e
    subst e'
    exact vc_X3_isCounted_6 ⟨q.cl, _, q.rr 4 (by decide), _, rfl, q.kk 4 (by decide), 3, rfl, by decide, (by rw [q.ll 4 (by decide)]; decide), _, (q.vv 4 (by decide)).trans (congrArg xi p.2.2.1), fun _ => t_counted_2 q p hQ (nS (V 4)) 0 0 (by omega) rfl, fun z => absurd (nI_le (by omega) (by omega)) z⟩
theorem t_isCounted_c {F : Int32 → xH → Nat → Prop} (hd : 7 < d) (q : isTw h m A V) (p : pW (V 4)) (hQ : ∀ h', isTw h' m A (tU V 11 0 (pAgain (V 4))) → xMod (tS m A) h h' → F (xb (pCounted (V 4))) h' k) : xCall G d k mX3_isCounted [xr (some m)] h (xkI F T) :=
  xCall_of (d' := 7) hd (Nat.zero_le k) (vc_X3_isCounted (t_counted_1 q p hQ (nS (V 4)) 0 0 (by omega) rfl))
theorem t_account_c {F : Int32 → xH → Nat → Prop} (hd : 4 < d) (q : isTw h m A V) (p : pW (V 4)) (hQ : F (pAccount V x) h k) : xCall G d k mX3_account [xr (some m), xi x] h (xkI F T) := by
  unfold pAccount at hQ
  refine xCall_of (d' := 4) hd (Nat.zero_le k) (vc_X3_account ?_)
  refine ⟨fun e => ?_, fun e => ?_, fun e => ?_, fun e => ?_, fun e => ?_, fun e => ?_, fun e => ?_, fun e => ?_, fun e => ?_, fun e => ?_, fun e => ?_, fun e => ?_, fun e => ?_, fun e => ?_, fun e => ?_, fun e => ?_, fun e => ?_⟩
  · subst e; exact ⟨q.cl, _, q.rr 4 (by decide), _, rfl, q.kk 4 (by decide), 0, rfl, by decide, (by rw [q.ll 4 (by decide)]; decide), _, q.vv 4 (by decide), hQ⟩
  · subst e; exact ⟨q.cl, _, q.rr 4 (by decide), _, rfl, q.kk 4 (by decide), 1, rfl, by decide, (by rw [q.ll 4 (by decide)]; decide), _, q.vv 4 (by decide), hQ⟩
  · subst e; exact ⟨q.cl, _, q.rr 4 (by decide), _, rfl, q.kk 4 (by decide), 2, rfl, by decide, (by rw [q.ll 4 (by decide)]; decide), _, q.vv 4 (by decide), hQ⟩
  · subst e; exact ⟨q.cl, _, q.rr 4 (by decide), _, rfl, q.kk 4 (by decide), 3, rfl, by decide, (by rw [q.ll 4 (by decide)]; decide), _, q.vv 4 (by decide), hQ⟩
  · subst e; exact ⟨q.cl, t_openOnes_c (by decide) q p fun hl => t_sizeOf_c (by decide) hl hQ⟩
  · subst e; exact ⟨q.cl, t_people_c (by decide) q p hQ⟩
  · subst e; exact ⟨q.cl, _, q.rr 4 (by decide), _, rfl, q.kk 4 (by decide), 4, rfl, by decide, (by rw [q.ll 4 (by decide)]; decide), _, q.vv 4 (by decide), hQ⟩
  · subst e; exact ⟨q.cl, _, q.rr 4 (by decide), _, rfl, q.kk 4 (by decide), 5, rfl, by decide, (by rw [q.ll 4 (by decide)]; decide), _, q.vv 4 (by decide), hQ⟩
  · subst e; exact ⟨q.cl, _, q.rr 4 (by decide), _, rfl, q.kk 4 (by decide), 6, rfl, by decide, (by rw [q.ll 4 (by decide)]; decide), _, q.vv 4 (by decide), hQ⟩
  · subst e; exact ⟨q.cl, _, q.rr 4 (by decide), _, rfl, q.kk 4 (by decide), 7, rfl, by decide, (by rw [q.ll 4 (by decide)]; decide), _, q.vv 4 (by decide), hQ⟩
  · subst e; exact ⟨q.cl, _, q.rr 4 (by decide), _, rfl, q.kk 4 (by decide), 8, rfl, by decide, (by rw [q.ll 4 (by decide)]; decide), _, q.vv 4 (by decide), hQ⟩
  · subst e; exact ⟨q.cl, _, q.rr 4 (by decide), _, rfl, q.kk 4 (by decide), 9, rfl, by decide, (by rw [q.ll 4 (by decide)]; decide), _, q.vv 4 (by decide), hQ⟩
  · subst e; exact ⟨q.cl, _, q.rr 4 (by decide), _, rfl, q.kk 4 (by decide), 10, rfl, by decide, (by rw [q.ll 4 (by decide)]; decide), _, q.vv 4 (by decide), hQ⟩
  · subst e; exact ⟨q.cl, _, q.rr 4 (by decide), _, rfl, q.kk 4 (by decide), 11, rfl, by decide, (by rw [q.ll 4 (by decide)]; decide), _, q.vv 4 (by decide), hQ⟩
  · subst e; exact ⟨q.cl, _, q.ff 15 rfl, hQ⟩
  · subst e; exact ⟨q.cl, _, q.ff 8 rfl, hQ⟩
  · rw [if_neg (by rintro rfl; exact absurd e (by decide)), if_neg (by rintro rfl; exact absurd e (by decide)), if_neg (by rintro rfl; exact absurd e (by decide)), if_neg (by rintro rfl; exact absurd e (by decide)), if_neg (by rintro rfl; exact absurd e (by decide)), if_neg (by rintro rfl; exact absurd e (by decide)), if_neg (by rintro rfl; exact absurd e (by decide)), if_neg (by rintro rfl; exact absurd e (by decide)), if_neg (by rintro rfl; exact absurd e (by decide)), if_neg (by rintro rfl; exact absurd e (by decide)), if_neg (by rintro rfl; exact absurd e (by decide)), if_neg (by rintro rfl; exact absurd e (by decide)), if_neg (by rintro rfl; exact absurd e (by decide)), if_neg (by rintro rfl; exact absurd e (by decide)), if_neg (by rintro rfl; exact absurd e (by decide)), if_neg (by rintro rfl; exact absurd e (by decide))] at hQ
    exact hQ
end XTN

/-! the twin: orders, drinkers, what a hamlet or site is -/
def pDrinkF (W : Nat → Int32) (s : Int32) (l : List Nat) (a : Nat) : List Nat := if oI (pWell W a) = s then l ++ [a] else l
/-- the hamlets that drink from a site -/
def pDrinks (W : Nat → Int32) (s : Int32) : List Nat := (List.range' 0 (nH W)).filter fun a => decide (oI (pWell W a) = s)
def pDrinkerL (W : Nat → Int32) (s x : Int32) : Nat → List Nat → Option Nat
  | _, [] => none
  | n, a :: as => if oI (pWell W a) = s then (if nI n = x then some a else pDrinkerL W s x (n + 1) as) else pDrinkerL W s x n as
def pDrinker (W : Nat → Int32) (s x : Int32) : Int32 := if pHas (nS W) s then oI (pDrinkerL W s x 0 (List.range' 0 (nH W))) else -1
def pHamletOf (W : Nat → Int32) (x y : Int32) : Int32 :=
  if pHas (nH W) x then
    let a := x.toNatClampNeg
    if y = 0 then pH W a 0 else if y = 1 then pH W a 1 else if y = 2 then pH W a 2
    else if y = 3 then bI (pWell W a) else if y = 4 then (match pWell W a with | none => -6 | some t => pFar W a t)
    else if y = 5 then pH W a 3 else if y = 6 then pH W a 4 else if y = 7 then pH W a 5 else -2
  else -1
def pSiteOf (W : Nat → Int32) (x y : Int32) : Int32 :=
  if pHas (nS W) x then
    let s := x.toNatClampNeg
    if y = 0 then pS W s 0 else if y = 1 then pS W s 1 else if y = 2 then pS W s 3 else if y = 3 then pS W s 4 else if y = 4 then pS W s 5 else if y = 5 then pS W s 6
    else if y = 6 then pGives W s else if y = 7 then pAsked W x else if y = 8 then nI (pMany W x) else if y = 9 then pS W s 7 else -2
  else -1
section XTO
variable {G : xG} {d k : Nat} {h h' : xH} {T : Nat → xH → Nat → Prop} {S : List Nat} {m : Nat} {A : Nat → Nat} {V : Nat → Nat → Int32} {a b c s i j mm : Nat} {x y : Int32}
theorem t_isThirstier_c {F : Int32 → xH → Nat → Prop} (hd : 2 < d) (q : isTw h m A V) (ha : a < 8) (hb : b < 8) (hQ : F (xb (pThirstier (V 4) a b)) h k) : xCall G d k mX3_isThirstier [xr (some m), xi (nI a), xi (nI b)] h (xkI F T) := by
  unfold pThirstier at hQ
  refine xCall_of (d' := 2) hd (Nat.zero_le k) (vc_X3_isThirstier ⟨q.cl, t_hI (by decide) q a 3 (by omega) ⟨q.cl, t_hI (by decide) q b 3 (by omega) ⟨fun z => ⟨q.cl, t_hI (by decide) q a 2 (by omega) ⟨q.cl, t_hI (by decide) q b 2 (by omega) ⟨fun y => ⟨fun w => ?_, fun w => ?_⟩, fun y => ⟨q.cl, t_hI (by decide) q a 2 (by omega) ⟨q.cl, t_hI (by decide) q b 2 (by omega) ⟨fun w => ?_, fun w => ?_⟩⟩⟩⟩⟩⟩, fun z => ⟨q.cl, t_hI (by decide) q a 3 (by omega) ⟨q.cl, t_hI (by decide) q b 3 (by omega) ⟨fun w => ?_, fun w => ?_⟩⟩⟩⟩⟩⟩)
  · rw [if_pos z, if_pos y, decide_eq_false (fun e => e ((nI_leI (by omega) (by omega)).mp w))] at hQ; exact hQ
  · rw [if_pos z, if_pos y, decide_eq_true (show ¬ b ≤ a from fun e => w (nI_le e (by omega)))] at hQ; exact hQ
  · rw [if_pos z, if_neg y, decide_eq_false (fun e => e w)] at hQ; exact hQ
  · rw [if_pos z, if_neg y, decide_eq_true w] at hQ; exact hQ
  · rw [if_neg z, decide_eq_false (fun e => e w)] at hQ; exact hQ
  · rw [if_neg z, decide_eq_true w] at hQ; exact hQ
theorem t_thirsty_2 {K : Nat} {Q : xR → xH → Prop} (q : isTw h m A V) (p : pW (V 4)) (hb : b < nH (V 4)) (r : Nat)
    (h1 : nI r = x → Q (.inl (some (xi (nI b)))) h) (h2 : nI r ≠ x → xWp G mX3_thirsty 3 K Q k 2 [some (xr (some m)), some (xi x), some (xi (nI (b + 1))), none, none] [] h) :
    ∀ j i n, i + j = nH (V 4) → (List.range' i j).foldl (pRankF (V 4) b) n = r → xWp G mX3_thirsty 3 K Q k 17 [some (xr (some m)), some (xi x), some (xi (nI b)), some (xi (nI n)), some (xi (nI i))] [] h := by
  have p2 := p.2.1
  intro j
  induction j with
  | zero =>
    intro i n hi e
    have e' : n = r := e
    subst e'
    exact vc_X3_thirsty_17 ⟨q.cl, _, q.rr 4 (by decide), _, rfl, q.kk 4 (by decide), 2, rfl, by decide, (by rw [q.ll 4 (by decide)]; decide), _, (q.vv 4 (by decide)).trans (congrArg xi p.1), fun _ => ⟨fun z => by rw [nI_1]; exact h2 z, fun z => h1 z⟩, fun z => absurd (nI_le (by omega) (by omega)) z⟩
  | succ j ih =>
    intro i n hi e
    rw [List.range'_succ, List.foldl_cons] at e
    refine vc_X3_thirsty_17 ⟨q.cl, _, q.rr 4 (by decide), _, rfl, q.kk 4 (by decide), 2, rfl, by decide, (by rw [q.ll 4 (by decide)]; decide), _, (q.vv 4 (by decide)).trans (congrArg xi p.1), fun z => absurd ((nI_leI (by omega) (by omega)).mp z) (by omega), fun _ => ⟨q.cl, t_isThirstier_c (by decide) q (by omega) (by omega) ⟨fun z => ?_, fun z => ?_⟩⟩⟩
    · rw [nI_1, Int32.add_zero]
      refine ih (i + 1) n (by omega) ?_
      have : pRankF (V 4) b n i = n := by unfold pRankF; rw [xb0.mp z]; rfl
      rw [this] at e; exact e
    · rw [nI_1, nI_1]
      refine ih (i + 1) (n + 1) (by omega) ?_
      have : pRankF (V 4) b n i = n + 1 := by unfold pRankF; rw [xb1.mp z]; rfl
      rw [this] at e; exact e
theorem t_thirsty_1 {K : Nat} {Q : xR → xH → Prop} (q : isTw h m A V) (p : pW (V 4)) : ∀ j i, i + j = nH (V 4) → Q (.inl (some (xi (oI ((List.range' i j).find? fun b => decide (nI (pRank (V 4) b) = x)))))) h → xWp G mX3_thirsty 3 K Q k 2 [some (xr (some m)), some (xi x), some (xi (nI i)), none, none] [] h := by
  have p2 := p.2.1
  intro j
  induction j with
  | zero => exact fun i hi hQ => vc_X3_thirsty_2 ⟨q.cl, _, q.rr 4 (by decide), _, rfl, q.kk 4 (by decide), 2, rfl, by decide, (by rw [q.ll 4 (by decide)]; decide), _, (q.vv 4 (by decide)).trans (congrArg xi p.1), fun _ => hQ, fun z => absurd (nI_le (by omega) (by omega)) z⟩
  | succ j ih =>
    intro i hi hQ
    rw [List.range'_succ, List.find?_cons] at hQ
    refine vc_X3_thirsty_2 ⟨q.cl, _, q.rr 4 (by decide), _, rfl, q.kk 4 (by decide), 2, rfl, by decide, (by rw [q.ll 4 (by decide)]; decide), _, (q.vv 4 (by decide)).trans (congrArg xi p.1), fun z => absurd ((nI_leI (by omega) (by omega)).mp z) (by omega), fun _ => t_thirsty_2 q p (by omega) (pRank (V 4) i) (fun z => ?_) (fun z => ?_) (nH (V 4)) 0 0 (by omega) rfl⟩
    · rw [decide_eq_true z] at hQ; exact hQ
    · rw [decide_eq_false z] at hQ; exact ih (i + 1) (by omega) hQ
theorem t_thirsty_c {F : Int32 → xH → Nat → Prop} (hd : 3 < d) (q : isTw h m A V) (p : pW (V 4)) (hQ : F (oI (pThirsty (V 4) x)) h k) : xCall G d k mX3_thirsty [xr (some m), xi x] h (xkI F T) :=
  xCall_of (d' := 3) hd (Nat.zero_le k) (vc_X3_thirsty (t_thirsty_1 q p (nH (V 4)) 0 (by omega) hQ))
theorem t_spare_c {F : Int32 → xH → Nat → Prop} (hd : 6 < d) (q : isTw h m A V) (p : pW (V 4)) (hs : s < 6) (hQ : F (pSpare (V 4) s) h k) : xCall G d k mX3_spare [xr (some m), xi (nI s)] h (xkI F T) :=
  xCall_of (d' := 6) hd (Nat.zero_le k) (vc_X3_spare ⟨q.cl, t_gives_c (by decide) q hs ⟨q.cl, t_asked_c (by decide) q p hQ⟩⟩)
theorem t_strained_2 {K : Nat} {Q : xR → xH → Prop} (q : isTw h m A V) (p : pW (V 4)) (hb : b < nS (V 4)) (r : Nat)
    (h1 : nI r = x → Q (.inl (some (xi (nI b)))) h) (h2 : nI r ≠ x → xWp G mX3_strained 7 K Q k 2 [some (xr (some m)), some (xi x), some (xi (nI (b + 1))), none, none] [] h) :
    ∀ j i n, i + j = nS (V 4) → (List.range' i j).foldl (pSrankF (V 4) b) n = r → xWp G mX3_strained 7 K Q k 28 [some (xr (some m)), some (xi x), some (xi (nI b)), some (xi (nI n)), some (xi (nI i))] [] h := by
  have p4 := p.2.2.2
  intro j
  induction j with
  | zero =>
    intro i n hi e
    have e' : n = r := e
    subst e'
    exact vc_X3_strained_28 ⟨q.cl, _, q.rr 4 (by decide), _, rfl, q.kk 4 (by decide), 3, rfl, by decide, (by rw [q.ll 4 (by decide)]; decide), _, (q.vv 4 (by decide)).trans (congrArg xi p.2.2.1), fun _ => ⟨fun z => by rw [nI_1]; exact h2 z, fun z => h1 z⟩, fun z => absurd (nI_le (by omega) (by omega)) z⟩
  | succ j ih =>
    intro i n hi e
    rw [List.range'_succ, List.foldl_cons] at e
    have no : pStrainier (V 4) i b = false → xWp G mX3_strained 7 K Q k 28 [some (xr (some m)), some (xi x), some (xi (nI b)), some (xi (nI n + 0)), some (xi (nI i + 1))] [] h := by
      intro z
      rw [nI_1, Int32.add_zero]
      refine ih (i + 1) n (by omega) ?_
      have : pSrankF (V 4) b n i = n := by unfold pSrankF; rw [z]; rfl
      rw [this] at e; exact e
    have yes : pStrainier (V 4) i b = true → xWp G mX3_strained 7 K Q k 28 [some (xr (some m)), some (xi x), some (xi (nI b)), some (xi (nI n + 1)), some (xi (nI i + 1))] [] h := by
      intro z
      rw [nI_1, nI_1]
      refine ih (i + 1) (n + 1) (by omega) ?_
      have : pSrankF (V 4) b n i = n + 1 := by unfold pSrankF; rw [z]; rfl
      rw [this] at e; exact e
    refine vc_X3_strained_28 ⟨q.cl, _, q.rr 4 (by decide), _, rfl, q.kk 4 (by decide), 3, rfl, by decide, (by rw [q.ll 4 (by decide)]; decide), _, (q.vv 4 (by decide)).trans (congrArg xi p.2.2.1), fun z => absurd ((nI_leI (by omega) (by omega)).mp z) (by omega), fun _ => ⟨q.cl, t_isWell_c (by decide) q (by omega) ⟨fun z => ?_, fun z => ⟨q.cl, t_spare_c (by decide) q p (by omega) ⟨q.cl, t_spare_c (by decide) q p (by omega) ⟨fun y => ?_, fun y => ⟨q.cl, t_spare_c (by decide) q p (by omega) ⟨q.cl, t_spare_c (by decide) q p (by omega) ⟨fun w => ?_, fun w => ⟨fun u => ?_, fun u => ?_⟩⟩⟩⟩⟩⟩⟩⟩⟩⟩
    · exact no (by unfold pStrainier; rw [xb0.mp z]; rfl)
    · exact yes (by unfold pStrainier; rw [xb1.mp z, if_pos y]; rfl)
    · exact no (by unfold pStrainier; rw [xb1.mp z, if_neg y, if_neg w]; rfl)
    · exact no (by unfold pStrainier; rw [xb1.mp z, if_neg y, if_pos w, decide_eq_false (fun e => e ((nI_leI (by omega) (by omega)).mp u))]; rfl)
    · exact yes (by unfold pStrainier; rw [xb1.mp z, if_neg y, if_pos w, decide_eq_true (show ¬ b ≤ i from fun e => u (nI_le e (by omega)))]; rfl)
theorem t_strained_1 {K : Nat} {Q : xR → xH → Prop} (q : isTw h m A V) (p : pW (V 4)) : ∀ j i, i + j = nS (V 4) → Q (.inl (some (xi (oI ((List.range' i j).find? fun b => pOpen (V 4) b && decide (nI (pSrank (V 4) b) = x)))))) h → xWp G mX3_strained 7 K Q k 2 [some (xr (some m)), some (xi x), some (xi (nI i)), none, none] [] h := by
  have p4 := p.2.2.2
  intro j
  induction j with
  | zero => exact fun i hi hQ => vc_X3_strained_2 ⟨q.cl, _, q.rr 4 (by decide), _, rfl, q.kk 4 (by decide), 3, rfl, by decide, (by rw [q.ll 4 (by decide)]; decide), _, (q.vv 4 (by decide)).trans (congrArg xi p.2.2.1), fun _ => hQ, fun z => absurd (nI_le (by omega) (by omega)) z⟩
  | succ j ih =>
    intro i hi hQ
    rw [List.range'_succ, List.find?_cons] at hQ
    refine vc_X3_strained_2 ⟨q.cl, _, q.rr 4 (by decide), _, rfl, q.kk 4 (by decide), 3, rfl, by decide, (by rw [q.ll 4 (by decide)]; decide), _, (q.vv 4 (by decide)).trans (congrArg xi p.2.2.1), fun z => absurd ((nI_leI (by omega) (by omega)).mp z) (by omega), fun _ => ⟨q.cl, t_isWell_c (by decide) q (by omega) ⟨fun z => t_strained_2 q p (by omega) (pSrank (V 4) i) (fun y => ?_) (fun y => ?_) (nS (V 4)) 0 0 (by omega) rfl, fun z => ?_⟩⟩⟩
    · rw [xb1.mp z, decide_eq_true y] at hQ; exact hQ
    · rw [xb1.mp z, decide_eq_false y] at hQ; exact ih (i + 1) (by omega) hQ
    · rw [xb0.mp z] at hQ; rw [nI_1]; exact ih (i + 1) (by omega) hQ
theorem t_strained_c {F : Int32 → xH → Nat → Prop} (hd : 7 < d) (q : isTw h m A V) (p : pW (V 4)) (hQ : F (oI (pStrained (V 4) x)) h k) : xCall G d k mX3_strained [xr (some m), xi x] h (xkI F T) :=
  xCall_of (d' := 7) hd (Nat.zero_le k) (vc_X3_strained (t_strained_1 q p (nS (V 4)) 0 (by omega) hQ))
theorem t_drinker_l {K : Nat} {Q : xR → xH → Prop} (q : isTw h m A V) (p : pW (V 4)) : ∀ j i n, i + j = nH (V 4) → Q (.inl (some (xi (oI (pDrinkerL (V 4) x y n (List.range' i j)))))) h → xWp G mX3_drinker 5 K Q k 15 [some (xr (some m)), some (xi x), some (xi y), some (xi (nI n)), some (xi (nI i))] [] h := by
  have p2 := p.2.1
  intro j
  induction j with
  | zero => exact fun i n hi hQ => vc_X3_drinker_15 ⟨q.cl, _, q.rr 4 (by decide), _, rfl, q.kk 4 (by decide), 2, rfl, by decide, (by rw [q.ll 4 (by decide)]; decide), _, (q.vv 4 (by decide)).trans (congrArg xi p.1), fun _ => hQ, fun z => absurd (nI_le (by omega) (by omega)) z⟩
  | succ j ih =>
    intro i n hi hQ
    rw [List.range'_succ] at hQ
    unfold pDrinkerL at hQ
    refine vc_X3_drinker_15 ⟨q.cl, _, q.rr 4 (by decide), _, rfl, q.kk 4 (by decide), 2, rfl, by decide, (by rw [q.ll 4 (by decide)]; decide), _, (q.vv 4 (by decide)).trans (congrArg xi p.1), fun z => absurd ((nI_leI (by omega) (by omega)).mp z) (by omega), fun _ => ⟨q.cl, t_well_c (by decide) q p (by omega) fun hl => ⟨fun z => ⟨fun y => ?_, fun y => ?_⟩, fun z => ?_⟩⟩⟩
    · rw [if_pos z, if_neg y] at hQ; rw [nI_1, nI_1]; exact ih (i + 1) (n + 1) (by omega) hQ
    · rw [if_pos z, if_pos y] at hQ; exact hQ
    · rw [if_neg z] at hQ; rw [nI_1]; exact ih (i + 1) n (by omega) hQ
theorem t_drinker_c {F : Int32 → xH → Nat → Prop} (hd : 5 < d) (q : isTw h m A V) (p : pW (V 4)) (hQ : F (pDrinker (V 4) x y) h k) : xCall G d k mX3_drinker [xr (some m), xi x, xi y] h (xkI F T) := by
  unfold pDrinker at hQ
  refine xCall_of (d' := 5) hd (Nat.zero_le k) (vc_X3_drinker ⟨q.cl, t_isSite_c (by decide) q p ⟨fun z => ?_, fun z => ?_⟩⟩)
  · rw [xb1.mp z, if_pos rfl] at hQ
    exact t_drinker_l q p (nH (V 4)) 0 0 (by omega) hQ
  · rw [xb0.mp z, if_neg Bool.false_ne_true] at hQ; exact hQ
theorem oI_neg {o : Option Nat} (h : ∀ t, o = some t → t < 6) : (¬ 0 ≤ oI o ↔ o = none) ∧ (o = none ∨ ∃ t, o = some t ∧ t < 6) := by
  rcases o with _ | t
  · exact ⟨⟨fun _ => rfl, fun _ => by decide⟩, Or.inl rfl⟩
  · have := h t rfl
    exact ⟨⟨fun z => absurd (nI_le (Nat.zero_le t) (by omega)) z, fun z => by cases z⟩, Or.inr ⟨t, rfl, this⟩⟩
theorem t_hamletOf_c {F : Int32 → xH → Nat → Prop} (hd : 5 < d) (q : isTw h m A V) (p : pW (V 4)) (hQ : F (pHamletOf (V 4) x y) h k) : xCall G d k mX3_hamletOf [xr (some m), xi x, xi y] h (xkI F T) := by
  have p2 := p.2.1
  unfold pHamletOf at hQ
  refine xCall_of (d' := 5) hd (Nat.zero_le k) (vc_X3_hamletOf ⟨q.cl, t_isHamlet_c (by decide) q p ⟨fun z => ?_, fun z => ?_⟩⟩)
  · have hb := xb1.mp z
    obtain ⟨a, ha, rfl⟩ := (pHas_iff (by omega)).mp hb
    rw [hb, if_pos rfl, nI_clamp (by omega)] at hQ
    simp only at hQ
    refine ⟨fun e => ?_, fun e => ?_, fun e => ?_, fun e => ?_, fun e => ?_, fun e => ?_, fun e => ?_, fun e => ?_, fun e => ?_⟩
    · subst e; exact ⟨q.cl, t_hI (by decide) q a 0 (by omega) hQ⟩
    · subst e; exact ⟨q.cl, t_hI (by decide) q a 1 (by omega) hQ⟩
    · subst e; exact ⟨q.cl, t_hI (by decide) q a 2 (by omega) hQ⟩
    · subst e
      refine ⟨q.cl, t_well_c (by decide) q p (by omega) fun hl => ⟨q.cl, xCall_of (d' := 0) (by decide) (Nat.zero_le _) (vc_X3_orNothing ?_)⟩⟩
      have hQ : F (bI (pWell (V 4) a)) h k := hQ
      obtain ⟨h1, h2 | ⟨t, h2, h3⟩⟩ := oI_neg hl
      · rw [h2] at hQ ⊢
        exact ⟨fun e => absurd e (by decide), fun _ => hQ⟩
      · rw [h2] at hQ ⊢
        exact ⟨fun e => hQ, fun e => absurd (nI_le (Nat.zero_le t) (by omega)) e⟩
    · subst e
      refine ⟨q.cl, t_well_c (by decide) q p (by omega) fun hl => ?_⟩
      have hQ : F (match pWell (V 4) a with | none => -6 | some t => pFar (V 4) a t) h k := hQ
      obtain ⟨h1, h2 | ⟨t, h2, h3⟩⟩ := oI_neg hl
      · rw [h2] at hQ ⊢
        exact ⟨fun e => absurd e (by decide), fun _ => hQ⟩
      · rw [h2] at hQ
        refine ⟨fun _ => ⟨q.cl, t_well_c (by decide) q p (by omega) fun _ => ⟨q.cl, ?_⟩⟩, fun e => absurd (h2 ▸ nI_le (Nat.zero_le t) (by omega)) e⟩
        rw [h2]
        exact t_far_c (by decide) q (by omega) h3 hQ
    · subst e; exact ⟨q.cl, t_hI (by decide) q a 3 (by omega) hQ⟩
    · subst e; exact ⟨q.cl, t_hI (by decide) q a 4 (by omega) hQ⟩
    · subst e; exact ⟨q.cl, t_hI (by decide) q a 5 (by omega) hQ⟩
    · rw [if_neg (by rintro rfl; exact absurd e (by decide)), if_neg (by rintro rfl; exact absurd e (by decide)), if_neg (by rintro rfl; exact absurd e (by decide)), if_neg (by rintro rfl; exact absurd e (by decide)), if_neg (by rintro rfl; exact absurd e (by decide)), if_neg (by rintro rfl; exact absurd e (by decide)), if_neg (by rintro rfl; exact absurd e (by decide)), if_neg (by rintro rfl; exact absurd e (by decide))] at hQ
      exact hQ
  · rw [xb0.mp z, if_neg Bool.false_ne_true] at hQ; exact hQ
theorem t_siteOf_c {F : Int32 → xH → Nat → Prop} (hd : 6 < d) (q : isTw h m A V) (p : pW (V 4)) (hQ : F (pSiteOf (V 4) x y) h k) : xCall G d k mX3_siteOf [xr (some m), xi x, xi y] h (xkI F T) := by
  have p4 := p.2.2.2
  unfold pSiteOf at hQ
  refine xCall_of (d' := 6) hd (Nat.zero_le k) (vc_X3_siteOf ⟨q.cl, t_isSite_c (by decide) q p ⟨fun z => ?_, fun z => ?_⟩⟩)
  · have hb := xb1.mp z
    obtain ⟨a, ha, rfl⟩ := (pHas_iff (by omega)).mp hb
    rw [hb, if_pos rfl, nI_clamp (by omega)] at hQ
    simp only at hQ
    refine ⟨fun e => ?_, fun e => ?_, fun e => ?_, fun e => ?_, fun e => ?_, fun e => ?_, fun e => ?_, fun e => ?_, fun e => ?_, fun e => ?_, fun e => ?_⟩
    · subst e; exact ⟨q.cl, t_sI (by decide) q a 0 (by omega) hQ⟩
    · subst e; exact ⟨q.cl, t_sI (by decide) q a 1 (by omega) hQ⟩
    · subst e; exact ⟨q.cl, t_sI (by decide) q a 3 (by omega) hQ⟩
    · subst e; exact ⟨q.cl, t_sI (by decide) q a 4 (by omega) hQ⟩
    · subst e; exact ⟨q.cl, t_sI (by decide) q a 5 (by omega) hQ⟩
    · subst e; exact ⟨q.cl, t_sI (by decide) q a 6 (by omega) hQ⟩
    · subst e; exact ⟨q.cl, t_gives_c (by decide) q (by omega) hQ⟩
    · subst e; exact ⟨q.cl, t_asked_c (by decide) q p hQ⟩
    · subst e; exact ⟨q.cl, t_hamletsOf_c (by decide) q p hQ⟩
    · subst e; exact ⟨q.cl, t_sI (by decide) q a 7 (by omega) hQ⟩
    · rw [if_neg (by rintro rfl; exact absurd e (by decide)), if_neg (by rintro rfl; exact absurd e (by decide)), if_neg (by rintro rfl; exact absurd e (by decide)), if_neg (by rintro rfl; exact absurd e (by decide)), if_neg (by rintro rfl; exact absurd e (by decide)), if_neg (by rintro rfl; exact absurd e (by decide)), if_neg (by rintro rfl; exact absurd e (by decide)), if_neg (by rintro rfl; exact absurd e (by decide)), if_neg (by rintro rfl; exact absurd e (by decide)), if_neg (by rintro rfl; exact absurd e (by decide))] at hQ
      exact hQ
  · rw [xb0.mp z, if_neg Bool.false_ne_true] at hQ; exact hQ
end XTO

/-! the province: days -/
def cSink (W : Nat → Int32) (s : Nat) (g : Int32) : Nat → Int32 :=
  let W1 := uW W (61 + 8 * s + 7) (W (61 + 8 * s + 7) + g)
  uW W1 (61 + 8 * s + 3) (if g < 20 then (if pS W1 s 2 < pS W1 s 3 - 1 then pS W1 s 3 - 1 else pS W1 s 2) else (if pS W1 s 3 + 1 < 40 then pS W1 s 3 + 1 else 40))
def cGA (st : (Nat → Int32) × (Nat → Int32)) (s : Nat) : (Nat → Int32) × (Nat → Int32) := if pOpen st.1 s then ((cGives st.1 s).1, uW st.2 s (cGives st.1 s).2.2) else (st.1, uW st.2 s 0)
def cDryF (f : Nat → Int32) (st : (Nat → Int32) × Int32 × Int32) (i : Nat) : (Nat → Int32) × Int32 × Int32 :=
  let t := pH st.1 i 2 - (pH st.1 i 4 - f i)
  (uW st.1 (13 + 6 * i + 3) (pH st.1 i 3 + t), st.2.1 + pH st.1 i 2, st.2.2 + t)
def cDry (f : Nat → Int32) (W : Nat → Int32) (nd : Int32) : (Nat → Int32) × Int32 × Int32 := (List.range' 0 (nH W)).foldl (cDryF f) (W, nd, 0)
def cGAs (W : Nat → Int32) : (Nat → Int32) × (Nat → Int32) := (List.range' 0 (nS W)).foldl cGA (W, fun _ => 0)
def cSinks (W g : Nat → Int32) : Nat → Int32 := (List.range' 0 (nS W)).foldl (fun W s => cSink W s (g s)) W
def cGoes (W : Nat → Int32) (nd : Int32) : (Nat → Int32) × Int32 × Int32 :=
  let r := cDry (fun i => pH W i 4) (cSinks (cGAs W).1 (cGAs W).2) nd
  (uW r.1 0 (r.1 0 + 1), r.2.1, r.2.2)
theorem cGoes_1 {W : Nat → Int32} {nd : Int32} : (cGoes W nd).1 = uW (cDry (fun i => pH W i 4) (cSinks (cGAs W).1 (cGAs W).2) nd).1 0 ((cDry (fun i => pH W i 4) (cSinks (cGAs W).1 (cGAs W).2) nd).1 0 + 1) := rfl
theorem cGoes_2 {W : Nat → Int32} {nd : Int32} : (cGoes W nd).2.1 = (cDry (fun i => pH W i 4) (cSinks (cGAs W).1 (cGAs W).2) nd).2.1 := rfl
theorem cGoes_3 {W : Nat → Int32} {nd : Int32} : (cGoes W nd).2.2 = (cDry (fun i => pH W i 4) (cSinks (cGAs W).1 (cGAs W).2) nd).2.2 := rfl
def cDays : Nat → (Nat → Int32) × Int32 × Int32 → (Nat → Int32) × Int32 × Int32
  | 0, st => st
  | n + 1, st => cDays n ((cGoes st.1 st.2.1).1, (cGoes st.1 st.2.1).2.1, st.2.2 + (cGoes st.1 st.2.1).2.2)
def isIA (h : xH) (a n : Nat) (f : Nat → Int32) : Prop := xcls h a = 1003 ∧ xlen h a = n ∧ ∀ i, i < n → xval h a i = xi (f i)
/-- a row with the same numbers of hamlets and sites, places, openings, pumps -/
def eSk (W W' : Nat → Int32) : Prop := W' 2 = W 2 ∧ W' 3 = W 3 ∧ (∀ i j, i < 8 → j < 2 → pH W' i j = pH W i j) ∧ (∀ s j, s < 6 → (j < 2 ∨ j = 5 ∨ j = 6) → pS W' s j = pS W s j)
theorem eSk.rf {W : Nat → Int32} : eSk W W := ⟨rfl, rfl, fun _ _ _ _ => rfl, fun _ _ _ _ => rfl⟩
theorem eSk.tr {W W' W'' : Nat → Int32} (a : eSk W W') (b : eSk W' W'') : eSk W W'' := ⟨b.1.trans a.1, b.2.1.trans a.2.1, fun i j h1 h2 => (b.2.2.1 i j h1 h2).trans (a.2.2.1 i j h1 h2), fun s j h1 h2 => (b.2.2.2 s j h1 h2).trans (a.2.2.2 s j h1 h2)⟩
theorem eMo.sk {W W' : Nat → Int32} (a : eMo W W') : eSk W W' := ⟨a.1 2 (by decide) (by decide) (by decide) (by decide) (by decide), a.1 3 (by decide) (by decide) (by decide) (by decide) (by decide), fun i j h1 h2 => a.2.1 i j h1 (by omega) (by omega) (by omega), fun s j h1 h2 => a.2.2 s j h1 (by omega)⟩
theorem eSk.h {W W' : Nat → Int32} (a : eSk W W') : nH W' = nH W := by unfold nH; rw [a.1]
theorem eSk.s {W W' : Nat → Int32} (a : eSk W W') : nS W' = nS W := by unfold nS; rw [a.2.1]
theorem eSk.p {W W' : Nat → Int32} (a : eSk W W') (p : pW W) : pW W' := by unfold pW; rw [a.h, a.s, a.1, a.2.1]; exact p
theorem eSk.g {W W' : Nat → Int32} (a : eSk W W') (p : pW W) (X : wG W) : wG W' := by
  have p2 := p.2.1
  have p4 := p.2.2.2
  refine ⟨fun i hi j hj => ?_, fun s hs => ⟨fun j hj => ?_, ?_, ?_⟩⟩
  · rw [a.h] at hi
    rw [a.2.2.1 i j (by omega) hj]
    exact X.1 i hi j hj
  · rw [a.s] at hs
    rw [a.2.2.2 s j (by omega) (Or.inl hj)]
    exact (X.2 s hs).1 j hj
  · rw [a.s] at hs
    rw [a.2.2.2 s 5 (by omega) (Or.inr (Or.inl rfl))]
    exact (X.2 s hs).2.1
  · rw [a.s] at hs
    rw [a.2.2.2 s 6 (by omega) (Or.inr (Or.inr rfl))]
    exact (X.2 s hs).2.2
theorem cGA_e {st : (Nat → Int32) × (Nat → Int32)} {s : Nat} (p : pW st.1) : eMo st.1 (cGA st s).1 := by
  have p2 := p.2.1
  unfold cGA
  split
  · exact cGiveL_e _ (st.1, pGives st.1 s, 0) (fun i hi => by have := pDrinks_lt i hi; omega)
  · exact eMo.rf
theorem cSink_e {W : Nat → Int32} {s : Nat} {g : Int32} (hs : s < 6) : eSk W (cSink W s g) := by
  have u : ∀ {W1 : Nat → Int32} {j : Nat} {v : Int32}, eSk W W1 → j = 3 ∨ j = 7 → eSk W (uW W1 (61 + 8 * s + j) v) := fun a hj => a.tr ⟨uW_ne (by omega), uW_ne (by omega), fun i j' h1 h2 => pH_uS h1 (by omega), fun s' j' h1 h2 => by rw [pS_uS (by omega) (by omega), if_neg (by omega)]⟩
  exact u (u eSk.rf (Or.inr rfl)) (Or.inl rfl)
theorem cDryF_e {f : Nat → Int32} {st : (Nat → Int32) × Int32 × Int32} {i : Nat} (hi : i < 8) : eSk st.1 (cDryF f st i).1 := by
  have e : (cDryF f st i).1 = uW st.1 (13 + 6 * i + 3) (pH st.1 i 3 + (pH st.1 i 2 - (pH st.1 i 4 - f i))) := rfl
  rw [e]
  exact ⟨uW_ne (by omega), uW_ne (by omega), fun i' j' h1 h2 => by rw [pH_uH (by omega) (by omega), if_neg (by omega)], fun s' j' h1 h2 => pS_uH hi (by omega)⟩
section XPG
variable {G : xG} {d k : Nat} {h h' h0 : xH} {T : Nat → xH → Nat → Prop} {S : List Nat} {x p N i j s c a b e r ka mm w m ll n : Nat} {es hs ss : List Nat} {W W' f g : Nat → Int32} {nd y z v x' y' t : Int32}
theorem isIA.md (q : isIA h a n f) (m : xMod S h h') (h1 : a ∉ S) : isIA h' a n f := ⟨m.cl' q.1 (by decide), (m.ln (by rw [q.1]; decide)).trans q.2.1, fun i hi => m.vl' q.1 (by decide) h1 (q.2.2 i hi)⟩
theorem isIA.put (q : isIA h a n f) (i : Nat) (v : Int32) : isIA (xput h a i (xi v)) a n (uW f i v) := ⟨q.1, q.2.1, fun j hj => by
  by_cases e : j = i
  · subst e; rw [uW_eq]; simp (decide := true) only [true_and, and_true, and_self, exists_eq_left, exists_eq_left', forall_eq, forall_eq', Sum.inl.injEq, Sum.inr.injEq, Option.some.injEq, xcls_put, xlen_put, xval_put, xsz_put, xlo_put, xcls_new, xlen_new, xval_new, xsz_new, xlo_new, ↓reduceIte, reduceCtorEq, and_false, false_and, not_true_eq_false, not_false_eq_true, implies_true, forall_const, true_implies, false_implies, ne_eq]
  · rw [uW_ne e]; simp (decide := true) only [true_and, and_true, and_self, exists_eq_left, exists_eq_left', forall_eq, forall_eq', Sum.inl.injEq, Sum.inr.injEq, Option.some.injEq, xcls_put, xlen_put, xval_put, xsz_put, xlo_put, xcls_new, xlen_new, xval_new, xsz_new, xlo_new, ↓reduceIte, reduceCtorEq, and_false, false_and, not_true_eq_false, not_false_eq_true, implies_true, forall_const, true_implies, false_implies, ne_eq, e]; exact q.2.2 j hj⟩
theorem isIA.cg (q : isIA h a n f) (e : ∀ i, i < n → g i = f i) : isIA h a n g := ⟨q.1, q.2.1, fun i hi => by rw [e i hi]; exact q.2.2 i hi⟩
/-- the province's own cells -/
theorem isPr.cls (q : isPr G h N p hs ss W nd) : ∀ x, x ∈ p :: (hs ++ ss) → xcls h x = 2 ∨ xcls h x = 13 ∨ xcls h x = 14 := by
  intro x hx
  rcases List.mem_cons.mp hx with e | e
  · rw [e]; exact Or.inl q.cl
  · rcases List.mem_append.mp e with e | e
    · obtain ⟨i, hi⟩ := List.mem_iff_getElem?.mp e
      exact Or.inr (Or.inl (q.hm hi).1)
    · obtain ⟨i, hi⟩ := List.mem_iff_getElem?.mp e
      exact Or.inr (Or.inr (q.st hi).1)
theorem goes_170 {Kc : Nat} {Q : xR → xH → Prop} {it wa : Nat} (hit : xsz h0 ≤ it) : ∀ j i (st : (Nat → Int32) × Int32 × Int32) h kk, i + j = hs.length → isPr G h N p hs ss st.1 st.2.1 → isRI G h it hs i → isIA h wa hs.length f → xMod (p :: (hs ++ ss)) h0 h →
    (∀ h', xMod (p :: (hs ++ ss)) h0 h' → isPr G h' N p hs ss (uW ((List.range' i j).foldl (cDryF f) st).1 0 (((List.range' i j).foldl (cDryF f) st).1 0 + 1)) ((List.range' i j).foldl (cDryF f) st).2.1 → Q (.inl (some (xi ((List.range' i j).foldl (cDryF f) st).2.2))) h') →
    xWp G mX1_goes_2 12 Kc Q kk 170 [some (xr (some p)), some (xr (some wa)), none, some (xi st.2.2), some (xr (some it)), none, none] [] h := by
  intro j
  induction j with
  | zero =>
    intro i st h kk hi q qi A m hQ
    refine vc_X1_goes_2_170 ⟨it, rfl, ri_has (by decide) qi ⟨fun _ => pr_f q 2 (by decide) (by decide) (by decide) ⟨q.cl, fun h94 e94 => ?_⟩, fun z => absurd (xb1.mp z) (by rw [decide_eq_true_iff]; omega)⟩⟩
    have q94 := q.pP (j := 2) (by decide) (by decide) (by decide) (st.1 (pvF 2) + 1)
    rw [← e94] at q94
    exact hQ h94 (e94 ▸ m.put (Or.inl List.mem_cons_self)) q94
  | succ j ih =>
    intro i st h kk hi q qi A m hQ
    have hl := q.lh
    obtain ⟨e, he⟩ : ∃ e, hs[i]? = some e := ⟨hs[i]'(by omega), List.getElem?_eq_getElem _⟩
    rw [List.range'_succ, List.foldl_cons] at hQ
    refine vc_X1_goes_2_170 ⟨it, rfl, ri_has (by decide) qi ⟨fun z => absurd (xb0.mp z) (by rw [decide_eq_false_iff_not]; omega), fun _ => ri_next (by decide) qi he fun h1 m1 q1 => ?_⟩⟩
    have cit : ∀ x, x ∈ [it] → xcls h x = 8 := fun x hx => by rw [List.mem_singleton.mp hx]; exact qi.cl
    have p1 := q.md m1 (fun x hx => by rw [cit x hx]; exact ⟨by decide, by decide, by decide, by decide, by decide, by decide, by decide⟩)
    have A1 := A.md m1 (fun z => by have := cit wa z; rw [A.1] at this; cases this)
    have x1 := m.t1 m1 hit
    have hm := p1.hm he
    refine ⟨fun b' e' => by cases e'; exact hm.cs.2.1, e, rfl, hm.1, _, hm.2.2 2 (by decide), hm.1, _, hm.2.2 4 (by decide), hm.1, _, hm.2.1, wa, rfl, A1.1, i, rfl, by omega, by rw [A1.2.1]; omega, _, A1.2.2 i (by omega), hm.1, _, hm.2.2 3 (by decide), hm.1, fun h106 e106 => ?_⟩
    have q106 := p1.pH he (j := 3) (by decide) (pH st.1 i 3 + (pH st.1 i 2 - (pH st.1 i 4 - f i)))
    have m106 : xMod [e] h1 h106 := e106 ▸ xMod.rf.put (Or.inl (by simp))
    rw [← e106] at q106
    have h2 : pH (uW st.1 (13 + 6 * i + 3) (pH st.1 i 3 + (pH st.1 i 2 - (pH st.1 i 4 - f i)))) i 2 = pH st.1 i 2 := by rw [pH_uH (by decide) (by decide), if_neg (by omega)]
    refine ⟨q106.cl, _, q106.2.1.2, (q106.hm he).1, _, ((q106.hm he).2.2 2 (by decide)).trans (congrArg xi h2), q106.cl, fun h109 e109 => ?_⟩
    have q109 := q106.pN (st.2.1 + pH st.1 i 2)
    have m109 : xMod [p] h106 h109 := e109 ▸ xMod.rf.put (Or.inl (by simp))
    rw [← e109] at q109
    have ce : ∀ x, x ∈ [e] → xcls h1 x = 13 := fun x hx => by rw [List.mem_singleton.mp hx]; exact hm.1
    have cp : ∀ x, x ∈ [p] → xcls h106 x = 2 := fun x hx => by rw [List.mem_singleton.mp hx]; exact q106.cl
    have A3 := (A1.md m106 (fun z => by have := ce wa z; rw [A1.1] at this; cases this))
    have A4 := A3.md m109 (fun z => by have := cp wa z; rw [A3.1] at this; cases this)
    have i3 : isRI G h109 it hs (i + 1) := (q1.mdp m106 (fun x hx => Or.inr (Or.inl (ce x hx)))).mdp m109 (fun x hx => Or.inl (cp x hx))
    have x4 : xMod (p :: (hs ++ ss)) h0 h109 := (x1.tr (m106.wk (fun x hx => by rw [List.mem_singleton.mp hx]; exact List.mem_cons_of_mem _ (List.mem_append_left _ (List.mem_of_getElem? he))))).tr (m109.wk (fun x hx => by rw [List.mem_singleton.mp hx]; exact List.mem_cons_self))
    exact ih (i + 1) (cDryF f st i) h109 _ (by omega) q109 i3 A4 x4 hQ
theorem goes_124 {Kc : Nat} {Q : xR → xH → Prop} {it wa ga : Nat} (hit : xsz h0 ≤ it) : ∀ j i W h kk, i + j = ss.length → isPr G h N p hs ss W nd → isRI G h it ss i → isIA h wa hs.length f → isIA h ga ss.length g → xMod (p :: (hs ++ ss)) h0 h → 6 ≤ kk →
    (∀ h', xMod (p :: (hs ++ ss)) h0 h' → isPr G h' N p hs ss (uW (cDry f ((List.range' i j).foldl (fun W s => cSink W s (g s)) W) nd).1 0 ((cDry f ((List.range' i j).foldl (fun W s => cSink W s (g s)) W) nd).1 0 + 1)) (cDry f ((List.range' i j).foldl (fun W s => cSink W s (g s)) W) nd).2.1 → Q (.inl (some (xi (cDry f ((List.range' i j).foldl (fun W s => cSink W s (g s)) W) nd).2.2))) h') →
    xWp G mX1_goes_2 12 Kc Q kk 124 [some (xr (some p)), some (xr (some wa)), some (xr (some ga)), some (xr (some it)), none, none, none] [] h := by
  intro j
  induction j with
  | zero =>
    intro i W h kk hi q qi A B m hk hQ
    refine vc_X1_goes_2_124 ⟨it, rfl, ri_has (by decide) qi ⟨fun _ => pr_h q fun r R _ => row_iter_c (by decide) hk R fun h4 it2 x4 hit2 qi2 => ?_, fun z => absurd (xb1.mp z) (by rw [decide_eq_true_iff]; omega)⟩⟩
    have e : (List.range' 0 hs.length).foldl (cDryF f) (W, nd, 0) = cDry f W nd := by unfold cDry; rw [q.nh]
    refine goes_170 (h0 := h0) (Nat.le_trans m.2.1 hit2) hs.length 0 (W, nd, 0) h4 _ (Nat.zero_add _) (q.ex x4) qi2 (A.md x4 (by simp)) (m.tx x4) fun h5 m5 q5 => ?_
    rw [e] at q5 ⊢
    exact hQ h5 m5 q5
  | succ j ih =>
    intro i W h kk hi q qi A B m hk hQ
    have hl := q.ls
    obtain ⟨e, he⟩ : ∃ e, ss[i]? = some e := ⟨ss[i]'(by omega), List.getElem?_eq_getElem _⟩
    rw [List.range'_succ, List.foldl_cons] at hQ
    refine vc_X1_goes_2_124 ⟨it, rfl, ri_has (by decide) qi ⟨fun z => absurd (xb0.mp z) (by rw [decide_eq_false_iff_not]; omega), fun _ => ri_next (by decide) qi he fun h1 m1 q1 => ?_⟩⟩
    have cit : ∀ x, x ∈ [it] → xcls h x = 8 := fun x hx => by rw [List.mem_singleton.mp hx]; exact qi.cl
    have p1 := q.md m1 (fun x hx => by rw [cit x hx]; exact ⟨by decide, by decide, by decide, by decide, by decide, by decide, by decide⟩)
    have A1 := A.md m1 (fun z => by have := cit wa z; rw [A.1] at this; cases this)
    have B1 := B.md m1 (fun z => by have := cit ga z; rw [B.1] at this; cases this)
    have x1 := m.t1 m1 hit
    have st := p1.st he
    have q7 : xval h1 e 8 = xi (pS W i 7) := st.2.2 7 (by decide)
    have hin : e ∈ p :: (hs ++ ss) := List.mem_cons_of_mem _ (List.mem_append_right _ (List.mem_of_getElem? he))
    have fin : ∀ h2, xMod [e] h1 h2 → isPr G h2 N p hs ss (cSink W i (g i)) nd → xWp G mX1_goes_2 12 Kc Q (kk - 0) 124 [some (xr (some p)), some (xr (some wa)), some (xr (some ga)), some (xr (some it)), none, none, none] [] h2 := by
      intro h2 m2 q2
      have ce : ∀ x, x ∈ [e] → xcls h1 x = 14 := fun x hx => by rw [List.mem_singleton.mp hx]; exact st.1
      exact ih (i + 1) _ h2 _ (by omega) q2 (q1.mdp m2 (fun x hx => Or.inr (Or.inr (Or.inl (ce x hx))))) (A1.md m2 (fun z => by have := ce wa z; rw [A1.1] at this; cases this)) (B1.md m2 (fun z => by have := ce ga z; rw [B1.1] at this; cases this)) (x1.tr (m2.wk (fun x hx => by rw [List.mem_singleton.mp hx]; exact hin))) (by omega) hQ
    refine ⟨fun b' e' => by cases e'; exact st.cs.2.1, e, rfl, st.1, _, st.2.1, ga, rfl, B1.1, i, rfl, by omega, by rw [B1.2.1]; omega, _, B1.2.2 i (by omega), st.1, xCall_of (d' := 1) (by decide) (Nat.zero_le _) (vc_X8_sinks ⟨st.1, _, q7, st.1, fun h2 e2 => ?_⟩)⟩
    have q2 := p1.pS he (j := 7) (by decide) (pS W i 7 + g i)
    have m2 : xMod [e] h1 h2 := e2 ▸ xMod.rf.put (Or.inl (by simp))
    rw [← e2] at q2
    have st2 := q2.st he
    have eS : uW W (61 + 8 * i + stF 7) (pS W i 7 + g i) = uW W (61 + 8 * i + 7) (W (61 + 8 * i + 7) + g i) := rfl
    rw [eS] at q2 st2
    refine ⟨fun u => ⟨st2.1, _, st2.2.2 2 (by decide), st2.1, _, st2.2.2 4 (by decide), by decide, fun n5 e5 => ⟨st2.1, fun h6 e6 => ?_⟩⟩, fun u => ⟨st2.1, _, st2.2.2 4 (by decide), by decide, fun n5 e5 => ⟨st2.1, fun h6 e6 => ?_⟩⟩⟩
    · have q6 := q2.pS he (j := 4) (by decide) n5
      rw [← e6] at q6
      refine fin h6 (e6 ▸ m2.put (Or.inl (by simp))) ?_
      have ec : cSink W i (g i) = uW (uW W (61 + 8 * i + 7) (W (61 + 8 * i + 7) + g i)) (61 + 8 * i + stF 4) n5 := by
        unfold cSink
        simp only
        rw [if_pos u, e5]
        rfl
      rw [ec]
      exact q6
    · have q6 := q2.pS he (j := 4) (by decide) n5
      rw [← e6] at q6
      refine fin h6 (e6 ▸ m2.put (Or.inl (by simp))) ?_
      have ec : cSink W i (g i) = uW (uW W (61 + 8 * i + 7) (W (61 + 8 * i + 7) + g i)) (61 + 8 * i + stF 4) n5 := by
        unfold cSink
        simp only
        rw [if_neg u, e5]
        rfl
      rw [ec]
      exact q6
theorem goes_68 {Kc : Nat} {Q : xR → xH → Prop} {it wa ga : Nat} (hne : wa ≠ ga) (hit : xsz h0 ≤ it) (hga : xsz h0 ≤ ga) : ∀ j i (st : (Nat → Int32) × (Nat → Int32)) h kk, i + j = ss.length → isPr G h N p hs ss st.1 nd → wG st.1 → isRI G h it ss i → isIA h wa hs.length f → isIA h ga ss.length st.2 → xMod (p :: (hs ++ ss)) h0 h → 137 * j + 12 ≤ kk →
    (∀ h', xMod (p :: (hs ++ ss)) h0 h' → isPr G h' N p hs ss (uW (cDry f (cSinks ((List.range' i j).foldl cGA st).1 ((List.range' i j).foldl cGA st).2) nd).1 0 ((cDry f (cSinks ((List.range' i j).foldl cGA st).1 ((List.range' i j).foldl cGA st).2) nd).1 0 + 1)) (cDry f (cSinks ((List.range' i j).foldl cGA st).1 ((List.range' i j).foldl cGA st).2) nd).2.1 → Q (.inl (some (xi (cDry f (cSinks ((List.range' i j).foldl cGA st).1 ((List.range' i j).foldl cGA st).2) nd).2.2))) h') →
    xWp G mX1_goes_2 12 Kc Q kk 68 [some (xr (some p)), some (xr (some wa)), some (xr (some ga)), some (xr (some it)), none, none, none] [] h := by
  intro j
  induction j with
  | zero =>
    intro i st h kk hi q X qi A B m hk hQ
    refine vc_X1_goes_2_68 ⟨it, rfl, ri_has (by decide) qi ⟨fun _ => pr_s q fun r R _ => row_iter_c (by decide) (by omega) R fun h4 it2 x4 hit2 qi2 => ?_, fun z => absurd (xb1.mp z) (by rw [decide_eq_true_iff]; omega)⟩⟩
    have e : (List.range' 0 ss.length).foldl (fun W s => cSink W s (st.2 s)) st.1 = cSinks st.1 st.2 := by unfold cSinks; rw [q.ns]
    refine goes_124 (h0 := h0) (Nat.le_trans m.2.1 hit2) ss.length 0 st.1 h4 _ (Nat.zero_add _) (q.ex x4) qi2 (A.md x4 (by simp)) (B.md x4 (by simp)) (m.tx x4) (by omega) fun h5 m5 q5 => ?_
    rw [e] at q5 ⊢
    exact hQ h5 m5 q5
  | succ j ih =>
    intro i st h kk hi q X qi A B m hk hQ
    have hl := q.ls
    obtain ⟨e, he⟩ : ∃ e, ss[i]? = some e := ⟨ss[i]'(by omega), List.getElem?_eq_getElem _⟩
    rw [List.range'_succ, List.foldl_cons] at hQ
    refine vc_X1_goes_2_68 ⟨it, rfl, ri_has (by decide) qi ⟨fun z => absurd (xb0.mp z) (by rw [decide_eq_false_iff_not]; omega), fun _ => ri_next (by decide) qi he fun h1 m1 q1 => ?_⟩⟩
    have cit : ∀ x, x ∈ [it] → xcls h x = 8 := fun x hx => by rw [List.mem_singleton.mp hx]; exact qi.cl
    have p1 := q.md m1 (fun x hx => by rw [cit x hx]; exact ⟨by decide, by decide, by decide, by decide, by decide, by decide, by decide⟩)
    have A1 := A.md m1 (fun z => by have := cit wa z; rw [A.1] at this; cases this)
    have B1 := B.md m1 (fun z => by have := cit ga z; rw [B.1] at this; cases this)
    have x1 := m.t1 m1 hit
    have sti := p1.st he
    have hsl := q.si he
    have ev : pS st.1 i 5 = xb (pOpen st.1 i) := by
      unfold pOpen
      rcases (X.2 i hsl).2.1 with z | z <;> rw [z] <;> rfl
    have hX := (cGA_e (st := st) (s := i) q.pw).g q.pw X
    refine ⟨fun b' e' => by cases e'; exact sti.cs.2.1, e, rfl, sti.1, _, sti.2.1, sti.1, _, (sti.2.2 5 (by decide)).trans (congrArg xi ev), fun u => ⟨ga, rfl, B1.1, i, rfl, by omega, by rw [B1.2.1]; omega, fun h59 e59 => ?_⟩, fun u => ⟨p1.cl, gives_c (by decide) (by omega) p1 X he fun h2 m2 q2 => ⟨ga, rfl, ?_⟩⟩⟩
    · have ec : cGA st i = (st.1, uW st.2 i 0) := by unfold cGA; rw [xb0.mp u, if_neg Bool.false_ne_true]
      rw [ec] at hQ hX
      have B2 := B1.put i 0
      have m59 : xMod [ga] h1 h59 := e59 ▸ xMod.rf.put (Or.inl (by simp))
      rw [← e59] at B2
      have cg : ∀ x, x ∈ [ga] → xcls h1 x = 1003 := fun x hx => by rw [List.mem_singleton.mp hx]; exact B1.1
      refine ih (i + 1) (st.1, uW st.2 i 0) h59 _ (by omega) (p1.md m59 (fun x hx => by rw [cg x hx]; exact ⟨by decide, by decide, by decide, by decide, by decide, by decide, by decide⟩)) hX (q1.mdp m59 (fun x hx => Or.inr (Or.inr (Or.inr (cg x hx))))) ?_ B2 (x1.t1 m59 hga) (by omega) hQ
      exact A1.md m59 (fun z => hne (List.mem_singleton.mp z))
    · have ec : cGA st i = ((cGives st.1 i).1, uW st.2 i (cGives st.1 i).2.2) := by unfold cGA; rw [xb1.mp u, if_pos rfl]
      rw [ec] at hQ hX
      have ch : ∀ x, x ∈ p :: hs → xcls h1 x = 2 ∨ xcls h1 x = 13 := fun x hx => by
        rcases List.mem_cons.mp hx with e | e
        · rw [e]; exact Or.inl p1.cl
        · obtain ⟨t, ht⟩ := List.mem_iff_getElem?.mp e
          exact Or.inr (p1.hm ht).1
      have A2 := A1.md m2 (fun z => by rcases ch wa z with y | y <;> rw [A1.1] at y <;> cases y)
      have B2 := B1.md m2 (fun z => by rcases ch ga z with y | y <;> rw [B1.1] at y <;> cases y)
      have i2 := q1.mdp m2 (fun x hx => (ch x hx).elim Or.inl (fun y => Or.inr (Or.inl y)))
      have x2 : xMod (p :: (hs ++ ss)) h0 h2 := x1.tr (m2.wk (fun x hx => by
        rcases List.mem_cons.mp hx with e | e
        · rw [e]; exact List.mem_cons_self
        · exact List.mem_cons_of_mem _ (List.mem_append_left _ e)))
      refine ⟨B2.1, i, rfl, by omega, by rw [B2.2.1]; omega, fun h65 e65 => ?_⟩
      have B3 := B2.put i (cGives st.1 i).2.2
      have m65 : xMod [ga] h2 h65 := e65 ▸ xMod.rf.put (Or.inl (by simp))
      rw [← e65] at B3
      have cg : ∀ x, x ∈ [ga] → xcls h2 x = 1003 := fun x hx => by rw [List.mem_singleton.mp hx]; exact B2.1
      exact ih (i + 1) ((cGives st.1 i).1, uW st.2 i (cGives st.1 i).2.2) h65 _ (by omega) (q2.md m65 (fun x hx => by rw [cg x hx]; exact ⟨by decide, by decide, by decide, by decide, by decide, by decide, by decide⟩)) hX (i2.mdp m65 (fun x hx => Or.inr (Or.inr (Or.inr (cg x hx))))) (A2.md m65 (fun z => hne (List.mem_singleton.mp z))) B3 (x2.t1 m65 hga) (by omega) hQ
theorem goes_18 {Kc : Nat} {Q : xR → xH → Prop} {it wa : Nat} (hit : xsz h0 ≤ it) (hwa : xsz h0 ≤ wa) : ∀ j i h kk, i + j = hs.length → isPr G h N p hs ss W nd → wG W → isRI G h it hs i → isIA h wa hs.length (fun t => if t < i then pH W t 4 else 0) → xMod (p :: (hs ++ ss)) h0 h → 850 ≤ kk →
    (∀ h', xMod (p :: (hs ++ ss)) h0 h' → isPr G h' N p hs ss (uW (cDry (fun i => pH W i 4) (cSinks (cGAs W).1 (cGAs W).2) nd).1 0 ((cDry (fun i => pH W i 4) (cSinks (cGAs W).1 (cGAs W).2) nd).1 0 + 1)) (cDry (fun i => pH W i 4) (cSinks (cGAs W).1 (cGAs W).2) nd).2.1 → Q (.inl (some (xi (cDry (fun i => pH W i 4) (cSinks (cGAs W).1 (cGAs W).2) nd).2.2))) h') →
    xWp G mX1_goes_2 12 Kc Q kk 18 [some (xr (some p)), some (xr (some wa)), some (xr (some it)), none, none, none, none] [] h := by
  intro j
  induction j with
  | zero =>
    intro i h kk hi q X qi A m hk hQ
    have hl := q.ls
    refine vc_X1_goes_2_18 ⟨it, rfl, ri_has (by decide) qi ⟨fun _ => pr_s q fun r R _ => row_many_c (by decide) R ⟨ss.length, rfl, by omega, by omega, fun h23 a24 ea eh => ?_⟩, fun z => absurd (xb1.mp z) (by rw [decide_eq_true_iff]; omega)⟩⟩
    have x23 : xExt h h23 := eh ▸ xMod.rf.new
    have B : isIA h23 a24 ss.length (fun _ => 0) := by
      subst eh
      refine ⟨by simp (decide := true) only [true_and, and_true, and_self, exists_eq_left, exists_eq_left', forall_eq, forall_eq', Sum.inl.injEq, Sum.inr.injEq, Option.some.injEq, xcls_put, xlen_put, xval_put, xsz_put, xlo_put, xcls_new, xlen_new, xval_new, xsz_new, xlo_new, ↓reduceIte, reduceCtorEq, and_false, false_and, not_true_eq_false, not_false_eq_true, implies_true, forall_const, true_implies, false_implies, ne_eq, ea], by simp (decide := true) only [true_and, and_true, and_self, exists_eq_left, exists_eq_left', forall_eq, forall_eq', Sum.inl.injEq, Sum.inr.injEq, Option.some.injEq, xcls_put, xlen_put, xval_put, xsz_put, xlo_put, xcls_new, xlen_new, xval_new, xsz_new, xlo_new, ↓reduceIte, reduceCtorEq, and_false, false_and, not_true_eq_false, not_false_eq_true, implies_true, forall_const, true_implies, false_implies, ne_eq, ea], fun i hi => by (simp (decide := true) only [true_and, and_true, and_self, exists_eq_left, exists_eq_left', forall_eq, forall_eq', Sum.inl.injEq, Sum.inr.injEq, Option.some.injEq, xcls_put, xlen_put, xval_put, xsz_put, xlo_put, xcls_new, xlen_new, xval_new, xsz_new, xlo_new, ↓reduceIte, reduceCtorEq, and_false, false_and, not_true_eq_false, not_false_eq_true, implies_true, forall_const, true_implies, false_implies, ne_eq, ea] <;> rfl)⟩
    have q23 := q.ex x23
    have hne : wa ≠ a24 := fun z => by
      have := xcls_lt A.1 (by decide)
      omega
    refine pr_s q23 fun r R _ => row_iter_c (by decide) (by omega) R fun h28 it2 x28 hit2 qi2 => ?_
    have m28 := (m.tx x23).tx x28
    refine goes_68 (f := fun i => pH W i 4) hne (h0 := h0) (Nat.le_trans (m.tx x23).2.1 hit2) (by rw [ea]; exact m.2.1) ss.length 0 (W, fun _ => 0) h28 _ (Nat.zero_add _) (q23.ex x28) X qi2 ?_ (B.md x28 (by simp)) m28 (by omega) fun h5 m5 q5 => ?_
    · exact (((A.md x23 (by simp)).md x28 (by simp))).cg (fun t ht => by rw [if_pos (by omega)])
    · have e : (List.range' 0 ss.length).foldl cGA (W, fun _ => 0) = cGAs W := by unfold cGAs; rw [q.ns]
      rw [e] at q5 ⊢
      exact hQ h5 m5 q5
  | succ j ih =>
    intro i h kk hi q X qi A m hk hQ
    have hl := q.lh
    obtain ⟨e, he⟩ : ∃ e, hs[i]? = some e := ⟨hs[i]'(by omega), List.getElem?_eq_getElem _⟩
    refine vc_X1_goes_2_18 ⟨it, rfl, ri_has (by decide) qi ⟨fun z => absurd (xb0.mp z) (by rw [decide_eq_false_iff_not]; omega), fun _ => ri_next (by decide) qi he fun h1 m1 q1 => ?_⟩⟩
    have cit : ∀ x, x ∈ [it] → xcls h x = 8 := fun x hx => by rw [List.mem_singleton.mp hx]; exact qi.cl
    have p1 := q.md m1 (fun x hx => by rw [cit x hx]; exact ⟨by decide, by decide, by decide, by decide, by decide, by decide, by decide⟩)
    have A1 := A.md m1 (fun z => by have := cit wa z; rw [A.1] at this; cases this)
    have x1 := m.t1 m1 hit
    have hm := p1.hm he
    refine ⟨fun b' e' => by cases e'; exact hm.cs.2.1, e, rfl, hm.1, _, hm.2.1, hm.1, _, hm.2.2 4 (by decide), wa, rfl, A1.1, i, rfl, by omega, by rw [A1.2.1]; omega, fun h39 e39 => ?_⟩
    have A2 := A1.put i (pH W i 4)
    have m39 : xMod [wa] h1 h39 := e39 ▸ xMod.rf.put (Or.inl (by simp))
    rw [← e39] at A2
    have cg : ∀ x, x ∈ [wa] → xcls h1 x = 1003 := fun x hx => by rw [List.mem_singleton.mp hx]; exact A1.1
    refine ih (i + 1) h39 _ (by omega) (p1.md m39 (fun x hx => by rw [cg x hx]; exact ⟨by decide, by decide, by decide, by decide, by decide, by decide, by decide⟩)) X (q1.mdp m39 (fun x hx => Or.inr (Or.inr (Or.inr (cg x hx))))) (A2.cg fun t ht => ?_) (x1.t1 m39 hwa) (by omega) hQ
    by_cases e : t = i
    · subst e
      rw [if_pos (by omega), uW_eq]
    · rw [uW_ne e]
      by_cases h1 : t < i
      · rw [if_pos (by omega), if_pos h1]
      · rw [if_neg (by omega), if_neg h1]
theorem goes2_c {F : Int32 → xH → Nat → Prop} (hd : 12 < d) (hk : 865 ≤ k) (q : isPr G h N p hs ss W nd) (X : wG W) (hQ : ∀ h', xMod (p :: (hs ++ ss)) h h' → isPr G h' N p hs ss (cGoes W nd).1 (cGoes W nd).2.1 → F (cGoes W nd).2.2 h' (k - 865)) : xCall G d k mX1_goes_2 [xr (some p)] h (xkI F T) := by
  have hl := q.lh
  rw [cGoes_1, cGoes_2, cGoes_3] at hQ
  refine xCall_of (d' := 12) hd hk (vc_X1_goes_2 (pr_h q fun r R _ => row_many_c (by decide) R ⟨hs.length, rfl, by omega, by omega, fun h6 a7 ea eh => ?_⟩))
  have x6 : xExt h h6 := eh ▸ xMod.rf.new
  have A : isIA h6 a7 hs.length (fun t => if t < 0 then pH W t 4 else 0) := by
    subst eh
    refine ⟨by simp (decide := true) only [true_and, and_true, and_self, exists_eq_left, exists_eq_left', forall_eq, forall_eq', Sum.inl.injEq, Sum.inr.injEq, Option.some.injEq, xcls_put, xlen_put, xval_put, xsz_put, xlo_put, xcls_new, xlen_new, xval_new, xsz_new, xlo_new, ↓reduceIte, reduceCtorEq, and_false, false_and, not_true_eq_false, not_false_eq_true, implies_true, forall_const, true_implies, false_implies, ne_eq, ea], by simp (decide := true) only [true_and, and_true, and_self, exists_eq_left, exists_eq_left', forall_eq, forall_eq', Sum.inl.injEq, Sum.inr.injEq, Option.some.injEq, xcls_put, xlen_put, xval_put, xsz_put, xlo_put, xcls_new, xlen_new, xval_new, xsz_new, xlo_new, ↓reduceIte, reduceCtorEq, and_false, false_and, not_true_eq_false, not_false_eq_true, implies_true, forall_const, true_implies, false_implies, ne_eq, ea], fun i hi => by (simp (decide := true) only [true_and, and_true, and_self, exists_eq_left, exists_eq_left', forall_eq, forall_eq', Sum.inl.injEq, Sum.inr.injEq, Option.some.injEq, xcls_put, xlen_put, xval_put, xsz_put, xlo_put, xcls_new, xlen_new, xval_new, xsz_new, xlo_new, ↓reduceIte, reduceCtorEq, and_false, false_and, not_true_eq_false, not_false_eq_true, implies_true, forall_const, true_implies, false_implies, ne_eq, ea] <;> rfl)⟩
  have q6 := q.ex x6
  refine pr_h q6 fun r R _ => row_iter_c (by decide) (by omega) R fun h11 it x11 hit qi => ?_
  exact goes_18 (h0 := h) (Nat.le_trans x6.2.1 hit) (by omega) hs.length 0 h11 _ (Nat.zero_add _) (q6.ex x11) X qi (A.md x11 (by simp)) ((x6.tr x11).of) (by omega) hQ
end XPG

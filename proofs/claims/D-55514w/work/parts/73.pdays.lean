/-! the province: paying, giving, a day -/
def cPay (W : Nat → Int32) (i : Nat) (y t : Int32) : Nat → Int32 :=
  let c := if y < W 1 then y else W 1
  let W2 := uW W 1 (W 1 - c)
  let W3 := uW W2 9 (W2 9 + c)
  let W4 := uW W3 (13 + 6 * i + 5) (W3 (13 + 6 * i + 5) + c)
  let u := if 999 - W4 1 < t then 999 - W4 1 else t
  let W5 := uW W4 1 (W4 1 + u)
  let W6 := uW W5 10 (W5 10 + t)
  uW W6 11 (W6 11 + (t - u))
def cPails (W : Nat → Int32) (i : Nat) (l : Int32) : Int32 := if pH W i 2 < l then pH W i 2 else l
def cGot (W : Nat → Int32) (i : Nat) (v : Int32) : Nat → Int32 := uW W (13 + 6 * i + 4) (W (13 + 6 * i + 4) + v)
def cGiveF (s : Nat) (st : (Nat → Int32) × Int32 × Int32) (i : Nat) : (Nat → Int32) × Int32 × Int32 :=
  (cPay (cGot st.1 i (cPails st.1 i st.2.1)) i (cPails st.1 i st.2.1 * pFar (cGot st.1 i (cPails st.1 i st.2.1)) i s / 10) (cPails st.1 i st.2.1 / 4), st.2.1 - cPails st.1 i st.2.1, st.2.2 + cPails st.1 i st.2.1)
def cGives (W : Nat → Int32) (s : Nat) : (Nat → Int32) × Int32 × Int32 := (pDrinks W (nI s)).foldl (cGiveF s) (W, pGives W s, 0)
/-- a row that agrees on all but money and what hamlets got and paid -/
def eMo (W W' : Nat → Int32) : Prop := (∀ n, n < 13 → n ≠ 1 → n ≠ 9 → n ≠ 10 → n ≠ 11 → W' n = W n) ∧ (∀ i j, i < 8 → j < 6 → j ≠ 4 → j ≠ 5 → pH W' i j = pH W i j) ∧ (∀ s j, s < 6 → j < 8 → pS W' s j = pS W s j)
theorem eMo.rf {W : Nat → Int32} : eMo W W := ⟨fun _ _ _ _ _ _ => rfl, fun _ _ _ _ _ _ => rfl, fun _ _ _ _ => rfl⟩
theorem eMo.tr {W W' W'' : Nat → Int32} (a : eMo W W') (b : eMo W' W'') : eMo W W'' :=
  ⟨fun n h1 h2 h3 h4 h5 => (b.1 n h1 h2 h3 h4 h5).trans (a.1 n h1 h2 h3 h4 h5), fun i j h1 h2 h3 h4 => (b.2.1 i j h1 h2 h3 h4).trans (a.2.1 i j h1 h2 h3 h4), fun s j h1 h2 => (b.2.2 s j h1 h2).trans (a.2.2 s j h1 h2)⟩
theorem eMo.u0 {W W' : Nat → Int32} {n : Nat} {v : Int32} (a : eMo W W') (hn : n = 1 ∨ n = 9 ∨ n = 10 ∨ n = 11) : eMo W (uW W' n v) :=
  a.tr ⟨fun m h1 h2 h3 h4 h5 => uW_ne (by omega), fun i j h1 h2 h3 h4 => pH_u0 (by omega), fun s j h1 h2 => pS_u0 (by omega)⟩
theorem eMo.uH {W W' : Nat → Int32} {i j : Nat} {v : Int32} (a : eMo W W') (hi : i < 8) (hj : j = 4 ∨ j = 5) : eMo W (uW W' (13 + 6 * i + j) v) :=
  a.tr ⟨fun m h1 h2 h3 h4 h5 => uW_ne (by omega), fun i' j' h1 h2 h3 h4 => by rw [pH_uH (by omega) h2, if_neg (by omega)], fun s j' h1 h2 => pS_uH hi (by omega)⟩
theorem cPay_e {W : Nat → Int32} {i : Nat} {y t : Int32} (hi : i < 8) : eMo W (cPay W i y t) :=
  (((((eMo.rf.u0 (Or.inl rfl)).u0 (Or.inr (Or.inl rfl))).uH hi (Or.inr rfl)).u0 (Or.inl rfl)).u0 (Or.inr (Or.inr (Or.inl rfl)))).u0 (Or.inr (Or.inr (Or.inr rfl)))
theorem cGiveF_e {s i : Nat} {st : (Nat → Int32) × Int32 × Int32} (hi : i < 8) : eMo st.1 (cGiveF s st i).1 := (eMo.rf.uH hi (Or.inl rfl)).tr (cPay_e hi)
theorem cGiveL_e {s : Nat} : ∀ (l : List Nat) (st : (Nat → Int32) × Int32 × Int32), (∀ i, i ∈ l → i < 8) → eMo st.1 (l.foldl (cGiveF s) st).1
  | [], _, _ => eMo.rf
  | a :: l, _, h => (cGiveF_e (h a List.mem_cons_self)).tr (cGiveL_e l _ (fun i hi => h i (List.mem_cons_of_mem _ hi)))
theorem eMo.h {W W' : Nat → Int32} (a : eMo W W') : nH W' = nH W := by unfold nH; rw [a.1 2 (by decide) (by decide) (by decide) (by decide) (by decide)]
theorem eMo.s {W W' : Nat → Int32} (a : eMo W W') : nS W' = nS W := by unfold nS; rw [a.1 3 (by decide) (by decide) (by decide) (by decide) (by decide)]
theorem eMo.p {W W' : Nat → Int32} (a : eMo W W') (p : pW W) : pW W' := by
  unfold pW
  rw [a.h, a.s, a.1 2 (by decide) (by decide) (by decide) (by decide) (by decide), a.1 3 (by decide) (by decide) (by decide) (by decide) (by decide)]
  exact p
theorem eMo.g {W W' : Nat → Int32} (a : eMo W W') (p : pW W) (X : wG W) : wG W' := by
  have p2 := p.2.1
  have p4 := p.2.2.2
  refine ⟨fun i hi j hj => ?_, fun s hs => ⟨fun j hj => ?_, ?_, ?_⟩⟩
  · rw [a.h] at hi
    rw [a.2.1 i j (by omega) (by omega) (by omega) (by omega)]
    exact X.1 i hi j hj
  · rw [a.s] at hs
    rw [a.2.2 s j (by omega) (by omega)]
    exact (X.2 s hs).1 j hj
  · rw [a.s] at hs
    rw [a.2.2 s 5 (by omega) (by omega)]
    exact (X.2 s hs).2.1
  · rw [a.s] at hs
    rw [a.2.2 s 6 (by omega) (by omega)]
    exact (X.2 s hs).2.2
section XPY
variable {G : xG} {d k : Nat} {h h' h0 : xH} {T : Nat → xH → Nat → Prop} {S : List Nat} {x p N i j s c a b e r ka mm w m ll : Nat} {es hs ss : List Nat} {W W' : Nat → Int32} {nd y z v x' y' t : Int32}
theorem isRI.mdp {it : Nat} {es' : List Nat} (qi : isRI G h it es' i) (m : xMod S h h') (h1 : ∀ x, x ∈ S → xcls h x = 2 ∨ xcls h x = 13 ∨ xcls h x = 14 ∨ xcls h x = 1003) : isRI G h' it es' i := qi.md m (fun x hx => by rcases h1 x hx with z | z | z | z <;> rw [z] <;> decide)
theorem pays_c {F : xH → Nat → Prop} (hd : 1 < d) (q : isPr G h N p hs ss W nd) (ha : hs[i]? = some a) (hQ : ∀ h', xMod [p, a] h h' → isPr G h' N p hs ss (cPay W i (y * z / 10) (y / 4)) nd → F h' k) : xCall G d k mX1_pays [xr (some p), xr (some a), xi y, xi z] h (xkV F T) := by
  have sp : ∀ {h1 : xH} {W1 : Nat → Int32} {j : Nat} (v : xV), xMod [p, a] h h1 → xMod [p, a] h (xput h1 p j v) := fun v m => m.put (Or.inl (by simp))
  refine xCall_of (d' := 1) hd (Nat.zero_le k) (vc_X1_pays (pr_f q 3 (by decide) (by decide) (by decide) ⟨by decide, fun n2 e2 => pr_f q 3 (by decide) (by decide) (by decide) ⟨q.cl, fun h4 e4 => ?_⟩⟩))
  have q4 := q.pP (j := 3) (by decide) (by decide) (by decide) (W 1 - n2)
  have m4 : xMod [p, a] h h4 := e4 ▸ xMod.rf.put (Or.inl (by simp))
  have e4' : h4 = xput h p 3 (xi (W 1 - n2)) := e4
  rw [← e4'] at q4
  refine pr_f q4 8 (by decide) (by decide) (by decide) ⟨q4.cl, fun h6 e6 => ?_⟩
  have q6 := q4.pP (j := 8) (by decide) (by decide) (by decide) (uW W (pvF 3) (W 1 - n2) (pvF 8) + n2)
  have m6 : xMod [p, a] h h6 := e6 ▸ m4.put (Or.inl (by simp))
  rw [← e6] at q6
  have c6 := (q6.hm ha).1
  refine ⟨a, rfl, c6, _, (q6.hm ha).2.2 5 (by decide), c6, fun h9 e9 => ?_⟩
  have q9 := q6.pH ha (j := 5) (by decide) (pH (uW (uW W (pvF 3) (W 1 - n2)) (pvF 8) (uW W (pvF 3) (W 1 - n2) (pvF 8) + n2)) i 5 + n2)
  have m9 : xMod [p, a] h h9 := e9 ▸ m6.put (Or.inl (by simp))
  rw [← e9] at q9
  generalize hW9 : uW (uW (uW W (pvF 3) (W 1 - n2)) (pvF 8) (uW W (pvF 3) (W 1 - n2) (pvF 8) + n2)) (13 + 6 * i + 5) (pH (uW (uW W (pvF 3) (W 1 - n2)) (pvF 8) (uW W (pvF 3) (W 1 - n2) (pvF 8) + n2)) i 5 + n2) = W9 at q9
  refine pr_f q9 3 (by decide) (by decide) (by decide) ⟨by decide, fun n11 e11 => pr_f q9 3 (by decide) (by decide) (by decide) ⟨q9.cl, fun h13 e13 => ?_⟩⟩
  have q13 := q9.pP (j := 3) (by decide) (by decide) (by decide) (W9 (pvF 3) + n11)
  have m13 : xMod [p, a] h h13 := e13 ▸ m9.put (Or.inl (by simp))
  rw [← e13] at q13
  refine pr_f q13 9 (by decide) (by decide) (by decide) ⟨q13.cl, fun h15 e15 => ?_⟩
  have q15 := q13.pP (j := 9) (by decide) (by decide) (by decide) (uW W9 (pvF 3) (W9 (pvF 3) + n11) (pvF 9) + y / 4)
  have m15 : xMod [p, a] h h15 := e15 ▸ m13.put (Or.inl (by simp))
  rw [← e15] at q15
  refine pr_f q15 10 (by decide) (by decide) (by decide) ⟨q15.cl, fun h17 e17 => ?_⟩
  have q17 := q15.pP (j := 10) (by decide) (by decide) (by decide) (uW (uW W9 (pvF 3) (W9 (pvF 3) + n11)) (pvF 9) (uW W9 (pvF 3) (W9 (pvF 3) + n11) (pvF 9) + y / 4) (pvF 10) + (y / 4 - n11))
  have m17 : xMod [p, a] h h17 := e17 ▸ m15.put (Or.inl (by simp))
  rw [← e17] at q17
  refine hQ h17 m17 ?_
  subst e2 e11 hW9
  exact q17
theorem gives_l {Kc : Nat} {Q : xR → xH → Prop} {it b ll : Nat} {ns : List Nat} {mc : Int32} {L : List Nat} (hb : ss[s]? = some b) (hL : ∀ t, t ∈ L → t < hs.length) (hit : xsz h0 ≤ it) : ∀ j i (st : (Nat → Int32) × Int32 × Int32) h kk, i + j = L.length → isPr G h N p hs ss st.1 nd → wG st.1 → isLN h ll ns (dE hs L) mc → isLI h it ll ns i mc → xMod (p :: hs) h0 h →
    (∀ h', xMod (p :: hs) h0 h' → isPr G h' N p hs ss ((L.drop i).foldl (cGiveF s) st).1 nd → Q (.inl (some (xi ((L.drop i).foldl (cGiveF s) st).2.2))) h') →
    xWp G mX1_gives 11 Kc Q kk 17 [some (xr (some p)), some (xr (some b)), some (xi st.2.1), some (xi st.2.2), some (xr (some it)), none, none] [] h := by
  intro j
  induction j with
  | zero =>
    intro i st h kk hi q X LN LI m hQ
    rw [List.drop_eq_nil_of_le (by omega)] at hQ
    refine vc_X1_gives_17 ⟨it, rfl, _, by rw [LI.1]; exact dsp_Iterator_hasNext_22, li_hasNext_c (by decide) LN LI (by rw [dE_len]; omega) ⟨fun _ => hQ h m q, fun z => absurd (xb1.mp z) (by rw [decide_eq_true_iff, dE_len]; omega)⟩⟩
  | succ j ih =>
    intro i st h kk hi q X LN LI m hQ
    have hl := q.lh
    have hi' : i < L.length := by omega
    obtain ⟨t, ht⟩ : ∃ t, L[i]? = some t := ⟨L[i], List.getElem?_eq_getElem hi'⟩
    have htl := hL t (List.mem_of_getElem? ht)
    have hde : (dE hs L)[i]? = some (hs.getD t 0) := by unfold dE; rw [List.getElem?_map, ht]; rfl
    have hat := dE_at hde hL ht
    rw [List.drop_eq_getElem_cons hi', List.foldl_cons] at hQ
    have hLi : L[i] = t := by rw [List.getElem?_eq_getElem hi'] at ht; exact Option.some.inj ht
    rw [hLi] at hQ
    refine vc_X1_gives_17 ⟨it, rfl, _, by rw [LI.1]; exact dsp_Iterator_hasNext_22, li_hasNext_c (by decide) LN LI (by rw [dE_len]; omega) ⟨fun z => absurd (xb0.mp z) (by rw [decide_eq_false_iff_not, dE_len]; omega), fun _ => ⟨_, by rw [LI.1]; exact dsp_Iterator_next_22, li_next_c (by decide) LN LI hde fun h1 m1 LI1 => ?_⟩⟩⟩
    have cit : ∀ x, x ∈ [it] → xcls h x = 22 := fun x hx => by rw [List.mem_singleton.mp hx]; exact LI.1
    have LN1 := LN.md m1 (fun x hx => by rw [cit x hx]; decide)
    have q1 := q.md m1 (fun x hx => by rw [cit x hx]; exact ⟨by decide, by decide, by decide, by decide, by decide, by decide, by decide⟩)
    have x1 : xMod (p :: hs) h0 h1 := m.tn m1 (fun x hx => Or.inr (by rw [List.mem_singleton.mp hx]; exact hit))
    have hm := q1.hm hat
    refine ⟨fun b' e' => by cases e'; exact hm.cs.2.1, _, rfl, hm.1, _, hm.2.2 2 (by decide), by decide, fun n21 e21 => ⟨hm.1, _, hm.2.2 4 (by decide), hm.1, fun h23 e23 => ?_⟩⟩
    have hp : n21 = cPails st.1 t st.2.1 := e21
    have q23 := q1.pH hat (j := 4) (by decide) (pH st.1 t 4 + n21)
    have m23 : xMod [hs.getD t 0] h1 h23 := e23 ▸ xMod.rf.put (Or.inl (by simp))
    rw [← e23] at q23
    have eG : uW st.1 (13 + 6 * t + 4) (pH st.1 t 4 + n21) = cGot st.1 t n21 := rfl
    rw [eG] at q23
    have eM : eMo st.1 (cGot st.1 t n21) := eMo.rf.uH (by omega) (Or.inl rfl)
    have X23 := eM.g q.pw X
    refine ⟨b, rfl, (q23.st hb).1, far_sh_c (by decide) (q23.st hb) (q23.hm hat) X23 (q23.hi hat) (q23.si hb) ⟨q23.cl, pays_c (by decide) q23 hat fun h28 m28 q28 => ?_⟩⟩
    have c23 : ∀ x, x ∈ [p, hs.getD t 0] → xcls h23 x = 2 ∨ xcls h23 x = 13 := fun x hx => by
      simp only [List.mem_cons, List.not_mem_nil, or_false] at hx
      rcases hx with rfl | rfl
      · exact Or.inl q23.cl
      · exact Or.inr (q23.hm hat).1
    have ca : ∀ x, x ∈ [hs.getD t 0] → xcls h1 x = 13 := fun x hx => by rw [List.mem_singleton.mp hx]; exact hm.1
    have LN28 : isLN h28 ll ns (dE hs L) mc := (LN1.md m23 (fun x hx => by rw [ca x hx]; decide)).md m28 (fun x hx => by rcases c23 x hx with z | z <;> rw [z] <;> decide)
    have LI28 : isLI h28 it ll ns (i + 1) mc := by
      refine (LI1.md m23 (fun z => ?_)).md m28 (fun z => ?_)
      · have := ca it z; rw [LI1.1] at this; cases this
      · have c22 : xcls h23 it = 22 := m23.cl' LI1.1 (by decide)
        rcases c23 it z with h1 | h1 <;> rw [c22] at h1 <;> cases h1
    have hin : hs.getD t 0 ∈ hs := List.mem_of_getElem? hat
    have x28 : xMod (p :: hs) h0 h28 := (x1.tr (m23.wk (fun x hx => by rw [List.mem_singleton.mp hx]; exact List.mem_cons_of_mem _ hin))).tr (m28.wk (fun x hx => by
      simp only [List.mem_cons, List.not_mem_nil, or_false] at hx
      rcases hx with rfl | rfl
      · exact List.mem_cons_self
      · exact List.mem_cons_of_mem _ hin))
    subst hp
    exact ih (i + 1) (cGiveF s st t) h28 _ (by omega) q28 ((cGiveF_e (by omega)).g q.pw X) LN28 LI28 x28 hQ
theorem gives_c {F : Int32 → xH → Nat → Prop} (hd : 11 < d) (hk : 137 ≤ k) (q : isPr G h N p hs ss W nd) (X : wG W) (hb : ss[s]? = some b) (hQ : ∀ h', xMod (p :: hs) h h' → isPr G h' N p hs ss (cGives W s).1 nd → F (cGives W s).2.2 h' (k - 137)) : xCall G d k mX1_gives [xr (some p), xr (some b)] h (xkI F T) := by
  refine xCall_of (d' := 11) hd hk (vc_X1_gives ⟨b, rfl, (q.st hb).1, sgives_c (by decide) (q.st hb) (X.2 s (q.si hb)).2.2 ⟨q.cl, drinkers_c (by decide) (by decide) q X hb fun h1 ll ns mc x1 hll hn L1 => ⟨ll, rfl, L1.1, ll_iterator_c (by decide) (by decide) L1 fun h2 it x2 hit LI2 => ?_⟩⟩⟩)
  have x02 := x1.tr x2
  refine gives_l hb (fun t ht => by rw [← q.nh]; exact pDrinks_lt t ht) (Nat.le_trans x1.2.1 hit) (pDrinks W (nI s)).length 0 (W, pGives W s, 0) h2 _ (Nat.zero_add _) (q.ex x02) X (L1.ex x2) LI2 x02.of fun h3 m3 q3 => ?_
  rw [List.drop_zero] at q3 ⊢
  exact hQ h3 m3 q3
end XPY

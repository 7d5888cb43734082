/-! the province: what is told, what sites do -/
def xGr (N : Nat) (h h' : xH) : Prop := ∀ h0, xExt h0 h → xsz h0 ≤ N → xExt h0 h'
theorem xGr.of {N : Nat} {h h' : xH} {S : List Nat} (m : xMod S h h') (h1 : ∀ x, x ∈ S → N ≤ x) : xGr N h h' := fun h0 m0 hN => m0.tn m (fun x hx => Or.inr (Nat.le_trans hN (h1 x hx)))
theorem xGr.tr {N : Nat} {h h' h'' : xH} (a : xGr N h h') (b : xGr N h' h'') : xGr N h h'' := fun h0 m0 hN => b h0 (a h0 m0 hN) hN
theorem xGr.ex {N : Nat} {h h' : xH} (m : xExt h h') : xGr N h h' := xGr.of m (fun x hx => by cases hx)
theorem wG.sk {W W' : Nat → Int32} (p : pW W) (X : wG W) (e2 : W' 2 = W 2) (e3 : W' 3 = W 3) (eH : ∀ i j, i < 8 → j < 2 → pH W' i j = pH W i j) (eS : ∀ s j, s < 6 → j < 2 → pS W' s j = pS W s j) (e5 : ∀ s j, s < 6 → j = 5 ∨ j = 6 → pS W' s j = 0 ∨ pS W' s j = 1 ∨ pS W' s j = pS W s j) : wG W' := by
  have p2 := p.2.1
  have p4 := p.2.2.2
  have eh : nH W' = nH W := by unfold nH; rw [e2]
  have es : nS W' = nS W := by unfold nS; rw [e3]
  refine ⟨fun i hi j hj => ?_, fun s hs => ⟨fun j hj => ?_, ?_, ?_⟩⟩
  · rw [eh] at hi
    rw [eH i j (by omega) hj]
    exact X.1 i hi j hj
  · rw [es] at hs
    rw [eS s j (by omega) hj]
    exact (X.2 s hs).1 j hj
  · rw [es] at hs
    rcases e5 s 5 (by omega) (Or.inl rfl) with z | z | z
    · exact Or.inl z
    · exact Or.inr z
    · rw [z]; exact (X.2 s hs).2.1
  · rw [es] at hs
    rcases e5 s 6 (by omega) (Or.inr rfl) with z | z | z
    · exact Or.inl z
    · exact Or.inr z
    · rw [z]; exact (X.2 s hs).2.2
theorem wG.u0 {W : Nat → Int32} {n : Nat} {v : Int32} (p : pW W) (X : wG W) (h1 : n < 13) (h2 : n ≠ 2) (h3 : n ≠ 3) : wG (uW W n v) ∧ pW (uW W n v) :=
  ⟨X.sk p (uW_ne (fun z => h2 z.symm)) (uW_ne (fun z => h3 z.symm)) (fun i j _ _ => pH_u0 h1) (fun i j _ _ => pS_u0 h1) (fun i j _ _ => Or.inr (Or.inr (pS_u0 h1))), (e23.rf.u (fun z => h2 z.symm) (fun z => h3 z.symm)).p p⟩
theorem wG.uS {W : Nat → Int32} {s j : Nat} {v : Int32} (p : pW W) (X : wG W) (hj : j = 5 ∨ j = 6) (hv : v = 0 ∨ v = 1) : wG (uW W (61 + 8 * s + j) v) ∧ pW (uW W (61 + 8 * s + j) v) := by
  refine ⟨X.sk p (uW_ne (by omega)) (uW_ne (by omega)) (fun i j' h1 h2 => pH_uS h1 (by omega)) (fun i j' h1 h2 => by rw [pS_uS (by omega) (by omega), if_neg (by omega)]) (fun i j' h1 h2 => ?_), (e23.rf.u (by omega) (by omega)).p p⟩
  rw [pS_uS (by omega) (by omega)]
  split
  · rcases hv with z | z
    · exact Or.inl z
    · exact Or.inr (Or.inl z)
  · exact Or.inr (Or.inr rfl)
section XPE
variable {G : xG} {d k : Nat} {h h' h0 : xH} {T : Nat → xH → Nat → Prop} {S : List Nat} {x p N N0 i j s c a b e r ka mm w m ll n o al most : Nat} {es hs ss hs' ss' : List Nat} {W W' f g X' Y' : Nat → Int32} {nd y z v u x' y' t mc : Int32}
theorem isAt_c {F : Int32 → xH → Nat → Prop} (hd : 1 < d) (a0 : xcls h a = 13 ∨ xcls h a = 14) (a1 : xval h a 1 = xi x') (a2 : xval h a 2 = xi y') (hQ : F (xb (decide (x' = y ∧ y' = z))) h k) : ∃ Y : xM, (xcls h a, Y) ∈ dsp_HamletWells_Standing_isAt ∧ xCall G d k Y [xr (some a), xi y, xi z] h (xkI F T) := by
  have hm : (xcls h a, mX6_isAt) ∈ dsp_HamletWells_Standing_isAt := by
    rcases a0 with e | e
    · rw [e]; exact dsp_HamletWells_Standing_isAt_13
    · rw [e]; exact dsp_HamletWells_Standing_isAt_14
  refine ⟨mX6_isAt, hm, xCall_of (d' := 1) hd (Nat.zero_le k) (vc_X6_isAt ⟨a0, _, a1, fun u => ?_, fun u => ⟨a0, _, a2, fun v => ?_, fun v => ?_⟩⟩)⟩
  · rw [decide_eq_false (fun e => u e.1)] at hQ; exact hQ
  · rw [decide_eq_false (fun e => v e.2)] at hQ; exact hQ
  · rw [decide_eq_true ⟨u, v⟩] at hQ; exact hQ
def stOk (h : xH) (es : List Nat) (X' Y' : Nat → Int32) : Prop := ∀ i e, es[i]? = some e → (xcls h e = 13 ∨ xcls h e = 14) ∧ xval h e 0 = xi (nI i) ∧ xval h e 1 = xi (X' i) ∧ xval h e 2 = xi (Y' i)
theorem stOk.ex (q : stOk h es X' Y') (m : xExt h h') : stOk h' es X' Y' := fun i e he => by
  obtain ⟨a, b, c, d⟩ := q i e he
  have n0 : xcls h e ≠ 0 := by rcases a with z | z <;> rw [z] <;> decide
  exact ⟨by rw [m.cl n0]; exact a, (xExt.vl m n0 _).trans b, (xExt.vl m n0 _).trans c, (xExt.vl m n0 _).trans d⟩
theorem asks_l {Kc : Nat} {Q : xR → xH → Prop} {it : Nat} (gk : gK G) (st : stOk h0 es X' Y') (hit : xsz h0 ≤ it) (hl : es.length ≤ 10) : ∀ j i h kk, i + j = es.length → isRI G h it es i → xExt h0 h → 9 ≤ kk →
    (((List.range' i j).find? fun t => decide (X' t = y ∧ Y' t = z)) = none → ∀ h', xExt h0 h' → Q (.inl none) h') →
    (∀ t, ((List.range' i j).find? fun t => decide (X' t = y ∧ Y' t = z)) = some t → ∀ h' e, xExt h0 h' → xsz h0 ≤ e → isRf h' e 2 (nI t) none → Q (.inr e) h') →
    xWp G mX2_asks 6 Kc Q kk 35 [none, some (xi y), some (xi z), some (xr (some it)), none] [] h := by
  intro j
  induction j with
  | zero =>
    intro i h kk hi qi m hk hF hT
    exact vc_X2_asks_35 ⟨it, rfl, ri_has (by decide) qi ⟨fun _ => hF rfl h m, fun z => absurd (xb1.mp z) (by rw [decide_eq_true_iff]; omega)⟩⟩
  | succ j ih =>
    intro i h kk hi qi m hk hF hT
    obtain ⟨e, he⟩ : ∃ e, es[i]? = some e := ⟨es[i]'(by omega), List.getElem?_eq_getElem _⟩
    rw [List.range'_succ, List.find?_cons] at hF hT
    refine vc_X2_asks_35 ⟨it, rfl, ri_has (by decide) qi ⟨fun z => absurd (xb0.mp z) (by rw [decide_eq_false_iff_not]; omega), fun _ => ri_next (by decide) qi he fun h1 m1 q1 => ?_⟩⟩
    have x1 := m.t1 m1 hit
    obtain ⟨s1, s2, s3, s4⟩ := (st.ex x1) i e he
    refine ⟨fun b' e' => by cases e'; rcases s1 with z | z <;> rw [z] <;> decide, e, rfl, isAt_c (by decide) s1 s3 s4 ⟨fun u => ⟨s1, _, s2, needs_c (c := false) (by decide) (by omega) gk (fun z => by cases z) fun _ h2 e2 x2 hz2 r2 => ?_⟩, fun u => ⟨s1, _, s2, needs_c (c := true) (by decide) (by omega) gk (fun _ => ?_) (fun z => by cases z)⟩⟩⟩
    · have hb := xb1.mp u
      simp only [hb] at hT
      exact hT i rfl h2 e2 (x1.tr x2) (Nat.le_trans x1.2.1 hz2) r2
    · have hb := xb0.mp u
      simp only [hb] at hF hT
      exact ih (i + 1) h1 _ (by omega) q1 x1 (by omega) hF hT
theorem asks_c {F : xH → Nat → Prop} {l : Nat} (hd : 6 < d) (hk : 15 ≤ k) (gk : gK G) (b1 : xcls h r = 3) (b2 : xval h r 0 = xr (some l)) (b3 : xval h r 1 = xi (nI most)) (A : isAL G h l es mc) (hm : most ≤ 10) (st : stOk h es X' Y')
    (hF : es.length < most → ((List.range' 0 es.length).find? fun t => decide (X' t = y ∧ Y' t = z)) = none → ∀ h', xExt h h' → F h' (k - 15))
    (hT1 : ¬ es.length < most → ∀ h' e, xExt h h' → xsz h ≤ e → isRf h' e 1 (nI most) none → T e h' (k - 15))
    (hT2 : es.length < most → ∀ t, ((List.range' 0 es.length).find? fun t => decide (X' t = y ∧ Y' t = z)) = some t → ∀ h' e, xExt h h' → xsz h ≤ e → isRf h' e 2 (nI t) none → T e h' (k - 15)) : xCall G d k mX2_asks [xr (some r), xi y, xi z] h (xkV F T) := by
  have hl := A.2.2.2.1
  refine xCall_of (d' := 6) hd hk (vc_X2_asks ⟨b1, _, b2, l, rfl, A.1, al_size_c (by decide) A ⟨b1, _, b3, fun u => ⟨b1, _, b3, needs_c (c := false) (by decide) (by decide) gk (fun z => by cases z) fun _ h2 e2 x2 hz2 r2 => ?_⟩, fun u => ⟨b1, _, b3, needs_c (c := true) (by decide) (by decide) gk (fun _ => ⟨b1, _, b2, l, rfl, A.1, al_iter (by decide) (by decide) A fun h4 it x4 hit qi => ?_⟩) (fun z => by cases z)⟩⟩⟩)
  · have : ¬ es.length < most := by
      have := (nI_leI (by omega) (by omega)).mp u
      omega
    exact hT1 this h2 e2 x2 hz2 r2
  · have hlt : es.length < most := Nat.lt_of_not_le fun y => u ((nI_leI (by omega) (by omega)).mpr y)
    exact asks_l gk st hit hl es.length 0 h4 _ (Nat.zero_add _) qi x4 (by decide) (hF hlt) (fun t ht h' e a b c => hT2 hlt t ht h' e a b c)
theorem pr_stH (q : isPr G h N p hs ss W nd) : stOk h hs (fun i => pH W i 0) (fun i => pH W i 1) := fun i e he => ⟨Or.inl (q.hm he).1, (q.hm he).2.1, (q.hm he).2.2 0 (by decide), (q.hm he).2.2 1 (by decide)⟩
theorem pr_stS (q : isPr G h N p hs ss W nd) : stOk h ss (fun i => pS W i 0) (fun i => pS W i 1) := fun i e he => ⟨Or.inr (q.st he).1, (q.st he).2.1, (q.st he).2.2 0 (by decide), (q.st he).2.2 1 (by decide)⟩
end XPE

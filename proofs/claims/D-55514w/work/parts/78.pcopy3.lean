/-! a province is copied; days gone through -/
theorem cDays_s {n : Nat} {st : (Nat → Int32) × Int32 × Int32} : cDays (n + 1) st = cDays n ((cGoes st.1 st.2.1).1, (cGoes st.1 st.2.1).2.1, st.2.2 + (cGoes st.1 st.2.1).2.2) := rfl
section XPQ
variable {G : xG} {d k : Nat} {h h' h0 : xH} {T : Nat → xH → Nat → Prop} {S : List Nat} {x p N N0 i j s c a b e r ka mm w m ll n o al : Nat} {es hs ss hs' ss' : List Nat} {W W' f g : Nat → Int32} {nd y z v u x' y' t mc : Int32}
theorem isPs.nil : isPs h [] W := fun i a ha => by simp at ha
theorem pcopy_50 {Kc : Nat} {Q : xR → xH → Prop} {it lh : Nat} (q0 : isPr G h0 N0 o hs ss W nd) (X : wG W) (hop : o ≠ p) (cp : xcls h0 p = 2) (hpz : xsz h0 ≤ p + 1) (hN : p ≤ xsz h0) (Al : isAL G h0 lh hs mc) (hit : xsz h0 ≤ it) :
    ∀ j i h kk hs', i + j = hs.length → hs'.length = i → isPb G h p p hs' [] → isPh h hs' W → isIt h it lh i mc → xMod [p] h0 h → 19 * j + 131 ≤ kk →
    (∀ h' hs' ss', xMod [p] h0 h' → isPr G h' p p hs' ss' W nd → Q (.inl none) h') →
    xWp G mX1_init_2 7 Kc Q kk 50 [some (xr (some p)), some (xr (some o)), some (xr (some it)), none] [] h := by
  intro j
  induction j with
  | zero =>
    intro i h kk hs' hi hl q qh qi m hk hQ
    have hls := q0.ls
    have old : ∀ {h1}, xMod [p] h0 h1 → isPr G h1 N0 o hs ss W nd := fun m1 => q0.md' m1 (fun x hx => by rw [List.mem_singleton.mp hx]; exact ⟨fun z => hop z.symm, cp⟩)
    have A1 : isAL G h lh hs mc := Al.md m (fun z => by have := List.mem_singleton.mp z; have h1 := Al.1; rw [this, cp] at h1; cases h1) (fun x hx => by rw [List.mem_singleton.mp hx, cp]; decide)
    obtain ⟨rs, r1, r2, ls, ms, -, r3, r4⟩ := pr_so q0
    have nrs : rs ≠ p := fun z => by rw [z, cp] at r2; cases r2
    have nls : ls ≠ p := fun z => by have := r4.1; rw [z, cp] at this; cases this
    refine vc_X1_init_2_50 ⟨it, rfl, _, by rw [qi.1]; exact dsp_Iterator_hasNext_8, it_hasNext_c (by decide) A1 qi (by omega) ⟨fun _ => ⟨o, rfl, (old m).cl, _, m.vl' q0.cl (by decide) (by simpa using hop) r1, rs, rfl, m.cl' r2 (by decide), ?_⟩, fun z => absurd (xb1.mp z) (by rw [decide_eq_true_iff]; omega)⟩⟩
    have B1 : isAL G h ls ss ms := r4.md m (by simpa using nls) (fun x hx => by rw [List.mem_singleton.mp hx, cp]; decide)
    refine xCall_of (d' := 3) (by decide) (show 5 ≤ kk from by omega) (vc_X2_iterator ⟨m.cl' r2 (by decide), _, m.vl' r2 (by decide) (by simpa using nrs) r3, _, rfl, B1.1, al_iterator_c (by decide) (Nat.le_refl _) B1 fun h4 it2 x4 hit2 qi2 => ?_⟩)
    exact pcopy_95 q0 X hop cp hpz hN ⟨rs, r1, r3⟩ r4 (Nat.le_trans m.2.1 hit2) ss.length 0 h4 _ [] (Nat.zero_add _) rfl (q.md x4 (fun x hx => by cases hx)) (qh.md x4 (fun x hx => by cases hx)) isPs.nil (by omega) qi2 (m.tx x4) (by omega) hQ
  | succ j ih =>
    intro i h kk hs' hi hl q qh qi m hk hQ
    have hls6 := q0.lh
    have old : ∀ {h1}, xMod [p] h0 h1 → isPr G h1 N0 o hs ss W nd := fun m1 => q0.md' m1 (fun x hx => by rw [List.mem_singleton.mp hx]; exact ⟨fun z => hop z.symm, cp⟩)
    have A1 : isAL G h lh hs mc := Al.md m (fun z => by have := List.mem_singleton.mp z; have h1 := Al.1; rw [this, cp] at h1; cases h1) (fun x hx => by rw [List.mem_singleton.mp hx, cp]; decide)
    obtain ⟨e, he⟩ : ∃ e, hs[i]? = some e := ⟨hs[i]'(by omega), List.getElem?_eq_getElem _⟩
    obtain ⟨rh, lh', ah, rs, ls', as, mh, ms, ⟨a1, a2, a3⟩, -⟩ := id q
    refine vc_X1_init_2_50 ⟨it, rfl, _, by rw [qi.1]; exact dsp_Iterator_hasNext_8, it_hasNext_c (by decide) A1 qi (by omega) ⟨fun z => absurd (xb0.mp z) (by rw [decide_eq_false_iff_not]; omega), fun _ => ⟨_, by rw [qi.1]; exact dsp_Iterator_next_8, it_next_c (by decide) A1 qi he fun h1 m1 qi1 => ?_⟩⟩⟩
    have cit : ∀ x, x ∈ [it] → xcls h x = 8 := fun x hx => by rw [List.mem_singleton.mp hx]; exact qi.1
    have m01 := m.tn m1 (fun x hx => Or.inr (by rw [List.mem_singleton.mp hx]; exact hit))
    have q1 : isPb G h1 p p hs' [] := q.md m1 (fun x hx => by rw [cit x hx]; decide)
    have qh1 := qh.md m1 (fun x hx => by rw [cit x hx]; decide)
    have st := (old m01).hm he
    have a31 : xval h1 p 0 = xr (some rh) := m1.vl' a1 (by decide) (fun z => by have := cit p z; rw [a1] at this; cases this) a2
    refine ⟨fun b' e' => by cases e'; exact st.cs.2.1, q1.cl, _, a31, by omega, fun h69 a70 ea eh => ?_⟩
    have m69 : xExt h1 h69 := eh ▸ xMod.rf.new
    have c69 : xcls h69 a70 = 13 := by subst eh; simp (decide := true) only [true_and, and_true, and_self, exists_eq_left, exists_eq_left', forall_eq, forall_eq', Sum.inl.injEq, Sum.inr.injEq, Option.some.injEq, xcls_put, xlen_put, xval_put, xsz_put, xlo_put, xcls_new, xlen_new, xval_new, xsz_new, xlo_new, ↓reduceIte, reduceCtorEq, and_false, false_and, not_true_eq_false, not_false_eq_true, implies_true, forall_const, true_implies, false_implies, ne_eq, ea]
    have hz70 : xsz h1 ≤ a70 := by omega
    have hne : e ≠ a70 := xne_new (by rw [st.1]; decide) ea
    refine hm_copy_c (by decide) c69 (st.md m69 (by simp)) hne fun h71 m71 s71 => ?_
    have m171 : xExt h1 h71 := m69.t1 m71 hz70
    have q71 := q1.md m171 (fun x hx => by cases hx)
    have a371 : xval h71 p 0 = xr (some rh) := m171.vl' q1.cl (by decide) (by simp) a31
    have hN1 : p ≤ xsz h71 := Nat.le_trans hN (m01.tx m171).2.1
    refine ⟨rh, rfl, ?_, ?_⟩
    · obtain ⟨rh', lh, ah, rs', ls', as, mh, ms, ⟨b1, b2, b3⟩, ⟨c1, -⟩, -⟩ := q71
      have er : rh' = rh := by have := b2.symm.trans a371; simpa using this
      rw [← er]; exact c1
    refine laysH_c (by decide) (by omega) q71 a371 (by omega) hN1 (Nat.le_trans hN (Nat.le_trans m01.2.1 hz70)) s71.1 fun h74 S' m74 hS q74 => ?_
    have m074 : xMod [p] h0 h74 := (m01.tx m171).tn m74 (fun x hx => Or.inr (by
      have h1 := hS x hx
      have h2 : x ≠ p := fun z => by have := h1.1; rw [z, q71.cl] at this; rcases this with y | y <;> cases y
      have h3 := h1.2
      omega))
    have cS : ∀ x, x ∈ S' → xcls h71 x ≠ 13 ∧ xcls h71 x ≠ 14 ∧ xcls h71 x ≠ 8 := fun x hx => by rcases (hS x hx).1 with z | z <;> rw [z] <;> decide
    have s74 : isHm h74 a70 i W := s71.md m74 (fun z => (cS a70 z).1 s71.1)
    have qs74 := (qh1.md m171 (fun x hx => by cases hx)).md m74 (fun x hx => (cS x hx).1)
    refine ih (i + 1) h74 _ (hs' ++ [a70]) (by omega) (by rw [List.length_append, List.length_singleton]; omega) q74 (fun t a ha => ?_) ((qi1.md m171 (by simp)).md m74 (fun z => (cS it z).2.2 (m171.cl' qi1.1 (by decide)))) m074 (by omega) hQ
    by_cases hlt : t < hs'.length
    · rw [List.getElem?_append_left hlt] at ha
      exact qs74 t a ha
    · have ht1 := (List.getElem?_eq_some_iff.mp ha).1
      rw [List.length_append, List.length_singleton] at ht1
      have et : t = i := by omega
      rw [List.getElem?_append_right (by omega), et, hl, Nat.sub_self] at ha
      cases ha
      rw [et]
      exact s74
theorem pcopy_c {F : xH → Nat → Prop} (hd : 7 < d) (hk : 304 ≤ k) (gl : gL G h) (q0 : isPr G h N0 o hs ss W nd) (X : wG W) (hop : o ≠ p) (cp : xcls h p = 2) (hpz : xsz h = p + 1)
    (hQ : ∀ h' hs' ss', xMod [p] h h' → isPr G h' p p hs' ss' W nd → F h' (k - 304)) : xCall G d k mX1_init_2 [xr (some p), xr (some o)] h (xkV F T) := by
  have hl := q0.lh
  obtain ⟨r, r1, r2, lh, mc, -, r3, r4⟩ := pr_ho q0
  have nr : r ≠ p := fun z => by rw [z, cp] at r2; cases r2
  have nl : lh ≠ p := fun z => by have := r4.1; rw [z, cp] at this; cases this
  refine xCall_of (d' := 7) hd hk (vc_X1_init_2 (rows_new (N := p) (by decide) gl cp (by decide) (Nat.le_refl _) (by omega) fun h12 k9 m12 q12 _ _ _ hk9 => ?_))
  have q1 : isPr G h12 N0 o hs ss W nd := q0.md' m12 (fun x hx => by rw [List.mem_singleton.mp hx]; exact ⟨fun z => hop z.symm, cp⟩)
  have B1 : isAL G h12 lh hs mc := r4.md m12 (by simpa using nl) (fun x hx => by rw [List.mem_singleton.mp hx, cp]; decide)
  refine ⟨o, rfl, q1.cl, _, m12.vl' q0.cl (by decide) (by simpa using hop) r1, r, rfl, m12.cl' r2 (by decide), ?_⟩
  refine xCall_of (d' := 3) (by decide) (show 5 ≤ k9 from by omega) (vc_X2_iterator ⟨m12.cl' r2 (by decide), _, m12.vl' r2 (by decide) (by simpa using nr) r3, _, rfl, B1.1, al_iterator_c (by decide) (Nat.le_refl _) B1 fun h4 it2 x4 hit2 qi2 => ?_⟩)
  refine pcopy_50 q0 X hop cp (by omega) (by omega) r4 (Nat.le_trans m12.2.1 hit2) hs.length 0 h4 _ [] (Nat.zero_add _) rfl (q12.md x4 (fun x hx => by cases hx)) (fun i a ha => by simp at ha) qi2 (m12.tx x4) (by omega) fun h5 hs' ss' m5 q5 => hQ h5 hs' ss' m5 q5
theorem cGoes_e {W : Nat → Int32} {nd : Int32} (p : pW W) : eSk W (cGoes W nd).1 := by
  have p2 := p.2.1
  have p4 := p.2.2.2
  have g1 : ∀ (l : List Nat) (st : (Nat → Int32) × (Nat → Int32)), pW st.1 → eMo st.1 (l.foldl cGA st).1 := by
    intro l
    induction l with
    | nil => exact fun st _ => eMo.rf
    | cons a l ih => exact fun st hp => (cGA_e hp).tr (ih _ ((cGA_e hp).p hp))
  have g2 : ∀ (l : List Nat) (W g : Nat → Int32), (∀ i, i ∈ l → i < 6) → eSk W (l.foldl (fun W s => cSink W s (g s)) W) := by
    intro l
    induction l with
    | nil => exact fun W g _ => eSk.rf
    | cons a l ih => exact fun W g hl => (cSink_e (hl a List.mem_cons_self)).tr (ih _ g (fun i hi => hl i (List.mem_cons_of_mem _ hi)))
  have g3 : ∀ (l : List Nat) (f : Nat → Int32) (st : (Nat → Int32) × Int32 × Int32), (∀ i, i ∈ l → i < 8) → eSk st.1 (l.foldl (cDryF f) st).1 := by
    intro l
    induction l with
    | nil => exact fun f st _ => eSk.rf
    | cons a l ih => exact fun f st hl => (cDryF_e (hl a List.mem_cons_self)).tr (ih f _ (fun i hi => hl i (List.mem_cons_of_mem _ hi)))
  have e1 : eSk W (cGAs W).1 := (g1 _ (W, fun _ => 0) p).sk
  have p1 := e1.p p
  have e2 : eSk (cGAs W).1 (cSinks (cGAs W).1 (cGAs W).2) := g2 _ _ _ (fun i hi => by rw [List.mem_range'_1] at hi; have := p1.2.2.2; omega)
  have p3 := e2.p p1
  have e3 : eSk (cSinks (cGAs W).1 (cGAs W).2) (cDry (fun i => pH W i 4) (cSinks (cGAs W).1 (cGAs W).2) nd).1 := g3 _ _ (_, nd, 0) (fun i hi => by rw [List.mem_range'_1] at hi; have := p3.2.1; omega)
  rw [cGoes_1]
  have e4 := (e1.tr e2).tr e3
  generalize (cDry (fun i => pH W i 4) (cSinks (cGAs W).1 (cGAs W).2) nd).1 = W4 at *
  exact ⟨(uW_ne (by decide)).trans e4.1, (uW_ne (by decide)).trans e4.2.1, fun i j h1 h2 => (pH_u0 (by decide)).trans (e4.2.2.1 i j h1 h2), fun s j h1 h2 => (pS_u0 (by decide)).trans (e4.2.2.2 s j h1 h2)⟩
theorem goes_l {Kc n : Nat} {Q : xR → xH → Prop} (hn : n ≤ 30) : ∀ j i (st : (Nat → Int32) × Int32 × Int32) h kk, i + j = n → isPr G h N p hs ss st.1 st.2.1 → wG st.1 → xMod (p :: (hs ++ ss)) h0 h → 865 * j ≤ kk →
    (∀ h', xMod (p :: (hs ++ ss)) h0 h' → isPr G h' N p hs ss (cDays j st).1 (cDays j st).2.1 → Q (.inl (some (xi (cDays j st).2.2))) h') →
    xWp G mX1_goes 13 Kc Q kk 4 [some (xr (some p)), some (xi (nI n)), some (xi st.2.2), some (xi (nI i))] [] h := by
  intro j
  induction j with
  | zero =>
    intro i st h kk hi q X m hk hQ
    exact vc_X1_goes_4 ⟨fun _ => hQ h m q, fun z => absurd (nI_le (by omega) (by omega)) z⟩
  | succ j ih =>
    intro i st h kk hi q X m hk hQ
    rw [cDays_s] at hQ
    have X1 := (cGoes_e (nd := st.2.1) q.pw).g q.pw X
    refine vc_X1_goes_4 ⟨fun z => absurd ((nI_leI (by omega) (by omega)).mp z) (by omega), fun _ => ⟨q.cl, goes2_c (by decide) (by omega) q X fun h1 m1 q1 => ?_⟩⟩
    rw [nI_1]
    generalize cGoes st.1 st.2.1 = r at *
    exact ih (i + 1) (r.1, r.2.1, st.2.2 + r.2.2) h1 _ (by omega) q1 X1 (m.tr m1) (by omega) hQ
theorem goes_c {F : Int32 → xH → Nat → Prop} (hd : 13 < d) (hn : n ≤ 30) (hk : 865 * n ≤ k) (q : isPr G h N p hs ss W nd) (X : wG W) (hQ : ∀ h', xMod (p :: (hs ++ ss)) h h' → isPr G h' N p hs ss (cDays n (W, nd, 0)).1 (cDays n (W, nd, 0)).2.1 → F (cDays n (W, nd, 0)).2.2 h' (k - 865 * n)) : xCall G d k mX1_goes [xr (some p), xi (nI n)] h (xkI F T) :=
  xCall_of (d' := 13) hd hk (vc_X1_goes (goes_l hn n 0 (W, nd, 0) h _ (Nat.zero_add _) q X xMod.rf (Nat.le_refl _) hQ))
/-- what lies ahead -/
theorem xthirstIn_c {F : Int32 → xH → Nat → Prop} (hd : 14 < d) (hk : 26266 ≤ k) (gl : gL G h) (q : isNw G h x p hs ss W nd) (X : wG W) (h0' : pIn y 0 30 = false → F (-2) h (k - 26266)) (hQ : ∀ n, y = nI n → n ≤ 30 → ∀ h', xExt h h' → F (cDays n (W, nd, 0)).2.2 h' (k - 26266)) : xCall G d k mX0_thirstIn [xr (some x), xi y] h (xkI F T) := by
  refine xCall_of (d' := 14) hd hk (vc_X0_thirstIn (in_c (by decide) ⟨fun z => h0' (xb0.mp z), fun z => ⟨by decide, fun h4 a5 ea eh => ?_⟩⟩))
  obtain ⟨n, hn, rfl⟩ := (pIn_n (hi := 30) (by decide)).mp (xb1.mp z)
  have x4 : xExt h h4 := eh ▸ xMod.rf.new
  have c4 : xcls h4 a5 = 2 := by subst eh; simp (decide := true) only [true_and, and_true, and_self, exists_eq_left, exists_eq_left', forall_eq, forall_eq', Sum.inl.injEq, Sum.inr.injEq, Option.some.injEq, xcls_put, xlen_put, xval_put, xsz_put, xlo_put, xcls_new, xlen_new, xval_new, xsz_new, xlo_new, ↓reduceIte, reduceCtorEq, and_false, false_and, not_true_eq_false, not_false_eq_true, implies_true, forall_const, true_implies, false_implies, ne_eq, ea]
  have hz4 : xsz h4 = a5 + 1 := by rw [eh, ea, xsz_new]
  have q4 := q.ex x4
  have hne : p ≠ a5 := xne_new (by rw [q.pr.cl]; decide) ea
  refine ⟨q4.1, _, q4.2.1, pcopy_c (by decide) (by decide) (gl.md x4) q4.pr X hne c4 hz4 fun h7 hs' ss' m7 q7 => ⟨q7.cl, goes_c (by decide) hn (by omega) q7 X fun h9 m9 q9 => hQ n rfl hn h9 ?_⟩⟩
  have hN := q7.hN
  refine (x4.tn m7 (fun x hx => Or.inr (by rw [List.mem_singleton.mp hx]; omega))).tn m9 (fun x hx => Or.inr ?_)
  rcases List.mem_cons.mp hx with e | e
  · omega
  · rcases List.mem_append.mp e with e | e
    · have := hN.2.1 x e; omega
    · have := hN.2.2 x e; omega
end XPQ

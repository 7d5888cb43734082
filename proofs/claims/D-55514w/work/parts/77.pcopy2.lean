/-! the province's constructors -/
section XPO
variable {G : xG} {d k : Nat} {h h' h0 : xH} {T : Nat → xH → Nat → Prop} {S : List Nat} {x p N N0 i j s c a b e r ka mm w m ll n o al : Nat} {es hs ss hs' ss' : List Nat} {W W' f g : Nat → Int32} {nd y z v u x' y' t mc : Int32}
theorem rows_new {P : xH → Nat → Prop} {K : Nat} {T' : Nat → xH → Nat → Prop} (hd : 5 < d) (gl : gL G h) (cp : xcls h p = 2) (hk : 14 ≤ K) (hN : N ≤ p) (hN2 : N ≤ xsz h)
    (KK : ∀ h12 k9, xMod [p] h h12 → isPb G h12 N p [] [] → xval h12 p 3 = xi 200 → xval h12 p 4 = xi 3 → (∀ j, j ≠ 0 → j ≠ 1 → j ≠ 3 → j ≠ 4 → xval h12 p j = xval h p j) → K - 14 ≤ k9 → P h12 k9) :
    1 ≤ d ∧ 3 ≤ K ∧ ∀ (h1 : xH) (a2 : Nat), a2 = xsz h → h1 = xnew h 3 2 (fun j => xdf (tyX2 j)) → xCall G d (K - 3) mX2_init [xr (some a2), xi (8 : Int32)] h1 (xkV (fun h3 k4 => xcls h3 p = 2 ∧ ∀ h5 : xH, h5 = xput h3 p 0 (xr (some a2)) → 3 ≤ k4 ∧ ∀ (h6 : xH) (a7 : Nat), a7 = xsz h5 → h6 = xnew h5 3 2 (fun j => xdf (tyX2 j)) → xCall G d (k4 - 3) mX2_init [xr (some a7), xi (6 : Int32)] h6 (xkV (fun h8 k9 => xcls h8 p = 2 ∧ ∀ h10 : xH, h10 = xput h8 p 1 (xr (some a7)) → xcls h10 p = 2 ∧ ∀ h11 : xH, h11 = xput h10 p 3 (xi (200 : Int32)) → xcls h11 p = 2 ∧ ∀ h12 : xH, h12 = xput h11 p 4 (xi (3 : Int32)) → P h12 k9) T')) T') := by
  refine ⟨by omega, by omega, fun h1 a2 ea eh => ?_⟩
  have hpa : ¬ p = a2 := xne_new (by rw [cp]; decide) ea
  have m1 : xMod [p] h h1 := eh ▸ xMod.rf.new
  have c1 : xcls h1 a2 = 3 := by subst eh; simp (decide := true) only [true_and, and_true, and_self, exists_eq_left, exists_eq_left', forall_eq, forall_eq', Sum.inl.injEq, Sum.inr.injEq, Option.some.injEq, xcls_put, xlen_put, xval_put, xsz_put, xlo_put, xcls_new, xlen_new, xval_new, xsz_new, xlo_new, ↓reduceIte, reduceCtorEq, and_false, false_and, not_true_eq_false, not_false_eq_true, implies_true, forall_const, true_implies, false_implies, ne_eq, ea]
  have hz : xsz h ≤ a2 := by omega
  refine row_init_c hd (by omega) (gl.md m1) c1 fun h3 lh e0 m3 hlh v0 v1 A3 w3 g3 => ?_
  have m03 : xMod [p] h h3 := m1.tn m3 (fun x hx => Or.inr (by rw [List.mem_singleton.mp hx]; exact hz))
  have cp3 : xcls h3 p = 2 := m03.cl' cp (by decide)
  have vp3 : ∀ j, xval h3 p j = xval h p j := fun j => by
    have e1 : xval h1 p j = xval h p j := by rw [eh, xval_new, if_neg (fun z => hpa (z.trans ea.symm))]
    rw [← e1]
    exact m3.vl (by rw [m1.cl' cp (by decide)]; decide) (by simpa using hpa) j
  have ca3 : xcls h3 a2 = 3 := m3.cl' c1 (by decide)
  refine ⟨cp3, fun h5 e5 => ⟨by omega, fun h6 a7 ea7 eh6 => ?_⟩⟩
  have m35 : xMod [p] h3 h5 := e5 ▸ xMod.rf.put (Or.inl (by simp))
  have hna : ¬ a2 = p := fun z => hpa z.symm
  have m56 : xExt h5 h6 := eh6 ▸ xMod.rf.new
  have cp5 : xcls h5 p = 2 := by rw [e5]; exact cp3
  have hp7 : ¬ p = a7 := xne_new (by rw [cp5]; decide) ea7
  have ha7 : ¬ a2 = a7 := xne_new (by rw [e5]; show xcls h3 a2 ≠ 0; rw [ca3]; decide) ea7
  have c6 : xcls h6 a7 = 3 := by subst eh6; simp (decide := true) only [true_and, and_true, and_self, exists_eq_left, exists_eq_left', forall_eq, forall_eq', Sum.inl.injEq, Sum.inr.injEq, Option.some.injEq, xcls_put, xlen_put, xval_put, xsz_put, xlo_put, xcls_new, xlen_new, xval_new, xsz_new, xlo_new, ↓reduceIte, reduceCtorEq, and_false, false_and, not_true_eq_false, not_false_eq_true, implies_true, forall_const, true_implies, false_implies, ne_eq, ea7]
  have hz7 : xsz h5 ≤ a7 := by omega
  have m06 : xMod [p] h h6 := (m03.tr m35).tx m56
  refine row_init_c hd (by omega) (gl.md m06) c6 fun h8 ls e1 m8 hls u0 u1 A8 w8 g8 => ?_
  have m38 : xMod [p] h3 h8 := (m35.tx m56).tn m8 (fun x hx => Or.inr (by rw [List.mem_singleton.mp hx, ea7, e5]; exact Nat.le_refl _))
  have m08 : xMod [p] h h8 := m03.tr m38
  have cp8 : xcls h8 p = 2 := m08.cl' cp (by decide)
  have vp8 : ∀ j, j ≠ 0 → xval h8 p j = xval h p j := fun j hj => by
    have e2 : xval h6 p j = xval h5 p j := by rw [eh6, xval_new, if_neg (fun z => hp7 (z.trans ea7.symm))]
    have e3 : xval h5 p j = xval h3 p j := by rw [e5]; simp (decide := true) only [true_and, and_true, and_self, exists_eq_left, exists_eq_left', forall_eq, forall_eq', Sum.inl.injEq, Sum.inr.injEq, Option.some.injEq, xcls_put, xlen_put, xval_put, xsz_put, xlo_put, xcls_new, xlen_new, xval_new, xsz_new, xlo_new, ↓reduceIte, reduceCtorEq, and_false, false_and, not_true_eq_false, not_false_eq_true, implies_true, forall_const, true_implies, false_implies, ne_eq, hj]
    rw [← vp3 j, ← e3, ← e2]
    exact m8.vl (by rw [m56.cl' cp5 (by decide)]; decide) (by simpa using hp7) j
  have vp80 : xval h8 p 0 = xr (some a2) := by
    have e2 : xval h6 p 0 = xval h5 p 0 := by rw [eh6, xval_new, if_neg (fun z => hp7 (z.trans ea7.symm))]
    have e3 : xval h5 p 0 = xr (some a2) := by rw [e5]; simp (decide := true) only [true_and, and_true, and_self, exists_eq_left, exists_eq_left', forall_eq, forall_eq', Sum.inl.injEq, Sum.inr.injEq, Option.some.injEq, xcls_put, xlen_put, xval_put, xsz_put, xlo_put, xcls_new, xlen_new, xval_new, xsz_new, xlo_new, ↓reduceIte, reduceCtorEq, and_false, false_and, not_true_eq_false, not_false_eq_true, implies_true, forall_const, true_implies, false_implies, ne_eq]
    rw [← e3, ← e2]
    exact m8.vl (by rw [m56.cl' cp5 (by decide)]; decide) (by simpa using hp7) 0
  refine ⟨cp8, fun h10 e10 => ⟨by rw [e10]; exact cp8, fun h11 e11 => ⟨by rw [e11, e10]; exact cp8, fun h12 e12 => ?_⟩⟩⟩
  have m812 : xMod [p] h8 h12 := by
    rw [e12, e11, e10]
    exact ((xMod.rf.put (Or.inl (by simp))).put (Or.inl (by simp))).put (Or.inl (by simp))
  have m312 := m38.tr m812
  have ca8 : xcls h8 a7 = 3 := m8.cl' c6 (by decide)
  have hn7 : ¬ a7 = p := fun z => hp7 z.symm
  have nlh : ¬ lh = p := xne_cls A3.1 cp3 (by decide)
  have nls : ¬ ls = p := xne_cls A8.1 cp8 (by decide)
  have v12 : ∀ j, j ≠ 1 → j ≠ 3 → j ≠ 4 → xval h12 p j = xval h8 p j := fun j a b c => by rw [e12, e11, e10]; simp (decide := true) only [true_and, and_true, and_self, exists_eq_left, exists_eq_left', forall_eq, forall_eq', Sum.inl.injEq, Sum.inr.injEq, Option.some.injEq, xcls_put, xlen_put, xval_put, xsz_put, xlo_put, xcls_new, xlen_new, xval_new, xsz_new, xlo_new, ↓reduceIte, reduceCtorEq, and_false, false_and, not_true_eq_false, not_false_eq_true, implies_true, forall_const, true_implies, false_implies, ne_eq, a, b, c]
  refine KK h12 _ (m08.tr m812) ?_ ?_ ?_ (fun j h0 h1 h3 h4 => (v12 j h1 h3 h4).trans (vp8 j h0)) (by omega)
  · refine isPb.fresh (rh := a2) (lh := lh) (rs := a7) (ls := ls) (e0 := e0) (e1 := e1) (mh := 0) (ms := 0) (m812.cl' cp8 (by decide)) ((v12 0 (by decide) (by decide) (by decide)).trans vp80) ?_ (m312.cl' ca3 (by decide)) (m312.vl' ca3 (by decide) (by simpa using hna) v0) (m312.vl' ca3 (by decide) (by simpa using hna) v1) (A3.md m312 (by simpa using nlh) (fun x hx => by rw [List.mem_singleton.mp hx, cp3]; decide)) (m312.vl' A3.1 (by decide) (by simpa using nlh) w3) (m312.cl' g3 (by decide)) (m812.cl' ca8 (by decide)) (m812.vl' ca8 (by decide) (by simpa using hn7) u0) (m812.vl' ca8 (by decide) (by simpa using hn7) u1) (A8.md m812 (by simpa using nls) (fun x hx => by rw [List.mem_singleton.mp hx, cp8]; decide)) (m812.vl' A8.1 (by decide) (by simpa using nls) w8) (m812.cl' g8 (by decide)) ?_ ⟨hN, by omega, ?_, ?_, ?_⟩
    · rw [e12, e11, e10]; simp (decide := true) only [true_and, and_true, and_self, exists_eq_left, exists_eq_left', forall_eq, forall_eq', Sum.inl.injEq, Sum.inr.injEq, Option.some.injEq, xcls_put, xlen_put, xval_put, xsz_put, xlo_put, xcls_new, xlen_new, xval_new, xsz_new, xlo_new, ↓reduceIte, reduceCtorEq, and_false, false_and, not_true_eq_false, not_false_eq_true, implies_true, forall_const, true_implies, false_implies, ne_eq]
    · have h1 : lh < xsz h3 := xcls_lt A3.1 (by decide)
      have h2 : xsz h3 ≤ xsz h6 := (m35.tx m56).2.1
      omega
    · have h1 := (m03.tr m35).2.1
      omega
    · have h1 := m1.2.1
      omega
    · have h1 := m06.2.1
      omega
  · rw [e12, e11]; simp (decide := true) only [true_and, and_true, and_self, exists_eq_left, exists_eq_left', forall_eq, forall_eq', Sum.inl.injEq, Sum.inr.injEq, Option.some.injEq, xcls_put, xlen_put, xval_put, xsz_put, xlo_put, xcls_new, xlen_new, xval_new, xsz_new, xlo_new, ↓reduceIte, reduceCtorEq, and_false, false_and, not_true_eq_false, not_false_eq_true, implies_true, forall_const, true_implies, false_implies, ne_eq]
  · rw [e12]; simp (decide := true) only [true_and, and_true, and_self, exists_eq_left, exists_eq_left', forall_eq, forall_eq', Sum.inl.injEq, Sum.inr.injEq, Option.some.injEq, xcls_put, xlen_put, xval_put, xsz_put, xlo_put, xcls_new, xlen_new, xval_new, xsz_new, xlo_new, ↓reduceIte, reduceCtorEq, and_false, false_and, not_true_eq_false, not_false_eq_true, implies_true, forall_const, true_implies, false_implies, ne_eq]
theorem pinit_c {F : xH → Nat → Prop} (hd : 6 < d) (hk : 14 ≤ k) (gl : gL G h) (cp : xcls h p = 2) (hN : N ≤ p) (hN2 : N ≤ xsz h) (hz : ∀ j, 2 ≤ j → j ≤ 10 → xval h p j = xi 0) (hQ : ∀ h', xMod [p] h h' → isPr G h' N p [] [] (tV0 4) 0 → F h' (k - 14)) : xCall G d k mX1_init [xr (some p)] h (xkV F T) := by
  refine xCall_of (d' := 6) hd hk (vc_X1_init (rows_new (N := N) (by decide) gl cp (Nat.le_refl _) hN hN2 fun h12 k9 m12 q12 v3 v4 vr _ => hQ h12 m12 ⟨q12, ⟨fun j h2 h10 h5 => ?_, ?_⟩, fun i a ha => by simp at ha, fun i a ha => by simp at ha, rfl, rfl⟩))
  · by_cases e3 : j = 3
    · subst e3; exact v3
    · by_cases e4 : j = 4
      · subst e4; exact v4
      · rw [vr j (by omega) (by omega) e3 e4, hz j h2 h10]
        exact congrArg xi ((by decide : ∀ j : Fin 11, 2 ≤ j.1 → j.1 ≠ 3 → j.1 ≠ 4 → (0 : Int32) = tV0 4 (pvF j.1)) ⟨j, by omega⟩ h2 e3 e4)
  · rw [vr 5 (by decide) (by decide) (by decide) (by decide)]
    exact hz 5 (by decide) (by decide)
theorem pcopy_95 {Kc : Nat} {Q : xR → xH → Prop} {it ls : Nat} (q0 : isPr G h0 N0 o hs ss W nd) (X : wG W) (hop : o ≠ p) (cp : xcls h0 p = 2) (hpz : xsz h0 ≤ p + 1) (hN : p ≤ xsz h0) (hls : ∃ rs, xval h0 o 1 = xr (some rs) ∧ xval h0 rs 0 = xr (some ls)) (Al : isAL G h0 ls ss mc) (hit : xsz h0 ≤ it) :
    ∀ j i h kk ss', i + j = ss.length → ss'.length = i → isPb G h p p hs' ss' → isPh h hs' W → isPs h ss' W → hs'.length = hs.length → isIt h it ls i mc → xMod [p] h0 h → 21 * j ≤ kk →
    (∀ h' hs' ss', xMod [p] h0 h' → isPr G h' p p hs' ss' W nd → Q (.inl none) h') →
    xWp G mX1_init_2 7 Kc Q kk 95 [some (xr (some p)), some (xr (some o)), some (xr (some it)), none] [] h := by
  intro j
  induction j with
  | zero =>
    intro i h kk ss' hi hl q qh qs hlh qi m hk hQ
    have old : ∀ {h1}, xMod [p] h0 h1 → isPr G h1 N0 o hs ss W nd := fun m1 => q0.md' m1 (fun x hx => by rw [List.mem_singleton.mp hx]; exact ⟨fun z => hop z.symm, cp⟩)
    have A1 : isAL G h ls ss mc := Al.md m (fun z => by have := List.mem_singleton.mp z; have h1 := Al.1; rw [this, cp] at h1; cases h1) (fun x hx => by rw [List.mem_singleton.mp hx, cp]; decide)
    have step : ∀ {h1 : xH} (jj : Nat) (v : xV), xMod [p] h0 h1 → xMod [p] h0 (xput h1 p jj v) := fun jj v m1 => m1.put (Or.inl (by simp))
    have cpp : ∀ {h1}, xMod [p] h0 h1 → xcls h1 p = 2 := fun m1 => m1.cl' cp (by decide)
    refine vc_X1_init_2_95 ⟨it, rfl, _, by rw [qi.1]; exact dsp_Iterator_hasNext_8, it_hasNext_c (by decide) A1 qi (by omega) ⟨fun _ => ⟨o, rfl, ?_⟩, fun z => absurd (xb1.mp z) (by rw [decide_eq_true_iff]; omega)⟩⟩
    refine pr_f (old m) 2 (by decide) (by decide) (by decide) ⟨cpp m, fun h48 e48 => ?_⟩
    have m48 : xMod [p] h0 h48 := e48 ▸ step _ _ m
    refine pr_f (old m48) 3 (by decide) (by decide) (by decide) ⟨cpp m48, fun h50 e50 => ?_⟩
    have m50 : xMod [p] h0 h50 := e50 ▸ step _ _ m48
    refine pr_f (old m50) 4 (by decide) (by decide) (by decide) ⟨cpp m50, fun h52 e52 => ?_⟩
    have m52 : xMod [p] h0 h52 := e52 ▸ step _ _ m50
    refine ⟨(old m52).cl, _, (old m52).2.1.2, cpp m52, fun h54 e54 => ?_⟩
    have m54 : xMod [p] h0 h54 := e54 ▸ step _ _ m52
    refine pr_f (old m54) 6 (by decide) (by decide) (by decide) ⟨cpp m54, fun h56 e56 => ?_⟩
    have m56 : xMod [p] h0 h56 := e56 ▸ step _ _ m54
    refine pr_f (old m56) 7 (by decide) (by decide) (by decide) ⟨cpp m56, fun h58 e58 => ?_⟩
    have m58 : xMod [p] h0 h58 := e58 ▸ step _ _ m56
    refine pr_f (old m58) 8 (by decide) (by decide) (by decide) ⟨cpp m58, fun h60 e60 => ?_⟩
    have m60 : xMod [p] h0 h60 := e60 ▸ step _ _ m58
    refine pr_f (old m60) 9 (by decide) (by decide) (by decide) ⟨cpp m60, fun h62 e62 => ?_⟩
    have m62 : xMod [p] h0 h62 := e62 ▸ step _ _ m60
    refine pr_f (old m62) 10 (by decide) (by decide) (by decide) ⟨cpp m62, fun h64 e64 => ?_⟩
    have m64 : xMod [p] h0 h64 := e64 ▸ step _ _ m62
    have mm64 : xMod [p] h h64 := by
      rw [e64, e62, e60, e58, e56, e54, e52, e50, e48]
      exact ((((((((xMod.rf.put (Or.inl (by simp))).put (Or.inl (by simp))).put (Or.inl (by simp))).put (Or.inl (by simp))).put (Or.inl (by simp))).put (Or.inl (by simp))).put (Or.inl (by simp))).put (Or.inl (by simp))).put (Or.inl (by simp))
    have q64 : isPb G h64 p p hs' ss' := by
      rw [e64, e62, e60, e58, e56, e54, e52, e50, e48]
      exact ((((((((q.pp (by decide)).pp (by decide)).pp (by decide)).pp (by decide)).pp (by decide)).pp (by decide)).pp (by decide)).pp (by decide)).pp (by decide)
    refine hQ h64 hs' ss' m64 ⟨q64, ⟨fun j h2 h10 h5 => ?_, ?_⟩, qh.md mm64 (fun x hx => by rw [List.mem_singleton.mp hx, cpp m]; decide), qs.md mm64 (fun x hx => by rw [List.mem_singleton.mp hx, cpp m]; decide), by rw [hlh]; exact q0.2.2.2.2.1, by rw [hl, show i = ss.length by omega]; exact q0.2.2.2.2.2⟩
    · rw [e64, e62, e60, e58, e56, e54, e52, e50, e48]
      match j, h2, h10, h5 with
      | 2, _, _, _ => simp (decide := true) only [true_and, and_true, and_self, exists_eq_left, exists_eq_left', forall_eq, forall_eq', Sum.inl.injEq, Sum.inr.injEq, Option.some.injEq, xcls_put, xlen_put, xval_put, xsz_put, xlo_put, xcls_new, xlen_new, xval_new, xsz_new, xlo_new, ↓reduceIte, reduceCtorEq, and_false, false_and, not_true_eq_false, not_false_eq_true, implies_true, forall_const, true_implies, false_implies, ne_eq]
      | 3, _, _, _ => simp (decide := true) only [true_and, and_true, and_self, exists_eq_left, exists_eq_left', forall_eq, forall_eq', Sum.inl.injEq, Sum.inr.injEq, Option.some.injEq, xcls_put, xlen_put, xval_put, xsz_put, xlo_put, xcls_new, xlen_new, xval_new, xsz_new, xlo_new, ↓reduceIte, reduceCtorEq, and_false, false_and, not_true_eq_false, not_false_eq_true, implies_true, forall_const, true_implies, false_implies, ne_eq]
      | 4, _, _, _ => simp (decide := true) only [true_and, and_true, and_self, exists_eq_left, exists_eq_left', forall_eq, forall_eq', Sum.inl.injEq, Sum.inr.injEq, Option.some.injEq, xcls_put, xlen_put, xval_put, xsz_put, xlo_put, xcls_new, xlen_new, xval_new, xsz_new, xlo_new, ↓reduceIte, reduceCtorEq, and_false, false_and, not_true_eq_false, not_false_eq_true, implies_true, forall_const, true_implies, false_implies, ne_eq]
      | 6, _, _, _ => simp (decide := true) only [true_and, and_true, and_self, exists_eq_left, exists_eq_left', forall_eq, forall_eq', Sum.inl.injEq, Sum.inr.injEq, Option.some.injEq, xcls_put, xlen_put, xval_put, xsz_put, xlo_put, xcls_new, xlen_new, xval_new, xsz_new, xlo_new, ↓reduceIte, reduceCtorEq, and_false, false_and, not_true_eq_false, not_false_eq_true, implies_true, forall_const, true_implies, false_implies, ne_eq]
      | 7, _, _, _ => simp (decide := true) only [true_and, and_true, and_self, exists_eq_left, exists_eq_left', forall_eq, forall_eq', Sum.inl.injEq, Sum.inr.injEq, Option.some.injEq, xcls_put, xlen_put, xval_put, xsz_put, xlo_put, xcls_new, xlen_new, xval_new, xsz_new, xlo_new, ↓reduceIte, reduceCtorEq, and_false, false_and, not_true_eq_false, not_false_eq_true, implies_true, forall_const, true_implies, false_implies, ne_eq]
      | 8, _, _, _ => simp (decide := true) only [true_and, and_true, and_self, exists_eq_left, exists_eq_left', forall_eq, forall_eq', Sum.inl.injEq, Sum.inr.injEq, Option.some.injEq, xcls_put, xlen_put, xval_put, xsz_put, xlo_put, xcls_new, xlen_new, xval_new, xsz_new, xlo_new, ↓reduceIte, reduceCtorEq, and_false, false_and, not_true_eq_false, not_false_eq_true, implies_true, forall_const, true_implies, false_implies, ne_eq]
      | 9, _, _, _ => simp (decide := true) only [true_and, and_true, and_self, exists_eq_left, exists_eq_left', forall_eq, forall_eq', Sum.inl.injEq, Sum.inr.injEq, Option.some.injEq, xcls_put, xlen_put, xval_put, xsz_put, xlo_put, xcls_new, xlen_new, xval_new, xsz_new, xlo_new, ↓reduceIte, reduceCtorEq, and_false, false_and, not_true_eq_false, not_false_eq_true, implies_true, forall_const, true_implies, false_implies, ne_eq]
      | 10, _, _, _ => simp (decide := true) only [true_and, and_true, and_self, exists_eq_left, exists_eq_left', forall_eq, forall_eq', Sum.inl.injEq, Sum.inr.injEq, Option.some.injEq, xcls_put, xlen_put, xval_put, xsz_put, xlo_put, xcls_new, xlen_new, xval_new, xsz_new, xlo_new, ↓reduceIte, reduceCtorEq, and_false, false_and, not_true_eq_false, not_false_eq_true, implies_true, forall_const, true_implies, false_implies, ne_eq]
      | 5, _, _, z => exact absurd rfl z
      | 0, z, _, _ => exact absurd z (by omega)
      | 1, z, _, _ => exact absurd z (by omega)
      | j + 11, _, z, _ => exact absurd z (by omega)
    · rw [e64, e62, e60, e58, e56, e54]; simp (decide := true) only [true_and, and_true, and_self, exists_eq_left, exists_eq_left', forall_eq, forall_eq', Sum.inl.injEq, Sum.inr.injEq, Option.some.injEq, xcls_put, xlen_put, xval_put, xsz_put, xlo_put, xcls_new, xlen_new, xval_new, xsz_new, xlo_new, ↓reduceIte, reduceCtorEq, and_false, false_and, not_true_eq_false, not_false_eq_true, implies_true, forall_const, true_implies, false_implies, ne_eq]
  | succ j ih =>
    intro i h kk ss' hi hl q qh qs hlh qi m hk hQ
    have hls6 := q0.ls
    have old : ∀ {h1}, xMod [p] h0 h1 → isPr G h1 N0 o hs ss W nd := fun m1 => q0.md' m1 (fun x hx => by rw [List.mem_singleton.mp hx]; exact ⟨fun z => hop z.symm, cp⟩)
    have A1 : isAL G h ls ss mc := Al.md m (fun z => by have := List.mem_singleton.mp z; have h1 := Al.1; rw [this, cp] at h1; cases h1) (fun x hx => by rw [List.mem_singleton.mp hx, cp]; decide)
    obtain ⟨e, he⟩ : ∃ e, ss[i]? = some e := ⟨ss[i]'(by omega), List.getElem?_eq_getElem _⟩
    obtain ⟨rh, lh, ah, rs, ls', as, mh, ms, ⟨a1, a2, a3⟩, -⟩ := id q
    refine vc_X1_init_2_95 ⟨it, rfl, _, by rw [qi.1]; exact dsp_Iterator_hasNext_8, it_hasNext_c (by decide) A1 qi (by omega) ⟨fun z => absurd (xb0.mp z) (by rw [decide_eq_false_iff_not]; omega), fun _ => ⟨_, by rw [qi.1]; exact dsp_Iterator_next_8, it_next_c (by decide) A1 qi he fun h1 m1 qi1 => ?_⟩⟩⟩
    have cit : ∀ x, x ∈ [it] → xcls h x = 8 := fun x hx => by rw [List.mem_singleton.mp hx]; exact qi.1
    have m01 := m.tn m1 (fun x hx => Or.inr (by rw [List.mem_singleton.mp hx]; exact hit))
    have q1 : isPb G h1 p p hs' ss' := q.md m1 (fun x hx => by rw [cit x hx]; decide)
    have qh1 := qh.md m1 (fun x hx => by rw [cit x hx]; decide)
    have qs1 := qs.md m1 (fun x hx => by rw [cit x hx]; decide)
    have st := (old m01).st he
    have a31 : xval h1 p 1 = xr (some rs) := m1.vl' a1 (by decide) (fun z => by have := cit p z; rw [a1] at this; cases this) a3
    refine ⟨fun b' e' => by cases e'; exact st.cs.2.1, q1.cl, _, a31, by omega, fun h69 a70 ea eh => ?_⟩
    have m69 : xExt h1 h69 := eh ▸ xMod.rf.new
    have c69 : xcls h69 a70 = 14 := by subst eh; simp (decide := true) only [true_and, and_true, and_self, exists_eq_left, exists_eq_left', forall_eq, forall_eq', Sum.inl.injEq, Sum.inr.injEq, Option.some.injEq, xcls_put, xlen_put, xval_put, xsz_put, xlo_put, xcls_new, xlen_new, xval_new, xsz_new, xlo_new, ↓reduceIte, reduceCtorEq, and_false, false_and, not_true_eq_false, not_false_eq_true, implies_true, forall_const, true_implies, false_implies, ne_eq, ea]
    have hz70 : xsz h1 ≤ a70 := by omega
    have hne : e ≠ a70 := xne_new (by rw [st.1]; decide) ea
    have hsl := q0.si he
    refine st_copy_c (by decide) c69 (st.md m69 (by simp)) (X.2 i hsl).2.1 (X.2 i hsl).2.2 hne fun h71 m71 s71 => ?_
    have m171 : xExt h1 h71 := m69.t1 m71 hz70
    have q71 := q1.md m171 (fun x hx => by cases hx)
    have a371 : xval h71 p 1 = xr (some rs) := m171.vl' q1.cl (by decide) (by simp) a31
    have hN1 : p ≤ xsz h71 := Nat.le_trans hN (m01.tx m171).2.1
    refine ⟨rs, rfl, ?_, ?_⟩
    · obtain ⟨rh, lh, ah, rs', ls', as, mh, ms, ⟨b1, b2, b3⟩, -, ⟨c1, -⟩, -⟩ := q71
      have er : rs' = rs := by have := b3.symm.trans a371; simpa using this
      rw [← er]; exact c1
    refine laysS_c (by decide) (by omega) q71 a371 (by omega) hN1 (Nat.le_trans hN (Nat.le_trans m01.2.1 hz70)) s71.1 fun h74 S' m74 hS q74 => ?_
    have m074 : xMod [p] h0 h74 := (m01.tx m171).tn m74 (fun x hx => Or.inr (by
      have h1 := hS x hx
      have h2 : x ≠ p := fun z => by have := h1.1; rw [z, q71.cl] at this; rcases this with y | y <;> cases y
      have h3 := h1.2
      omega))
    have cS : ∀ x, x ∈ S' → xcls h71 x ≠ 13 ∧ xcls h71 x ≠ 14 ∧ xcls h71 x ≠ 8 := fun x hx => by rcases (hS x hx).1 with z | z <;> rw [z] <;> decide
    have s74 : isSt h74 a70 i W := s71.md m74 (fun z => (cS a70 z).2.1 s71.1)
    have qs74 := (qs1.md m171 (fun x hx => by cases hx)).md m74 (fun x hx => (cS x hx).2.1)
    refine ih (i + 1) h74 _ (ss' ++ [a70]) (by omega) (by rw [List.length_append, List.length_singleton]; omega) q74 ((qh1.md m171 (fun x hx => by cases hx)).md m74 (fun x hx => (cS x hx).1)) (fun t a ha => ?_) hlh ((qi1.md m171 (by simp)).md m74 (fun z => (cS it z).2.2 (m171.cl' qi1.1 (by decide)))) m074 (by omega) hQ
    by_cases hlt : t < ss'.length
    · rw [List.getElem?_append_left hlt] at ha
      exact qs74 t a ha
    · have ht1 := (List.getElem?_eq_some_iff.mp ha).1
      rw [List.length_append, List.length_singleton] at ht1
      have et : t = i := by omega
      rw [List.getElem?_append_right (by omega), et, hl, Nat.sub_self] at ha
      cases ha
      rw [et]
      exact s74
end XPO

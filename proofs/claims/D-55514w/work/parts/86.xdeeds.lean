/-! shut, pump, unpump as they are called (printed by mk86.py) -/
section XDF
variable {G : xG} {d k : Nat} {h h' h0 : xH} {T : Nat → xH → Nat → Prop} {S : List Nat} {x p N N0 i j c a b e r ka mm w m ll n al most dq da ip f dd kd t : Nat} {es hs ss hs' ss' ps ps' cs : List Nat} {W W' g X' Y' u : Nat → Int32} {nd y z v v0 x' y' z' w' mc : Int32} {s s' : xSt} {o : Option xSt} {bs bs' : List xSt} {ro : Option xRf} {rf : xRf} {Z : xZ} {Y : xM} {bo : Bool}
theorem X15_init_c {F : xH → Nat → Prop} (hd : 2 < d) (hc : xcls h t = 28) (hQ : ∀ h', xMod [t] h h' → xval h' t 0 = xr (some x) → xval h' t 1 = xi y → F h' k) : xCall G d k mX15_init [xr (some t), xr (some x), xi y] h (xkV F T) := by
  refine xCall_of (d' := 2) hd (Nat.zero_le k) (vc_X15_init ⟨hc, fun h1 e1 => ⟨?_, fun h2 e2 => deed_init_c (by decide) ?_ fun h3 e3 => hQ h3 ?_ ?_ ?_⟩⟩)
  · subst e1; simp (decide := true) only [true_and, and_true, and_self, exists_eq_left, exists_eq_left', forall_eq, forall_eq', Sum.inl.injEq, Sum.inr.injEq, Option.some.injEq, xcls_put, xlen_put, xval_put, xsz_put, xlo_put, xcls_new, xlen_new, xval_new, xsz_new, xlo_new, ↓reduceIte, reduceCtorEq, and_false, false_and, not_true_eq_false, not_false_eq_true, implies_true, forall_const, true_implies, false_implies, ne_eq, hc]
  · subst e2; subst e1; simp (decide := true) only [true_and, and_true, and_self, exists_eq_left, exists_eq_left', forall_eq, forall_eq', Sum.inl.injEq, Sum.inr.injEq, Option.some.injEq, xcls_put, xlen_put, xval_put, xsz_put, xlo_put, xcls_new, xlen_new, xval_new, xsz_new, xlo_new, ↓reduceIte, reduceCtorEq, and_false, false_and, not_true_eq_false, not_false_eq_true, implies_true, forall_const, true_implies, false_implies, ne_eq, hc, okD]
  · subst e3; subst e2; subst e1
    exact ((xMod.rf.put (Or.inl (by simp))).put (Or.inl (by simp))).put (Or.inl (by simp))
  · subst e3; subst e2; subst e1; (simp (decide := true) only [true_and, and_true, and_self, exists_eq_left, exists_eq_left', forall_eq, forall_eq', Sum.inl.injEq, Sum.inr.injEq, Option.some.injEq, xcls_put, xlen_put, xval_put, xsz_put, xlo_put, xcls_new, xlen_new, xval_new, xsz_new, xlo_new, ↓reduceIte, reduceCtorEq, and_false, false_and, not_true_eq_false, not_false_eq_true, implies_true, forall_const, true_implies, false_implies, ne_eq, hc] <;> rfl)
  · subst e3; subst e2; subst e1; (simp (decide := true) only [true_and, and_true, and_self, exists_eq_left, exists_eq_left', forall_eq, forall_eq', Sum.inl.injEq, Sum.inr.injEq, Option.some.injEq, xcls_put, xlen_put, xval_put, xsz_put, xlo_put, xcls_new, xlen_new, xval_new, xsz_new, xlo_new, ↓reduceIte, reduceCtorEq, and_false, false_and, not_true_eq_false, not_false_eq_true, implies_true, forall_const, true_implies, false_implies, ne_eq, hc] <;> rfl)
theorem xshut_c {F : Int32 → xH → Nat → Prop} (hd : 15 < d) (hk : 341 ≤ k) (gl : gL G h) (gk : gK G) (q : isX G h x dq da ip Z) (X : wG Z.1.1)
    (h1 : ∀ s, y = nI s → s < nS Z.1.1 → pNotShut Z.1.1 y = (0, none) → ∀ h', xMod [x, dq, da, ip] h h' → isX G h' x dq da ip (didX Z (pShuts Z.1.1 s, Z.1.2)) → F (nI (bCard (pMask (pShuts Z.1.1 s)))) h' (k - 341))
    (h2 : (pNotShut Z.1.1 y).1 ≠ 0 → ∀ h', xMod [x, dq, da, ip] h h' → isX G h' x dq da ip (refX Z (pNotShut Z.1.1 y).2) → F (pNotShut Z.1.1 y).1 h' (k - 341)) : xCall G d k mX0_shut [xr (some x), xi y] h (xkI F T) := by
  refine xCall_of (d' := 15) hd hk (vc_X0_shut ⟨by decide, fun h1' t ea eh => ?_⟩)
  have x1 : xExt h h1' := eh ▸ xMod.rf.new
  have c1 : xcls h1' t = 28 := by subst eh; simp (decide := true) only [true_and, and_true, and_self, exists_eq_left, exists_eq_left', forall_eq, forall_eq', Sum.inl.injEq, Sum.inr.injEq, Option.some.injEq, xcls_put, xlen_put, xval_put, xsz_put, xlo_put, xcls_new, xlen_new, xval_new, xsz_new, xlo_new, ↓reduceIte, reduceCtorEq, and_false, false_and, not_true_eq_false, not_false_eq_true, implies_true, forall_const, true_implies, false_implies, ne_eq, ea]
  refine X15_init_c (by decide) c1 fun h3 m3 f0 f1 => ?_
  have x3 : xExt h h3 := x1.tn m3 (fun y hy => Or.inr (by rw [List.mem_singleton.mp hy]; omega))
  have c3 : xcls h3 t = 28 := m3.cl' c1 (by decide)
  have q3 := q.ex x3
  refine X_now q3 fun p hs ss pr => pr_s pr fun r R _ => row_has_c (by decide) R ⟨c3, ?_⟩
  rw [← pr.ns]
  have p4 := pr.pw.2.2.2
  have cases : (pHas (nS Z.1.1) y = false ∧ pNotShut Z.1.1 y = (-1, none)) ∨ ∃ s, s < nS Z.1.1 ∧ y = nI s := by
    cases hb : pHas (nS Z.1.1) y with
    | false => left; exact ⟨rfl, by unfold pNotShut; rw [hb]; rfl⟩
    | true => exact Or.inr ((pHas_iff (by omega)).mp hb)
  rcases cases with ⟨hb, hO⟩ | ⟨s, hs', rfl⟩
  · rw [hb]
    exact deed_c (bo := false) (dd := 13) (kd := 21) (Y := mX15_does) (v := 0) (s' := Z.1) (O := pNotShut Z.1.1 y) (by decide) (by decide) (by decide) (gl.md x3) q3 X (by rw [c3]; unfold okD; decide) f0 (by rw [c3]; simp [dsp_HamletWells_Deed_does]) (fun _ => hO) (by decide) (fun z => by cases z) (fun z => by rw [hO] at z; exact absurd (congrArg Prod.fst z) (by decide)) fun hn h' m q' => h2 hn h' ((xMod.of x3).tr m) q'
  · rw [(pHas_iff (by omega)).mpr ⟨s, hs', rfl⟩]
    refine deed_c (bo := true) (dd := 13) (kd := 21) (Y := mX15_does) (v := nI (bCard (pMask (pShuts Z.1.1 s)))) (s' := (pShuts Z.1.1 s, Z.1.2)) (O := pNotShut Z.1.1 (nI s)) (by decide) (by decide) (by decide) (gl.md x3) q3 X (by rw [c3]; unfold okD; decide) f0 (by rw [c3]; simp [dsp_HamletWells_Deed_does]) (fun z => by cases z) (by decide) (fun _ h5 hs5 ss5 x5 q5 => ?_) (fun e h' m q' => h1 s rfl hs' e h' ((xMod.of x3).tr m) q') fun hn h' m q' => h2 hn h' ((xMod.of x3).tr m) q'
    exact xCall_of (d' := 12) (by decide) (Nat.le_refl _) (vc_X15_does ⟨x5.cl' c3 (by decide), _, x5.vl' c3 (by decide) (by simp) f1, _, rfl, q5.cl, shuts_c (by decide) (by decide) gk q5 X hs' (fun e h' g q' => ⟨e, rfl, _, _, g, q'⟩) fun r dt e h' e' x' _ r' => ⟨r, dt, e, x', r'⟩⟩)
theorem X16_init_c {F : xH → Nat → Prop} (hd : 2 < d) (hc : xcls h t = 29) (hQ : ∀ h', xMod [t] h h' → xval h' t 0 = xr (some x) → xval h' t 1 = xi y → F h' k) : xCall G d k mX16_init [xr (some t), xr (some x), xi y] h (xkV F T) := by
  refine xCall_of (d' := 2) hd (Nat.zero_le k) (vc_X16_init ⟨hc, fun h1 e1 => ⟨?_, fun h2 e2 => deed_init_c (by decide) ?_ fun h3 e3 => hQ h3 ?_ ?_ ?_⟩⟩)
  · subst e1; simp (decide := true) only [true_and, and_true, and_self, exists_eq_left, exists_eq_left', forall_eq, forall_eq', Sum.inl.injEq, Sum.inr.injEq, Option.some.injEq, xcls_put, xlen_put, xval_put, xsz_put, xlo_put, xcls_new, xlen_new, xval_new, xsz_new, xlo_new, ↓reduceIte, reduceCtorEq, and_false, false_and, not_true_eq_false, not_false_eq_true, implies_true, forall_const, true_implies, false_implies, ne_eq, hc]
  · subst e2; subst e1; simp (decide := true) only [true_and, and_true, and_self, exists_eq_left, exists_eq_left', forall_eq, forall_eq', Sum.inl.injEq, Sum.inr.injEq, Option.some.injEq, xcls_put, xlen_put, xval_put, xsz_put, xlo_put, xcls_new, xlen_new, xval_new, xsz_new, xlo_new, ↓reduceIte, reduceCtorEq, and_false, false_and, not_true_eq_false, not_false_eq_true, implies_true, forall_const, true_implies, false_implies, ne_eq, hc, okD]
  · subst e3; subst e2; subst e1
    exact ((xMod.rf.put (Or.inl (by simp))).put (Or.inl (by simp))).put (Or.inl (by simp))
  · subst e3; subst e2; subst e1; (simp (decide := true) only [true_and, and_true, and_self, exists_eq_left, exists_eq_left', forall_eq, forall_eq', Sum.inl.injEq, Sum.inr.injEq, Option.some.injEq, xcls_put, xlen_put, xval_put, xsz_put, xlo_put, xcls_new, xlen_new, xval_new, xsz_new, xlo_new, ↓reduceIte, reduceCtorEq, and_false, false_and, not_true_eq_false, not_false_eq_true, implies_true, forall_const, true_implies, false_implies, ne_eq, hc] <;> rfl)
  · subst e3; subst e2; subst e1; (simp (decide := true) only [true_and, and_true, and_self, exists_eq_left, exists_eq_left', forall_eq, forall_eq', Sum.inl.injEq, Sum.inr.injEq, Option.some.injEq, xcls_put, xlen_put, xval_put, xsz_put, xlo_put, xcls_new, xlen_new, xval_new, xsz_new, xlo_new, ↓reduceIte, reduceCtorEq, and_false, false_and, not_true_eq_false, not_false_eq_true, implies_true, forall_const, true_implies, false_implies, ne_eq, hc] <;> rfl)
theorem xpump_c {F : Int32 → xH → Nat → Prop} (hd : 15 < d) (hk : 347 ≤ k) (gl : gL G h) (gk : gK G) (q : isX G h x dq da ip Z) (X : wG Z.1.1) (hW : 0 ≤ Z.1.1 4)
    (h1 : ∀ s, y = nI s → s < nS Z.1.1 → pNotPump Z.1.1 y = (0, none) → ∀ h', xMod [x, dq, da, ip] h h' → isX G h' x dq da ip (didX Z (pPumps Z.1.1 s, Z.1.2)) → F (pGives (pPumps Z.1.1 s) s) h' (k - 347))
    (h2 : (pNotPump Z.1.1 y).1 ≠ 0 → ∀ h', xMod [x, dq, da, ip] h h' → isX G h' x dq da ip (refX Z (pNotPump Z.1.1 y).2) → F (pNotPump Z.1.1 y).1 h' (k - 347)) : xCall G d k mX0_pump [xr (some x), xi y] h (xkI F T) := by
  refine xCall_of (d' := 15) hd hk (vc_X0_pump ⟨by decide, fun h1' t ea eh => ?_⟩)
  have x1 : xExt h h1' := eh ▸ xMod.rf.new
  have c1 : xcls h1' t = 29 := by subst eh; simp (decide := true) only [true_and, and_true, and_self, exists_eq_left, exists_eq_left', forall_eq, forall_eq', Sum.inl.injEq, Sum.inr.injEq, Option.some.injEq, xcls_put, xlen_put, xval_put, xsz_put, xlo_put, xcls_new, xlen_new, xval_new, xsz_new, xlo_new, ↓reduceIte, reduceCtorEq, and_false, false_and, not_true_eq_false, not_false_eq_true, implies_true, forall_const, true_implies, false_implies, ne_eq, ea]
  refine X16_init_c (by decide) c1 fun h3 m3 f0 f1 => ?_
  have x3 : xExt h h3 := x1.tn m3 (fun y hy => Or.inr (by rw [List.mem_singleton.mp hy]; omega))
  have c3 : xcls h3 t = 29 := m3.cl' c1 (by decide)
  have q3 := q.ex x3
  refine X_now q3 fun p hs ss pr => pr_s pr fun r R _ => row_has_c (by decide) R ⟨c3, ?_⟩
  rw [← pr.ns]
  have p4 := pr.pw.2.2.2
  have cases : (pHas (nS Z.1.1) y = false ∧ pNotPump Z.1.1 y = (-1, none)) ∨ ∃ s, s < nS Z.1.1 ∧ y = nI s := by
    cases hb : pHas (nS Z.1.1) y with
    | false => left; exact ⟨rfl, by unfold pNotPump; rw [hb]; rfl⟩
    | true => exact Or.inr ((pHas_iff (by omega)).mp hb)
  rcases cases with ⟨hb, hO⟩ | ⟨s, hs', rfl⟩
  · rw [hb]
    exact deed_c (bo := false) (dd := 13) (kd := 27) (Y := mX16_does) (v := 0) (s' := Z.1) (O := pNotPump Z.1.1 y) (by decide) (by decide) (by decide) (gl.md x3) q3 X (by rw [c3]; unfold okD; decide) f0 (by rw [c3]; simp [dsp_HamletWells_Deed_does]) (fun _ => hO) (by decide) (fun z => by cases z) (fun z => by rw [hO] at z; exact absurd (congrArg Prod.fst z) (by decide)) fun hn h' m q' => h2 hn h' ((xMod.of x3).tr m) q'
  · rw [(pHas_iff (by omega)).mpr ⟨s, hs', rfl⟩]
    refine deed_c (bo := true) (dd := 13) (kd := 27) (Y := mX16_does) (v := pGives (pPumps Z.1.1 s) s) (s' := (pPumps Z.1.1 s, Z.1.2)) (O := pNotPump Z.1.1 (nI s)) (by decide) (by decide) (by decide) (gl.md x3) q3 X (by rw [c3]; unfold okD; decide) f0 (by rw [c3]; simp [dsp_HamletWells_Deed_does]) (fun z => by cases z) (by decide) (fun _ h5 hs5 ss5 x5 q5 => ?_) (fun e h' m q' => h1 s rfl hs' e h' ((xMod.of x3).tr m) q') fun hn h' m q' => h2 hn h' ((xMod.of x3).tr m) q'
    exact xCall_of (d' := 12) (by decide) (Nat.le_refl _) (vc_X16_does ⟨x5.cl' c3 (by decide), _, x5.vl' c3 (by decide) (by simp) f1, _, rfl, q5.cl, pumps_c (by decide) (by decide) gk q5 X hs' hW (fun e h' g q' => ⟨e, rfl, _, _, g, q'⟩) fun r dt e h' e' x' _ r' => ⟨r, dt, e, x', r'⟩⟩)
theorem X17_init_c {F : xH → Nat → Prop} (hd : 2 < d) (hc : xcls h t = 30) (hQ : ∀ h', xMod [t] h h' → xval h' t 0 = xr (some x) → xval h' t 1 = xi y → F h' k) : xCall G d k mX17_init [xr (some t), xr (some x), xi y] h (xkV F T) := by
  refine xCall_of (d' := 2) hd (Nat.zero_le k) (vc_X17_init ⟨hc, fun h1 e1 => ⟨?_, fun h2 e2 => deed_init_c (by decide) ?_ fun h3 e3 => hQ h3 ?_ ?_ ?_⟩⟩)
  · subst e1; simp (decide := true) only [true_and, and_true, and_self, exists_eq_left, exists_eq_left', forall_eq, forall_eq', Sum.inl.injEq, Sum.inr.injEq, Option.some.injEq, xcls_put, xlen_put, xval_put, xsz_put, xlo_put, xcls_new, xlen_new, xval_new, xsz_new, xlo_new, ↓reduceIte, reduceCtorEq, and_false, false_and, not_true_eq_false, not_false_eq_true, implies_true, forall_const, true_implies, false_implies, ne_eq, hc]
  · subst e2; subst e1; simp (decide := true) only [true_and, and_true, and_self, exists_eq_left, exists_eq_left', forall_eq, forall_eq', Sum.inl.injEq, Sum.inr.injEq, Option.some.injEq, xcls_put, xlen_put, xval_put, xsz_put, xlo_put, xcls_new, xlen_new, xval_new, xsz_new, xlo_new, ↓reduceIte, reduceCtorEq, and_false, false_and, not_true_eq_false, not_false_eq_true, implies_true, forall_const, true_implies, false_implies, ne_eq, hc, okD]
  · subst e3; subst e2; subst e1
    exact ((xMod.rf.put (Or.inl (by simp))).put (Or.inl (by simp))).put (Or.inl (by simp))
  · subst e3; subst e2; subst e1; (simp (decide := true) only [true_and, and_true, and_self, exists_eq_left, exists_eq_left', forall_eq, forall_eq', Sum.inl.injEq, Sum.inr.injEq, Option.some.injEq, xcls_put, xlen_put, xval_put, xsz_put, xlo_put, xcls_new, xlen_new, xval_new, xsz_new, xlo_new, ↓reduceIte, reduceCtorEq, and_false, false_and, not_true_eq_false, not_false_eq_true, implies_true, forall_const, true_implies, false_implies, ne_eq, hc] <;> rfl)
  · subst e3; subst e2; subst e1; (simp (decide := true) only [true_and, and_true, and_self, exists_eq_left, exists_eq_left', forall_eq, forall_eq', Sum.inl.injEq, Sum.inr.injEq, Option.some.injEq, xcls_put, xlen_put, xval_put, xsz_put, xlo_put, xcls_new, xlen_new, xval_new, xsz_new, xlo_new, ↓reduceIte, reduceCtorEq, and_false, false_and, not_true_eq_false, not_false_eq_true, implies_true, forall_const, true_implies, false_implies, ne_eq, hc] <;> rfl)
theorem xunpump_c {F : Int32 → xH → Nat → Prop} (hd : 15 < d) (hk : 338 ≤ k) (gl : gL G h) (gk : gK G) (q : isX G h x dq da ip Z) (X : wG Z.1.1)
    (h1 : ∀ s, y = nI s → s < nS Z.1.1 → pNotUnpump Z.1.1 y = (0, none) → ∀ h', xMod [x, dq, da, ip] h h' → isX G h' x dq da ip (didX Z (pUnpumps Z.1.1 s, Z.1.2)) → F (pUnpumps Z.1.1 s 4) h' (k - 338))
    (h2 : (pNotUnpump Z.1.1 y).1 ≠ 0 → ∀ h', xMod [x, dq, da, ip] h h' → isX G h' x dq da ip (refX Z (pNotUnpump Z.1.1 y).2) → F (pNotUnpump Z.1.1 y).1 h' (k - 338)) : xCall G d k mX0_unpump [xr (some x), xi y] h (xkI F T) := by
  refine xCall_of (d' := 15) hd hk (vc_X0_unpump ⟨by decide, fun h1' t ea eh => ?_⟩)
  have x1 : xExt h h1' := eh ▸ xMod.rf.new
  have c1 : xcls h1' t = 30 := by subst eh; simp (decide := true) only [true_and, and_true, and_self, exists_eq_left, exists_eq_left', forall_eq, forall_eq', Sum.inl.injEq, Sum.inr.injEq, Option.some.injEq, xcls_put, xlen_put, xval_put, xsz_put, xlo_put, xcls_new, xlen_new, xval_new, xsz_new, xlo_new, ↓reduceIte, reduceCtorEq, and_false, false_and, not_true_eq_false, not_false_eq_true, implies_true, forall_const, true_implies, false_implies, ne_eq, ea]
  refine X17_init_c (by decide) c1 fun h3 m3 f0 f1 => ?_
  have x3 : xExt h h3 := x1.tn m3 (fun y hy => Or.inr (by rw [List.mem_singleton.mp hy]; omega))
  have c3 : xcls h3 t = 30 := m3.cl' c1 (by decide)
  have q3 := q.ex x3
  refine X_now q3 fun p hs ss pr => pr_s pr fun r R _ => row_has_c (by decide) R ⟨c3, ?_⟩
  rw [← pr.ns]
  have p4 := pr.pw.2.2.2
  have cases : (pHas (nS Z.1.1) y = false ∧ pNotUnpump Z.1.1 y = (-1, none)) ∨ ∃ s, s < nS Z.1.1 ∧ y = nI s := by
    cases hb : pHas (nS Z.1.1) y with
    | false => left; exact ⟨rfl, by unfold pNotUnpump; rw [hb]; rfl⟩
    | true => exact Or.inr ((pHas_iff (by omega)).mp hb)
  rcases cases with ⟨hb, hO⟩ | ⟨s, hs', rfl⟩
  · rw [hb]
    exact deed_c (bo := false) (dd := 13) (kd := 18) (Y := mX17_does) (v := 0) (s' := Z.1) (O := pNotUnpump Z.1.1 y) (by decide) (by decide) (by decide) (gl.md x3) q3 X (by rw [c3]; unfold okD; decide) f0 (by rw [c3]; simp [dsp_HamletWells_Deed_does]) (fun _ => hO) (by decide) (fun z => by cases z) (fun z => by rw [hO] at z; exact absurd (congrArg Prod.fst z) (by decide)) fun hn h' m q' => h2 hn h' ((xMod.of x3).tr m) q'
  · rw [(pHas_iff (by omega)).mpr ⟨s, hs', rfl⟩]
    refine deed_c (bo := true) (dd := 13) (kd := 18) (Y := mX17_does) (v := pUnpumps Z.1.1 s 4) (s' := (pUnpumps Z.1.1 s, Z.1.2)) (O := pNotUnpump Z.1.1 (nI s)) (by decide) (by decide) (by decide) (gl.md x3) q3 X (by rw [c3]; unfold okD; decide) f0 (by rw [c3]; simp [dsp_HamletWells_Deed_does]) (fun z => by cases z) (by decide) (fun _ h5 hs5 ss5 x5 q5 => ?_) (fun e h' m q' => h1 s rfl hs' e h' ((xMod.of x3).tr m) q') fun hn h' m q' => h2 hn h' ((xMod.of x3).tr m) q'
    exact xCall_of (d' := 12) (by decide) (Nat.le_refl _) (vc_X17_does ⟨x5.cl' c3 (by decide), _, x5.vl' c3 (by decide) (by simp) f1, _, rfl, q5.cl, unpumps_c (by decide) (by decide) gk q5 X hs' (fun e h' g q' => ⟨e, rfl, _, _, g, q'⟩) fun r dt e h' e' x' _ r' => ⟨r, dt, e, x', r'⟩⟩)
end XDF

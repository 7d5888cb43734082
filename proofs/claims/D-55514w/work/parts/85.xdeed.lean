/-! the deeds as they are called -/
def refX (Z : xZ) (o : Option (Int32 × Int32)) : xZ := match o with | none => Z | some r => (Z.1, Z.2.1, Z.2.2.1, some (r.1, r.2, none), Z.2.2.2.2)
def didX (Z : xZ) (s : xSt) : xZ := (s, Z.2.1, bPush Z.2.2.1 Z.1, Z.2.2.2)
section XDE
variable {G : xG} {d k : Nat} {h h' h0 : xH} {T : Nat → xH → Nat → Prop} {S : List Nat} {x p N N0 i j c a b e r ka mm w m ll n al most dq da ip f dd kd t : Nat} {es hs ss hs' ss' ps ps' cs : List Nat} {W W' g X' Y' u : Nat → Int32} {nd y z v v0 x' y' z' w' mc : Int32} {s s' : xSt} {o : Option xSt} {bs bs' : List xSt} {ro : Option xRf} {rf : xRf} {Z : xZ} {Y : xM} {bo : Bool}
theorem X_now {R : Nat → Prop} (q : isX G h x dq da ip Z) (K : ∀ p hs ss, isPr G h 0 p hs ss Z.1.1 Z.1.2 → R p) : xcls h x = 1 ∧ ∃ o5 : Option Nat, xval h x 0 = xr o5 ∧ ∃ a6, o5 = some a6 ∧ R a6 := by
  obtain ⟨p, q1, ⟨hs, ss, q2⟩, q3⟩ := q.2.1
  exact ⟨q.1, _, q1, p, rfl, K p hs ss q2⟩
theorem deed_c {F : Int32 → xH → Nat → Prop} {O : Int32 × Option (Int32 × Int32)} (h7 : 7 < dd) (hd : dd + 1 < d) (hk : 316 + kd ≤ k) (gl : gL G h) (q : isX G h x dq da ip Z) (X : wG Z.1.1) (ht : okD (xcls h t)) (t0 : xval h t 0 = xr (some x)) (hY : (xcls h t, Y) ∈ dsp_HamletWells_Deed_does)
    (hc0 : bo = false → O = (v0, none)) (hv0 : v0 ≠ 0)
    (hdoes : bo = true → ∀ h1 hs ss, xExt h h1 → isPr G h1 (xsz h) (xsz h) hs ss Z.1.1 Z.1.2 → xCall G dd kd Y [xr (some t), xr (some (xsz h))] h1 (xkI (fun v' h2 _ => O = (0, none) ∧ v' = v ∧ ∃ hs' ss', xGr (xsz h) h1 h2 ∧ isPr G h2 (xsz h) (xsz h) hs' ss' s'.1 s'.2) (fun e h2 _ => ∃ r dt, O = (-5, some (r, dt)) ∧ xExt h1 h2 ∧ isRf h2 e r dt none)))
    (hF : O = (0, none) → ∀ h', xMod [x, dq, da, ip] h h' → isX G h' x dq da ip (didX Z s') → F v h' (k - (316 + kd)))
    (hE : O.1 ≠ 0 → ∀ h', xMod [x, dq, da, ip] h h' → isX G h' x dq da ip (refX Z O.2) → F O.1 h' (k - (316 + kd))) : xCall G d k mX4_doneIf [xr (some t), xi (xb bo), xi v0] h (xkI F T) := by
  refine xCall_of (d' := dd + 1) hd hk (vc_X4_doneIf ⟨fun z => ?_, fun z => ?_⟩)
  · have e := hc0 (xb0.mp z)
    have := hE (by rw [e]; exact hv0) h xMod.rf (by rw [e]; exact q)
    rw [e] at this
    exact this
  · have hb := xb1.mp z
    refine ⟨mX4_done, ?_, done_c (R := fun v' s2 => O = (0, none) ∧ v' = v ∧ s2 = s') (R' := fun rf => ∃ r dt, O = (-5, some (r, dt)) ∧ rf = (r, dt, none)) h7 (Nat.lt_succ_self _) (Nat.le_refl _) gl q X ht t0 hY (fun h1 hs ss x1 q1 => xCall.mi (Nat.le_refl _) (Nat.le_refl _) (hdoes hb h1 hs ss x1 q1) ?_ ?_) ?_ ?_⟩
    · unfold okD at ht
      rcases ht with z | z | z | z | z | z | z | z | z <;> rw [z] <;> simp [dsp_HamletWells_Deed_done]
    · rintro v' h2 - - ⟨e1, e2, hs', ss', g, q2⟩
      exact ⟨hs', ss', s', g, q2, e1, e2, rfl⟩
    · rintro e h2 - - ⟨r, dt, e1, x2, q2⟩
      exact ⟨(r, dt, none), xGr.ex x2, ⟨none, q2, fun _ => rfl, fun z => (by cases z), fun _ _ z => (by cases z)⟩, r, dt, e1, rfl⟩
    · rintro v' s2 h' ⟨e1, rfl, rfl⟩ m q2
      exact hF e1 h' m q2
    · rintro rf h' ⟨r, dt, e1, rfl⟩ m q2
      have := hE (by rw [e1]; exact (show (-5 : Int32) ≠ 0 by decide)) h' m (by rw [e1]; exact q2)
      rw [e1] at this
      exact this
theorem deed_init_c {F : xH → Nat → Prop} (hd : 1 < d) (hc : okD (xcls h t)) (hQ : ∀ h', h' = xput h t 0 (xr (some x)) → F h' k) : xCall G d k mX4_init [xr (some t), xr (some x)] h (xkV F T) :=
  xCall_of (d' := 1) hd (Nat.zero_le k) (vc_X4_init ⟨hc, fun h1 e1 => ⟨by decide, hQ h1 e1⟩⟩)
/-- a deed over one site, and nothing else, is made: how all of them begin -/
theorem X14_init_c {F : xH → Nat → Prop} (hd : 2 < d) (hc : xcls h t = 27) (hQ : ∀ h', xMod [t] h h' → xval h' t 0 = xr (some x) → xval h' t 1 = xi y → F h' k) : xCall G d k mX14_init [xr (some t), xr (some x), xi y] h (xkV F T) := by
  refine xCall_of (d' := 2) hd (Nat.zero_le k) (vc_X14_init ⟨hc, fun h1 e1 => ⟨?_, fun h2 e2 => deed_init_c (by decide) ?_ fun h3 e3 => hQ h3 ?_ ?_ ?_⟩⟩)
  · subst e1; simp (decide := true) only [true_and, and_true, and_self, exists_eq_left, exists_eq_left', forall_eq, forall_eq', Sum.inl.injEq, Sum.inr.injEq, Option.some.injEq, xcls_put, xlen_put, xval_put, xsz_put, xlo_put, xcls_new, xlen_new, xval_new, xsz_new, xlo_new, ↓reduceIte, reduceCtorEq, and_false, false_and, not_true_eq_false, not_false_eq_true, implies_true, forall_const, true_implies, false_implies, ne_eq, hc]
  · subst e2; subst e1; simp (decide := true) only [true_and, and_true, and_self, exists_eq_left, exists_eq_left', forall_eq, forall_eq', Sum.inl.injEq, Sum.inr.injEq, Option.some.injEq, xcls_put, xlen_put, xval_put, xsz_put, xlo_put, xcls_new, xlen_new, xval_new, xsz_new, xlo_new, ↓reduceIte, reduceCtorEq, and_false, false_and, not_true_eq_false, not_false_eq_true, implies_true, forall_const, true_implies, false_implies, ne_eq, hc, okD]
  · subst e3; subst e2; subst e1
    exact ((xMod.rf.put (Or.inl (by simp))).put (Or.inl (by simp))).put (Or.inl (by simp))
  · subst e3; subst e2; subst e1; (simp (decide := true) only [true_and, and_true, and_self, exists_eq_left, exists_eq_left', forall_eq, forall_eq', Sum.inl.injEq, Sum.inr.injEq, Option.some.injEq, xcls_put, xlen_put, xval_put, xsz_put, xlo_put, xcls_new, xlen_new, xval_new, xsz_new, xlo_new, ↓reduceIte, reduceCtorEq, and_false, false_and, not_true_eq_false, not_false_eq_true, implies_true, forall_const, true_implies, false_implies, ne_eq, hc] <;> rfl)
  · subst e3; subst e2; subst e1; (simp (decide := true) only [true_and, and_true, and_self, exists_eq_left, exists_eq_left', forall_eq, forall_eq', Sum.inl.injEq, Sum.inr.injEq, Option.some.injEq, xcls_put, xlen_put, xval_put, xsz_put, xlo_put, xcls_new, xlen_new, xval_new, xsz_new, xlo_new, ↓reduceIte, reduceCtorEq, and_false, false_and, not_true_eq_false, not_false_eq_true, implies_true, forall_const, true_implies, false_implies, ne_eq, hc] <;> rfl)
theorem xopen_c {F : Int32 → xH → Nat → Prop} (hd : 15 < d) (hk : 591 ≤ k) (gl : gL G h) (gk : gK G) (q : isX G h x dq da ip Z) (X : wG Z.1.1)
    (h1 : ∀ s, y = nI s → s < nS Z.1.1 → pNotOpen Z.1.1 y = (0, none) → ∀ h', xMod [x, dq, da, ip] h h' → isX G h' x dq da ip (didX Z (pOpens Z.1.1 s, Z.1.2)) → F (nI (pMany (pOpens Z.1.1 s) y)) h' (k - 591))
    (h2 : (pNotOpen Z.1.1 y).1 ≠ 0 → ∀ h', xMod [x, dq, da, ip] h h' → isX G h' x dq da ip (refX Z (pNotOpen Z.1.1 y).2) → F (pNotOpen Z.1.1 y).1 h' (k - 591)) : xCall G d k mX0_open [xr (some x), xi y] h (xkI F T) := by
  refine xCall_of (d' := 15) hd hk (vc_X0_open ⟨by decide, fun h1' t ea eh => ?_⟩)
  have x1 : xExt h h1' := eh ▸ xMod.rf.new
  have c1 : xcls h1' t = 27 := by subst eh; simp (decide := true) only [true_and, and_true, and_self, exists_eq_left, exists_eq_left', forall_eq, forall_eq', Sum.inl.injEq, Sum.inr.injEq, Option.some.injEq, xcls_put, xlen_put, xval_put, xsz_put, xlo_put, xcls_new, xlen_new, xval_new, xsz_new, xlo_new, ↓reduceIte, reduceCtorEq, and_false, false_and, not_true_eq_false, not_false_eq_true, implies_true, forall_const, true_implies, false_implies, ne_eq, ea]
  refine X14_init_c (by decide) c1 fun h3 m3 f0 f1 => ?_
  have x3 : xExt h h3 := x1.tn m3 (fun y hy => Or.inr (by rw [List.mem_singleton.mp hy]; omega))
  have c3 : xcls h3 t = 27 := m3.cl' c1 (by decide)
  have q3 := q.ex x3
  refine X_now q3 fun p hs ss pr => pr_s pr fun r R _ => row_has_c (by decide) R ⟨c3, ?_⟩
  rw [← pr.ns]
  have p4 := pr.pw.2.2.2
  have cases : (pHas (nS Z.1.1) y = false ∧ pNotOpen Z.1.1 y = (-1, none)) ∨ ∃ s, s < nS Z.1.1 ∧ y = nI s := by
    cases hb : pHas (nS Z.1.1) y with
    | false => left; exact ⟨rfl, by unfold pNotOpen; rw [hb]; rfl⟩
    | true => exact Or.inr ((pHas_iff (by omega)).mp hb)
  rcases cases with ⟨hb, hO⟩ | ⟨s, hs', rfl⟩
  · rw [hb]
    exact deed_c (bo := false) (dd := 13) (kd := 271) (Y := mX14_does) (v := 0) (s' := Z.1) (O := pNotOpen Z.1.1 y) (by decide) (by decide) (by decide) (gl.md x3) q3 X (by rw [c3]; unfold okD; decide) f0 (by rw [c3]; simp [dsp_HamletWells_Deed_does]) (fun _ => hO) (by decide) (fun z => by cases z) (fun z => by rw [hO] at z; exact absurd (congrArg Prod.fst z) (by decide)) fun hn h' m q' => h2 hn h' ((xMod.of x3).tr m) q'
  · rw [(pHas_iff (by omega)).mpr ⟨s, hs', rfl⟩]
    refine deed_c (bo := true) (dd := 13) (kd := 271) (Y := mX14_does) (v := nI (pMany (pOpens Z.1.1 s) (nI s))) (s' := (pOpens Z.1.1 s, Z.1.2)) (O := pNotOpen Z.1.1 (nI s)) (by decide) (by decide) (by decide) (gl.md x3) q3 X (by rw [c3]; unfold okD; decide) f0 (by rw [c3]; simp [dsp_HamletWells_Deed_does]) (fun z => by cases z) (by decide) (fun _ h5 hs5 ss5 x5 q5 => ?_) (fun e h' m q' => h1 s rfl hs' e h' ((xMod.of x3).tr m) q') fun hn h' m q' => h2 hn h' ((xMod.of x3).tr m) q'
    exact xCall_of (d' := 12) (by decide) (Nat.le_refl _) (vc_X14_does ⟨x5.cl' c3 (by decide), _, x5.vl' c3 (by decide) (by simp) f1, _, rfl, q5.cl, opens_c (by decide) (by decide) gk q5 X hs' (fun e h' g q' => ⟨e, rfl, _, _, g, q'⟩) fun r dt e h' e' x' _ r' => ⟨r, dt, e, x', r'⟩⟩)
end XDE

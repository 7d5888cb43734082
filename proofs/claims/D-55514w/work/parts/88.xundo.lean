/-! undo, save, restore -/
section XUN
variable {G : xG} {d k : Nat} {h h' h0 : xH} {T : Nat → xH → Nat → Prop} {S : List Nat} {x p N N0 i j c a b e r ka mm w m ll n al most dq da ip f dd kd t : Nat} {es hs ss hs' ss' ps ps' cs : List Nat} {W W' g X' Y' u : Nat → Int32} {nd y z v v0 x' y' z' w' mc : Int32} {s s' : xSt} {o : Option xSt} {bs bs' : List xSt} {ro : Option xRf} {rf : xRf} {Z : xZ} {Y : xM} {bo : Bool}
theorem isX.dqda (q : isX G h x dq da ip Z) : xcls h dq = 5 ∧ xcls h da = 1006 ∧ xcls h ip = 1001 ∧ x ∉ [dq, da] ∧ ip ∉ [dq, da] ∧ (¬ dq = x) ∧ (¬ da = x) ∧ ¬ ip = x := by
  obtain ⟨q1, q2, q3, q4, q5, q6, q7⟩ := q
  obtain ⟨b1, ps, b2, -⟩ := q4
  have cdq : xcls h dq = 5 := b2.1
  have cda : xcls h da = 1006 := b2.2.2.1
  have cip : xcls h ip = 1001 := q7.2.1
  have n1 : ¬ dq = x := xne_cls cdq q1 (by decide)
  have n2 : ¬ da = x := xne_cls cda q1 (by decide)
  have n3 : ¬ ip = x := xne_cls cip q1 (by decide)
  have n4 : ¬ ip = dq := xne_cls cip cdq (by decide)
  have n5 : ¬ ip = da := xne_cls cip cda (by decide)
  exact ⟨cdq, cda, cip, by simp; exact ⟨fun z => n1 z.symm, fun z => n2 z.symm⟩, by simp; exact ⟨n4, n5⟩, n1, n2, n3⟩
theorem isX.now (q : isX G h x dq da ip Z) (hp : isFz G h da p s') : isX G (xput h x 0 (xr (some p))) x dq da ip (s', Z.2) ∧ xMod [x, dq, da, ip] h (xput h x 0 (xr (some p))) := by
  obtain ⟨m', ok⟩ := q.own (j := 0) (w := xr (some p)) rfl
  obtain ⟨cdq, cda, cip, -, -, n1, n2, n3⟩ := q.dqda
  obtain ⟨q1, q2, q3, q4, q5, q6, q7⟩ := q
  have m : xMod [x] h (xput h x 0 (xr (some p))) := xMod.rf.put (Or.inl (by simp))
  have ev : ∀ j, j ≠ 0 → xval (xput h x 0 (xr (some p))) x j = xval h x j := fun j hj => by rw [xval_put, if_neg (fun z => hj z.2)]
  exact ⟨⟨m.cl' q1 (by decide), ⟨p, by rw [xval_put, if_pos ⟨rfl, rfl⟩], hp.md m ok.fz⟩, q3.md (ev 1 (by decide)) m ok, q4.md (ev 2 (by decide)) m ok (by simp [n1]) (by simp [n2]), q5.md (ev 3 (by decide)) m ok, q6.md (ev 4 (by decide)) m ok, q7.md (ev 5 (by decide)) (ev 6 (by decide)) (ev 7 (by decide)) m (by simp [n3])⟩, m'⟩
theorem isX.sav (q : isX G h x dq da ip Z) (hp : isFz G h da p s') : isX G (xput h x 1 (xr (some p))) x dq da ip (Z.1, some s', Z.2.2) ∧ xMod [x, dq, da, ip] h (xput h x 1 (xr (some p))) := by
  obtain ⟨m', ok⟩ := q.own (j := 1) (w := xr (some p)) rfl
  obtain ⟨cdq, cda, cip, -, -, n1, n2, n3⟩ := q.dqda
  obtain ⟨q1, q2, q3, q4, q5, q6, q7⟩ := q
  have m : xMod [x] h (xput h x 1 (xr (some p))) := xMod.rf.put (Or.inl (by simp))
  have ev : ∀ j, j ≠ 1 → xval (xput h x 1 (xr (some p))) x j = xval h x j := fun j hj => by rw [xval_put, if_neg (fun z => hj z.2)]
  exact ⟨⟨m.cl' q1 (by decide), q2.md (ev 0 (by decide)) m ok, ⟨fun z => (by cases z), fun s hs => by cases hs; exact ⟨p, by rw [xval_put, if_pos ⟨rfl, rfl⟩], hp.md m ok.fz⟩⟩, q4.md (ev 2 (by decide)) m ok (by simp [n1]) (by simp [n2]), q5.md (ev 3 (by decide)) m ok, q6.md (ev 4 (by decide)) m ok, q7.md (ev 5 (by decide)) (ev 6 (by decide)) (ev 7 (by decide)) m (by simp [n3])⟩, m'⟩
theorem isX.bef (q : isX G h x dq da ip Z) (m : xMod [dq, da] h h') (hD : isAD h' dq da ps') (hl : ps'.length = bs'.length) (hl8 : ps'.length ≤ 8) (hb : ∀ (i p : Nat) (s : xSt), ps'[i]? = some p → bs'[i]? = some s → isFz G h da p s) : isX G h' x dq da ip (Z.1, Z.2.1, bs', Z.2.2.2) ∧ xMod [x, dq, da, ip] h h' := by
  obtain ⟨cdq, cda, cip, n0, ni, n1, n2, n3⟩ := q.dqda
  obtain ⟨q1, q2, q3, q4, q5, q6, q7⟩ := q
  have ok : okZ h da [dq, da] := by
    intro y hy
    rcases List.mem_cons.mp hy with z | z
    · subst z; exact Or.inr (Or.inr (Or.inl cdq))
    · rw [List.mem_singleton.mp z]; exact Or.inl ⟨rfl, cda⟩
  have ev : ∀ j, xval h' x j = xval h x j := fun j => m.vl (by rw [q1]; decide) n0 j
  exact ⟨⟨m.cl' q1 (by decide), q2.md (ev 0) m ok, q3.md (ev 1) m ok, ⟨(ev 2).trans q4.1, ps', hD, hl, hl8, fun i p s a b => (hb i p s a b).md m ok.fz⟩, q5.md (ev 3) m ok, q6.md (ev 4) m ok, q7.md (ev 5) (ev 6) (ev 7) m ni⟩, m.wk (fun y hy => by simp at hy ⊢; rcases hy with z | z <;> simp [z])⟩
theorem isX.dlt (q : isX G h x dq da ip Z) : da < xsz h := xcls_lt' (by rw [q.dqda.2.1]; decide)
theorem xsave_c {F : Int32 → xH → Nat → Prop} (hd : 8 < d) (hk : 316 ≤ k) (gl : gL G h) (q : isX G h x dq da ip Z) (X : wG Z.1.1)
    (hQ : ∀ h', xMod [x, dq, da, ip] h h' → isX G h' x dq da ip (Z.1, some Z.1, Z.2.2) → F (Z.1.1 0) h' (k - 316)) : xCall G d k mX0_save [xr (some x)] h (xkI F T) := by
  refine xCall_of (d' := 8) hd hk (vc_X0_save ⟨by decide, fun h1 p1 ea eh => ?_⟩)
  have x1 : xExt h h1 := eh ▸ xMod.rf.new
  have c1 : xcls h1 p1 = 2 := by subst eh; simp (decide := true) only [true_and, and_true, and_self, exists_eq_left, exists_eq_left', forall_eq, forall_eq', Sum.inl.injEq, Sum.inr.injEq, Option.some.injEq, xcls_put, xlen_put, xval_put, xsz_put, xlo_put, xcls_new, xlen_new, xval_new, xsz_new, xlo_new, ↓reduceIte, reduceCtorEq, and_false, false_and, not_true_eq_false, not_false_eq_true, implies_true, forall_const, true_implies, false_implies, ne_eq, ea]
  have hz1 : xsz h1 = p1 + 1 := by rw [eh, ea, xsz_new]
  have q1 := q.ex x1
  obtain ⟨p, a1, ⟨hs, ss, a2⟩, a3⟩ := q1.2.1
  have hne : p ≠ p1 := by
    intro z
    obtain ⟨p', a1', ⟨hs', ss', a2'⟩, -⟩ := q.2.1
    have e1 : xval h1 x 0 = xr (some p') := x1.vl' q.1 (by decide) (by simp) a1'
    have e2 : p' = p := by simpa using e1.symm.trans a1
    subst e2
    exact xne_new (by rw [a2'.cl]; decide) ea z
  refine ⟨q1.1, _, a1, pcopy_c (by decide) (by decide) (gl.md x1) a2 X hne c1 hz1 fun h4 hs4 ss4 m4 q4 => ?_⟩
  have x4 : xExt h h4 := x1.tn m4 (fun y hy => Or.inr (by rw [List.mem_singleton.mp hy]; omega))
  have Q4 := q.ex x4
  refine ⟨Q4.1, fun h6 e6 => ?_⟩
  subst e6
  have fz : isFz G h4 da p1 Z.1 := q4.fz (by rw [Q4.dqda.2.1]; decide) (fun _ => by have := q.dlt; omega)
  obtain ⟨Q6, m6⟩ := Q4.sav fz
  refine X_now Q6 fun p6 hs6 ss6 pr6 => pr_f pr6 2 (by decide) (by decide) (by decide) (hQ _ ((xMod.of x4).tr m6) Q6)
theorem xrestore_c {F : Int32 → xH → Nat → Prop} (hd : 8 < d) (hk : 316 ≤ k) (gl : gL G h) (q : isX G h x dq da ip Z) (X : ∀ s, Z.2.1 = some s → wG s.1)
    (h0 : Z.2.1 = none → F (-3) h (k - 316))
    (hQ : ∀ s, Z.2.1 = some s → ∀ h', xMod [x, dq, da, ip] h h' → isX G h' x dq da ip (s, Z.2.1, [], Z.2.2.2) → F (s.1 0) h' (k - 316)) : xCall G d k mX0_restore [xr (some x)] h (xkI F T) := by
  have s0 := q.2.2.1
  refine xCall_of (d' := 8) hd hk (vc_X0_restore ⟨q.1, ?_⟩)
  cases hZ : Z.2.1 with
  | none => exact ⟨none, s0.1 hZ, fun a e => (by cases e), fun _ => h0 hZ⟩
  | some s =>
    obtain ⟨o, e1, ⟨hs, ss, a2⟩, a3⟩ := s0.2 s hZ
    refine ⟨some o, e1, fun _ _ => ⟨by decide, fun h1 p1 ea eh => ?_⟩, fun z => (by cases z)⟩
    have x1 : xExt h h1 := eh ▸ xMod.rf.new
    have c1 : xcls h1 p1 = 2 := by subst eh; simp (decide := true) only [true_and, and_true, and_self, exists_eq_left, exists_eq_left', forall_eq, forall_eq', Sum.inl.injEq, Sum.inr.injEq, Option.some.injEq, xcls_put, xlen_put, xval_put, xsz_put, xlo_put, xcls_new, xlen_new, xval_new, xsz_new, xlo_new, ↓reduceIte, reduceCtorEq, and_false, false_and, not_true_eq_false, not_false_eq_true, implies_true, forall_const, true_implies, false_implies, ne_eq, ea]
    have hz1 : xsz h1 = p1 + 1 := by rw [eh, ea, xsz_new]
    have q1 := q.ex x1
    have hne : o ≠ p1 := xne_new (by rw [a2.cl]; decide) ea
    refine ⟨q1.1, _, x1.vl' q.1 (by decide) (by simp) e1, pcopy_c (by decide) (by decide) (gl.md x1) (a2.ex x1) (X s hZ) hne c1 hz1 fun h4 hs4 ss4 m4 q4 => ?_⟩
    have x4 : xExt h h4 := x1.tn m4 (fun y hy => Or.inr (by rw [List.mem_singleton.mp hy]; omega))
    have Q4 := q.ex x4
    refine ⟨Q4.1, fun h6 e6 => ?_⟩
    subst e6
    have fz : isFz G h4 da p1 s := q4.fz (by rw [Q4.dqda.2.1]; decide) (fun _ => by have := q.dlt; omega)
    obtain ⟨Q6, m6⟩ := Q4.now fz
    obtain ⟨b1, ps, b2, b3, b4, b5⟩ := Q6.2.2.2.1
    refine ⟨Q6.1, _, b1, dq, rfl, b2.1, ad_clear_c (by decide) b2 fun h11 m11 b11 => ?_⟩
    obtain ⟨Q11, m11'⟩ := Q6.bef m11 b11 (bs' := []) rfl (by decide) (fun i p s e => by simp at e)
    exact X_now Q11 fun p6 hs6 ss6 pr6 => pr_f pr6 2 (by decide) (by decide) (by decide) (hQ s hZ _ (((xMod.of x4).tr m6).tr m11') Q11)
theorem xundo_c {F : Int32 → xH → Nat → Prop} (hd : 4 < d) (q : isX G h x dq da ip Z)
    (h0 : Z.2.2.1 = [] → F (-3) h k)
    (hQ : ∀ bs s, Z.2.2.1 = bs ++ [s] → ∀ h', xMod [x, dq, da, ip] h h' → isX G h' x dq da ip (s, Z.2.1, bs, Z.2.2.2) → F (nI bs.length) h' k) : xCall G d k mX0_undo [xr (some x)] h (xkI F T) := by
  obtain ⟨b1, ps, b2, b3, b4, b5⟩ := q.2.2.2.1
  refine xCall_of (d' := 4) hd (Nat.zero_le k) (vc_X0_undo ⟨q.1, _, b1, dq, rfl, b2.1, ad_isEmpty_c (by decide) b2 ⟨fun z => ?_, fun z => ?_⟩⟩)
  · have hne : ps ≠ [] := of_decide_eq_false (xb0.mp z)
    obtain ⟨ps', p, rfl⟩ : ∃ ps' p, ps = ps' ++ [p] := ⟨ps.dropLast, ps.getLast hne, (List.dropLast_concat_getLast hne).symm⟩
    have hne2 : Z.2.2.1 ≠ [] := fun e => by rw [e] at b3; simp at b3
    obtain ⟨bs, s, hbs⟩ : ∃ bs s, Z.2.2.1 = bs ++ [s] := ⟨Z.2.2.1.dropLast, Z.2.2.1.getLast hne2, (List.dropLast_concat_getLast hne2).symm⟩
    rw [hbs] at b3 b5
    have hl : ps'.length = bs.length := by simp at b3; exact b3
    have fz : isFz G h da p s := b5 ps'.length p s (by rw [List.getElem?_append_right (Nat.le_refl _), Nat.sub_self]; rfl) (by rw [hl, List.getElem?_append_right (Nat.le_refl _), Nat.sub_self]; rfl)
    refine ⟨q.1, _, b1, dq, rfl, b2.1, ad_removeLast_c (by decide) b2 fun h8 m8 b8 => ?_⟩
    obtain ⟨Q8, m8'⟩ := q.bef m8 b8 (bs' := bs) hl (by simp at b4; omega) (fun i p s e1 e2 => by
      have i1 := (List.getElem?_eq_some_iff.mp e1).1
      exact b5 i p s (by rw [List.getElem?_append_left i1]; exact e1) (by rw [List.getElem?_append_left (by omega)]; exact e2))
    obtain ⟨cdq, cda, -⟩ := q.dqda
    have fz8 : isFz G h8 da p s := fz.md m8 (okZ.fz (S := [dq, da]) fun y hy => by
      rcases List.mem_cons.mp hy with z | z
      · rw [z]; exact Or.inr (Or.inr (Or.inl cdq))
      · rw [List.mem_singleton.mp z]; exact Or.inl ⟨rfl, cda⟩)
    refine ⟨fun b e => (by cases e; rw [fz8.2.1]; decide), Q8.1, fun h11 e11 => ?_⟩
    subst e11
    obtain ⟨Q11, m11⟩ := Q8.now fz8
    obtain ⟨c1, ps11, c2, c3, -⟩ := Q11.2.2.2.1
    refine ⟨Q11.1, _, c1, dq, rfl, c2.1, ad_size_c (by decide) c2 ?_⟩
    rw [c3]
    exact hQ bs s hbs _ (m8'.tr m11) Q11
  · have he : ps = [] := of_decide_eq_true (xb1.mp z)
    rw [he] at b3
    exact h0 (List.length_eq_zero_iff.mp b3.symm)
end XUN

/-! a province's rows: made, added to; a province is copied -/
def gL (G : xG) (h : xH) : Prop := ∃ e0, G.2.1 0 = xr (some e0) ∧ xcls h e0 = 1009 ∧ xlen h e0 = 0
section XPK
variable {G : xG} {d k : Nat} {h h' h0 : xH} {T : Nat → xH → Nat → Prop} {S : List Nat} {x p N i j s c a b e r ka mm w m ll n o al : Nat} {es hs ss hs' ss' : List Nat} {W W' f g : Nat → Int32} {nd y z v x' y' t mc : Int32}
theorem gL.md (q : gL G h) (m : xMod S h h') : gL G h' := by
  obtain ⟨e0, a, b, c⟩ := q
  exact ⟨e0, a, m.cl' b (by decide), (m.ln (by rw [b]; decide)).trans c⟩
theorem isAL.md2 (q : isAL G h al es mc) (m : xMod S h h') (h1 : al ∉ S) (h2 : ∀ a, xval h al 1 = xr (some a) → a ∉ S) : isAL G h' al es mc := by
  obtain ⟨q1, q2, q3, q4, arr, q5, q6, q7⟩ := q
  have ha := h2 arr q5
  have hc : xcls h arr ≠ 0 := by rcases q6 with ⟨z, -⟩ | ⟨z, -⟩ <;> rw [z] <;> decide
  refine ⟨m.cl' q1 (by decide), m.vl' q1 (by decide) h1 q2, m.vl' q1 (by decide) h1 q3, q4, arr, m.vl' q1 (by decide) h1 q5, ?_, fun i e hi => (m.vl hc ha i).trans (q7 i e hi)⟩
  rw [m.cl hc, m.ln hc]
  exact q6
theorem row_init_c {F : xH → Nat → Prop} (hd : 5 < d) (hk : 4 ≤ k) (gl : gL G h) (hc : xcls h r = 3)
    (hQ : ∀ h' l e0, xMod [r] h h' → xsz h ≤ l → xval h' r 0 = xr (some l) → xval h' r 1 = xi y → isAL G h' l [] 0 → xval h' l 1 = xr (some e0) → xcls h' e0 = 1009 → F h' (k - 4)) : xCall G d k mX2_init [xr (some r), xi y] h (xkV F T) := by
  obtain ⟨e0, g0, g1, g2⟩ := gl
  refine xCall_of (d' := 5) hd hk (vc_X2_init ⟨by decide, by decide, fun h1 a2 ea eh => ?_⟩)
  have hr : ¬ r = a2 := xne_new (by rw [hc]; decide) ea
  have he : ¬ e0 = a2 := xne_new (by rw [g1]; decide) ea
  have m1 : xMod [r] h h1 := eh ▸ xMod.rf.new
  have c1 : xcls h1 a2 = 4 := by subst eh; simp (decide := true) only [true_and, and_true, and_self, exists_eq_left, exists_eq_left', forall_eq, forall_eq', Sum.inl.injEq, Sum.inr.injEq, Option.some.injEq, xcls_put, xlen_put, xval_put, xsz_put, xlo_put, xcls_new, xlen_new, xval_new, xsz_new, xlo_new, ↓reduceIte, reduceCtorEq, and_false, false_and, not_true_eq_false, not_false_eq_true, implies_true, forall_const, true_implies, false_implies, ne_eq, ea]
  have v1 : xval h1 a2 2 = xi 0 := by subst eh; (simp (decide := true) only [true_and, and_true, and_self, exists_eq_left, exists_eq_left', forall_eq, forall_eq', Sum.inl.injEq, Sum.inr.injEq, Option.some.injEq, xcls_put, xlen_put, xval_put, xsz_put, xlo_put, xcls_new, xlen_new, xval_new, xsz_new, xlo_new, ↓reduceIte, reduceCtorEq, and_false, false_and, not_true_eq_false, not_false_eq_true, implies_true, forall_const, true_implies, false_implies, ne_eq, ea] <;> rfl)
  have hz : xsz h ≤ a2 := by omega
  have g1' : xcls h1 e0 = 1009 := m1.cl' g1 (by decide)
  have g2' : xlen h1 e0 = 0 := (m1.ln (by rw [g1]; decide)).trans g2
  have hc1 : xcls h1 r = 3 := m1.cl' hc (by decide)
  refine xCall_of (d' := 3) (by decide) (Nat.zero_le _) (vc_J2_init (xCall_of (d' := 2) (by decide) (Nat.le_refl _) (vc_J1_init (xCall_of (d' := 1) (by decide) (Nat.le_refl _) (vc_J0_init ⟨by decide, ?_⟩)))))
  show _ ∧ _
  refine ⟨Or.inl c1, fun h3 e3 => ?_⟩
  show ∃ _, _
  refine ⟨_, g0, by rw [e3]; exact c1, fun h4 e4 => ?_⟩
  have m4 : xMod [r] h h4 := by rw [e4, e3]; exact (m1.put (Or.inr hz)).put (Or.inr hz)
  have A4 : isAL G h4 a2 [] 0 := by
    subst e3 e4
    exact ⟨c1, by simp (decide := true) only [true_and, and_true, and_self, exists_eq_left, exists_eq_left', forall_eq, forall_eq', Sum.inl.injEq, Sum.inr.injEq, Option.some.injEq, xcls_put, xlen_put, xval_put, xsz_put, xlo_put, xcls_new, xlen_new, xval_new, xsz_new, xlo_new, ↓reduceIte, reduceCtorEq, and_false, false_and, not_true_eq_false, not_false_eq_true, implies_true, forall_const, true_implies, false_implies, ne_eq], by simp (decide := true) only [true_and, and_true, and_self, exists_eq_left, exists_eq_left', forall_eq, forall_eq', Sum.inl.injEq, Sum.inr.injEq, Option.some.injEq, xcls_put, xlen_put, xval_put, xsz_put, xlo_put, xcls_new, xlen_new, xval_new, xsz_new, xlo_new, ↓reduceIte, reduceCtorEq, and_false, false_and, not_true_eq_false, not_false_eq_true, implies_true, forall_const, true_implies, false_implies, ne_eq]; exact v1, by decide, e0, by simp (decide := true) only [true_and, and_true, and_self, exists_eq_left, exists_eq_left', forall_eq, forall_eq', Sum.inl.injEq, Sum.inr.injEq, Option.some.injEq, xcls_put, xlen_put, xval_put, xsz_put, xlo_put, xcls_new, xlen_new, xval_new, xsz_new, xlo_new, ↓reduceIte, reduceCtorEq, and_false, false_and, not_true_eq_false, not_false_eq_true, implies_true, forall_const, true_implies, false_implies, ne_eq], Or.inl ⟨g1', g2', rfl, g0⟩, fun i e hi => by simp at hi⟩
  have v4 : xval h4 a2 1 = xr (some e0) := by rw [e4]; simp (decide := true) only [true_and, and_true, and_self, exists_eq_left, exists_eq_left', forall_eq, forall_eq', Sum.inl.injEq, Sum.inr.injEq, Option.some.injEq, xcls_put, xlen_put, xval_put, xsz_put, xlo_put, xcls_new, xlen_new, xval_new, xsz_new, xlo_new, ↓reduceIte, reduceCtorEq, and_false, false_and, not_true_eq_false, not_false_eq_true, implies_true, forall_const, true_implies, false_implies, ne_eq]
  have c4 : xcls h4 r = 3 := m4.cl' hc (by decide)
  refine ⟨c4, fun h5 e5 => ⟨by rw [e5]; exact c4, fun h6 e6 => ?_⟩⟩
  have n1 : ¬ a2 = r := fun z => hr z.symm
  have hm56 : xMod [r] h4 h6 := by rw [e6, e5]; exact (xMod.rf.put (Or.inl (by simp))).put (Or.inl (by simp))
  refine hQ h6 a2 e0 (m4.tr hm56) hz ?_ ?_ (A4.md hm56 (by simpa using n1) (fun x hx => by rw [List.mem_singleton.mp hx, c4]; decide)) (hm56.vl' A4.1 (by decide) (by simpa using n1) v4) ((m4.tr hm56).cl' g1 (by decide))
  · rw [e6, e5]; simp (decide := true) only [true_and, and_true, and_self, exists_eq_left, exists_eq_left', forall_eq, forall_eq', Sum.inl.injEq, Sum.inr.injEq, Option.some.injEq, xcls_put, xlen_put, xval_put, xsz_put, xlo_put, xcls_new, xlen_new, xval_new, xsz_new, xlo_new, ↓reduceIte, reduceCtorEq, and_false, false_and, not_true_eq_false, not_false_eq_true, implies_true, forall_const, true_implies, false_implies, ne_eq]
  · rw [e6]; simp (decide := true) only [true_and, and_true, and_self, exists_eq_left, exists_eq_left', forall_eq, forall_eq', Sum.inl.injEq, Sum.inr.injEq, Option.some.injEq, xcls_put, xlen_put, xval_put, xsz_put, xlo_put, xcls_new, xlen_new, xval_new, xsz_new, xlo_new, ↓reduceIte, reduceCtorEq, and_false, false_and, not_true_eq_false, not_false_eq_true, implies_true, forall_const, true_implies, false_implies, ne_eq]
/-- the new list's cells -/
theorem isPb.addH (q : isPb G h N p hs ss) (hl : hs.length < 8) (hN : N ≤ xsz h) (he : N ≤ e) {lh : Nat} {mh : Int32} (hlh : ∃ rh, xval h p 0 = xr (some rh) ∧ xval h rh 0 = xr (some lh)) (m : xMod S h h') (hS : ∀ x, x ∈ S → x = lh ∨ (xcls h x = 1006 ∧ xval h lh 1 = xr (some x))) (A : isAL G h' lh (hs ++ [e]) mh) (hA : ∀ a, xval h' lh 1 = xr (some a) → xval h lh 1 = xr (some a) ∨ xsz h ≤ a) : isPb G h' N p (hs ++ [e]) ss := by
  obtain ⟨rh, lh', ah, rs, ls, as, mh', ms, ⟨a1, a2, a3⟩, ⟨b1, b2, b3, b4, b5⟩, ⟨c1, c2, c3, c4, c5⟩, ⟨d1, d2⟩, ⟨e1, e2, e3, e4, e5, e6, e7⟩, f1, f2, f3, f4⟩ := q
  obtain ⟨rh', r1, r2⟩ := hlh
  have er : rh' = rh := by have := r1.symm.trans a2; simpa using this
  subst er
  have el : lh' = lh := by have := b2.symm.trans r2; simpa using this
  subst el
  have cS : ∀ x, x ∈ S → xcls h x = 4 ∨ xcls h x = 1006 := fun x hx => (hS x hx).elim (fun z => Or.inl (by rw [z]; exact b4.1)) (fun z => Or.inr z.1)
  have np : p ∉ S := fun z => by rcases cS p z with y | y <;> rw [a1] at y <;> cases y
  have nrh : rh' ∉ S := fun z => by rcases cS rh' z with y | y <;> rw [b1] at y <;> cases y
  have nrs : rs ∉ S := fun z => by rcases cS rs z with y | y <;> rw [c1] at y <;> cases y
  have nls : ls ∉ S := fun z => by
    rcases hS ls z with y | y
    · exact d1 y.symm
    · have := y.1; rw [c4.1] at this; cases this
  have hsame : ∀ a, xval h ls 1 = xr (some a) → a = as := fun a ha => by have := ha.symm.trans c5; simpa using this
  have hsameh : ∀ a, xval h lh' 1 = xr (some a) → a = ah := fun a ha => by have := ha.symm.trans b5; simpa using this
  have nas : ∀ a, xval h ls 1 = xr (some a) → a ∉ S := fun a ha z => by
    have ea := hsame a ha
    subst ea
    rcases hS a z with y | y
    · rcases c4.arr c5 with w | w <;> rw [y, b4.1] at w <;> cases w
    · exact d2 (hsameh a y.2).symm (by rw [← hsameh a y.2]; exact y.1)
  have A' := A
  obtain ⟨z1, z2, z3, z4, arr, z5, z6, z7⟩ := A'
  have kh : xcls h' ah = xcls h ah := m.cl (by rcases b4.arr b5 with z | z <;> rw [z] <;> decide)
  have ks : xcls h' as = xcls h as := m.cl (by rcases c4.arr c5 with z | z <;> rw [z] <;> decide)
  have has : as < xsz h := xcls_lt' (by rcases c4.arr c5 with z | z <;> rw [z] <;> decide)
  refine ⟨rh', lh', arr, rs, ls, as, mh, ms, ⟨m.cl' a1 (by decide), m.vl' a1 (by decide) np a2, m.vl' a1 (by decide) np a3⟩, ⟨m.cl' b1 (by decide), m.vl' b1 (by decide) nrh b2, m.vl' b1 (by decide) nrh b3, A, z5⟩, ⟨m.cl' c1 (by decide), m.vl' c1 (by decide) nrs c2, m.vl' c1 (by decide) nrs c3, c4.md2 m nls nas, m.vl' c4.1 (by decide) nls c5⟩, ⟨d1, fun ee => ?_⟩, ⟨e1, e2, e3, e4, e5, ?_, ?_⟩, by rw [List.length_append, List.length_singleton]; omega, f2, fun x hx => ?_, f4⟩
  · rcases hA arr z5 with y | y
    · have := hsameh arr y
      rw [this, kh]
      exact d2 (this.symm.trans ee)
    · omega
  · rcases hA arr z5 with y | y
    · have := hsameh arr y
      rw [this, kh]
      exact e6
    · exact Or.inl (by omega)
  · rw [ks]; exact e7
  · rcases List.mem_append.mp hx with y | y
    · exact f3 x y
    · rw [List.mem_singleton.mp y]; exact he
theorem isPb.addS (q : isPb G h N p hs ss) (hl : ss.length < 6) (hN : N ≤ xsz h) (he : N ≤ e) {ls : Nat} {mh : Int32} (hlh : ∃ rh, xval h p 1 = xr (some rh) ∧ xval h rh 0 = xr (some ls)) (m : xMod S h h') (hS : ∀ x, x ∈ S → x = ls ∨ (xcls h x = 1006 ∧ xval h ls 1 = xr (some x))) (A : isAL G h' ls (ss ++ [e]) mh) (hA : ∀ a, xval h' ls 1 = xr (some a) → xval h ls 1 = xr (some a) ∨ xsz h ≤ a) : isPb G h' N p hs (ss ++ [e]) := by
  obtain ⟨rh, lh, ah, rs, ls', as, mh', ms, ⟨a1, a2, a3⟩, ⟨b1, b2, b3, b4, b5⟩, ⟨c1, c2, c3, c4, c5⟩, ⟨d1, d2⟩, ⟨e1, e2, e3, e4, e5, e6, e7⟩, f1, f2, f3, f4⟩ := q
  obtain ⟨rs', r1, r2⟩ := hlh
  have er : rs' = rs := by have := r1.symm.trans a3; simpa using this
  subst er
  have el : ls' = ls := by have := c2.symm.trans r2; simpa using this
  subst el
  have cS : ∀ x, x ∈ S → xcls h x = 4 ∨ xcls h x = 1006 := fun x hx => (hS x hx).elim (fun z => Or.inl (by rw [z]; exact c4.1)) (fun z => Or.inr z.1)
  have np : p ∉ S := fun z => by rcases cS p z with y | y <;> rw [a1] at y <;> cases y
  have nrh : rh ∉ S := fun z => by rcases cS rh z with y | y <;> rw [b1] at y <;> cases y
  have nrs : rs' ∉ S := fun z => by rcases cS rs' z with y | y <;> rw [c1] at y <;> cases y
  have nlh : lh ∉ S := fun z => by
    rcases hS lh z with y | y
    · exact d1 y
    · have := y.1; rw [b4.1] at this; cases this
  have hsame : ∀ a, xval h ls' 1 = xr (some a) → a = as := fun a ha => by have := ha.symm.trans c5; simpa using this
  have hsameh : ∀ a, xval h lh 1 = xr (some a) → a = ah := fun a ha => by have := ha.symm.trans b5; simpa using this
  have nah : ∀ a, xval h lh 1 = xr (some a) → a ∉ S := fun a ha z => by
    have ea := hsameh a ha
    subst ea
    rcases hS a z with y | y
    · rcases b4.arr b5 with w | w <;> rw [y, c4.1] at w <;> cases w
    · exact d2 (hsame a y.2) y.1
  have A' := A
  obtain ⟨z1, z2, z3, z4, arr, z5, z6, z7⟩ := A'
  have kh : xcls h' ah = xcls h ah := m.cl (by rcases b4.arr b5 with z | z <;> rw [z] <;> decide)
  have ks : xcls h' as = xcls h as := m.cl (by rcases c4.arr c5 with z | z <;> rw [z] <;> decide)
  have hah : ah < xsz h := xcls_lt' (by rcases b4.arr b5 with z | z <;> rw [z] <;> decide)
  refine ⟨rh, lh, ah, rs', ls', arr, mh', mh, ⟨m.cl' a1 (by decide), m.vl' a1 (by decide) np a2, m.vl' a1 (by decide) np a3⟩, ⟨m.cl' b1 (by decide), m.vl' b1 (by decide) nrh b2, m.vl' b1 (by decide) nrh b3, b4.md2 m nlh nah, m.vl' b4.1 (by decide) nlh b5⟩, ⟨m.cl' c1 (by decide), m.vl' c1 (by decide) nrs c2, m.vl' c1 (by decide) nrs c3, A, z5⟩, ⟨d1, fun ee => ?_⟩, ⟨e1, e2, e3, e4, e5, ?_, ?_⟩, f1, by rw [List.length_append, List.length_singleton]; omega, f3, fun x hx => ?_⟩
  · rw [kh]
    rcases hA arr z5 with y | y
    · exact d2 (ee.trans (hsame arr y))
    · omega
  · rw [kh]; exact e6
  · rcases hA arr z5 with y | y
    · have := hsame arr y
      rw [this, ks]
      exact e7
    · exact Or.inl (by omega)
  · rcases List.mem_append.mp hx with y | y
    · exact f4 x y
    · rw [List.mem_singleton.mp y]; exact he
end XPK

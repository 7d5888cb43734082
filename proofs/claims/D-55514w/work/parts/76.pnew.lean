/-! a province is made, or made like another one -/
section XPN
variable {G : xG} {d k : Nat} {h h' h0 : xH} {T : Nat → xH → Nat → Prop} {S : List Nat} {x p N N0 i j s c a b e r ka mm w m ll n o al : Nat} {es hs ss hs' ss' : List Nat} {W W' f g : Nat → Int32} {nd y z v u x' y' t mc : Int32}
theorem isPb.md' (q : isPb G h N p hs ss) (m : xMod S h h') (h1 : ∀ x, x ∈ S → x ≠ p ∧ xcls h x ≠ 3 ∧ xcls h x ≠ 4 ∧ xcls h x ≠ 1006 ∧ xcls h x ≠ 1009) : isPb G h' N p hs ss := by
  obtain ⟨rh, lh, ah, rs, ls, as, mh, ms, ⟨a1, a2, a3⟩, ⟨b1, b2, b3, b4, b5⟩, ⟨c1, c2, c3, c4, c5⟩, ⟨d1, d2⟩, ⟨e1, e2, e3, e4, e5, e6, e7⟩, f⟩ := q
  have np : p ∉ S := fun z => (h1 p z).1 rfl
  have nrh : rh ∉ S := fun z => (h1 rh z).2.1 b1
  have nrs : rs ∉ S := fun z => (h1 rs z).2.1 c1
  have nlh : lh ∉ S := fun z => (h1 lh z).2.2.1 b4.1
  have nls : ls ∉ S := fun z => (h1 ls z).2.2.1 c4.1
  have kh : xcls h' ah = xcls h ah := m.cl (by rcases b4.arr b5 with z | z <;> rw [z] <;> decide)
  have ks : xcls h' as = xcls h as := m.cl (by rcases c4.arr c5 with z | z <;> rw [z] <;> decide)
  refine ⟨rh, lh, ah, rs, ls, as, mh, ms, ⟨m.cl' a1 (by decide), m.vl' a1 (by decide) np a2, m.vl' a1 (by decide) np a3⟩, ⟨m.cl' b1 (by decide), m.vl' b1 (by decide) nrh b2, m.vl' b1 (by decide) nrh b3, b4.md m nlh (fun x hx => ⟨(h1 x hx).2.2.2.1, (h1 x hx).2.2.2.2⟩), m.vl' b4.1 (by decide) nlh b5⟩, ⟨m.cl' c1 (by decide), m.vl' c1 (by decide) nrs c2, m.vl' c1 (by decide) nrs c3, c4.md m nls (fun x hx => ⟨(h1 x hx).2.2.2.1, (h1 x hx).2.2.2.2⟩), m.vl' c4.1 (by decide) nls c5⟩, ⟨d1, ?_⟩, ⟨e1, e2, e3, e4, e5, ?_, ?_⟩, f⟩
  · rw [kh]; exact d2
  · rw [kh]; exact e6
  · rw [ks]; exact e7
theorem isPr.md' (q : isPr G h N p hs ss W nd) (m : xMod S h h') (h1 : ∀ x, x ∈ S → x ≠ p ∧ xcls h x = 2) : isPr G h' N p hs ss W nd := by
  obtain ⟨q1, q2, q3, q4, q5⟩ := q
  exact ⟨q1.md' m (fun x hx => ⟨(h1 x hx).1, by rw [(h1 x hx).2]; decide⟩), q2.md m q1.cl (fun z => (h1 p z).1 rfl), q3.md m (fun x hx => by rw [(h1 x hx).2]; decide), q4.md m (fun x hx => by rw [(h1 x hx).2]; decide), q5⟩
theorem stand_init_c {F : xH → Nat → Prop} (hd : 1 < d) (hc : xcls h a = 13 ∨ xcls h a = 14) (hQ : ∀ h', h' = xput (xput (xput h a 0 (xi x')) a 1 (xi y)) a 2 (xi z) → F h' k) : xCall G d k mX6_init [xr (some a), xi x', xi y, xi z] h (xkV F T) :=
  xCall_of (d' := 1) hd (Nat.zero_le k) (vc_X6_init ⟨by decide, hc, fun h1 e1 => ⟨by rw [e1]; exact hc, fun h2 e2 => ⟨by rw [e2, e1]; exact hc, fun h3 e3 => hQ h3 (by rw [e3, e2, e1])⟩⟩⟩)
theorem hm_new_c {F : xH → Nat → Prop} (hd : 2 < d) (hc : xcls h a = 13) (hQ : ∀ h', xMod [a] h h' → xval h' a 0 = xi x' → xval h' a 1 = xi y → xval h' a 2 = xi z → xval h' a 3 = xi t → (∀ j, 4 ≤ j → xval h' a j = xval h a j) → F h' k) : xCall G d k mX7_init_2 [xr (some a), xi x', xi y, xi z, xi t] h (xkV F T) := by
  refine xCall_of (d' := 2) hd (Nat.zero_le k) (vc_X7_init_2 (stand_init_c (by decide) (Or.inl hc) fun h1 e1 => ⟨by rw [e1]; exact hc, fun h3 e3 => ?_⟩))
  refine hQ h3 ?_ ?_ ?_ ?_ ?_ (fun j hj => ?_)
  · rw [e3, e1]
    exact (((xMod.rf.put (Or.inl (by simp))).put (Or.inl (by simp))).put (Or.inl (by simp))).put (Or.inl (by simp))
  · rw [e3, e1]; simp (decide := true) only [true_and, and_true, and_self, exists_eq_left, exists_eq_left', forall_eq, forall_eq', Sum.inl.injEq, Sum.inr.injEq, Option.some.injEq, xcls_put, xlen_put, xval_put, xsz_put, xlo_put, xcls_new, xlen_new, xval_new, xsz_new, xlo_new, ↓reduceIte, reduceCtorEq, and_false, false_and, not_true_eq_false, not_false_eq_true, implies_true, forall_const, true_implies, false_implies, ne_eq]
  · rw [e3, e1]; simp (decide := true) only [true_and, and_true, and_self, exists_eq_left, exists_eq_left', forall_eq, forall_eq', Sum.inl.injEq, Sum.inr.injEq, Option.some.injEq, xcls_put, xlen_put, xval_put, xsz_put, xlo_put, xcls_new, xlen_new, xval_new, xsz_new, xlo_new, ↓reduceIte, reduceCtorEq, and_false, false_and, not_true_eq_false, not_false_eq_true, implies_true, forall_const, true_implies, false_implies, ne_eq]
  · rw [e3, e1]; simp (decide := true) only [true_and, and_true, and_self, exists_eq_left, exists_eq_left', forall_eq, forall_eq', Sum.inl.injEq, Sum.inr.injEq, Option.some.injEq, xcls_put, xlen_put, xval_put, xsz_put, xlo_put, xcls_new, xlen_new, xval_new, xsz_new, xlo_new, ↓reduceIte, reduceCtorEq, and_false, false_and, not_true_eq_false, not_false_eq_true, implies_true, forall_const, true_implies, false_implies, ne_eq]
  · rw [e3]; simp (decide := true) only [true_and, and_true, and_self, exists_eq_left, exists_eq_left', forall_eq, forall_eq', Sum.inl.injEq, Sum.inr.injEq, Option.some.injEq, xcls_put, xlen_put, xval_put, xsz_put, xlo_put, xcls_new, xlen_new, xval_new, xsz_new, xlo_new, ↓reduceIte, reduceCtorEq, and_false, false_and, not_true_eq_false, not_false_eq_true, implies_true, forall_const, true_implies, false_implies, ne_eq]
  · have n0 : ¬ j = 0 := by omega
    have n1 : ¬ j = 1 := by omega
    have n2 : ¬ j = 2 := by omega
    have n3 : ¬ j = 3 := by omega
    rw [e3, e1]; simp (decide := true) only [true_and, and_true, and_self, exists_eq_left, exists_eq_left', forall_eq, forall_eq', Sum.inl.injEq, Sum.inr.injEq, Option.some.injEq, xcls_put, xlen_put, xval_put, xsz_put, xlo_put, xcls_new, xlen_new, xval_new, xsz_new, xlo_new, ↓reduceIte, reduceCtorEq, and_false, false_and, not_true_eq_false, not_false_eq_true, implies_true, forall_const, true_implies, false_implies, ne_eq, n0, n1, n2, n3]
theorem hm_copy_c {F : xH → Nat → Prop} (hd : 3 < d) (hc : xcls h a = 13) (q : isHm h b i W) (hne : b ≠ a) (hQ : ∀ h', xMod [a] h h' → isHm h' a i W → F h' k) : xCall G d k mX7_init [xr (some a), xr (some b)] h (xkV F T) := by
  refine xCall_of (d' := 3) hd (Nat.zero_le k) (vc_X7_init ⟨b, rfl, q.1, _, q.2.1, q.1, _, q.2.2 0 (by decide), q.1, _, q.2.2 1 (by decide), q.1, _, q.2.2 2 (by decide), hm_new_c (by decide) hc fun h6 m6 v0 v1 v2 v3 vr => ?_⟩)
  have q6 := q.md m6 (by simpa using hne)
  have hne' : ¬ a = b := fun z => hne z.symm
  have c6 : xcls h6 a = 13 := m6.cl' hc (by decide)
  refine ⟨q6.1, _, q6.2.2 3 (by decide), c6, fun h9 e9 => ?_⟩
  have m9 : xMod [a] h6 h9 := e9 ▸ xMod.rf.put (Or.inl (by simp))
  have q9 := q6.md m9 (by simpa using hne)
  refine ⟨q9.1, _, q9.2.2 4 (by decide), by rw [e9]; exact c6, fun h11 e11 => ?_⟩
  have m11 : xMod [a] h6 h11 := e11 ▸ m9.put (Or.inl (by simp))
  have q11 := q6.md m11 (by simpa using hne)
  refine ⟨q11.1, _, q11.2.2 5 (by decide), by rw [e11, e9]; exact c6, fun h13 e13 => hQ h13 (m6.tr (e13 ▸ m11.put (Or.inl (by simp)))) ⟨by rw [e13, e11, e9]; exact c6, ?_, fun j hj => ?_⟩⟩
  · rw [e13, e11, e9]; simp (decide := true) only [true_and, and_true, and_self, exists_eq_left, exists_eq_left', forall_eq, forall_eq', Sum.inl.injEq, Sum.inr.injEq, Option.some.injEq, xcls_put, xlen_put, xval_put, xsz_put, xlo_put, xcls_new, xlen_new, xval_new, xsz_new, xlo_new, ↓reduceIte, reduceCtorEq, and_false, false_and, not_true_eq_false, not_false_eq_true, implies_true, forall_const, true_implies, false_implies, ne_eq]; exact v0
  · match j, hj with
    | 0, _ => rw [e13, e11, e9]; simp (decide := true) only [true_and, and_true, and_self, exists_eq_left, exists_eq_left', forall_eq, forall_eq', Sum.inl.injEq, Sum.inr.injEq, Option.some.injEq, xcls_put, xlen_put, xval_put, xsz_put, xlo_put, xcls_new, xlen_new, xval_new, xsz_new, xlo_new, ↓reduceIte, reduceCtorEq, and_false, false_and, not_true_eq_false, not_false_eq_true, implies_true, forall_const, true_implies, false_implies, ne_eq]; exact v1
    | 1, _ => rw [e13, e11, e9]; simp (decide := true) only [true_and, and_true, and_self, exists_eq_left, exists_eq_left', forall_eq, forall_eq', Sum.inl.injEq, Sum.inr.injEq, Option.some.injEq, xcls_put, xlen_put, xval_put, xsz_put, xlo_put, xcls_new, xlen_new, xval_new, xsz_new, xlo_new, ↓reduceIte, reduceCtorEq, and_false, false_and, not_true_eq_false, not_false_eq_true, implies_true, forall_const, true_implies, false_implies, ne_eq]; exact v2
    | 2, _ => rw [e13, e11, e9]; simp (decide := true) only [true_and, and_true, and_self, exists_eq_left, exists_eq_left', forall_eq, forall_eq', Sum.inl.injEq, Sum.inr.injEq, Option.some.injEq, xcls_put, xlen_put, xval_put, xsz_put, xlo_put, xcls_new, xlen_new, xval_new, xsz_new, xlo_new, ↓reduceIte, reduceCtorEq, and_false, false_and, not_true_eq_false, not_false_eq_true, implies_true, forall_const, true_implies, false_implies, ne_eq]; exact v3
    | 3, _ => rw [e13, e11, e9]; simp (decide := true) only [true_and, and_true, and_self, exists_eq_left, exists_eq_left', forall_eq, forall_eq', Sum.inl.injEq, Sum.inr.injEq, Option.some.injEq, xcls_put, xlen_put, xval_put, xsz_put, xlo_put, xcls_new, xlen_new, xval_new, xsz_new, xlo_new, ↓reduceIte, reduceCtorEq, and_false, false_and, not_true_eq_false, not_false_eq_true, implies_true, forall_const, true_implies, false_implies, ne_eq]
    | 4, _ => rw [e13, e11]; simp (decide := true) only [true_and, and_true, and_self, exists_eq_left, exists_eq_left', forall_eq, forall_eq', Sum.inl.injEq, Sum.inr.injEq, Option.some.injEq, xcls_put, xlen_put, xval_put, xsz_put, xlo_put, xcls_new, xlen_new, xval_new, xsz_new, xlo_new, ↓reduceIte, reduceCtorEq, and_false, false_and, not_true_eq_false, not_false_eq_true, implies_true, forall_const, true_implies, false_implies, ne_eq]
    | 5, _ => rw [e13]; simp (decide := true) only [true_and, and_true, and_self, exists_eq_left, exists_eq_left', forall_eq, forall_eq', Sum.inl.injEq, Sum.inr.injEq, Option.some.injEq, xcls_put, xlen_put, xval_put, xsz_put, xlo_put, xcls_new, xlen_new, xval_new, xsz_new, xlo_new, ↓reduceIte, reduceCtorEq, and_false, false_and, not_true_eq_false, not_false_eq_true, implies_true, forall_const, true_implies, false_implies, ne_eq]
    | j + 6, h6 => exact absurd h6 (by omega)
theorem st_new_c {F : xH → Nat → Prop} (hd : 2 < d) (hc : xcls h a = 14) (hQ : ∀ h', xMod [a] h h' → xval h' a 0 = xi x' → xval h' a 1 = xi y → xval h' a 2 = xi z → xval h' a 3 = xi t → xval h' a 5 = xi t → xval h' a 4 = xi u → (∀ j, 6 ≤ j → xval h' a j = xval h a j) → F h' k) : xCall G d k mX8_init_2 [xr (some a), xi x', xi y, xi z, xi t, xi u] h (xkV F T) := by
  refine xCall_of (d' := 2) hd (Nat.zero_le k) (vc_X8_init_2 (stand_init_c (by decide) (Or.inr hc) fun h1 e1 => ⟨by rw [e1]; exact hc, fun h3 e3 => ⟨by rw [e3, e1]; exact hc, fun h4 e4 => ⟨by rw [e4, e3, e1]; exact hc, fun h5 e5 => ?_⟩⟩⟩))
  refine hQ h5 ?_ ?_ ?_ ?_ ?_ ?_ ?_ (fun j hj => ?_)
  · rw [e5, e4, e3, e1]
    exact (((((xMod.rf.put (Or.inl (by simp))).put (Or.inl (by simp))).put (Or.inl (by simp))).put (Or.inl (by simp))).put (Or.inl (by simp))).put (Or.inl (by simp))
  · rw [e5, e4, e3, e1]; simp (decide := true) only [true_and, and_true, and_self, exists_eq_left, exists_eq_left', forall_eq, forall_eq', Sum.inl.injEq, Sum.inr.injEq, Option.some.injEq, xcls_put, xlen_put, xval_put, xsz_put, xlo_put, xcls_new, xlen_new, xval_new, xsz_new, xlo_new, ↓reduceIte, reduceCtorEq, and_false, false_and, not_true_eq_false, not_false_eq_true, implies_true, forall_const, true_implies, false_implies, ne_eq]
  · rw [e5, e4, e3, e1]; simp (decide := true) only [true_and, and_true, and_self, exists_eq_left, exists_eq_left', forall_eq, forall_eq', Sum.inl.injEq, Sum.inr.injEq, Option.some.injEq, xcls_put, xlen_put, xval_put, xsz_put, xlo_put, xcls_new, xlen_new, xval_new, xsz_new, xlo_new, ↓reduceIte, reduceCtorEq, and_false, false_and, not_true_eq_false, not_false_eq_true, implies_true, forall_const, true_implies, false_implies, ne_eq]
  · rw [e5, e4, e3, e1]; simp (decide := true) only [true_and, and_true, and_self, exists_eq_left, exists_eq_left', forall_eq, forall_eq', Sum.inl.injEq, Sum.inr.injEq, Option.some.injEq, xcls_put, xlen_put, xval_put, xsz_put, xlo_put, xcls_new, xlen_new, xval_new, xsz_new, xlo_new, ↓reduceIte, reduceCtorEq, and_false, false_and, not_true_eq_false, not_false_eq_true, implies_true, forall_const, true_implies, false_implies, ne_eq]
  · rw [e5, e4, e3]; simp (decide := true) only [true_and, and_true, and_self, exists_eq_left, exists_eq_left', forall_eq, forall_eq', Sum.inl.injEq, Sum.inr.injEq, Option.some.injEq, xcls_put, xlen_put, xval_put, xsz_put, xlo_put, xcls_new, xlen_new, xval_new, xsz_new, xlo_new, ↓reduceIte, reduceCtorEq, and_false, false_and, not_true_eq_false, not_false_eq_true, implies_true, forall_const, true_implies, false_implies, ne_eq]
  · rw [e5, e4]; simp (decide := true) only [true_and, and_true, and_self, exists_eq_left, exists_eq_left', forall_eq, forall_eq', Sum.inl.injEq, Sum.inr.injEq, Option.some.injEq, xcls_put, xlen_put, xval_put, xsz_put, xlo_put, xcls_new, xlen_new, xval_new, xsz_new, xlo_new, ↓reduceIte, reduceCtorEq, and_false, false_and, not_true_eq_false, not_false_eq_true, implies_true, forall_const, true_implies, false_implies, ne_eq]
  · rw [e5]; simp (decide := true) only [true_and, and_true, and_self, exists_eq_left, exists_eq_left', forall_eq, forall_eq', Sum.inl.injEq, Sum.inr.injEq, Option.some.injEq, xcls_put, xlen_put, xval_put, xsz_put, xlo_put, xcls_new, xlen_new, xval_new, xsz_new, xlo_new, ↓reduceIte, reduceCtorEq, and_false, false_and, not_true_eq_false, not_false_eq_true, implies_true, forall_const, true_implies, false_implies, ne_eq]
  · have n0 : ¬ j = 0 := by omega
    have n1 : ¬ j = 1 := by omega
    have n2 : ¬ j = 2 := by omega
    have n3 : ¬ j = 3 := by omega
    have n4 : ¬ j = 4 := by omega
    have n5 : ¬ j = 5 := by omega
    rw [e5, e4, e3, e1]; simp (decide := true) only [true_and, and_true, and_self, exists_eq_left, exists_eq_left', forall_eq, forall_eq', Sum.inl.injEq, Sum.inr.injEq, Option.some.injEq, xcls_put, xlen_put, xval_put, xsz_put, xlo_put, xcls_new, xlen_new, xval_new, xsz_new, xlo_new, ↓reduceIte, reduceCtorEq, and_false, false_and, not_true_eq_false, not_false_eq_true, implies_true, forall_const, true_implies, false_implies, ne_eq, n0, n1, n2, n3, n4, n5]
theorem st_copy_c {F : xH → Nat → Prop} (hd : 3 < d) (hc : xcls h a = 14) (q : isSt h b i W) (h5 : pS W i 5 = 0 ∨ pS W i 5 = 1) (h6 : pS W i 6 = 0 ∨ pS W i 6 = 1) (hne : b ≠ a) (hQ : ∀ h', xMod [a] h h' → isSt h' a i W → F h' k) : xCall G d k mX8_init [xr (some a), xr (some b)] h (xkV F T) := by
  refine xCall_of (d' := 3) hd (Nat.zero_le k) (vc_X8_init ⟨b, rfl, q.1, _, q.2.1, q.1, _, q.2.2 0 (by decide), q.1, _, q.2.2 1 (by decide), q.1, _, q.2.2 2 (by decide), q.1, _, q.2.2 3 (by decide), st_new_c (by decide) hc fun h7 m7 v0 v1 v2 v3 v5 v4 vr => ?_⟩)
  have q7 := q.md m7 (by simpa using hne)
  have c7 : xcls h7 a = 14 := m7.cl' hc (by decide)
  refine ⟨q7.1, _, q7.2.2 4 (by decide), c7, fun h10 e10 => ?_⟩
  have m10 : xMod [a] h7 h10 := e10 ▸ xMod.rf.put (Or.inl (by simp))
  have q10 := q7.md m10 (by simpa using hne)
  refine ⟨q10.1, _, q10.2.2 5 (by decide), by rw [e10]; exact c7, h5, fun h12 e12 => ?_⟩
  have m12 : xMod [a] h7 h12 := e12 ▸ m10.put (Or.inl (by simp))
  have q12 := q7.md m12 (by simpa using hne)
  refine ⟨q12.1, _, q12.2.2 6 (by decide), by rw [e12, e10]; exact c7, h6, fun h14 e14 => ?_⟩
  have m14 : xMod [a] h7 h14 := e14 ▸ m12.put (Or.inl (by simp))
  have q14 := q7.md m14 (by simpa using hne)
  refine ⟨q14.1, _, q14.2.2 7 (by decide), by rw [e14, e12, e10]; exact c7, fun h16 e16 => hQ h16 (m7.tr (e16 ▸ m14.put (Or.inl (by simp)))) ⟨by rw [e16, e14, e12, e10]; exact c7, ?_, fun j hj => ?_⟩⟩
  · rw [e16, e14, e12, e10]; simp (decide := true) only [true_and, and_true, and_self, exists_eq_left, exists_eq_left', forall_eq, forall_eq', Sum.inl.injEq, Sum.inr.injEq, Option.some.injEq, xcls_put, xlen_put, xval_put, xsz_put, xlo_put, xcls_new, xlen_new, xval_new, xsz_new, xlo_new, ↓reduceIte, reduceCtorEq, and_false, false_and, not_true_eq_false, not_false_eq_true, implies_true, forall_const, true_implies, false_implies, ne_eq]; exact v0
  · match j, hj with
    | 0, _ => rw [e16, e14, e12, e10]; simp (decide := true) only [true_and, and_true, and_self, exists_eq_left, exists_eq_left', forall_eq, forall_eq', Sum.inl.injEq, Sum.inr.injEq, Option.some.injEq, xcls_put, xlen_put, xval_put, xsz_put, xlo_put, xcls_new, xlen_new, xval_new, xsz_new, xlo_new, ↓reduceIte, reduceCtorEq, and_false, false_and, not_true_eq_false, not_false_eq_true, implies_true, forall_const, true_implies, false_implies, ne_eq]; exact v1
    | 1, _ => rw [e16, e14, e12, e10]; simp (decide := true) only [true_and, and_true, and_self, exists_eq_left, exists_eq_left', forall_eq, forall_eq', Sum.inl.injEq, Sum.inr.injEq, Option.some.injEq, xcls_put, xlen_put, xval_put, xsz_put, xlo_put, xcls_new, xlen_new, xval_new, xsz_new, xlo_new, ↓reduceIte, reduceCtorEq, and_false, false_and, not_true_eq_false, not_false_eq_true, implies_true, forall_const, true_implies, false_implies, ne_eq]; exact v2
    | 2, _ => rw [e16, e14, e12, e10]; simp (decide := true) only [true_and, and_true, and_self, exists_eq_left, exists_eq_left', forall_eq, forall_eq', Sum.inl.injEq, Sum.inr.injEq, Option.some.injEq, xcls_put, xlen_put, xval_put, xsz_put, xlo_put, xcls_new, xlen_new, xval_new, xsz_new, xlo_new, ↓reduceIte, reduceCtorEq, and_false, false_and, not_true_eq_false, not_false_eq_true, implies_true, forall_const, true_implies, false_implies, ne_eq]; exact v3
    | 3, _ => rw [e16, e14, e12, e10]; simp (decide := true) only [true_and, and_true, and_self, exists_eq_left, exists_eq_left', forall_eq, forall_eq', Sum.inl.injEq, Sum.inr.injEq, Option.some.injEq, xcls_put, xlen_put, xval_put, xsz_put, xlo_put, xcls_new, xlen_new, xval_new, xsz_new, xlo_new, ↓reduceIte, reduceCtorEq, and_false, false_and, not_true_eq_false, not_false_eq_true, implies_true, forall_const, true_implies, false_implies, ne_eq]; exact v4
    | 4, _ => rw [e16, e14, e12, e10]; simp (decide := true) only [true_and, and_true, and_self, exists_eq_left, exists_eq_left', forall_eq, forall_eq', Sum.inl.injEq, Sum.inr.injEq, Option.some.injEq, xcls_put, xlen_put, xval_put, xsz_put, xlo_put, xcls_new, xlen_new, xval_new, xsz_new, xlo_new, ↓reduceIte, reduceCtorEq, and_false, false_and, not_true_eq_false, not_false_eq_true, implies_true, forall_const, true_implies, false_implies, ne_eq]
    | 5, _ => rw [e16, e14, e12]; simp (decide := true) only [true_and, and_true, and_self, exists_eq_left, exists_eq_left', forall_eq, forall_eq', Sum.inl.injEq, Sum.inr.injEq, Option.some.injEq, xcls_put, xlen_put, xval_put, xsz_put, xlo_put, xcls_new, xlen_new, xval_new, xsz_new, xlo_new, ↓reduceIte, reduceCtorEq, and_false, false_and, not_true_eq_false, not_false_eq_true, implies_true, forall_const, true_implies, false_implies, ne_eq]
    | 6, _ => rw [e16, e14]; simp (decide := true) only [true_and, and_true, and_self, exists_eq_left, exists_eq_left', forall_eq, forall_eq', Sum.inl.injEq, Sum.inr.injEq, Option.some.injEq, xcls_put, xlen_put, xval_put, xsz_put, xlo_put, xcls_new, xlen_new, xval_new, xsz_new, xlo_new, ↓reduceIte, reduceCtorEq, and_false, false_and, not_true_eq_false, not_false_eq_true, implies_true, forall_const, true_implies, false_implies, ne_eq]
    | 7, _ => rw [e16]; simp (decide := true) only [true_and, and_true, and_self, exists_eq_left, exists_eq_left', forall_eq, forall_eq', Sum.inl.injEq, Sum.inr.injEq, Option.some.injEq, xcls_put, xlen_put, xval_put, xsz_put, xlo_put, xcls_new, xlen_new, xval_new, xsz_new, xlo_new, ↓reduceIte, reduceCtorEq, and_false, false_and, not_true_eq_false, not_false_eq_true, implies_true, forall_const, true_implies, false_implies, ne_eq]
    | j + 8, h8 => exact absurd h8 (by omega)
theorem laysH_c {F : xH → Nat → Prop} (hd : 6 < d) (hk : 11 ≤ k) (q : isPb G h N p hs ss) (hr : xval h p 0 = xr (some r)) (hl : hs.length < 8) (hN : N ≤ xsz h) (he : N ≤ e) (hc : xcls h e = 13)
    (hQ : ∀ h' S', xMod S' h h' → (∀ x, x ∈ S' → (xcls h x = 4 ∨ xcls h x = 1006) ∧ N ≤ x) → isPb G h' N p (hs ++ [e]) ss → F h' (k - 11)) : xCall G d k mX2_lays [xr (some r), xr (some e)] h (xkV F T) := by
  have q' := q
  obtain ⟨rh, lh, ah, rs, ls, as, mh, ms, ⟨a1, a2, a3⟩, ⟨b1, b2, b3, b4, b5⟩, ⟨c1, c2, c3, c4, c5⟩, ⟨d1, d2⟩, ⟨e1, e2, e3, e4, e5, e6, e7⟩, f⟩ := q
  have er : rh = r := by have := a2.symm.trans hr; simpa using this
  subst er
  refine xCall_of (d' := 6) hd hk (vc_X2_lays ⟨b1, _, b2, lh, rfl, b4.1, al_add2_c (by decide) (Nat.le_refl _) b4 (by omega) hc (by decide) (by decide) fun h3 S' m3 hS A3 hA => ?_⟩)
  refine hQ h3 S' m3 (fun x hx => ?_) (q'.addH hl hN he ⟨rh, a2, b2⟩ m3 hS A3 hA)
  rcases hS x hx with y | y
  · rw [y]; exact ⟨Or.inl b4.1, e4⟩
  · have hx : x = ah := by have := y.2.symm.trans b5; simpa using this
    exact ⟨Or.inr y.1, by rw [hx]; exact e6.resolve_right (fun z => z (hx ▸ y.1))⟩
theorem laysS_c {F : xH → Nat → Prop} (hd : 6 < d) (hk : 11 ≤ k) (q : isPb G h N p hs ss) (hr : xval h p 1 = xr (some r)) (hl : ss.length < 6) (hN : N ≤ xsz h) (he : N ≤ e) (hc : xcls h e = 14)
    (hQ : ∀ h' S', xMod S' h h' → (∀ x, x ∈ S' → (xcls h x = 4 ∨ xcls h x = 1006) ∧ N ≤ x) → isPb G h' N p hs (ss ++ [e]) → F h' (k - 11)) : xCall G d k mX2_lays [xr (some r), xr (some e)] h (xkV F T) := by
  have q' := q
  obtain ⟨rh, lh, ah, rs, ls, as, mh, ms, ⟨a1, a2, a3⟩, ⟨b1, b2, b3, b4, b5⟩, ⟨c1, c2, c3, c4, c5⟩, ⟨d1, d2⟩, ⟨e1, e2, e3, e4, e5, e6, e7⟩, f⟩ := q
  have er : rs = r := by have := a3.symm.trans hr; simpa using this
  subst er
  refine xCall_of (d' := 6) hd hk (vc_X2_lays ⟨c1, _, c2, ls, rfl, c4.1, al_add2_c (by decide) (Nat.le_refl _) c4 (by omega) hc (by decide) (by decide) fun h3 S' m3 hS A3 hA => ?_⟩)
  refine hQ h3 S' m3 (fun x hx => ?_) (q'.addS hl hN he ⟨rs, a3, c2⟩ m3 hS A3 hA)
  rcases hS x hx with y | y
  · rw [y]; exact ⟨Or.inl c4.1, e5⟩
  · have hx : x = as := by have := y.2.symm.trans c5; simpa using this
    exact ⟨Or.inr y.1, by rw [hx]; exact e7.resolve_right (fun z => z (hx ▸ y.1))⟩
/-- two empty rows -/
theorem isPb.fresh {rh lh rs ls e0 e1 : Nat} {mh ms : Int32} (a1 : xcls h p = 2) (a2 : xval h p 0 = xr (some rh)) (a3 : xval h p 1 = xr (some rs)) (b1 : xcls h rh = 3) (b2 : xval h rh 0 = xr (some lh)) (b3 : xval h rh 1 = xi (nI 8)) (b4 : isAL G h lh [] mh) (b5 : xval h lh 1 = xr (some e0)) (b6 : xcls h e0 = 1009)
    (c1 : xcls h rs = 3) (c2 : xval h rs 0 = xr (some ls)) (c3 : xval h rs 1 = xi (nI 6)) (c4 : isAL G h ls [] ms) (c5 : xval h ls 1 = xr (some e1)) (c6 : xcls h e1 = 1009) (d1 : lh ≠ ls) (e : N ≤ p ∧ N ≤ rh ∧ N ≤ rs ∧ N ≤ lh ∧ N ≤ ls) : isPb G h N p [] [] :=
  ⟨rh, lh, e0, rs, ls, e1, mh, ms, ⟨a1, a2, a3⟩, ⟨b1, b2, b3, b4, b5⟩, ⟨c1, c2, c3, c4, c5⟩, ⟨d1, fun _ => by rw [b6]; decide⟩, ⟨e.1, e.2.1, e.2.2.1, e.2.2.2.1, e.2.2.2.2, Or.inr (by rw [b6]; decide), Or.inr (by rw [c6]; decide)⟩, by decide, by decide, fun e he => (by cases he), fun e he => (by cases he)⟩
end XPN

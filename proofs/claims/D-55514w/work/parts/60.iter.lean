/-! lists that are added to, iterators of both kinds -/
def isXI (G : xG) (h : xH) (it : Nat) (es : List Nat) (i : Nat) : Prop := i ≤ es.length ∧ ((∃ (l : Nat) (mc : Int32), isAL G h l es mc ∧ isIt h it l i mc) ∨ (∃ (ll : Nat) (ns : List Nat) (mc : Int32), isLN h ll ns es mc ∧ isLI h it ll ns i mc))
/-- the classes of the cells that an iteration rests on -/
def xIc (c : Nat) : Prop := c ≠ 4 ∧ c ≠ 8 ∧ c ≠ 17 ∧ c ≠ 22 ∧ c ≠ 25 ∧ c ≠ 1006 ∧ c ≠ 1009
section XIT
variable {G : xG} {d k : Nat} {h h' : xH} {T : Nat → xH → Nat → Prop} {S : List Nat} {al it i e : Nat} {es ns : List Nat} {mc : Int32}
theorem isXI.md (q : isXI G h it es i) (m : xMod S h h') (h1 : ∀ x, x ∈ S → xIc (xcls h x)) : isXI G h' it es i := by
  obtain ⟨q0, ⟨l, mc, a, b⟩ | ⟨ll, ns, mc, a, b⟩⟩ := q
  · refine ⟨q0, Or.inl ⟨l, mc, a.md m (fun z => (h1 l z).1 a.1) (fun x hx => ⟨(h1 x hx).2.2.2.2.2.1, (h1 x hx).2.2.2.2.2.2⟩), b.md m (fun z => (h1 it z).2.1 b.1)⟩⟩
  · exact ⟨q0, Or.inr ⟨ll, ns, mc, a.md m (fun x hx => ⟨(h1 x hx).2.2.1, (h1 x hx).2.2.2.2.1⟩), b.md m (fun z => (h1 it z).2.2.2.1 b.1)⟩⟩
theorem isXI.ex (q : isXI G h it es i) (m : xExt h h') : isXI G h' it es i := q.md m (fun x hx => by cases hx)
theorem isXI.c (q : isXI G h it es i) : xcls h it = 8 ∨ xcls h it = 22 := by
  obtain ⟨-, ⟨l, mc, a, b⟩ | ⟨ll, ns, mc, a, b⟩⟩ := q
  · exact Or.inl b.1
  · exact Or.inr b.1
theorem xi_has {F : Int32 → xH → Nat → Prop} (hd : 1 < d) (q : isXI G h it es i) (hQ : F (xb (decide (i < es.length))) h k) : ∃ Y : xM, (xcls h it, Y) ∈ dsp_Iterator_hasNext ∧ xCall G d k Y [xr (some it)] h (xkI F T) := by
  obtain ⟨q0, ⟨l, mc, a, b⟩ | ⟨ll, ns, mc, a, b⟩⟩ := q
  · exact ⟨_, by rw [b.1]; exact dsp_Iterator_hasNext_8, it_hasNext_c hd a b q0 hQ⟩
  · exact ⟨_, by rw [b.1]; exact dsp_Iterator_hasNext_22, li_hasNext_c hd a b q0 hQ⟩
theorem xi_next {F : Option Nat → xH → Nat → Prop} (hd : 2 < d) (q : isXI G h it es i) (hi : es[i]? = some e) (hQ : ∀ h', xMod [it] h h' → isXI G h' it es (i + 1) → F (some e) h' k) : ∃ Y : xM, (xcls h it, Y) ∈ dsp_Iterator_next ∧ xCall G d k Y [xr (some it)] h (xkR F T) := by
  have hl := (List.getElem?_eq_some_iff.mp hi).1
  obtain ⟨q0, ⟨l, mc, a, b⟩ | ⟨ll, ns, mc, a, b⟩⟩ := q
  · refine ⟨_, by rw [b.1]; exact dsp_Iterator_next_8, it_next_c hd a b hi fun h' m b' => hQ h' m ⟨hl, Or.inl ⟨l, mc, a.md m ?_ ?_, b'⟩⟩⟩
    · intro z
      have : l = it := by simpa using z
      have h1 := a.1
      rw [this, b.1] at h1
      cases h1
    · intro x hx
      have : x = it := by simpa using hx
      rw [this, b.1]
      decide
  · refine ⟨_, by rw [b.1]; exact dsp_Iterator_next_22, li_next_c hd a b hi fun h' m b' => hQ h' m ⟨hl, Or.inr ⟨ll, ns, mc, a.md m ?_, b'⟩⟩⟩
    intro x hx
    have : x = it := by simpa using hx
    rw [this, b.1]
    decide
/-- the iterator of an array list -/
def isRI (G : xG) (h : xH) (it : Nat) (es : List Nat) (i : Nat) : Prop := i ≤ es.length ∧ ∃ (l : Nat) (mc : Int32), isAL G h l es mc ∧ isIt h it l i mc
theorem isRI.xi (q : isRI G h it es i) : isXI G h it es i := ⟨q.1, Or.inl q.2⟩
theorem isRI.md (q : isRI G h it es i) (m : xMod S h h') (h1 : ∀ x, x ∈ S → xcls h x ≠ 4 ∧ xcls h x ≠ 8 ∧ xcls h x ≠ 1006 ∧ xcls h x ≠ 1009) : isRI G h' it es i := by
  obtain ⟨q0, l, mc, a, b⟩ := q
  exact ⟨q0, l, mc, a.md m (fun z => (h1 l z).1 a.1) (fun x hx => ⟨(h1 x hx).2.2.1, (h1 x hx).2.2.2⟩), b.md m (fun z => (h1 it z).2.1 b.1)⟩
theorem isRI.ex (q : isRI G h it es i) (m : xExt h h') : isRI G h' it es i := q.md m (fun x hx => by cases hx)
theorem isRI.cl (q : isRI G h it es i) : xcls h it = 8 := by
  obtain ⟨-, l, mc, a, b⟩ := q
  exact b.1
theorem ri_has {F : Int32 → xH → Nat → Prop} (hd : 1 < d) (q : isRI G h it es i) (hQ : F (xb (decide (i < es.length))) h k) : ∃ Y : xM, (xcls h it, Y) ∈ dsp_Iterator_hasNext ∧ xCall G d k Y [xr (some it)] h (xkI F T) := xi_has hd q.xi hQ
theorem ri_next {F : Option Nat → xH → Nat → Prop} (hd : 2 < d) (q : isRI G h it es i) (hi : es[i]? = some e) (hQ : ∀ h', xMod [it] h h' → isRI G h' it es (i + 1) → F (some e) h' k) : ∃ Y : xM, (xcls h it, Y) ∈ dsp_Iterator_next ∧ xCall G d k Y [xr (some it)] h (xkR F T) := by
  have hl := (List.getElem?_eq_some_iff.mp hi).1
  obtain ⟨q0, l, mc, a, b⟩ := q
  refine ⟨_, by rw [b.1]; exact dsp_Iterator_next_8, it_next_c hd a b hi fun h' m b' => hQ h' m ⟨hl, l, mc, a.md m ?_ ?_, b'⟩⟩
  · intro z
    have : l = it := by simpa using z
    have h1 := a.1
    rw [this, b.1] at h1
    cases h1
  · intro x hx
    have : x = it := by simpa using hx
    rw [this, b.1]
    decide
theorem al_iter {F : Option Nat → xH → Nat → Prop} (hd : 2 < d) (hk : 6 ≤ k) (q : isAL G h al es mc) (hQ : ∀ h' it, xExt h h' → xsz h ≤ it → isRI G h' it es 0 → F (some it) h' (k - 6)) : xCall G d k mJ2_iterator [xr (some al)] h (xkR F T) := by
  refine xCall_of (d' := 2) hd hk (vc_J2_iterator ⟨by decide, fun h1 a2 e2 e1 => ?_⟩)
  have c1 : xcls h1 a2 = 8 := by subst e1; simp (decide := true) only [true_and, and_true, and_self, exists_eq_left, exists_eq_left', forall_eq, forall_eq', Sum.inl.injEq, Sum.inr.injEq, Option.some.injEq, xcls_put, xlen_put, xval_put, xsz_put, xlo_put, xcls_new, xlen_new, xval_new, xsz_new, xlo_new, ↓reduceIte, reduceCtorEq, and_false, false_and, not_true_eq_false, not_false_eq_true, implies_true, forall_const, true_implies, false_implies, ne_eq, e2]
  have hn : ¬ al = a2 := xne_new (by rw [q.1]; decide) e2
  have m1 : xExt h h1 := by subst e1; exact xMod.rf.new
  have q1 := q.ex m1
  have hz : xsz h ≤ a2 := by omega
  refine xCall_of (d' := 1) (by decide) (Nat.zero_le _) (vc_J4_init ?_)
  simp (decide := true) only [true_and, and_true, and_self, exists_eq_left, exists_eq_left', forall_eq, forall_eq', Sum.inl.injEq, Sum.inr.injEq, Option.some.injEq, xcls_put, xlen_put, xval_put, xsz_put, xlo_put, xcls_new, xlen_new, xval_new, xsz_new, xlo_new, ↓reduceIte, reduceCtorEq, and_false, false_and, not_true_eq_false, not_false_eq_true, implies_true, forall_const, true_implies, false_implies, ne_eq, c1, q1.1, q1.2.1, hn, Nat.le_refl]
  have m2 := ((m1.put (k := 3) (v := xr (some al)) (Or.inr hz)).put (k := 1) (v := xi (-1)) (Or.inr hz)).put (k := 2) (v := xi mc) (Or.inr hz)
  refine hQ _ a2 m2 hz ⟨Nat.zero_le _, al, mc, q.ex m2, c1, ?_, ?_, ?_⟩
  · subst e1; simp (decide := true) only [true_and, and_true, and_self, exists_eq_left, exists_eq_left', forall_eq, forall_eq', Sum.inl.injEq, Sum.inr.injEq, Option.some.injEq, xcls_put, xlen_put, xval_put, xsz_put, xlo_put, xcls_new, xlen_new, xval_new, xsz_new, xlo_new, ↓reduceIte, reduceCtorEq, and_false, false_and, not_true_eq_false, not_false_eq_true, implies_true, forall_const, true_implies, false_implies, ne_eq, e2]
    first | done | rfl
  · simp (decide := true) only [true_and, and_true, and_self, exists_eq_left, exists_eq_left', forall_eq, forall_eq', Sum.inl.injEq, Sum.inr.injEq, Option.some.injEq, xcls_put, xlen_put, xval_put, xsz_put, xlo_put, xcls_new, xlen_new, xval_new, xsz_new, xlo_new, ↓reduceIte, reduceCtorEq, and_false, false_and, not_true_eq_false, not_false_eq_true, implies_true, forall_const, true_implies, false_implies, ne_eq]
  · simp (decide := true) only [true_and, and_true, and_self, exists_eq_left, exists_eq_left', forall_eq, forall_eq', Sum.inl.injEq, Sum.inr.injEq, Option.some.injEq, xcls_put, xlen_put, xval_put, xsz_put, xlo_put, xcls_new, xlen_new, xval_new, xsz_new, xlo_new, ↓reduceIte, reduceCtorEq, and_false, false_and, not_true_eq_false, not_false_eq_true, implies_true, forall_const, true_implies, false_implies, ne_eq]
/-- adding: what is written is the list and, if it is its own, its array -/
theorem al_add2_c {F : Int32 → xH → Nat → Prop} {c : Nat} (hd : 5 < d) (hk : 11 ≤ k) (q : isAL G h al es mc) (hl : es.length < 10) (hc : xcls h e = c) (hcs : c ∈ cst_java_lang_Object) (hc0 : c ≠ 4 ∧ c ≠ 1006 ∧ c ≠ 0)
    (hQ : ∀ h' S', xMod S' h h' → (∀ x, x ∈ S' → x = al ∨ (xcls h x = 1006 ∧ xval h al 1 = xr (some x))) → isAL G h' al (es ++ [e]) (mc + 1) → (∀ a, xval h' al 1 = xr (some a) → xval h al 1 = xr (some a) ∨ xsz h ≤ a) → F 1 h' (k - 11)) : xCall G d k mJ2_add [xr (some al), xr (some e)] h (xkI F T) := by
  obtain ⟨q1, q2, q3, q4, arr, q5, q6, q7⟩ := q
  have hne : ¬ e = al := xne_cls hc q1 hc0.1
  refine xCall_of (d' := 5) hd hk (vc_J2_add ?_)
  simp (decide := true) only [true_and, and_true, and_self, exists_eq_left, exists_eq_left', forall_eq, forall_eq', Sum.inl.injEq, Sum.inr.injEq, Option.some.injEq, xcls_put, xlen_put, xval_put, xsz_put, xlo_put, xcls_new, xlen_new, xval_new, xsz_new, xlo_new, ↓reduceIte, reduceCtorEq, and_false, false_and, not_true_eq_false, not_false_eq_true, implies_true, forall_const, true_implies, false_implies, ne_eq, q1, q2, q3, q5]
  refine xCall_of (d' := 4) (by decide) (Nat.le_refl _) (vc_J2_add_2 ?_)
  rcases q6 with ⟨z1, z2, z3, z4⟩ | ⟨z1, z2⟩
  · subst z3
    have hna : ¬ arr = al := xne_cls z1 q1 (by decide)
    have hna2 : ¬ al = arr := fun z => hna z.symm
    simp (decide := true) only [true_and, and_true, and_self, exists_eq_left, exists_eq_left', forall_eq, forall_eq', Sum.inl.injEq, Sum.inr.injEq, Option.some.injEq, xcls_put, xlen_put, xval_put, xsz_put, xlo_put, xcls_new, xlen_new, xval_new, xsz_new, xlo_new, ↓reduceIte, reduceCtorEq, and_false, false_and, not_true_eq_false, not_false_eq_true, implies_true, forall_const, true_implies, false_implies, ne_eq, z1, z2]
    refine ⟨⟨9, _, rfl, rfl⟩, q1, ?_⟩
    refine al_grow_c (arr := arr) (by decide) (by decide) q1 (by simp (decide := true) only [true_and, and_true, and_self, exists_eq_left, exists_eq_left', forall_eq, forall_eq', Sum.inl.injEq, Sum.inr.injEq, Option.some.injEq, xcls_put, xlen_put, xval_put, xsz_put, xlo_put, xcls_new, xlen_new, xval_new, xsz_new, xlo_new, ↓reduceIte, reduceCtorEq, and_false, false_and, not_true_eq_false, not_false_eq_true, implies_true, forall_const, true_implies, false_implies, ne_eq, q5]) (by simp (decide := true) only [true_and, and_true, and_self, exists_eq_left, exists_eq_left', forall_eq, forall_eq', Sum.inl.injEq, Sum.inr.injEq, Option.some.injEq, xcls_put, xlen_put, xval_put, xsz_put, xlo_put, xcls_new, xlen_new, xval_new, xsz_new, xlo_new, ↓reduceIte, reduceCtorEq, and_false, false_and, not_true_eq_false, not_false_eq_true, implies_true, forall_const, true_implies, false_implies, ne_eq, q3]; first | done | rfl) z1 z2 z4 ?_
    have hn1 : ¬ e = xsz h := xne_new (by rw [hc]; exact hc0.2.2) rfl
    have hn2 : ¬ al = xsz h := xne_new (by rw [q1]; decide) rfl
    have hn3 : ¬ xsz h = al := fun z => hn2 z.symm
    simp (decide := true) only [true_and, and_true, and_self, exists_eq_left, exists_eq_left', forall_eq, forall_eq', Sum.inl.injEq, Sum.inr.injEq, Option.some.injEq, xcls_put, xlen_put, xval_put, xsz_put, xlo_put, xcls_new, xlen_new, xval_new, xsz_new, xlo_new, ↓reduceIte, reduceCtorEq, and_false, false_and, not_true_eq_false, not_false_eq_true, implies_true, forall_const, true_implies, false_implies, ne_eq, q1, z1, hn1, hn2, hc]
    refine ⟨0, rfl, by decide, by decide, hcs, hQ _ [al] ?_ (fun x hx => Or.inl (by simpa using hx)) ⟨?_, ?_, ?_, by simp, xsz h, ?_, Or.inr ⟨?_, ?_⟩, ?_⟩ ?_⟩
    · exact ((((xMod.rf.put (Or.inl List.mem_cons_self)).new).put (Or.inl List.mem_cons_self)).put (Or.inr (Nat.le_refl _))).put (Or.inl List.mem_cons_self)
    · simp (decide := true) only [true_and, and_true, and_self, exists_eq_left, exists_eq_left', forall_eq, forall_eq', Sum.inl.injEq, Sum.inr.injEq, Option.some.injEq, xcls_put, xlen_put, xval_put, xsz_put, xlo_put, xcls_new, xlen_new, xval_new, xsz_new, xlo_new, ↓reduceIte, reduceCtorEq, and_false, false_and, not_true_eq_false, not_false_eq_true, implies_true, forall_const, true_implies, false_implies, ne_eq, hn2, q1]
    · simp (decide := true) only [true_and, and_true, and_self, exists_eq_left, exists_eq_left', forall_eq, forall_eq', Sum.inl.injEq, Sum.inr.injEq, Option.some.injEq, xcls_put, xlen_put, xval_put, xsz_put, xlo_put, xcls_new, xlen_new, xval_new, xsz_new, xlo_new, ↓reduceIte, reduceCtorEq, and_false, false_and, not_true_eq_false, not_false_eq_true, implies_true, forall_const, true_implies, false_implies, ne_eq, hn2]
    · simp (decide := true) only [true_and, and_true, and_self, exists_eq_left, exists_eq_left', forall_eq, forall_eq', Sum.inl.injEq, Sum.inr.injEq, Option.some.injEq, xcls_put, xlen_put, xval_put, xsz_put, xlo_put, xcls_new, xlen_new, xval_new, xsz_new, xlo_new, ↓reduceIte, reduceCtorEq, and_false, false_and, not_true_eq_false, not_false_eq_true, implies_true, forall_const, true_implies, false_implies, ne_eq, hn2]; rfl
    · simp (decide := true) only [true_and, and_true, and_self, exists_eq_left, exists_eq_left', forall_eq, forall_eq', Sum.inl.injEq, Sum.inr.injEq, Option.some.injEq, xcls_put, xlen_put, xval_put, xsz_put, xlo_put, xcls_new, xlen_new, xval_new, xsz_new, xlo_new, ↓reduceIte, reduceCtorEq, and_false, false_and, not_true_eq_false, not_false_eq_true, implies_true, forall_const, true_implies, false_implies, ne_eq, hn2]
    · simp (decide := true) only [true_and, and_true, and_self, exists_eq_left, exists_eq_left', forall_eq, forall_eq', Sum.inl.injEq, Sum.inr.injEq, Option.some.injEq, xcls_put, xlen_put, xval_put, xsz_put, xlo_put, xcls_new, xlen_new, xval_new, xsz_new, xlo_new, ↓reduceIte, reduceCtorEq, and_false, false_and, not_true_eq_false, not_false_eq_true, implies_true, forall_const, true_implies, false_implies, ne_eq, hn3]
    · simp (decide := true) only [true_and, and_true, and_self, exists_eq_left, exists_eq_left', forall_eq, forall_eq', Sum.inl.injEq, Sum.inr.injEq, Option.some.injEq, xcls_put, xlen_put, xval_put, xsz_put, xlo_put, xcls_new, xlen_new, xval_new, xsz_new, xlo_new, ↓reduceIte, reduceCtorEq, and_false, false_and, not_true_eq_false, not_false_eq_true, implies_true, forall_const, true_implies, false_implies, ne_eq, hn3]
    · intro i e' hi
      cases i with
      | zero =>
        have : e = e' := by simpa using hi
        subst this
        simp (decide := true) only [true_and, and_true, and_self, exists_eq_left, exists_eq_left', forall_eq, forall_eq', Sum.inl.injEq, Sum.inr.injEq, Option.some.injEq, xcls_put, xlen_put, xval_put, xsz_put, xlo_put, xcls_new, xlen_new, xval_new, xsz_new, xlo_new, ↓reduceIte, reduceCtorEq, and_false, false_and, not_true_eq_false, not_false_eq_true, implies_true, forall_const, true_implies, false_implies, ne_eq, hn3]
      | succ i => simp at hi
    · intro a ha
      right
      simp (decide := true) only [true_and, and_true, and_self, exists_eq_left, exists_eq_left', forall_eq, forall_eq', Sum.inl.injEq, Sum.inr.injEq, Option.some.injEq, xcls_put, xlen_put, xval_put, xsz_put, xlo_put, xcls_new, xlen_new, xval_new, xsz_new, xlo_new, ↓reduceIte, reduceCtorEq, and_false, false_and, not_true_eq_false, not_false_eq_true, implies_true, forall_const, true_implies, false_implies, ne_eq, hn2] at ha
      omega
  · have hna : ¬ arr = al := xne_cls z1 q1 (by decide)
    have hna2 : ¬ al = arr := fun z => hna z.symm
    simp (decide := true) only [true_and, and_true, and_self, exists_eq_left, exists_eq_left', forall_eq, forall_eq', Sum.inl.injEq, Sum.inr.injEq, Option.some.injEq, xcls_put, xlen_put, xval_put, xsz_put, xlo_put, xcls_new, xlen_new, xval_new, xsz_new, xlo_new, ↓reduceIte, reduceCtorEq, and_false, false_and, not_true_eq_false, not_false_eq_true, implies_true, forall_const, true_implies, false_implies, ne_eq, z1, z2, q1]
    refine ⟨⟨6, _, rfl, rfl⟩, fun _ => ⟨es.length, rfl, by omega, hl, by rw [hc]; exact hcs, ?_⟩, fun z => absurd ((nI_eq (by omega) (by omega)).mp z) (by omega)⟩
    refine hQ _ [al, arr] (((xMod.rf.put (Or.inl List.mem_cons_self)).put (Or.inl (by simp))).put (Or.inl List.mem_cons_self)) ?_ ⟨?_, ?_, ?_, by simp; omega, arr, ?_, Or.inr ⟨?_, ?_⟩, ?_⟩ ?_
    · intro x hx
      simp only [List.mem_cons, List.not_mem_nil, or_false] at hx
      rcases hx with rfl | rfl
      · exact Or.inl rfl
      · exact Or.inr ⟨z1, q5⟩
    · simp (decide := true) only [true_and, and_true, and_self, exists_eq_left, exists_eq_left', forall_eq, forall_eq', Sum.inl.injEq, Sum.inr.injEq, Option.some.injEq, xcls_put, xlen_put, xval_put, xsz_put, xlo_put, xcls_new, xlen_new, xval_new, xsz_new, xlo_new, ↓reduceIte, reduceCtorEq, and_false, false_and, not_true_eq_false, not_false_eq_true, implies_true, forall_const, true_implies, false_implies, ne_eq, q1]
    · simp (decide := true) only [true_and, and_true, and_self, exists_eq_left, exists_eq_left', forall_eq, forall_eq', Sum.inl.injEq, Sum.inr.injEq, Option.some.injEq, xcls_put, xlen_put, xval_put, xsz_put, xlo_put, xcls_new, xlen_new, xval_new, xsz_new, xlo_new, ↓reduceIte, reduceCtorEq, and_false, false_and, not_true_eq_false, not_false_eq_true, implies_true, forall_const, true_implies, false_implies, ne_eq, hna2]
    · simp (decide := true) only [true_and, and_true, and_self, exists_eq_left, exists_eq_left', forall_eq, forall_eq', Sum.inl.injEq, Sum.inr.injEq, Option.some.injEq, xcls_put, xlen_put, xval_put, xsz_put, xlo_put, xcls_new, xlen_new, xval_new, xsz_new, xlo_new, ↓reduceIte, reduceCtorEq, and_false, false_and, not_true_eq_false, not_false_eq_true, implies_true, forall_const, true_implies, false_implies, ne_eq]; rw [List.length_append]; exact nI_1 _
    · simp (decide := true) only [true_and, and_true, and_self, exists_eq_left, exists_eq_left', forall_eq, forall_eq', Sum.inl.injEq, Sum.inr.injEq, Option.some.injEq, xcls_put, xlen_put, xval_put, xsz_put, xlo_put, xcls_new, xlen_new, xval_new, xsz_new, xlo_new, ↓reduceIte, reduceCtorEq, and_false, false_and, not_true_eq_false, not_false_eq_true, implies_true, forall_const, true_implies, false_implies, ne_eq, hna2]; exact q5
    · simp (decide := true) only [true_and, and_true, and_self, exists_eq_left, exists_eq_left', forall_eq, forall_eq', Sum.inl.injEq, Sum.inr.injEq, Option.some.injEq, xcls_put, xlen_put, xval_put, xsz_put, xlo_put, xcls_new, xlen_new, xval_new, xsz_new, xlo_new, ↓reduceIte, reduceCtorEq, and_false, false_and, not_true_eq_false, not_false_eq_true, implies_true, forall_const, true_implies, false_implies, ne_eq]; exact z1
    · simp (decide := true) only [true_and, and_true, and_self, exists_eq_left, exists_eq_left', forall_eq, forall_eq', Sum.inl.injEq, Sum.inr.injEq, Option.some.injEq, xcls_put, xlen_put, xval_put, xsz_put, xlo_put, xcls_new, xlen_new, xval_new, xsz_new, xlo_new, ↓reduceIte, reduceCtorEq, and_false, false_and, not_true_eq_false, not_false_eq_true, implies_true, forall_const, true_implies, false_implies, ne_eq]; exact z2
    · intro i e' hi
      simp (decide := true) only [true_and, and_true, and_self, exists_eq_left, exists_eq_left', forall_eq, forall_eq', Sum.inl.injEq, Sum.inr.injEq, Option.some.injEq, xcls_put, xlen_put, xval_put, xsz_put, xlo_put, xcls_new, xlen_new, xval_new, xsz_new, xlo_new, ↓reduceIte, reduceCtorEq, and_false, false_and, not_true_eq_false, not_false_eq_true, implies_true, forall_const, true_implies, false_implies, ne_eq, hna]
      by_cases hlt : i < es.length
      · rw [List.getElem?_append_left hlt] at hi
        rw [if_neg (by omega)]
        exact q7 i e' hi
      · rw [List.getElem?_append_right (by omega)] at hi
        have h0 : i - es.length < 1 := (List.getElem?_eq_some_iff.mp hi).1
        have h1 : i = es.length := by omega
        subst h1
        simp at hi
        subst hi
        rw [if_pos rfl]
    · intro a ha
      left
      simp (decide := true) only [true_and, and_true, and_self, exists_eq_left, exists_eq_left', forall_eq, forall_eq', Sum.inl.injEq, Sum.inr.injEq, Option.some.injEq, xcls_put, xlen_put, xval_put, xsz_put, xlo_put, xcls_new, xlen_new, xval_new, xsz_new, xlo_new, ↓reduceIte, reduceCtorEq, and_false, false_and, not_true_eq_false, not_false_eq_true, implies_true, forall_const, true_implies, false_implies, ne_eq, hna2] at ha
      exact ha
/-! what may be gone through: a row, or a linked list -/
def isXC (G : xG) (h : xH) (c : Nat) (es : List Nat) : Prop := (∃ (l : Nat) (mc : Int32), xcls h c = 3 ∧ xval h c 0 = xr (some l) ∧ isAL G h l es mc) ∨ (∃ (ns : List Nat) (mc : Int32), isLN h c ns es mc)
theorem isXC.md {c : Nat} (q : isXC G h c es) (m : xMod S h h') (h1 : ∀ x, x ∈ S → xcls h x ≠ 3 ∧ xIc (xcls h x)) : isXC G h' c es := by
  rcases q with ⟨l, mc, a, b, e⟩ | ⟨ns, mc, a⟩
  · exact Or.inl ⟨l, mc, m.cl' a (by decide), m.vl' a (by decide) (fun z => (h1 c z).1 a) b, e.md m (fun z => (h1 l z).2.1 e.1) (fun x hx => ⟨(h1 x hx).2.2.2.2.2.2.1, (h1 x hx).2.2.2.2.2.2.2⟩)⟩
  · exact Or.inr ⟨ns, mc, a.md m (fun x hx => ⟨(h1 x hx).2.2.2.1, (h1 x hx).2.2.2.2.2.1⟩)⟩
theorem isXC.ex {c : Nat} (q : isXC G h c es) (m : xExt h h') : isXC G h' c es := q.md m (fun x hx => by cases hx)
theorem row_iter {F : Option Nat → xH → Nat → Prop} {c l : Nat} (hd : 3 < d) (hk : 6 ≤ k) (a : xcls h c = 3) (b : xval h c 0 = xr (some l)) (q : isAL G h l es mc) (hQ : ∀ h' it, xExt h h' → xsz h ≤ it → isRI G h' it es 0 → F (some it) h' (k - 6)) : xCall G d k mX2_iterator [xr (some c)] h (xkR F T) :=
  xCall_of (d' := 3) hd hk (vc_X2_iterator ⟨a, _, b, _, rfl, q.1, al_iter (by decide) (Nat.le_refl _) q fun h' it m1 m2 q' => hQ h' it m1 m2 q'⟩)
theorem xc_iter {F : Option Nat → xH → Nat → Prop} {c : Nat} (hd : 6 < d) (hk : 6 ≤ k) (q : isXC G h c es) (hQ : ∀ h' it, xExt h h' → xsz h ≤ it → isXI G h' it es 0 → F (some it) h' (k - 6)) : ∃ Y : xM, (xcls h c, Y) ∈ dsp_Iterable_iterator ∧ xCall G d k Y [xr (some c)] h (xkR F T) := by
  rcases q with ⟨l, mc, a, b, e⟩ | ⟨ns, mc, a⟩
  · exact ⟨_, by rw [a]; exact dsp_Iterable_iterator_3, row_iter (by omega) hk a b e fun h' it m1 m2 q' => hQ h' it m1 m2 q'.xi⟩
  · exact ⟨_, by rw [a.1]; exact dsp_Iterable_iterator_17, ll_iterator_c (by omega) hk a fun h' it m1 m2 q' => hQ h' it m1 m2 ⟨Nat.zero_le _, Or.inr ⟨c, ns, mc, a.ex m1, q'⟩⟩⟩
end XIT

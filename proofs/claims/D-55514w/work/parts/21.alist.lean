/-! small JDK members: Objects, Preconditions, ArrayList and its iterator -/
def isAL (G : xG) (h : xH) (al : Nat) (es : List Nat) (mc : Int32) : Prop := xcls h al = 4 ∧ xval h al 0 = xi mc ∧ xval h al 2 = xi (nI es.length) ∧ es.length ≤ 10 ∧ ∃ arr : Nat, xval h al 1 = xr (some arr) ∧
  ((xcls h arr = 1009 ∧ xlen h arr = 0 ∧ es = [] ∧ G.2.1 0 = xr (some arr)) ∨ (xcls h arr = 1006 ∧ xlen h arr = 10)) ∧ ∀ (i e : Nat), es[i]? = some e → xval h arr i = xr (some e)
def isIt (h : xH) (it al i : Nat) (mc : Int32) : Prop := xcls h it = 8 ∧ xval h it 0 = xi (nI i) ∧ xval h it 2 = xi mc ∧ xval h it 3 = xr (some al)
section XAL
variable {G : xG} {d k : Nat} {h h' : xH} {T : Nat → xH → Nat → Prop} {S : List Nat} {al it i e : Nat} {es : List Nat} {mc : Int32}
theorem isAL.md (q : isAL G h al es mc) (m : xMod S h h') (h1 : al ∉ S) (h2 : ∀ x, x ∈ S → xcls h x ≠ 1006 ∧ xcls h x ≠ 1009) : isAL G h' al es mc := by
  obtain ⟨q1, q2, q3, q4, arr, q5, q6, q7⟩ := q
  have ha : xcls h arr ≠ 0 ∧ arr ∉ S := by
    rcases q6 with ⟨z, -⟩ | ⟨z, -⟩
    · exact ⟨by rw [z]; decide, fun w => (h2 arr w).2 z⟩
    · exact ⟨by rw [z]; decide, fun w => (h2 arr w).1 z⟩
  refine ⟨m.cl' q1 (by decide), m.vl' q1 (by decide) h1 q2, m.vl' q1 (by decide) h1 q3, q4, arr, m.vl' q1 (by decide) h1 q5, ?_, fun i e hi => (m.vl ha.1 ha.2 i).trans (q7 i e hi)⟩
  rw [m.cl ha.1, m.ln ha.1]
  exact q6
theorem isAL.ex (q : isAL G h al es mc) (m : xExt h h') : isAL G h' al es mc := q.md m (by simp) (by simp)
theorem isIt.md (q : isIt h it al i mc) (m : xMod S h h') (h1 : it ∉ S) : isIt h' it al i mc :=
  ⟨m.cl' q.1 (by decide), m.vl' q.1 (by decide) h1 q.2.1, m.vl' q.1 (by decide) h1 q.2.2.1, m.vl' q.1 (by decide) h1 q.2.2.2⟩
theorem checkIndex_c {x n : Int32} {F : Int32 → xH → Nat → Prop} (hd : 2 < d) (h0 : ¬ x < 0) (h1 : x < n) (hQ : F x h k) : xCall G d k mJ5_checkIndex [xi x, xi n] h (xkI F T) := by
  refine xCall_of (d' := 2) hd (Nat.zero_le k) (vc_J5_checkIndex ?_)
  refine xCall_of (d' := 1) (by decide) (Nat.le_refl _) (vc_J6_checkIndex ⟨fun z => absurd z h0, fun _ => ⟨fun _ => ?_, fun z => absurd h1 z⟩⟩)
  exact hQ
theorem al_init_c {F : xH → Nat → Prop} {a e0 : Nat} (hd : 3 < d) (ha : xcls h a = 4) (hb : G.2.1 0 = xr (some e0)) (hb1 : xcls h e0 = 1009) (hb2 : xlen h e0 = 0) (hz : xval h a 2 = xi 0)
    (hQ : ∀ h', xMod [a] h h' → isAL G h' a [] 0 → F h' k) : xCall G d k mJ2_init [xr (some a)] h (xkV F T) := by
  refine xCall_of (d' := 3) hd (Nat.zero_le k) (vc_J2_init ?_)
  refine xCall_of (d' := 2) (by decide) (Nat.le_refl _) (vc_J1_init ?_)
  refine xCall_of (d' := 1) (by decide) (Nat.le_refl _) (vc_J0_init ⟨by decide, ?_⟩)
  show _ ∧ _
  refine ⟨Or.inl ha, fun h3 e3 => ?_⟩
  show ∃ _, _
  refine ⟨_, hb, by rw [e3]; exact ha, fun h4 e4 => ?_⟩
  subst e3
  subst e4
  refine hQ _ ((xMod.rf.put (Or.inl List.mem_cons_self)).put (Or.inl List.mem_cons_self)) ⟨ha, ?_, ?_, by decide, e0, by simp (decide := true) only [true_and, and_true, and_self, exists_eq_left, exists_eq_left', forall_eq, forall_eq', Sum.inl.injEq, Sum.inr.injEq, Option.some.injEq, xcls_put, xlen_put, xval_put, xsz_put, xlo_put, xcls_new, xlen_new, xval_new, xsz_new, xlo_new, ↓reduceIte, reduceCtorEq, and_false, false_and, not_true_eq_false, not_false_eq_true, implies_true, forall_const, true_implies, false_implies, ne_eq], Or.inl ⟨hb1, hb2, rfl, hb⟩, fun i e hi => by simp at hi⟩
  · simp (decide := true) only [true_and, and_true, and_self, exists_eq_left, exists_eq_left', forall_eq, forall_eq', Sum.inl.injEq, Sum.inr.injEq, Option.some.injEq, xcls_put, xlen_put, xval_put, xsz_put, xlo_put, xcls_new, xlen_new, xval_new, xsz_new, xlo_new, ↓reduceIte, reduceCtorEq, and_false, false_and, not_true_eq_false, not_false_eq_true, implies_true, forall_const, true_implies, false_implies, ne_eq]
  · simp (decide := true) only [true_and, and_true, and_self, exists_eq_left, exists_eq_left', forall_eq, forall_eq', Sum.inl.injEq, Sum.inr.injEq, Option.some.injEq, xcls_put, xlen_put, xval_put, xsz_put, xlo_put, xcls_new, xlen_new, xval_new, xsz_new, xlo_new, ↓reduceIte, reduceCtorEq, and_false, false_and, not_true_eq_false, not_false_eq_true, implies_true, forall_const, true_implies, false_implies, ne_eq]; exact hz
theorem al_size_c {F : Int32 → xH → Nat → Prop} (hd : 1 < d) (q : isAL G h al es mc) (hQ : F (nI es.length) h k) : xCall G d k mJ2_size [xr (some al)] h (xkI F T) := by
  refine xCall_of (d' := 1) hd (Nat.zero_le k) (vc_J2_size ?_)
  exact ⟨q.1, _, q.2.2.1, hQ⟩
theorem al_get_c {F : Option Nat → xH → Nat → Prop} (hd : 3 < d) (q : isAL G h al es mc) (hi : es[i]? = some e) (hQ : F (some e) h k) : xCall G d k mJ2_get [xr (some al), xi (nI i)] h (xkR F T) := by
  obtain ⟨q1, q2, q3, q4, arr, q5, q6, q7⟩ := q
  have hl := (List.getElem?_eq_some_iff.mp hi).1
  refine xCall_of (d' := 3) hd (Nat.zero_le k) (vc_J2_get ⟨q1, _, q3, checkIndex_c (by decide) (nI_pos (by omega)) (nI_lt hl (by omega)) ?_⟩)
  refine ⟨q1, xCall_of (d' := 1) (by decide) (Nat.le_refl _) (vc_J2_elementData ?_)⟩
  rcases q6 with ⟨-, -, z, -⟩ | ⟨z1, z2⟩
  · subst z; simp at hl
  · exact ⟨q1, _, q5, _, rfl, z1, i, rfl, by omega, by omega, _, q7 i e hi, hQ⟩
theorem al_iterator_c {F : Option Nat → xH → Nat → Prop} (hd : 2 < d) (hk : 5 ≤ k) (q : isAL G h al es mc) (hQ : ∀ h' it, xExt h h' → xsz h ≤ it → isIt h' it al 0 mc → F (some it) h' (k - 5)) : xCall G d k mJ2_iterator [xr (some al)] h (xkR F T) := by
  refine xCall_of (d' := 2) hd hk (vc_J2_iterator ⟨Nat.le_refl _, fun h1 a2 e2 e1 => ?_⟩)
  have c1 : xcls h1 a2 = 8 := by subst e1; simp (decide := true) only [true_and, and_true, and_self, exists_eq_left, exists_eq_left', forall_eq, forall_eq', Sum.inl.injEq, Sum.inr.injEq, Option.some.injEq, xcls_put, xlen_put, xval_put, xsz_put, xlo_put, xcls_new, xlen_new, xval_new, xsz_new, xlo_new, ↓reduceIte, reduceCtorEq, and_false, false_and, not_true_eq_false, not_false_eq_true, implies_true, forall_const, true_implies, false_implies, ne_eq, e2]
  have hn : ¬ al = a2 := xne_new (by rw [q.1]; decide) e2
  have m1 : xExt h h1 := by subst e1; exact xMod.rf.new
  have q1 := q.ex m1
  have hz : xsz h ≤ a2 := by omega
  refine xCall_of (d' := 1) (by decide) (Nat.zero_le _) (vc_J4_init ?_)
  simp (decide := true) only [true_and, and_true, and_self, exists_eq_left, exists_eq_left', forall_eq, forall_eq', Sum.inl.injEq, Sum.inr.injEq, Option.some.injEq, xcls_put, xlen_put, xval_put, xsz_put, xlo_put, xcls_new, xlen_new, xval_new, xsz_new, xlo_new, ↓reduceIte, reduceCtorEq, and_false, false_and, not_true_eq_false, not_false_eq_true, implies_true, forall_const, true_implies, false_implies, ne_eq, c1, q1.1, q1.2.1, hn, Nat.le_refl]
  refine hQ _ a2 (((m1.put (Or.inr hz)).put (Or.inr hz)).put (Or.inr hz)) hz ⟨c1, ?_, ?_, ?_⟩
  · subst e1; simp (decide := true) only [true_and, and_true, and_self, exists_eq_left, exists_eq_left', forall_eq, forall_eq', Sum.inl.injEq, Sum.inr.injEq, Option.some.injEq, xcls_put, xlen_put, xval_put, xsz_put, xlo_put, xcls_new, xlen_new, xval_new, xsz_new, xlo_new, ↓reduceIte, reduceCtorEq, and_false, false_and, not_true_eq_false, not_false_eq_true, implies_true, forall_const, true_implies, false_implies, ne_eq, e2]
    first | done | rfl
  · simp (decide := true) only [true_and, and_true, and_self, exists_eq_left, exists_eq_left', forall_eq, forall_eq', Sum.inl.injEq, Sum.inr.injEq, Option.some.injEq, xcls_put, xlen_put, xval_put, xsz_put, xlo_put, xcls_new, xlen_new, xval_new, xsz_new, xlo_new, ↓reduceIte, reduceCtorEq, and_false, false_and, not_true_eq_false, not_false_eq_true, implies_true, forall_const, true_implies, false_implies, ne_eq]
  · simp (decide := true) only [true_and, and_true, and_self, exists_eq_left, exists_eq_left', forall_eq, forall_eq', Sum.inl.injEq, Sum.inr.injEq, Option.some.injEq, xcls_put, xlen_put, xval_put, xsz_put, xlo_put, xcls_new, xlen_new, xval_new, xsz_new, xlo_new, ↓reduceIte, reduceCtorEq, and_false, false_and, not_true_eq_false, not_false_eq_true, implies_true, forall_const, true_implies, false_implies, ne_eq]
theorem it_hasNext_c {F : Int32 → xH → Nat → Prop} (hd : 1 < d) (q : isAL G h al es mc) (qi : isIt h it al i mc) (hi : i ≤ es.length) (hQ : F (xb (decide (i < es.length))) h k) : xCall G d k mJ4_hasNext [xr (some it)] h (xkI F T) := by
  refine xCall_of (d' := 1) hd (Nat.zero_le k) (vc_J4_hasNext ⟨qi.1, _, qi.2.1, qi.1, _, qi.2.2.2, _, rfl, q.1, _, q.2.2.1, fun z => ?_, fun z => ?_⟩)
  · have := (nI_eq (by have := q.2.2.2.1; omega) (by have := q.2.2.2.1; omega)).mp z
    rw [decide_eq_false (by omega)] at hQ
    exact hQ
  · have h9 : i < es.length := by
      rcases Nat.lt_or_eq_of_le hi with y | y
      · exact y
      · exact absurd (by rw [y]) z
    rw [decide_eq_true h9] at hQ
    exact hQ
theorem it_next_c {F : Option Nat → xH → Nat → Prop} (hd : 2 < d) (q : isAL G h al es mc) (qi : isIt h it al i mc) (hi : es[i]? = some e) (hQ : ∀ h', xMod [it] h h' → isIt h' it al (i + 1) mc → F (some e) h' k) : xCall G d k mJ4_next [xr (some it)] h (xkR F T) := by
  obtain ⟨q1, q2, q3, q4, arr, q5, q6, q7⟩ := q
  have hl := (List.getElem?_eq_some_iff.mp hi).1
  refine xCall_of (d' := 2) hd (Nat.zero_le k) (vc_J4_next ⟨qi.1, xCall_of (d' := 1) (by decide) (Nat.le_refl _) (vc_J4_checkForComodification ⟨qi.1, _, qi.2.2.2, _, rfl, q1, _, q2, qi.1, _, qi.2.2.1, fun _ => ?_, fun z => absurd rfl z⟩)⟩)
  rcases q6 with ⟨-, -, z, -⟩ | ⟨z1, z2⟩
  · subst z; simp at hl
  · have hne : ¬ arr = it := xne_cls z1 qi.1 (by decide)
    refine ⟨qi.1, _, qi.2.1, qi.1, _, qi.2.2.2, _, rfl, q1, _, q3, fun _ => ?_, fun z => absurd (nI_lt hl (by omega)) z⟩
    refine ⟨qi.1, _, qi.2.2.2, _, rfl, q1, _, q5, _, rfl, ⟨6, _, rfl, z1⟩, fun _ => ?_, fun z => absurd (nI_lt (by omega) (by omega)) z⟩
    simp (decide := true) only [true_and, and_true, and_self, exists_eq_left, exists_eq_left', forall_eq, forall_eq', Sum.inl.injEq, Sum.inr.injEq, Option.some.injEq, xcls_put, xlen_put, xval_put, xsz_put, xlo_put, xcls_new, xlen_new, xval_new, xsz_new, xlo_new, ↓reduceIte, reduceCtorEq, and_false, false_and, not_true_eq_false, not_false_eq_true, implies_true, forall_const, true_implies, false_implies, ne_eq, qi.1, z1, hne]
    refine ⟨i, rfl, by omega, by omega, _, q7 i e hi, hQ _ ((xMod.rf.put (Or.inl List.mem_cons_self)).put (Or.inl List.mem_cons_self)) ⟨qi.1, ?_, ?_, ?_⟩⟩
    · simp (decide := true) only [true_and, and_true, and_self, exists_eq_left, exists_eq_left', forall_eq, forall_eq', Sum.inl.injEq, Sum.inr.injEq, Option.some.injEq, xcls_put, xlen_put, xval_put, xsz_put, xlo_put, xcls_new, xlen_new, xval_new, xsz_new, xlo_new, ↓reduceIte, reduceCtorEq, and_false, false_and, not_true_eq_false, not_false_eq_true, implies_true, forall_const, true_implies, false_implies, ne_eq]; exact nI_1 i
    · simp (decide := true) only [true_and, and_true, and_self, exists_eq_left, exists_eq_left', forall_eq, forall_eq', Sum.inl.injEq, Sum.inr.injEq, Option.some.injEq, xcls_put, xlen_put, xval_put, xsz_put, xlo_put, xcls_new, xlen_new, xval_new, xsz_new, xlo_new, ↓reduceIte, reduceCtorEq, and_false, false_and, not_true_eq_false, not_false_eq_true, implies_true, forall_const, true_implies, false_implies, ne_eq]; exact qi.2.2.1
    · simp (decide := true) only [true_and, and_true, and_self, exists_eq_left, exists_eq_left', forall_eq, forall_eq', Sum.inl.injEq, Sum.inr.injEq, Option.some.injEq, xcls_put, xlen_put, xval_put, xsz_put, xlo_put, xcls_new, xlen_new, xval_new, xsz_new, xlo_new, ↓reduceIte, reduceCtorEq, and_false, false_and, not_true_eq_false, not_false_eq_true, implies_true, forall_const, true_implies, false_implies, ne_eq]; exact qi.2.2.2
theorem al_grow_c {F : Option Nat → xH → Nat → Prop} {arr : Nat} (hd : 3 < d) (hk : 11 ≤ k) (q1 : xcls h al = 4) (q5 : xval h al 1 = xr (some arr)) (q3 : xval h al 2 = xi 0) (z1 : xcls h arr = 1009) (z2 : xlen h arr = 0) (z4 : G.2.1 0 = xr (some arr))
    (hQ : F (some (xsz h)) (xput (xnew h 1006 10 (fun _ => xr none)) al 1 (xr (some (xsz h)))) (k - 11)) : xCall G d k mJ2_grow [xr (some al)] h (xkR F T) := by
  have hn : ¬ al = xsz h := xne_new (by rw [q1]; decide) rfl
  refine xCall_of (d' := 3) hd hk (vc_J2_grow ?_)
  simp (decide := true) only [true_and, and_true, and_self, exists_eq_left, exists_eq_left', forall_eq, forall_eq', Sum.inl.injEq, Sum.inr.injEq, Option.some.injEq, xcls_put, xlen_put, xval_put, xsz_put, xlo_put, xcls_new, xlen_new, xval_new, xsz_new, xlo_new, ↓reduceIte, reduceCtorEq, and_false, false_and, not_true_eq_false, not_false_eq_true, implies_true, forall_const, true_implies, false_implies, ne_eq, q1, q3]
  refine xCall_of (d' := 2) (by decide) (Nat.le_refl _) (vc_J2_grow_2 ?_)
  simp (decide := true) only [true_and, and_true, and_self, exists_eq_left, exists_eq_left', forall_eq, forall_eq', Sum.inl.injEq, Sum.inr.injEq, Option.some.injEq, xcls_put, xlen_put, xval_put, xsz_put, xlo_put, xcls_new, xlen_new, xval_new, xsz_new, xlo_new, ↓reduceIte, reduceCtorEq, and_false, false_and, not_true_eq_false, not_false_eq_true, implies_true, forall_const, true_implies, false_implies, ne_eq, q1, q5, z1, z2, z4]
  exact ⟨⟨9, _, rfl, rfl⟩, 10, rfl, by decide, by decide, if_neg hn, hQ⟩
theorem al_add_c {F : Int32 → xH → Nat → Prop} {c : Nat} (hd : 5 < d) (hk : 11 ≤ k) (q : isAL G h al es mc) (hl : es.length < 10) (hc : xcls h e = c) (hcs : c ∈ cst_java_lang_Object) (hc0 : c ≠ 4 ∧ c ≠ 1006 ∧ c ≠ 0)
    (hQ : ∀ h' arr, xval h al 1 = xr (some arr) → xMod [al, arr] h h' → isAL G h' al (es ++ [e]) (mc + 1) → F 1 h' (k - 11)) : xCall G d k mJ2_add [xr (some al), xr (some e)] h (xkI F T) := by
  obtain ⟨q1, q2, q3, q4, arr, q5, q6, q7⟩ := q
  have hne : ¬ e = al := xne_cls hc q1 hc0.1
  refine xCall_of (d' := 5) hd hk (vc_J2_add ?_)
  simp (decide := true) only [true_and, and_true, and_self, exists_eq_left, exists_eq_left', forall_eq, forall_eq', Sum.inl.injEq, Sum.inr.injEq, Option.some.injEq, xcls_put, xlen_put, xval_put, xsz_put, xlo_put, xcls_new, xlen_new, xval_new, xsz_new, xlo_new, ↓reduceIte, reduceCtorEq, and_false, false_and, not_true_eq_false, not_false_eq_true, implies_true, forall_const, true_implies, false_implies, ne_eq, q1, q2, q3, q5]
  refine xCall_of (d' := 4) (by decide) (Nat.le_refl _) (vc_J2_add_2 ?_)
  rcases q6 with ⟨z1, z2, z3, z4⟩ | ⟨z1, z2⟩
  · subst z3
    have hna : ¬ arr = al := xne_cls z1 q1 (by decide)
    have hna2 : ¬ al = arr := fun z => hna z.symm
    simp (decide := true) only [true_and, and_true, and_self, exists_eq_left, exists_eq_left', forall_eq, forall_eq', Sum.inl.injEq, Sum.inr.injEq, Option.some.injEq, xcls_put, xlen_put, xval_put, xsz_put, xlo_put, xcls_new, xlen_new, xval_new, xsz_new, xlo_new, ↓reduceIte, reduceCtorEq, and_false, false_and, not_true_eq_false, not_false_eq_true, implies_true, forall_const, true_implies, false_implies, ne_eq, z1, z2]
    refine ⟨⟨9, _, rfl, rfl⟩, q1, ?_⟩
    refine al_grow_c (arr := arr) (by decide) (by decide) q1 (by simp (decide := true) only [true_and, and_true, and_self, exists_eq_left, exists_eq_left', forall_eq, forall_eq', Sum.inl.injEq, Sum.inr.injEq, Option.some.injEq, xcls_put, xlen_put, xval_put, xsz_put, xlo_put, xcls_new, xlen_new, xval_new, xsz_new, xlo_new, ↓reduceIte, reduceCtorEq, and_false, false_and, not_true_eq_false, not_false_eq_true, implies_true, forall_const, true_implies, false_implies, ne_eq, q5]) (by simp (decide := true) only [true_and, and_true, and_self, exists_eq_left, exists_eq_left', forall_eq, forall_eq', Sum.inl.injEq, Sum.inr.injEq, Option.some.injEq, xcls_put, xlen_put, xval_put, xsz_put, xlo_put, xcls_new, xlen_new, xval_new, xsz_new, xlo_new, ↓reduceIte, reduceCtorEq, and_false, false_and, not_true_eq_false, not_false_eq_true, implies_true, forall_const, true_implies, false_implies, ne_eq, q3]; first | done | rfl) z1 z2 z4 ?_
    have hn1 : ¬ e = xsz h := xne_new (by rw [hc]; exact hc0.2.2) rfl
    have hn2 : ¬ al = xsz h := xne_new (by rw [q1]; decide) rfl
    have hn3 : ¬ xsz h = al := fun z => hn2 z.symm
    simp (decide := true) only [true_and, and_true, and_self, exists_eq_left, exists_eq_left', forall_eq, forall_eq', Sum.inl.injEq, Sum.inr.injEq, Option.some.injEq, xcls_put, xlen_put, xval_put, xsz_put, xlo_put, xcls_new, xlen_new, xval_new, xsz_new, xlo_new, ↓reduceIte, reduceCtorEq, and_false, false_and, not_true_eq_false, not_false_eq_true, implies_true, forall_const, true_implies, false_implies, ne_eq, q1, z1, hn1, hn2, hc]
    refine ⟨0, rfl, by decide, by decide, hcs, hQ _ arr q5 ?_ ⟨?_, ?_, ?_, by simp, xsz h, ?_, Or.inr ⟨?_, ?_⟩, ?_⟩⟩
    · exact ((((xMod.rf.put (Or.inl List.mem_cons_self)).new).put (Or.inl List.mem_cons_self)).put (Or.inr (Nat.le_refl _))).put (Or.inl List.mem_cons_self)
    · simp (decide := true) only [true_and, and_true, and_self, exists_eq_left, exists_eq_left', forall_eq, forall_eq', Sum.inl.injEq, Sum.inr.injEq, Option.some.injEq, xcls_put, xlen_put, xval_put, xsz_put, xlo_put, xcls_new, xlen_new, xval_new, xsz_new, xlo_new, ↓reduceIte, reduceCtorEq, and_false, false_and, not_true_eq_false, not_false_eq_true, implies_true, forall_const, true_implies, false_implies, ne_eq, hn2, q1]
    · simp (decide := true) only [true_and, and_true, and_self, exists_eq_left, exists_eq_left', forall_eq, forall_eq', Sum.inl.injEq, Sum.inr.injEq, Option.some.injEq, xcls_put, xlen_put, xval_put, xsz_put, xlo_put, xcls_new, xlen_new, xval_new, xsz_new, xlo_new, ↓reduceIte, reduceCtorEq, and_false, false_and, not_true_eq_false, not_false_eq_true, implies_true, forall_const, true_implies, false_implies, ne_eq, hn2]
    · simp (decide := true) only [true_and, and_true, and_self, exists_eq_left, exists_eq_left', forall_eq, forall_eq', Sum.inl.injEq, Sum.inr.injEq, Option.some.injEq, xcls_put, xlen_put, xval_put, xsz_put, xlo_put, xcls_new, xlen_new, xval_new, xsz_new, xlo_new, ↓reduceIte, reduceCtorEq, and_false, false_and, not_true_eq_false, not_false_eq_true, implies_true, forall_const, true_implies, false_implies, ne_eq, hn2]; rfl
    · simp (decide := true) only [true_and, and_true, and_self, exists_eq_left, exists_eq_left', forall_eq, forall_eq', Sum.inl.injEq, Sum.inr.injEq, Option.some.injEq, xcls_put, xlen_put, xval_put, xsz_put, xlo_put, xcls_new, xlen_new, xval_new, xsz_new, xlo_new, ↓reduceIte, reduceCtorEq, and_false, false_and, not_true_eq_false, not_false_eq_true, implies_true, forall_const, true_implies, false_implies, ne_eq, hn2]
    · simp (decide := true) only [true_and, and_true, and_self, exists_eq_left, exists_eq_left', forall_eq, forall_eq', Sum.inl.injEq, Sum.inr.injEq, Option.some.injEq, xcls_put, xlen_put, xval_put, xsz_put, xlo_put, xcls_new, xlen_new, xval_new, xsz_new, xlo_new, ↓reduceIte, reduceCtorEq, and_false, false_and, not_true_eq_false, not_false_eq_true, implies_true, forall_const, true_implies, false_implies, ne_eq, hn3]
    · simp (decide := true) only [true_and, and_true, and_self, exists_eq_left, exists_eq_left', forall_eq, forall_eq', Sum.inl.injEq, Sum.inr.injEq, Option.some.injEq, xcls_put, xlen_put, xval_put, xsz_put, xlo_put, xcls_new, xlen_new, xval_new, xsz_new, xlo_new, ↓reduceIte, reduceCtorEq, and_false, false_and, not_true_eq_false, not_false_eq_true, implies_true, forall_const, true_implies, false_implies, ne_eq, hn3]
    · intro i e' hi
      cases i with
      | zero =>
        have : e = e' := by simpa using hi
        subst this
        simp (decide := true) only [true_and, and_true, and_self, exists_eq_left, exists_eq_left', forall_eq, forall_eq', Sum.inl.injEq, Sum.inr.injEq, Option.some.injEq, xcls_put, xlen_put, xval_put, xsz_put, xlo_put, xcls_new, xlen_new, xval_new, xsz_new, xlo_new, ↓reduceIte, reduceCtorEq, and_false, false_and, not_true_eq_false, not_false_eq_true, implies_true, forall_const, true_implies, false_implies, ne_eq, hn3]
      | succ i => simp at hi
  · have hna : ¬ arr = al := xne_cls z1 q1 (by decide)
    have hna2 : ¬ al = arr := fun z => hna z.symm
    simp (decide := true) only [true_and, and_true, and_self, exists_eq_left, exists_eq_left', forall_eq, forall_eq', Sum.inl.injEq, Sum.inr.injEq, Option.some.injEq, xcls_put, xlen_put, xval_put, xsz_put, xlo_put, xcls_new, xlen_new, xval_new, xsz_new, xlo_new, ↓reduceIte, reduceCtorEq, and_false, false_and, not_true_eq_false, not_false_eq_true, implies_true, forall_const, true_implies, false_implies, ne_eq, z1, z2, q1]
    refine ⟨⟨6, _, rfl, rfl⟩, fun _ => ⟨es.length, rfl, by omega, hl, by rw [hc]; exact hcs, ?_⟩, fun z => absurd ((nI_eq (by omega) (by omega)).mp z) (by omega)⟩
    refine hQ _ arr q5 (((xMod.rf.put (Or.inl List.mem_cons_self)).put (Or.inl (by simp))).put (Or.inl List.mem_cons_self)) ⟨?_, ?_, ?_, by simp; omega, arr, ?_, Or.inr ⟨?_, ?_⟩, ?_⟩
    · simp (decide := true) only [true_and, and_true, and_self, exists_eq_left, exists_eq_left', forall_eq, forall_eq', Sum.inl.injEq, Sum.inr.injEq, Option.some.injEq, xcls_put, xlen_put, xval_put, xsz_put, xlo_put, xcls_new, xlen_new, xval_new, xsz_new, xlo_new, ↓reduceIte, reduceCtorEq, and_false, false_and, not_true_eq_false, not_false_eq_true, implies_true, forall_const, true_implies, false_implies, ne_eq, q1]
    · simp (decide := true) only [true_and, and_true, and_self, exists_eq_left, exists_eq_left', forall_eq, forall_eq', Sum.inl.injEq, Sum.inr.injEq, Option.some.injEq, xcls_put, xlen_put, xval_put, xsz_put, xlo_put, xcls_new, xlen_new, xval_new, xsz_new, xlo_new, ↓reduceIte, reduceCtorEq, and_false, false_and, not_true_eq_false, not_false_eq_true, implies_true, forall_const, true_implies, false_implies, ne_eq, hna2]
    · simp (decide := true) only [true_and, and_true, and_self, exists_eq_left, exists_eq_left', forall_eq, forall_eq', Sum.inl.injEq, Sum.inr.injEq, Option.some.injEq, xcls_put, xlen_put, xval_put, xsz_put, xlo_put, xcls_new, xlen_new, xval_new, xsz_new, xlo_new, ↓reduceIte, reduceCtorEq, and_false, false_and, not_true_eq_false, not_false_eq_true, implies_true, forall_const, true_implies, false_implies, ne_eq]; rw [List.length_append]; exact nI_1 _
    · simp (decide := true) only [true_and, and_true, and_self, exists_eq_left, exists_eq_left', forall_eq, forall_eq', Sum.inl.injEq, Sum.inr.injEq, Option.some.injEq, xcls_put, xlen_put, xval_put, xsz_put, xlo_put, xcls_new, xlen_new, xval_new, xsz_new, xlo_new, ↓reduceIte, reduceCtorEq, and_false, false_and, not_true_eq_false, not_false_eq_true, implies_true, forall_const, true_implies, false_implies, ne_eq, hna2]; exact q5
    · simp (decide := true) only [true_and, and_true, and_self, exists_eq_left, exists_eq_left', forall_eq, forall_eq', Sum.inl.injEq, Sum.inr.injEq, Option.some.injEq, xcls_put, xlen_put, xval_put, xsz_put, xlo_put, xcls_new, xlen_new, xval_new, xsz_new, xlo_new, ↓reduceIte, reduceCtorEq, and_false, false_and, not_true_eq_false, not_false_eq_true, implies_true, forall_const, true_implies, false_implies, ne_eq]; exact z1
    · simp (decide := true) only [true_and, and_true, and_self, exists_eq_left, exists_eq_left', forall_eq, forall_eq', Sum.inl.injEq, Sum.inr.injEq, Option.some.injEq, xcls_put, xlen_put, xval_put, xsz_put, xlo_put, xcls_new, xlen_new, xval_new, xsz_new, xlo_new, ↓reduceIte, reduceCtorEq, and_false, false_and, not_true_eq_false, not_false_eq_true, implies_true, forall_const, true_implies, false_implies, ne_eq]; exact z2
    · intro i e' hi
      simp (decide := true) only [true_and, and_true, and_self, exists_eq_left, exists_eq_left', forall_eq, forall_eq', Sum.inl.injEq, Sum.inr.injEq, Option.some.injEq, xcls_put, xlen_put, xval_put, xsz_put, xlo_put, xcls_new, xlen_new, xval_new, xsz_new, xlo_new, ↓reduceIte, reduceCtorEq, and_false, false_and, not_true_eq_false, not_false_eq_true, implies_true, forall_const, true_implies, false_implies, ne_eq, hna]
      by_cases hlt : i < es.length
      · rw [List.getElem?_append_left hlt] at hi
        rw [if_neg (by omega)]
        exact q7 i e' hi
      · rw [List.getElem?_append_right (by omega)] at hi
        have h0 : i - es.length < 1 := (List.getElem?_eq_some_iff.mp hi).1
        have h1 : i = es.length := by omega
        subst h1
        simp at hi
        subst hi
        rw [if_pos rfl]
end XAL

/-! LinkedList and its iterator -/
def isLN (h : xH) (ll : Nat) (ns es : List Nat) (mc : Int32) : Prop := xcls h ll = 17 ∧ xval h ll 0 = xi mc ∧ xval h ll 1 = xi (nI es.length) ∧ xval h ll 2 = xr ns[0]? ∧ xval h ll 3 = xr ns[es.length - 1]? ∧ ns.length = es.length ∧ es.length < 1073741824 ∧
  (∀ (i n : Nat), ns[i]? = some n → xcls h n = 25 ∧ xval h n 0 = xr es[i]? ∧ xval h n 1 = xr ns[i + 1]? ∧ (0 < i → xval h n 2 = xr ns[i - 1]?)) ∧ ∀ (i j n : Nat), ns[i]? = some n → ns[j]? = some n → i = j
def isLI (h : xH) (it ll : Nat) (ns : List Nat) (i : Nat) (mc : Int32) : Prop := xcls h it = 22 ∧ xval h it 1 = xr ns[i]? ∧ xval h it 2 = xi (nI i) ∧ xval h it 3 = xi mc ∧ xval h it 4 = xr (some ll)
section XLL
variable {G : xG} {d k : Nat} {h h' : xH} {T : Nat → xH → Nat → Prop} {S : List Nat} {ll it i e : Nat} {ns es : List Nat} {mc : Int32}
theorem isLN.md (q : isLN h ll ns es mc) (m : xMod S h h') (h1 : ∀ x, x ∈ S → xcls h x ≠ 17 ∧ xcls h x ≠ 25) : isLN h' ll ns es mc := by
  obtain ⟨q1, q2, q3, q4, q5, q6, q7, q8, q9⟩ := q
  have hl : ll ∉ S := fun z => (h1 ll z).1 q1
  refine ⟨m.cl' q1 (by decide), m.vl' q1 (by decide) hl q2, m.vl' q1 (by decide) hl q3, m.vl' q1 (by decide) hl q4, m.vl' q1 (by decide) hl q5, q6, q7, fun i n hn => ?_, q9⟩
  obtain ⟨a, b, c, e⟩ := q8 i n hn
  have hn : n ∉ S := fun z => (h1 n z).2 a
  exact ⟨m.cl' a (by decide), m.vl' a (by decide) hn b, m.vl' a (by decide) hn c, fun hi => m.vl' a (by decide) hn (e hi)⟩
theorem isLN.ex (q : isLN h ll ns es mc) (m : xExt h h') : isLN h' ll ns es mc := q.md m (by simp)
theorem isLI.md (q : isLI h it ll ns i mc) (m : xMod S h h') (h1 : it ∉ S) : isLI h' it ll ns i mc :=
  ⟨m.cl' q.1 (by decide), m.vl' q.1 (by decide) h1 q.2.1, m.vl' q.1 (by decide) h1 q.2.2.1, m.vl' q.1 (by decide) h1 q.2.2.2.1, m.vl' q.1 (by decide) h1 q.2.2.2.2⟩
theorem ll_init_c {F : xH → Nat → Prop} {a : Nat} (hd : 4 < d) (ha : xcls h a = 17) (h2 : xval h a 2 = xr none) (h3 : xval h a 3 = xr none)
    (hQ : ∀ h', xMod [a] h h' → isLN h' a [] [] 0 → F h' k) : xCall G d k mJ20_init [xr (some a)] h (xkV F T) := by
  refine xCall_of (d' := 4) hd (Nat.zero_le k) (vc_J20_init ?_)
  refine xCall_of (d' := 3) (by decide) (Nat.le_refl _) (vc_J19_init ?_)
  refine xCall_of (d' := 2) (by decide) (Nat.le_refl _) (vc_J1_init ?_)
  refine xCall_of (d' := 1) (by decide) (Nat.le_refl _) (vc_J0_init ⟨by decide, ?_⟩)
  show _ ∧ _
  refine ⟨Or.inr ha, fun h3 e3 => ?_⟩
  show _ ∧ _
  refine ⟨by rw [e3]; exact ha, fun h4 e4 => ?_⟩
  subst e3
  subst e4
  refine hQ _ ((xMod.rf.put (Or.inl List.mem_cons_self)).put (Or.inl List.mem_cons_self)) ⟨ha, ?_, ?_, ?_, ?_, rfl, by decide, fun i n hi => by simp at hi, fun i j n hi => by simp at hi⟩
  · simp (decide := true) only [true_and, and_true, and_self, exists_eq_left, exists_eq_left', forall_eq, forall_eq', Sum.inl.injEq, Sum.inr.injEq, Option.some.injEq, xcls_put, xlen_put, xval_put, xsz_put, xlo_put, xcls_new, xlen_new, xval_new, xsz_new, xlo_new, ↓reduceIte, reduceCtorEq, and_false, false_and, not_true_eq_false, not_false_eq_true, implies_true, forall_const, true_implies, false_implies, ne_eq]
  · simp (decide := true) only [true_and, and_true, and_self, exists_eq_left, exists_eq_left', forall_eq, forall_eq', Sum.inl.injEq, Sum.inr.injEq, Option.some.injEq, xcls_put, xlen_put, xval_put, xsz_put, xlo_put, xcls_new, xlen_new, xval_new, xsz_new, xlo_new, ↓reduceIte, reduceCtorEq, and_false, false_and, not_true_eq_false, not_false_eq_true, implies_true, forall_const, true_implies, false_implies, ne_eq]
    first | done | rfl
  · simp (decide := true) only [true_and, and_true, and_self, exists_eq_left, exists_eq_left', forall_eq, forall_eq', Sum.inl.injEq, Sum.inr.injEq, Option.some.injEq, xcls_put, xlen_put, xval_put, xsz_put, xlo_put, xcls_new, xlen_new, xval_new, xsz_new, xlo_new, ↓reduceIte, reduceCtorEq, and_false, false_and, not_true_eq_false, not_false_eq_true, implies_true, forall_const, true_implies, false_implies, ne_eq]; exact h2
  · simp (decide := true) only [true_and, and_true, and_self, exists_eq_left, exists_eq_left', forall_eq, forall_eq', Sum.inl.injEq, Sum.inr.injEq, Option.some.injEq, xcls_put, xlen_put, xval_put, xsz_put, xlo_put, xcls_new, xlen_new, xval_new, xsz_new, xlo_new, ↓reduceIte, reduceCtorEq, and_false, false_and, not_true_eq_false, not_false_eq_true, implies_true, forall_const, true_implies, false_implies, ne_eq]; exact h3
theorem ll_size_c {F : Int32 → xH → Nat → Prop} (hd : 1 < d) (q : isLN h ll ns es mc) (hQ : F (nI es.length) h k) : xCall G d k mJ20_size [xr (some ll)] h (xkI F T) :=
  xCall_of (d' := 1) hd (Nat.zero_le k) (vc_J20_size ⟨q.1, _, q.2.2.1, hQ⟩)
theorem ll_node17 {K : Nat} {Q : xR → xH → Prop} (q : isLN h ll ns es mc) (hi : i < es.length) (hQ : Q (.inl (some (xr ns[i]?))) h) : ∀ (n j : Nat), j + n = i → xWp G mJ20_node 1 K Q k 17 [none, some (xi (nI i)), some (xr ns[j]?), some (xi (nI j))] [] h := by
  obtain ⟨q1, q2, q3, q4, q5, q6, q7, q8, q9⟩ := q
  intro n
  induction n with
  | zero =>
    intro j hj
    have : j = i := by omega
    subst this
    exact vc_J20_node_17 ⟨fun _ => hQ, fun z => absurd (nI_le (Nat.le_refl j) (by omega)) z⟩
  | succ n ih =>
    intro j hj
    refine vc_J20_node_17 ⟨fun z => absurd ((nI_leI (by omega) (by omega)).mp z) (by omega), fun _ => ?_⟩
    have hjl : j < ns.length := by omega
    obtain ⟨a, ha⟩ : ∃ a, ns[j]? = some a := ⟨_, List.getElem?_eq_getElem hjl⟩
    obtain ⟨b1, b2, b3, b4⟩ := q8 j a ha
    refine ⟨a, ha, b1, _, b3, ?_⟩
    rw [nI_1]
    exact ih (j + 1) (by omega)
theorem ll_node47 {K : Nat} {Q : xR → xH → Prop} (q : isLN h ll ns es mc) (hi : i < es.length) (hQ : Q (.inl (some (xr ns[i]?))) h) : ∀ (n j : Nat), j = i + n → j < es.length → xWp G mJ20_node 1 K Q k 47 [none, some (xi (nI i)), some (xr ns[j]?), some (xi (nI j))] [] h := by
  obtain ⟨q1, q2, q3, q4, q5, q6, q7, q8, q9⟩ := q
  intro n
  induction n with
  | zero =>
    intro j hj hjl
    have : j = i := by omega
    subst this
    exact vc_J20_node_47 ⟨fun _ => hQ, fun z => absurd (nI_le (Nat.le_refl j) (by omega)) z⟩
  | succ n ih =>
    intro j hj hjl
    refine vc_J20_node_47 ⟨fun z => absurd ((nI_leI (by omega) (by omega)).mp z) (by omega), fun _ => ?_⟩
    obtain ⟨a, ha⟩ : ∃ a, ns[j]? = some a := ⟨_, List.getElem?_eq_getElem (by omega)⟩
    obtain ⟨b1, b2, b3, b4⟩ := q8 j a ha
    refine ⟨a, ha, b1, _, b4 (by omega), ?_⟩
    have e9 : nI j + (-1 : Int32) = nI (j - 1) := sb_m1 (by omega)
    rw [e9]
    exact ih (j - 1) (by omega) (by omega)
theorem ll_node_c {F : Option Nat → xH → Nat → Prop} (hd : 1 < d) (q : isLN h ll ns es mc) (hi : i < es.length) (hQ : F ns[i]? h k) : xCall G d k mJ20_node [xr (some ll), xi (nI i)] h (xkR F T) := by
  have q' := q
  obtain ⟨q1, q2, q3, q4, q5, q6, q7, q8, q9⟩ := q
  refine xCall_of (d' := 1) hd (Nat.zero_le k) (vc_J20_node ⟨q1, _, q3, fun _ => ⟨q1, _, q5, q1, _, q3, ?_⟩, fun _ => ⟨q1, _, q4, ?_⟩⟩)
  · have e9 : nI es.length - (1 : Int32) = nI (es.length - 1) := by
      obtain ⟨m, hm⟩ : ∃ m, es.length = m + 1 := ⟨es.length - 1, by omega⟩
      rw [hm]
      exact nI_pred m
    rw [e9]
    exact ll_node47 q' hi hQ (es.length - 1 - i) (es.length - 1) (by omega) (by omega)
  · exact ll_node17 q' hi hQ i 0 (by omega)
theorem ll_get_c {F : Option Nat → xH → Nat → Prop} (hd : 3 < d) (q : isLN h ll ns es mc) (hi : es[i]? = some e) (hQ : F (some e) h k) : xCall G d k mJ20_get [xr (some ll), xi (nI i)] h (xkR F T) := by
  have q' := q
  obtain ⟨q1, q2, q3, q4, q5, q6, q7, q8, q9⟩ := q
  have hl := (List.getElem?_eq_some_iff.mp hi).1
  refine xCall_of (d' := 3) hd (Nat.zero_le k) (vc_J20_get ⟨q1, xCall_of (d' := 2) (by decide) (Nat.le_refl _) (vc_J20_checkElementIndex ⟨q1, xCall_of (d' := 1) (by decide) (Nat.le_refl _) (vc_J20_isElementIndex ⟨fun z => absurd z (nI_pos (by omega)), fun _ => ⟨q1, _, q3, fun z => absurd ((nI_leI (by omega) (by omega)).mp z) (by omega), fun _ => ?_⟩⟩)⟩)⟩)
  refine ⟨fun _ => ?_, fun z => absurd z (by decide)⟩
  refine ⟨q1, ll_node_c (by decide) q' hl ?_⟩
  obtain ⟨a, ha⟩ : ∃ a, ns[i]? = some a := ⟨_, List.getElem?_eq_getElem (by omega)⟩
  obtain ⟨b1, b2, b3, b4⟩ := q8 i a ha
  exact ⟨a, ha, b1, _, b2.trans (by rw [hi]), hQ⟩
theorem ll_iterator_c {F : Option Nat → xH → Nat → Prop} (hd : 5 < d) (hk : 6 ≤ k) (q : isLN h ll ns es mc) (hQ : ∀ h' it, xExt h h' → xsz h ≤ it → isLI h' it ll ns 0 mc → F (some it) h' (k - 6)) : xCall G d k mJ19_iterator [xr (some ll)] h (xkR F T) := by
  have q' := q
  obtain ⟨q1, q2, q3, q4, q5, q6, q7, q8, q9⟩ := q
  refine xCall_of (d' := 5) hd hk (vc_J19_iterator ⟨q1, xCall_of (d' := 4) (by decide) (Nat.le_refl _) (vc_J1_listIterator ⟨_, by rw [q1]; exact dsp_AbstractList_listIterator_17, ?_⟩)⟩)
  have hlt : ¬ nI es.length < 0 := nI_pos (by omega)
  refine xCall_of (d' := 3) (by decide) (Nat.le_refl _) (vc_J20_listIterator ⟨q1, xCall_of (d' := 2) (by decide) (Nat.zero_le _) (vc_J20_checkPositionIndex ⟨q1, xCall_of (d' := 1) (by decide) (Nat.zero_le _) (vc_J20_isPositionIndex ⟨fun z => absurd z (by decide), fun _ => ⟨q1, _, q3, fun z => absurd z hlt, fun _ => ?_⟩⟩)⟩)⟩)
  refine ⟨fun _ => ?_, fun z => absurd z (by decide)⟩
  refine ⟨by decide, fun h1 a2 e2 e1 => ?_⟩
  have c1 : xcls h1 a2 = 22 := by subst e1; simp (decide := true) only [true_and, and_true, and_self, exists_eq_left, exists_eq_left', forall_eq, forall_eq', Sum.inl.injEq, Sum.inr.injEq, Option.some.injEq, xcls_put, xlen_put, xval_put, xsz_put, xlo_put, xcls_new, xlen_new, xval_new, xsz_new, xlo_new, ↓reduceIte, reduceCtorEq, and_false, false_and, not_true_eq_false, not_false_eq_true, implies_true, forall_const, true_implies, false_implies, ne_eq, e2]
  have hn : ¬ ll = a2 := xne_new (by rw [q1]; decide) e2
  have hz : xsz h ≤ a2 := by omega
  have m1 : xExt h h1 := by subst e1; exact xMod.rf.new
  have p := q'.ex m1
  refine xCall_of (d' := 2) (by decide) (Nat.zero_le _) (vc_J24_init ?_)
  simp (decide := true) only [true_and, and_true, and_self, exists_eq_left, exists_eq_left', forall_eq, forall_eq', Sum.inl.injEq, Sum.inr.injEq, Option.some.injEq, xcls_put, xlen_put, xval_put, xsz_put, xlo_put, xcls_new, xlen_new, xval_new, xsz_new, xlo_new, ↓reduceIte, reduceCtorEq, and_false, false_and, not_true_eq_false, not_false_eq_true, implies_true, forall_const, true_implies, false_implies, ne_eq, c1, p.1, hn, p.2.1, p.2.2.1]
  refine ⟨fun hne => ?_, fun hne => ?_⟩
  · have m3 : xExt h (xput (xput h1 a2 4 (xr (some ll))) a2 3 (xi mc)) := (m1.put (Or.inr hz)).put (Or.inr hz)
    have hl0 : 0 < es.length := by
      rcases Nat.eq_zero_or_pos es.length with y | y
      · rw [y] at hne; exact absurd rfl hne
      · exact y
    refine ll_node_c (i := 0) (by decide) (q'.ex m3) hl0 ?_
    simp (decide := true) only [true_and, and_true, and_self, exists_eq_left, exists_eq_left', forall_eq, forall_eq', Sum.inl.injEq, Sum.inr.injEq, Option.some.injEq, xcls_put, xlen_put, xval_put, xsz_put, xlo_put, xcls_new, xlen_new, xval_new, xsz_new, xlo_new, ↓reduceIte, reduceCtorEq, and_false, false_and, not_true_eq_false, not_false_eq_true, implies_true, forall_const, true_implies, false_implies, ne_eq, c1]
    refine hQ _ a2 ((m3.put (Or.inr hz)).put (Or.inr hz)) hz ⟨c1, ?_, ?_, ?_, ?_⟩
    · simp (decide := true) only [true_and, and_true, and_self, exists_eq_left, exists_eq_left', forall_eq, forall_eq', Sum.inl.injEq, Sum.inr.injEq, Option.some.injEq, xcls_put, xlen_put, xval_put, xsz_put, xlo_put, xcls_new, xlen_new, xval_new, xsz_new, xlo_new, ↓reduceIte, reduceCtorEq, and_false, false_and, not_true_eq_false, not_false_eq_true, implies_true, forall_const, true_implies, false_implies, ne_eq]
    · simp (decide := true) only [true_and, and_true, and_self, exists_eq_left, exists_eq_left', forall_eq, forall_eq', Sum.inl.injEq, Sum.inr.injEq, Option.some.injEq, xcls_put, xlen_put, xval_put, xsz_put, xlo_put, xcls_new, xlen_new, xval_new, xsz_new, xlo_new, ↓reduceIte, reduceCtorEq, and_false, false_and, not_true_eq_false, not_false_eq_true, implies_true, forall_const, true_implies, false_implies, ne_eq]
      first | done | rfl
    · simp (decide := true) only [true_and, and_true, and_self, exists_eq_left, exists_eq_left', forall_eq, forall_eq', Sum.inl.injEq, Sum.inr.injEq, Option.some.injEq, xcls_put, xlen_put, xval_put, xsz_put, xlo_put, xcls_new, xlen_new, xval_new, xsz_new, xlo_new, ↓reduceIte, reduceCtorEq, and_false, false_and, not_true_eq_false, not_false_eq_true, implies_true, forall_const, true_implies, false_implies, ne_eq]
    · simp (decide := true) only [true_and, and_true, and_self, exists_eq_left, exists_eq_left', forall_eq, forall_eq', Sum.inl.injEq, Sum.inr.injEq, Option.some.injEq, xcls_put, xlen_put, xval_put, xsz_put, xlo_put, xcls_new, xlen_new, xval_new, xsz_new, xlo_new, ↓reduceIte, reduceCtorEq, and_false, false_and, not_true_eq_false, not_false_eq_true, implies_true, forall_const, true_implies, false_implies, ne_eq]
  · have hl0 : es.length = 0 := by
      have := (nI_eq (a := 0) (by decide) (by omega)).mp hne
      omega
    refine hQ _ a2 ((((m1.put (Or.inr hz)).put (Or.inr hz)).put (Or.inr hz)).put (Or.inr hz)) hz ⟨c1, ?_, ?_, ?_, ?_⟩
    · simp (decide := true) only [true_and, and_true, and_self, exists_eq_left, exists_eq_left', forall_eq, forall_eq', Sum.inl.injEq, Sum.inr.injEq, Option.some.injEq, xcls_put, xlen_put, xval_put, xsz_put, xlo_put, xcls_new, xlen_new, xval_new, xsz_new, xlo_new, ↓reduceIte, reduceCtorEq, and_false, false_and, not_true_eq_false, not_false_eq_true, implies_true, forall_const, true_implies, false_implies, ne_eq]
      rw [List.getElem?_eq_none (by omega)]
    · simp (decide := true) only [true_and, and_true, and_self, exists_eq_left, exists_eq_left', forall_eq, forall_eq', Sum.inl.injEq, Sum.inr.injEq, Option.some.injEq, xcls_put, xlen_put, xval_put, xsz_put, xlo_put, xcls_new, xlen_new, xval_new, xsz_new, xlo_new, ↓reduceIte, reduceCtorEq, and_false, false_and, not_true_eq_false, not_false_eq_true, implies_true, forall_const, true_implies, false_implies, ne_eq]
      first | done | rfl
    · simp (decide := true) only [true_and, and_true, and_self, exists_eq_left, exists_eq_left', forall_eq, forall_eq', Sum.inl.injEq, Sum.inr.injEq, Option.some.injEq, xcls_put, xlen_put, xval_put, xsz_put, xlo_put, xcls_new, xlen_new, xval_new, xsz_new, xlo_new, ↓reduceIte, reduceCtorEq, and_false, false_and, not_true_eq_false, not_false_eq_true, implies_true, forall_const, true_implies, false_implies, ne_eq]
    · simp (decide := true) only [true_and, and_true, and_self, exists_eq_left, exists_eq_left', forall_eq, forall_eq', Sum.inl.injEq, Sum.inr.injEq, Option.some.injEq, xcls_put, xlen_put, xval_put, xsz_put, xlo_put, xcls_new, xlen_new, xval_new, xsz_new, xlo_new, ↓reduceIte, reduceCtorEq, and_false, false_and, not_true_eq_false, not_false_eq_true, implies_true, forall_const, true_implies, false_implies, ne_eq]
theorem li_hasNext_c {F : Int32 → xH → Nat → Prop} (hd : 1 < d) (q : isLN h ll ns es mc) (qi : isLI h it ll ns i mc) (hi : i ≤ es.length) (hQ : F (xb (decide (i < es.length))) h k) : xCall G d k mJ24_hasNext [xr (some it)] h (xkI F T) := by
  have hl := q.2.2.2.2.2.2.1
  refine xCall_of (d' := 1) hd (Nat.zero_le k) (vc_J24_hasNext ⟨qi.1, _, qi.2.2.1, qi.1, _, qi.2.2.2.2, _, rfl, q.1, _, q.2.2.1, fun z => ?_, fun z => ?_⟩)
  · have := (nI_leI (by omega) (by omega)).mp z
    rw [decide_eq_false (by omega)] at hQ
    exact hQ
  · have h9 : i < es.length := by
      rcases Nat.lt_or_ge i es.length with y | y
      · exact y
      · exact absurd ((nI_leI (by omega) (by omega)).mpr y) z
    rw [decide_eq_true h9] at hQ
    exact hQ
theorem li_next_c {F : Option Nat → xH → Nat → Prop} (hd : 2 < d) (q : isLN h ll ns es mc) (qi : isLI h it ll ns i mc) (hi : es[i]? = some e) (hQ : ∀ h', xMod [it] h h' → isLI h' it ll ns (i + 1) mc → F (some e) h' k) : xCall G d k mJ24_next [xr (some it)] h (xkR F T) := by
  have q' := q
  obtain ⟨q1, q2, q3, q4, q5, q6, q7, q8, q9⟩ := q
  have hl := (List.getElem?_eq_some_iff.mp hi).1
  obtain ⟨a, ha⟩ : ∃ a, ns[i]? = some a := ⟨_, List.getElem?_eq_getElem (by omega)⟩
  obtain ⟨b1, b2, b3, b4⟩ := q8 i a ha
  have hne : ¬ a = it := xne_cls b1 qi.1 (by decide)
  refine xCall_of (d' := 2) hd (Nat.zero_le k) (vc_J24_next ⟨qi.1, xCall_of (d' := 1) (by decide) (Nat.le_refl _) (vc_J24_checkForComodification ⟨qi.1, _, qi.2.2.2.2, _, rfl, q1, _, q2, qi.1, _, qi.2.2.2.1, fun _ => ?_, fun z => absurd rfl z⟩)⟩)
  refine ⟨qi.1, li_hasNext_c (by decide) q' qi (by omega) ⟨fun _ => ?_, fun z => ?_⟩⟩
  · have e1 := qi.2.1
    rw [ha] at e1
    simp (decide := true) only [true_and, and_true, and_self, exists_eq_left, exists_eq_left', forall_eq, forall_eq', Sum.inl.injEq, Sum.inr.injEq, Option.some.injEq, xcls_put, xlen_put, xval_put, xsz_put, xlo_put, xcls_new, xlen_new, xval_new, xsz_new, xlo_new, ↓reduceIte, reduceCtorEq, and_false, false_and, not_true_eq_false, not_false_eq_true, implies_true, forall_const, true_implies, false_implies, ne_eq, qi.1, e1, b1, b3, hne, qi.2.2.1]
    refine ⟨_, b2.trans (by rw [hi]), hQ _ (((xMod.rf.put (Or.inl List.mem_cons_self)).put (Or.inl List.mem_cons_self)).put (Or.inl List.mem_cons_self)) ⟨qi.1, ?_, ?_, ?_, ?_⟩⟩
    · simp (decide := true) only [true_and, and_true, and_self, exists_eq_left, exists_eq_left', forall_eq, forall_eq', Sum.inl.injEq, Sum.inr.injEq, Option.some.injEq, xcls_put, xlen_put, xval_put, xsz_put, xlo_put, xcls_new, xlen_new, xval_new, xsz_new, xlo_new, ↓reduceIte, reduceCtorEq, and_false, false_and, not_true_eq_false, not_false_eq_true, implies_true, forall_const, true_implies, false_implies, ne_eq]
    · simp (decide := true) only [true_and, and_true, and_self, exists_eq_left, exists_eq_left', forall_eq, forall_eq', Sum.inl.injEq, Sum.inr.injEq, Option.some.injEq, xcls_put, xlen_put, xval_put, xsz_put, xlo_put, xcls_new, xlen_new, xval_new, xsz_new, xlo_new, ↓reduceIte, reduceCtorEq, and_false, false_and, not_true_eq_false, not_false_eq_true, implies_true, forall_const, true_implies, false_implies, ne_eq]; exact nI_1 i
    · simp (decide := true) only [true_and, and_true, and_self, exists_eq_left, exists_eq_left', forall_eq, forall_eq', Sum.inl.injEq, Sum.inr.injEq, Option.some.injEq, xcls_put, xlen_put, xval_put, xsz_put, xlo_put, xcls_new, xlen_new, xval_new, xsz_new, xlo_new, ↓reduceIte, reduceCtorEq, and_false, false_and, not_true_eq_false, not_false_eq_true, implies_true, forall_const, true_implies, false_implies, ne_eq]; exact qi.2.2.2.1
    · simp (decide := true) only [true_and, and_true, and_self, exists_eq_left, exists_eq_left', forall_eq, forall_eq', Sum.inl.injEq, Sum.inr.injEq, Option.some.injEq, xcls_put, xlen_put, xval_put, xsz_put, xlo_put, xcls_new, xlen_new, xval_new, xsz_new, xlo_new, ↓reduceIte, reduceCtorEq, and_false, false_and, not_true_eq_false, not_false_eq_true, implies_true, forall_const, true_implies, false_implies, ne_eq]; exact qi.2.2.2.2
  · rw [decide_eq_true hl] at z
    exact absurd z (by decide)
theorem ll_addLast_c {F : xH → Nat → Prop} (hd : 3 < d) (hk : 4 ≤ k) (q : isLN h ll ns es mc) (hl : es.length < 1000)
    (hQ : ∀ h', xMod (ll :: ns) h h' → isLN h' ll (ns ++ [xsz h]) (es ++ [e]) (mc + 1) → F h' (k - 4)) : xCall G d k mJ20_addLast [xr (some ll), xr (some e)] h (xkV F T) := by
  obtain ⟨q1, q2, q3, q4, q5, q6, q7, q8, q9⟩ := q
  refine xCall_of (d' := 3) hd hk (vc_J20_addLast ⟨q1, xCall_of (d' := 2) (by decide) (Nat.le_refl _) (vc_J20_linkLast ⟨q1, _, q5, by decide, fun h1 a2 e2 e1 => ?_⟩)⟩)
  have c1 : xcls h1 a2 = 25 := by subst e1; simp (decide := true) only [true_and, and_true, and_self, exists_eq_left, exists_eq_left', forall_eq, forall_eq', Sum.inl.injEq, Sum.inr.injEq, Option.some.injEq, xcls_put, xlen_put, xval_put, xsz_put, xlo_put, xcls_new, xlen_new, xval_new, xsz_new, xlo_new, ↓reduceIte, reduceCtorEq, and_false, false_and, not_true_eq_false, not_false_eq_true, implies_true, forall_const, true_implies, false_implies, ne_eq, e2]
  have hn : ¬ ll = a2 := xne_new (by rw [q1]; decide) e2
  have hz : xsz h ≤ a2 := by omega
  have m1 : xMod (ll :: ns) h h1 := by subst e1; exact xMod.rf.new
  have p1 : xcls h1 ll = 17 := m1.cl' q1 (by decide)
  have q8' : ∀ (i n : Nat), ns[i]? = some n → xcls h n ≠ 0 ∧ ¬ n = ll := fun i n hn => ⟨by rw [(q8 i n hn).1]; decide, xne_cls (q8 i n hn).1 q1 (by decide)⟩
  refine xCall_of (d' := 1) (by decide) (Nat.zero_le _) (vc_J27_init ?_)
  simp (decide := true) only [true_and, and_true, and_self, exists_eq_left, exists_eq_left', forall_eq, forall_eq', Sum.inl.injEq, Sum.inr.injEq, Option.some.injEq, xcls_put, xlen_put, xval_put, xsz_put, xlo_put, xcls_new, xlen_new, xval_new, xsz_new, xlo_new, ↓reduceIte, reduceCtorEq, and_false, false_and, not_true_eq_false, not_false_eq_true, implies_true, forall_const, true_implies, false_implies, ne_eq, c1]
  show _ ∧ _
  have m2 : xMod (ll :: ns) h (xput (xput (xput h1 a2 0 (xr (some e))) a2 1 (xr none)) a2 2 (xr ns[es.length - 1]?)) := ((m1.put (Or.inr hz)).put (Or.inr hz)).put (Or.inr hz)
  have v0 : xval (xput (xput (xput h1 a2 0 (xr (some e))) a2 1 (xr none)) a2 2 (xr ns[es.length - 1]?)) a2 0 = xr (some e) := by simp (decide := true) only [true_and, and_true, and_self, exists_eq_left, exists_eq_left', forall_eq, forall_eq', Sum.inl.injEq, Sum.inr.injEq, Option.some.injEq, xcls_put, xlen_put, xval_put, xsz_put, xlo_put, xcls_new, xlen_new, xval_new, xsz_new, xlo_new, ↓reduceIte, reduceCtorEq, and_false, false_and, not_true_eq_false, not_false_eq_true, implies_true, forall_const, true_implies, false_implies, ne_eq]
  have v1 : xval (xput (xput (xput h1 a2 0 (xr (some e))) a2 1 (xr none)) a2 2 (xr ns[es.length - 1]?)) a2 1 = xr none := by simp (decide := true) only [true_and, and_true, and_self, exists_eq_left, exists_eq_left', forall_eq, forall_eq', Sum.inl.injEq, Sum.inr.injEq, Option.some.injEq, xcls_put, xlen_put, xval_put, xsz_put, xlo_put, xcls_new, xlen_new, xval_new, xsz_new, xlo_new, ↓reduceIte, reduceCtorEq, and_false, false_and, not_true_eq_false, not_false_eq_true, implies_true, forall_const, true_implies, false_implies, ne_eq]
  have v2 : xval (xput (xput (xput h1 a2 0 (xr (some e))) a2 1 (xr none)) a2 2 (xr ns[es.length - 1]?)) a2 2 = xr ns[es.length - 1]? := by simp (decide := true) only [true_and, and_true, and_self, exists_eq_left, exists_eq_left', forall_eq, forall_eq', Sum.inl.injEq, Sum.inr.injEq, Option.some.injEq, xcls_put, xlen_put, xval_put, xsz_put, xlo_put, xcls_new, xlen_new, xval_new, xsz_new, xlo_new, ↓reduceIte, reduceCtorEq, and_false, false_and, not_true_eq_false, not_false_eq_true, implies_true, forall_const, true_implies, false_implies, ne_eq]
  have vo : ∀ b i, ¬ b = a2 → b < xsz h → xval (xput (xput (xput h1 a2 0 (xr (some e))) a2 1 (xr none)) a2 2 (xr ns[es.length - 1]?)) b i = xval h b i := fun b i hb hlt => by
    subst e1
    have : ¬ b = xsz h := by omega
    simp (decide := true) only [true_and, and_true, and_self, exists_eq_left, exists_eq_left', forall_eq, forall_eq', Sum.inl.injEq, Sum.inr.injEq, Option.some.injEq, xcls_put, xlen_put, xval_put, xsz_put, xlo_put, xcls_new, xlen_new, xval_new, xsz_new, xlo_new, ↓reduceIte, reduceCtorEq, and_false, false_and, not_true_eq_false, not_false_eq_true, implies_true, forall_const, true_implies, false_implies, ne_eq, hb, this]
  have cc : xcls (xput (xput (xput h1 a2 0 (xr (some e))) a2 1 (xr none)) a2 2 (xr ns[es.length - 1]?)) a2 = 25 := c1
  generalize (xput (xput (xput h1 a2 0 (xr (some e))) a2 1 (xr none)) a2 2 (xr ns[es.length - 1]?)) = h2 at m2 v0 v1 v2 vo cc ⊢
  have hll : ll < xsz h := xcls_lt q1 (by decide)
  have p1 : xcls h2 ll = 17 := m2.cl' q1 (by decide)
  have w0 := (vo ll 0 hn hll).trans q2
  have w1 := (vo ll 1 hn hll).trans q3
  have w2 := (vo ll 2 hn hll).trans q4
  have hna : ¬ a2 = ll := fun z => hn z.symm
  simp (decide := true) only [true_and, and_true, and_self, exists_eq_left, exists_eq_left', forall_eq, forall_eq', Sum.inl.injEq, Sum.inr.injEq, Option.some.injEq, xcls_put, xlen_put, xval_put, xsz_put, xlo_put, xcls_new, xlen_new, xval_new, xsz_new, xlo_new, ↓reduceIte, reduceCtorEq, and_false, false_and, not_true_eq_false, not_false_eq_true, implies_true, forall_const, true_implies, false_implies, ne_eq, p1, w0, w1, hna]
  refine ⟨fun a7 ha7 => ?_, fun hno => ?_⟩
  · obtain ⟨b1, b2, b3, b4⟩ := q8 _ _ ha7
    have h7 : ¬ ll = a7 := xne_cls q1 b1 (by decide)
    have h7' : ¬ a7 = ll := fun z => h7 z.symm
    have h7l : a7 < xsz h := xcls_lt b1 (by decide)
    have h7n : ¬ a7 = a2 := by omega
    have h7n' : ¬ a2 = a7 := by omega
    have hl0 : 0 < es.length := by
      rcases Nat.eq_zero_or_pos es.length with y | y
      · rw [y] at ha7 q6
        have := (List.getElem?_eq_some_iff.mp ha7).1
        omega
      · exact y
    simp (decide := true) only [true_and, and_true, and_self, exists_eq_left, exists_eq_left', forall_eq, forall_eq', Sum.inl.injEq, Sum.inr.injEq, Option.some.injEq, xcls_put, xlen_put, xval_put, xsz_put, xlo_put, xcls_new, xlen_new, xval_new, xsz_new, xlo_new, ↓reduceIte, reduceCtorEq, and_false, false_and, not_true_eq_false, not_false_eq_true, implies_true, forall_const, true_implies, false_implies, ne_eq, m2.cl' b1 (by decide), p1, h7, w0, w1]
    refine hQ _ ((((m2.put (Or.inl List.mem_cons_self)).put (Or.inl (List.mem_cons_of_mem _ (List.mem_of_getElem? ha7)))).put (Or.inl List.mem_cons_self)).put (Or.inl List.mem_cons_self)) ⟨?_, ?_, ?_, ?_, ?_, ?_, ?_, ?_, ?_⟩
    · simp (decide := true) only [true_and, and_true, and_self, exists_eq_left, exists_eq_left', forall_eq, forall_eq', Sum.inl.injEq, Sum.inr.injEq, Option.some.injEq, xcls_put, xlen_put, xval_put, xsz_put, xlo_put, xcls_new, xlen_new, xval_new, xsz_new, xlo_new, ↓reduceIte, reduceCtorEq, and_false, false_and, not_true_eq_false, not_false_eq_true, implies_true, forall_const, true_implies, false_implies, ne_eq, p1]
    · simp (decide := true) only [true_and, and_true, and_self, exists_eq_left, exists_eq_left', forall_eq, forall_eq', Sum.inl.injEq, Sum.inr.injEq, Option.some.injEq, xcls_put, xlen_put, xval_put, xsz_put, xlo_put, xcls_new, xlen_new, xval_new, xsz_new, xlo_new, ↓reduceIte, reduceCtorEq, and_false, false_and, not_true_eq_false, not_false_eq_true, implies_true, forall_const, true_implies, false_implies, ne_eq]
    · simp (decide := true) only [true_and, and_true, and_self, exists_eq_left, exists_eq_left', forall_eq, forall_eq', Sum.inl.injEq, Sum.inr.injEq, Option.some.injEq, xcls_put, xlen_put, xval_put, xsz_put, xlo_put, xcls_new, xlen_new, xval_new, xsz_new, xlo_new, ↓reduceIte, reduceCtorEq, and_false, false_and, not_true_eq_false, not_false_eq_true, implies_true, forall_const, true_implies, false_implies, ne_eq]; rw [List.length_append]; exact nI_1 _
    · simp (decide := true) only [true_and, and_true, and_self, exists_eq_left, exists_eq_left', forall_eq, forall_eq', Sum.inl.injEq, Sum.inr.injEq, Option.some.injEq, xcls_put, xlen_put, xval_put, xsz_put, xlo_put, xcls_new, xlen_new, xval_new, xsz_new, xlo_new, ↓reduceIte, reduceCtorEq, and_false, false_and, not_true_eq_false, not_false_eq_true, implies_true, forall_const, true_implies, false_implies, ne_eq, h7, w2]
      rw [List.getElem?_append_left (by omega)]
    · simp (decide := true) only [true_and, and_true, and_self, exists_eq_left, exists_eq_left', forall_eq, forall_eq', Sum.inl.injEq, Sum.inr.injEq, Option.some.injEq, xcls_put, xlen_put, xval_put, xsz_put, xlo_put, xcls_new, xlen_new, xval_new, xsz_new, xlo_new, ↓reduceIte, reduceCtorEq, and_false, false_and, not_true_eq_false, not_false_eq_true, implies_true, forall_const, true_implies, false_implies, ne_eq, h7]
      rw [List.length_append, List.getElem?_append_right (by simp; omega), ← e2]
      have : es.length + [e].length - 1 - ns.length = 0 := by simp; omega
      rw [this]; rfl
    · simp [q6]
    · simp; omega
    · intro i n hi
      by_cases hin : i < ns.length
      · rw [List.getElem?_append_left hin] at hi
        obtain ⟨b1', b2', b3', b4'⟩ := q8 i n hi
        have hnl : ¬ n = ll := (q8' i n hi).2
        have hnlt : n < xsz h := xcls_lt b1' (by decide)
        have hn2 : ¬ n = a2 := by omega
        refine ⟨?_, ?_, ?_, fun hi0 => ?_⟩
        · simp (decide := true) only [true_and, and_true, and_self, exists_eq_left, exists_eq_left', forall_eq, forall_eq', Sum.inl.injEq, Sum.inr.injEq, Option.some.injEq, xcls_put, xlen_put, xval_put, xsz_put, xlo_put, xcls_new, xlen_new, xval_new, xsz_new, xlo_new, ↓reduceIte, reduceCtorEq, and_false, false_and, not_true_eq_false, not_false_eq_true, implies_true, forall_const, true_implies, false_implies, ne_eq]; exact m2.cl' b1' (by decide)
        · simp (decide := true) only [true_and, and_true, and_self, exists_eq_left, exists_eq_left', forall_eq, forall_eq', Sum.inl.injEq, Sum.inr.injEq, Option.some.injEq, xcls_put, xlen_put, xval_put, xsz_put, xlo_put, xcls_new, xlen_new, xval_new, xsz_new, xlo_new, ↓reduceIte, reduceCtorEq, and_false, false_and, not_true_eq_false, not_false_eq_true, implies_true, forall_const, true_implies, false_implies, ne_eq, hnl, vo n 0 hn2 hnlt, b2']
          rw [List.getElem?_append_left (by omega)]
        · by_cases hlast : n = a7
          · subst hlast
            have := q9 _ _ _ hi ha7
            simp (decide := true) only [true_and, and_true, and_self, exists_eq_left, exists_eq_left', forall_eq, forall_eq', Sum.inl.injEq, Sum.inr.injEq, Option.some.injEq, xcls_put, xlen_put, xval_put, xsz_put, xlo_put, xcls_new, xlen_new, xval_new, xsz_new, xlo_new, ↓reduceIte, reduceCtorEq, and_false, false_and, not_true_eq_false, not_false_eq_true, implies_true, forall_const, true_implies, false_implies, ne_eq, hnl]
            rw [List.getElem?_append_right (by omega)]
            have : i + 1 - ns.length = 0 := by omega
            rw [this, ← e2]; rfl
          · have hi2 : i + 1 < ns.length := by
              rcases Nat.lt_or_ge (i + 1) ns.length with y | y
              · exact y
              · exfalso
                have : i = es.length - 1 := by omega
                subst this
                exact hlast (Option.some.inj (hi.symm.trans ha7))
            simp (decide := true) only [true_and, and_true, and_self, exists_eq_left, exists_eq_left', forall_eq, forall_eq', Sum.inl.injEq, Sum.inr.injEq, Option.some.injEq, xcls_put, xlen_put, xval_put, xsz_put, xlo_put, xcls_new, xlen_new, xval_new, xsz_new, xlo_new, ↓reduceIte, reduceCtorEq, and_false, false_and, not_true_eq_false, not_false_eq_true, implies_true, forall_const, true_implies, false_implies, ne_eq, hnl, hlast, vo n 1 hn2 hnlt, b3']
            rw [List.getElem?_append_left hi2]
        · simp (decide := true) only [true_and, and_true, and_self, exists_eq_left, exists_eq_left', forall_eq, forall_eq', Sum.inl.injEq, Sum.inr.injEq, Option.some.injEq, xcls_put, xlen_put, xval_put, xsz_put, xlo_put, xcls_new, xlen_new, xval_new, xsz_new, xlo_new, ↓reduceIte, reduceCtorEq, and_false, false_and, not_true_eq_false, not_false_eq_true, implies_true, forall_const, true_implies, false_implies, ne_eq, hnl, vo n 2 hn2 hnlt, b4' hi0]
          rw [List.getElem?_append_left (by omega)]
      · rw [List.getElem?_append_right (by omega)] at hi
        have h0 : i - ns.length < 1 := (List.getElem?_eq_some_iff.mp hi).1
        have h1 : i = ns.length := by omega
        subst h1
        simp at hi
        rw [← e2] at hi
        subst hi
        refine ⟨?_, ?_, ?_, fun hi0 => ?_⟩
        · simp (decide := true) only [true_and, and_true, and_self, exists_eq_left, exists_eq_left', forall_eq, forall_eq', Sum.inl.injEq, Sum.inr.injEq, Option.some.injEq, xcls_put, xlen_put, xval_put, xsz_put, xlo_put, xcls_new, xlen_new, xval_new, xsz_new, xlo_new, ↓reduceIte, reduceCtorEq, and_false, false_and, not_true_eq_false, not_false_eq_true, implies_true, forall_const, true_implies, false_implies, ne_eq]; exact cc
        · simp (decide := true) only [true_and, and_true, and_self, exists_eq_left, exists_eq_left', forall_eq, forall_eq', Sum.inl.injEq, Sum.inr.injEq, Option.some.injEq, xcls_put, xlen_put, xval_put, xsz_put, xlo_put, xcls_new, xlen_new, xval_new, xsz_new, xlo_new, ↓reduceIte, reduceCtorEq, and_false, false_and, not_true_eq_false, not_false_eq_true, implies_true, forall_const, true_implies, false_implies, ne_eq, hna, v0]
          rw [List.getElem?_append_right (by omega), q6]
          simp
        · simp (decide := true) only [true_and, and_true, and_self, exists_eq_left, exists_eq_left', forall_eq, forall_eq', Sum.inl.injEq, Sum.inr.injEq, Option.some.injEq, xcls_put, xlen_put, xval_put, xsz_put, xlo_put, xcls_new, xlen_new, xval_new, xsz_new, xlo_new, ↓reduceIte, reduceCtorEq, and_false, false_and, not_true_eq_false, not_false_eq_true, implies_true, forall_const, true_implies, false_implies, ne_eq, hna, h7n', v1]
          rw [List.getElem?_eq_none (by simp)]
        · simp (decide := true) only [true_and, and_true, and_self, exists_eq_left, exists_eq_left', forall_eq, forall_eq', Sum.inl.injEq, Sum.inr.injEq, Option.some.injEq, xcls_put, xlen_put, xval_put, xsz_put, xlo_put, xcls_new, xlen_new, xval_new, xsz_new, xlo_new, ↓reduceIte, reduceCtorEq, and_false, false_and, not_true_eq_false, not_false_eq_true, implies_true, forall_const, true_implies, false_implies, ne_eq, hna, v2]
          rw [List.getElem?_append_left (by omega), q6]
    · intro i j n hi hj
      by_cases hin : i < ns.length <;> by_cases hjn : j < ns.length
      · rw [List.getElem?_append_left hin] at hi
        rw [List.getElem?_append_left hjn] at hj
        exact q9 i j n hi hj
      · rw [List.getElem?_append_left hin] at hi
        rw [List.getElem?_append_right (by omega)] at hj
        have h0 : j - ns.length < 1 := (List.getElem?_eq_some_iff.mp hj).1
        have h1 : j - ns.length = 0 := by omega
        rw [h1] at hj
        simp at hj
        have := xcls_lt (q8 i n hi).1 (by decide)
        omega
      · rw [List.getElem?_append_left hjn] at hj
        rw [List.getElem?_append_right (by omega)] at hi
        have h0 : i - ns.length < 1 := (List.getElem?_eq_some_iff.mp hi).1
        have h1 : i - ns.length = 0 := by omega
        rw [h1] at hi
        simp at hi
        have := xcls_lt (q8 j n hj).1 (by decide)
        omega
      · have a1 := (List.getElem?_eq_some_iff.mp hi).1
        have a3 := (List.getElem?_eq_some_iff.mp hj).1
        simp at a1 a3
        omega
  · have hl0 : es.length = 0 := by
      rcases Nat.eq_zero_or_pos es.length with y | y
      · exact y
      · have := List.getElem?_eq_none_iff.mp hno
        omega
    have hns : ns = [] := List.length_eq_zero_iff.mp (by omega)
    have hes : es = [] := List.length_eq_zero_iff.mp hl0
    subst hns hes
    refine hQ _ ((((m2.put (Or.inl List.mem_cons_self)).put (Or.inl List.mem_cons_self)).put (Or.inl List.mem_cons_self)).put (Or.inl List.mem_cons_self)) ⟨?_, ?_, ?_, ?_, ?_, rfl, by simp, ?_, ?_⟩
    · simp (decide := true) only [true_and, and_true, and_self, exists_eq_left, exists_eq_left', forall_eq, forall_eq', Sum.inl.injEq, Sum.inr.injEq, Option.some.injEq, xcls_put, xlen_put, xval_put, xsz_put, xlo_put, xcls_new, xlen_new, xval_new, xsz_new, xlo_new, ↓reduceIte, reduceCtorEq, and_false, false_and, not_true_eq_false, not_false_eq_true, implies_true, forall_const, true_implies, false_implies, ne_eq, p1]
    · simp (decide := true) only [true_and, and_true, and_self, exists_eq_left, exists_eq_left', forall_eq, forall_eq', Sum.inl.injEq, Sum.inr.injEq, Option.some.injEq, xcls_put, xlen_put, xval_put, xsz_put, xlo_put, xcls_new, xlen_new, xval_new, xsz_new, xlo_new, ↓reduceIte, reduceCtorEq, and_false, false_and, not_true_eq_false, not_false_eq_true, implies_true, forall_const, true_implies, false_implies, ne_eq]
    · simp (decide := true) only [true_and, and_true, and_self, exists_eq_left, exists_eq_left', forall_eq, forall_eq', Sum.inl.injEq, Sum.inr.injEq, Option.some.injEq, xcls_put, xlen_put, xval_put, xsz_put, xlo_put, xcls_new, xlen_new, xval_new, xsz_new, xlo_new, ↓reduceIte, reduceCtorEq, and_false, false_and, not_true_eq_false, not_false_eq_true, implies_true, forall_const, true_implies, false_implies, ne_eq]; exact nI_1 0
    · simp (decide := true) only [true_and, and_true, and_self, exists_eq_left, exists_eq_left', forall_eq, forall_eq', Sum.inl.injEq, Sum.inr.injEq, Option.some.injEq, xcls_put, xlen_put, xval_put, xsz_put, xlo_put, xcls_new, xlen_new, xval_new, xsz_new, xlo_new, ↓reduceIte, reduceCtorEq, and_false, false_and, not_true_eq_false, not_false_eq_true, implies_true, forall_const, true_implies, false_implies, ne_eq]; rw [e2]; rfl
    · simp (decide := true) only [true_and, and_true, and_self, exists_eq_left, exists_eq_left', forall_eq, forall_eq', Sum.inl.injEq, Sum.inr.injEq, Option.some.injEq, xcls_put, xlen_put, xval_put, xsz_put, xlo_put, xcls_new, xlen_new, xval_new, xsz_new, xlo_new, ↓reduceIte, reduceCtorEq, and_false, false_and, not_true_eq_false, not_false_eq_true, implies_true, forall_const, true_implies, false_implies, ne_eq]; rw [e2]; rfl
    · intro i n hi
      have h0 : i < 1 := (List.getElem?_eq_some_iff.mp hi).1
      have h1 : i = 0 := by omega
      subst h1
      simp at hi
      rw [← e2] at hi
      subst hi
      refine ⟨?_, ?_, ?_, fun hi0 => absurd hi0 (by decide)⟩
      · simp (decide := true) only [true_and, and_true, and_self, exists_eq_left, exists_eq_left', forall_eq, forall_eq', Sum.inl.injEq, Sum.inr.injEq, Option.some.injEq, xcls_put, xlen_put, xval_put, xsz_put, xlo_put, xcls_new, xlen_new, xval_new, xsz_new, xlo_new, ↓reduceIte, reduceCtorEq, and_false, false_and, not_true_eq_false, not_false_eq_true, implies_true, forall_const, true_implies, false_implies, ne_eq]; exact cc
      · simp (decide := true) only [true_and, and_true, and_self, exists_eq_left, exists_eq_left', forall_eq, forall_eq', Sum.inl.injEq, Sum.inr.injEq, Option.some.injEq, xcls_put, xlen_put, xval_put, xsz_put, xlo_put, xcls_new, xlen_new, xval_new, xsz_new, xlo_new, ↓reduceIte, reduceCtorEq, and_false, false_and, not_true_eq_false, not_false_eq_true, implies_true, forall_const, true_implies, false_implies, ne_eq, hna, v0]; rfl
      · simp (decide := true) only [true_and, and_true, and_self, exists_eq_left, exists_eq_left', forall_eq, forall_eq', Sum.inl.injEq, Sum.inr.injEq, Option.some.injEq, xcls_put, xlen_put, xval_put, xsz_put, xlo_put, xcls_new, xlen_new, xval_new, xsz_new, xlo_new, ↓reduceIte, reduceCtorEq, and_false, false_and, not_true_eq_false, not_false_eq_true, implies_true, forall_const, true_implies, false_implies, ne_eq, hna, v1]; rfl
    · intro i j n hi hj
      have a1 := (List.getElem?_eq_some_iff.mp hi).1
      have a3 := (List.getElem?_eq_some_iff.mp hj).1
      simp at a1 a3
      omega
end XLL

/-! ArrayDeque of at most nine, in an array of 17 -/
def isAD (h : xH) (ad arr : Nat) (ps : List Nat) : Prop := xcls h ad = 5 ∧ xval h ad 0 = xr (some arr) ∧ xcls h arr = 1006 ∧ xlen h arr = 17 ∧ ps.length ≤ 9 ∧ ∃ hd : Nat, hd < 17 ∧ xval h ad 1 = xi (nI hd) ∧ xval h ad 2 = xi (nI ((hd + ps.length) % 17)) ∧ ∀ (i p : Nat), ps[i]? = some p → xval h arr ((hd + i) % 17) = xr (some p)
section XAD
variable {G : xG} {d k : Nat} {h h' : xH} {T : Nat → xH → Nat → Prop} {S : List Nat} {ad arr e : Nat} {ps : List Nat}
theorem isAD.md (q : isAD h ad arr ps) (m : xMod S h h') (h1 : ad ∉ S) (h2 : arr ∉ S) : isAD h' ad arr ps := by
  obtain ⟨q1, q2, q3, q4, q5, hd, q6, q7, q8, q9⟩ := q
  have n1 : xcls h ad ≠ 0 := by rw [q1]; decide
  have n2 : xcls h arr ≠ 0 := by rw [q3]; decide
  exact ⟨(m.cl n1).trans q1, (m.vl n1 h1 _).trans q2, (m.cl n2).trans q3, (m.ln n2).trans q4, q5, hd, q6, (m.vl n1 h1 _).trans q7, (m.vl n1 h1 _).trans q8, fun i p hp => (m.vl n2 h2 _).trans (q9 i p hp)⟩
theorem ad_init_c {F : xH → Nat → Prop} {a : Nat} (hd : 2 < d) (hk : 18 ≤ k) (ha : xcls h a = 5) (z1 : xval h a 1 = xi 0) (z2 : xval h a 2 = xi 0)
    (hQ : ∀ h', xMod [a] h h' → isAD h' a (xsz h) [] → F h' (k - 18)) : xCall G d k mJ3_init [xr (some a)] h (xkV F T) := by
  have hn : ¬ a = xsz h := xne_new (by rw [ha]; decide) rfl
  have hn' : ¬ xsz h = a := fun z => hn z.symm
  refine xCall_of (d' := 2) hd hk (vc_J3_init ?_)
  refine xCall_of (d' := 1) (by decide) (Nat.zero_le _) (vc_J0_init ⟨by decide, ?_⟩)
  refine ⟨17, rfl, by decide, by decide, ?_⟩
  simp (decide := true) only [true_and, and_true, and_self, exists_eq_left, exists_eq_left', forall_eq, forall_eq', Sum.inl.injEq, Sum.inr.injEq, Option.some.injEq, xcls_put, xlen_put, xval_put, xsz_put, xlo_put, xcls_new, xlen_new, xval_new, xsz_new, xlo_new, ↓reduceIte, reduceCtorEq, and_false, false_and, not_true_eq_false, not_false_eq_true, implies_true, forall_const, true_implies, false_implies, ne_eq, hn, ha]
  refine hQ _ ((xMod.rf.new).put (Or.inl List.mem_cons_self)) ⟨?_, ?_, ?_, ?_, by decide, 0, by decide, ?_, ?_, fun i p hp => by simp at hp⟩
  · simp (decide := true) only [true_and, and_true, and_self, exists_eq_left, exists_eq_left', forall_eq, forall_eq', Sum.inl.injEq, Sum.inr.injEq, Option.some.injEq, xcls_put, xlen_put, xval_put, xsz_put, xlo_put, xcls_new, xlen_new, xval_new, xsz_new, xlo_new, ↓reduceIte, reduceCtorEq, and_false, false_and, not_true_eq_false, not_false_eq_true, implies_true, forall_const, true_implies, false_implies, ne_eq, hn, ha]
  · simp (decide := true) only [true_and, and_true, and_self, exists_eq_left, exists_eq_left', forall_eq, forall_eq', Sum.inl.injEq, Sum.inr.injEq, Option.some.injEq, xcls_put, xlen_put, xval_put, xsz_put, xlo_put, xcls_new, xlen_new, xval_new, xsz_new, xlo_new, ↓reduceIte, reduceCtorEq, and_false, false_and, not_true_eq_false, not_false_eq_true, implies_true, forall_const, true_implies, false_implies, ne_eq]
  · simp (decide := true) only [true_and, and_true, and_self, exists_eq_left, exists_eq_left', forall_eq, forall_eq', Sum.inl.injEq, Sum.inr.injEq, Option.some.injEq, xcls_put, xlen_put, xval_put, xsz_put, xlo_put, xcls_new, xlen_new, xval_new, xsz_new, xlo_new, ↓reduceIte, reduceCtorEq, and_false, false_and, not_true_eq_false, not_false_eq_true, implies_true, forall_const, true_implies, false_implies, ne_eq, hn']
  · simp (decide := true) only [true_and, and_true, and_self, exists_eq_left, exists_eq_left', forall_eq, forall_eq', Sum.inl.injEq, Sum.inr.injEq, Option.some.injEq, xcls_put, xlen_put, xval_put, xsz_put, xlo_put, xcls_new, xlen_new, xval_new, xsz_new, xlo_new, ↓reduceIte, reduceCtorEq, and_false, false_and, not_true_eq_false, not_false_eq_true, implies_true, forall_const, true_implies, false_implies, ne_eq, hn']
  · (simp (decide := true) only [true_and, and_true, and_self, exists_eq_left, exists_eq_left', forall_eq, forall_eq', Sum.inl.injEq, Sum.inr.injEq, Option.some.injEq, xcls_put, xlen_put, xval_put, xsz_put, xlo_put, xcls_new, xlen_new, xval_new, xsz_new, xlo_new, ↓reduceIte, reduceCtorEq, and_false, false_and, not_true_eq_false, not_false_eq_true, implies_true, forall_const, true_implies, false_implies, ne_eq, hn, z1] <;> rfl)
  · (simp (decide := true) only [true_and, and_true, and_self, exists_eq_left, exists_eq_left', forall_eq, forall_eq', Sum.inl.injEq, Sum.inr.injEq, Option.some.injEq, xcls_put, xlen_put, xval_put, xsz_put, xlo_put, xcls_new, xlen_new, xval_new, xsz_new, xlo_new, ↓reduceIte, reduceCtorEq, and_false, false_and, not_true_eq_false, not_false_eq_true, implies_true, forall_const, true_implies, false_implies, ne_eq, hn, z2] <;> rfl)
theorem ad_isEmpty_c {F : Int32 → xH → Nat → Prop} (hd : 1 < d) (q : isAD h ad arr ps) (hQ : F (xb (decide (ps = []))) h k) : xCall G d k mJ3_isEmpty [xr (some ad)] h (xkI F T) := by
  obtain ⟨q1, q2, q3, q4, q5, hd0, q6, q7, q8, q9⟩ := q
  refine xCall_of (d' := 1) hd (Nat.zero_le k) (vc_J3_isEmpty ⟨q1, _, q7, q1, _, q8, fun z => ?_, fun z => ?_⟩)
  · have : ¬ ps = [] := fun y => z (by rw [y]; simp; rw [Nat.mod_eq_of_lt q6])
    rw [decide_eq_false this] at hQ
    exact hQ
  · have h1 := (nI_eq (by omega) (by omega)).mp z
    have : ps = [] := List.length_eq_zero_iff.mp (by omega)
    rw [decide_eq_true this] at hQ
    exact hQ
theorem ad_size_c {F : Int32 → xH → Nat → Prop} (hd : 2 < d) (q : isAD h ad arr ps) (hQ : F (nI ps.length) h k) : xCall G d k mJ3_size [xr (some ad)] h (xkI F T) := by
  obtain ⟨q1, q2, q3, q4, q5, hd0, q6, q7, q8, q9⟩ := q
  refine xCall_of (d' := 2) hd (Nat.zero_le k) (vc_J3_size ⟨q1, _, q8, q1, _, q7, q1, _, q2, _, rfl, ⟨6, _, rfl, q3⟩, xCall_of (d' := 1) (by decide) (Nat.zero_le _) (vc_J3_sub ?_)⟩)
  rw [q4]
  have e0 : nI ((hd0 + ps.length) % 17) - nI hd0 = iI (((hd0 + ps.length) % 17 : Nat) - (hd0 : Int)) := by rw [← iI_n, ← iI_n, iI_sub]
  have e1 : (0 : Int32) = iI 0 := rfl
  have hi : -2147483648 ≤ (((hd0 + ps.length) % 17 : Nat) - (hd0 : Int)) ∧ (((hd0 + ps.length) % 17 : Nat) - (hd0 : Int)) < 2147483648 := by omega
  rw [e0]
  constructor
  · intro z
    rw [e1, iI_le (by decide) (by decide) hi.1 hi.2] at z
    have : ((((hd0 + ps.length) % 17 : Nat) : Int) - (hd0 : Int)) = (ps.length : Int) := by omega
    rw [this, iI_n]
    exact hQ
  · intro z
    rw [e1, iI_le (by decide) (by decide) hi.1 hi.2] at z
    have : ((((hd0 + ps.length) % 17 : Nat) : Int) - (hd0 : Int)) + (17 : Nat) = (ps.length : Int) := by omega
    rw [← iI_n 17, iI_add, this, iI_n]
    exact hQ
theorem ad_addLast_c {F : xH → Nat → Prop} {c : Nat} (hd : 2 < d) (q : isAD h ad arr ps) (hl : ps.length < 9) (hc : xcls h e = c) (hcs : c ∈ cst_java_lang_Object)
    (hQ : ∀ h', xMod [ad, arr] h h' → isAD h' ad arr (ps ++ [e]) → F h' k) : xCall G d k mJ3_addLast [xr (some ad), xr (some e)] h (xkV F T) := by
  obtain ⟨q1, q2, q3, q4, q5, hd0, q6, q7, q8, q9⟩ := q
  have hne : ¬ arr = ad := xne_cls q3 q1 (by decide)
  have hne' : ¬ ad = arr := fun z => hne z.symm
  refine xCall_of (d' := 2) hd (Nat.zero_le k) (vc_J3_addLast ⟨fun a1 ha1 => ?_, fun z => by cases z⟩)
  cases ha1
  simp (decide := true) only [true_and, and_true, and_self, exists_eq_left, exists_eq_left', forall_eq, forall_eq', Sum.inl.injEq, Sum.inr.injEq, Option.some.injEq, xcls_put, xlen_put, xval_put, xsz_put, xlo_put, xcls_new, xlen_new, xval_new, xsz_new, xlo_new, ↓reduceIte, reduceCtorEq, and_false, false_and, not_true_eq_false, not_false_eq_true, implies_true, forall_const, true_implies, false_implies, ne_eq, q1, q2, q3, q4, q7, q8, hne, hne', hc]
  refine ⟨(hd0 + ps.length) % 17, rfl, by omega, by omega, hcs, ⟨6, _, rfl, rfl⟩, xCall_of (d' := 1) (by decide) (Nat.zero_le _) (vc_J3_inc ?_)⟩
  have ht : (hd0 + ps.length) % 17 < 17 := Nat.mod_lt _ (by decide)
  have key : ∀ w : Int32, w = nI ((hd0 + (ps.length + 1)) % 17) → (¬ nI hd0 = w → xkV F T (.inl none) (xput (xput h arr ((hd0 + ps.length) % 17) (xr (some e))) ad 2 (xi w)) k) ∧ (nI hd0 = w → False) := by
    intro w hw
    subst hw
    refine ⟨fun _ => hQ _ ((xMod.rf.put (Or.inl (by simp))).put (Or.inl (by simp))) ⟨?_, ?_, ?_, ?_, by simp; omega, hd0, q6, ?_, ?_, ?_⟩, fun z => ?_⟩
    · simp (decide := true) only [true_and, and_true, and_self, exists_eq_left, exists_eq_left', forall_eq, forall_eq', Sum.inl.injEq, Sum.inr.injEq, Option.some.injEq, xcls_put, xlen_put, xval_put, xsz_put, xlo_put, xcls_new, xlen_new, xval_new, xsz_new, xlo_new, ↓reduceIte, reduceCtorEq, and_false, false_and, not_true_eq_false, not_false_eq_true, implies_true, forall_const, true_implies, false_implies, ne_eq, q1]
    · simp (decide := true) only [true_and, and_true, and_self, exists_eq_left, exists_eq_left', forall_eq, forall_eq', Sum.inl.injEq, Sum.inr.injEq, Option.some.injEq, xcls_put, xlen_put, xval_put, xsz_put, xlo_put, xcls_new, xlen_new, xval_new, xsz_new, xlo_new, ↓reduceIte, reduceCtorEq, and_false, false_and, not_true_eq_false, not_false_eq_true, implies_true, forall_const, true_implies, false_implies, ne_eq, hne', q2]
    · simp (decide := true) only [true_and, and_true, and_self, exists_eq_left, exists_eq_left', forall_eq, forall_eq', Sum.inl.injEq, Sum.inr.injEq, Option.some.injEq, xcls_put, xlen_put, xval_put, xsz_put, xlo_put, xcls_new, xlen_new, xval_new, xsz_new, xlo_new, ↓reduceIte, reduceCtorEq, and_false, false_and, not_true_eq_false, not_false_eq_true, implies_true, forall_const, true_implies, false_implies, ne_eq, q3]
    · simp (decide := true) only [true_and, and_true, and_self, exists_eq_left, exists_eq_left', forall_eq, forall_eq', Sum.inl.injEq, Sum.inr.injEq, Option.some.injEq, xcls_put, xlen_put, xval_put, xsz_put, xlo_put, xcls_new, xlen_new, xval_new, xsz_new, xlo_new, ↓reduceIte, reduceCtorEq, and_false, false_and, not_true_eq_false, not_false_eq_true, implies_true, forall_const, true_implies, false_implies, ne_eq, q4]
    · simp (decide := true) only [true_and, and_true, and_self, exists_eq_left, exists_eq_left', forall_eq, forall_eq', Sum.inl.injEq, Sum.inr.injEq, Option.some.injEq, xcls_put, xlen_put, xval_put, xsz_put, xlo_put, xcls_new, xlen_new, xval_new, xsz_new, xlo_new, ↓reduceIte, reduceCtorEq, and_false, false_and, not_true_eq_false, not_false_eq_true, implies_true, forall_const, true_implies, false_implies, ne_eq, hne', q7]
    · simp (decide := true) only [true_and, and_true, and_self, exists_eq_left, exists_eq_left', forall_eq, forall_eq', Sum.inl.injEq, Sum.inr.injEq, Option.some.injEq, xcls_put, xlen_put, xval_put, xsz_put, xlo_put, xcls_new, xlen_new, xval_new, xsz_new, xlo_new, ↓reduceIte, reduceCtorEq, and_false, false_and, not_true_eq_false, not_false_eq_true, implies_true, forall_const, true_implies, false_implies, ne_eq, List.length_append]; rfl
    · intro i p hp
      simp (decide := true) only [true_and, and_true, and_self, exists_eq_left, exists_eq_left', forall_eq, forall_eq', Sum.inl.injEq, Sum.inr.injEq, Option.some.injEq, xcls_put, xlen_put, xval_put, xsz_put, xlo_put, xcls_new, xlen_new, xval_new, xsz_new, xlo_new, ↓reduceIte, reduceCtorEq, and_false, false_and, not_true_eq_false, not_false_eq_true, implies_true, forall_const, true_implies, false_implies, ne_eq, hne]
      by_cases hi : i < ps.length
      · rw [List.getElem?_append_left hi] at hp
        rw [if_neg (by omega)]
        exact q9 i p hp
      · rw [List.getElem?_append_right (by omega)] at hp
        have h0 : i - ps.length < 1 := (List.getElem?_eq_some_iff.mp hp).1
        have h1 : i = ps.length := by omega
        subst h1
        simp at hp
        subst hp
        rw [if_pos rfl]
    · have := (nI_eq (by omega) (by omega)).mp z
      omega
  constructor
  · intro z
    rw [nI_1] at z ⊢
    have h1 := (nI_ltI (by omega) (by omega)).mp z
    have := key (nI ((hd0 + ps.length) % 17 + 1)) (congrArg nI (by omega))
    show _ ∧ _ ∧ _
    exact ⟨q1, this.1, fun z => (this.2 z).elim⟩
  · intro z
    rw [nI_1] at z
    have h1 : ¬ (hd0 + ps.length) % 17 + 1 < 17 := fun y => z (nI_lt y (by omega))
    have := key 0 ((congrArg nI (by omega : (0 : Nat) = _)))
    show _ ∧ _ ∧ _
    exact ⟨q1, this.1, fun z => (this.2 z).elim⟩
theorem ad_pollFirst_c {F : Option Nat → xH → Nat → Prop} {p : Nat} (hd : 2 < d) (q : isAD h ad arr (p :: ps)) 
    (hQ : ∀ h', xMod [ad, arr] h h' → isAD h' ad arr ps → F (some p) h' k) : xCall G d k mJ3_pollFirst [xr (some ad)] h (xkR F T) := by
  obtain ⟨q1, q2, q3, q4, q5, hd0, q6, q7, q8, q9⟩ := q
  have hne : ¬ arr = ad := xne_cls q3 q1 (by decide)
  have hne' : ¬ ad = arr := fun z => hne z.symm
  have q0 := q9 0 p rfl
  rw [Nat.add_zero, Nat.mod_eq_of_lt q6] at q0
  refine xCall_of (d' := 2) hd (Nat.zero_le k) (vc_J3_pollFirst ⟨q1, _, q2, q1, _, q7, xCall_of (d' := 1) (by decide) (Nat.zero_le _) (vc_J3_elementAt ⟨_, rfl, q3, hd0, rfl, by omega, by omega, _, q0, ?_⟩)⟩)
  show _ ∧ _
  refine ⟨fun a6 ha6 => ?_, fun z => by cases z⟩
  cases ha6
  simp (decide := true) only [true_and, and_true, and_self, exists_eq_left, exists_eq_left', forall_eq, forall_eq', Sum.inl.injEq, Sum.inr.injEq, Option.some.injEq, xcls_put, xlen_put, xval_put, xsz_put, xlo_put, xcls_new, xlen_new, xval_new, xsz_new, xlo_new, ↓reduceIte, reduceCtorEq, and_false, false_and, not_true_eq_false, not_false_eq_true, implies_true, forall_const, true_implies, false_implies, ne_eq, q1, q2, q3, q4, hne, hne']
  refine ⟨hd0, rfl, by omega, q6, ⟨6, _, rfl, rfl⟩, xCall_of (d' := 1) (by decide) (Nat.zero_le _) (vc_J3_inc ?_)⟩
  have key : ∀ w : Int32, w = nI ((hd0 + 1) % 17) → xkR F T (.inl (some (xr (some p)))) (xput (xput h arr hd0 (xr none)) ad 1 (xi w)) k := by
    intro w hw
    subst hw
    refine hQ _ ((xMod.rf.put (Or.inl (by simp))).put (Or.inl (by simp))) ⟨?_, ?_, ?_, ?_, by simp at q5; omega, (hd0 + 1) % 17, Nat.mod_lt _ (by decide), ?_, ?_, ?_⟩
    · simp (decide := true) only [true_and, and_true, and_self, exists_eq_left, exists_eq_left', forall_eq, forall_eq', Sum.inl.injEq, Sum.inr.injEq, Option.some.injEq, xcls_put, xlen_put, xval_put, xsz_put, xlo_put, xcls_new, xlen_new, xval_new, xsz_new, xlo_new, ↓reduceIte, reduceCtorEq, and_false, false_and, not_true_eq_false, not_false_eq_true, implies_true, forall_const, true_implies, false_implies, ne_eq, q1]
    · simp (decide := true) only [true_and, and_true, and_self, exists_eq_left, exists_eq_left', forall_eq, forall_eq', Sum.inl.injEq, Sum.inr.injEq, Option.some.injEq, xcls_put, xlen_put, xval_put, xsz_put, xlo_put, xcls_new, xlen_new, xval_new, xsz_new, xlo_new, ↓reduceIte, reduceCtorEq, and_false, false_and, not_true_eq_false, not_false_eq_true, implies_true, forall_const, true_implies, false_implies, ne_eq, hne', q2]
    · simp (decide := true) only [true_and, and_true, and_self, exists_eq_left, exists_eq_left', forall_eq, forall_eq', Sum.inl.injEq, Sum.inr.injEq, Option.some.injEq, xcls_put, xlen_put, xval_put, xsz_put, xlo_put, xcls_new, xlen_new, xval_new, xsz_new, xlo_new, ↓reduceIte, reduceCtorEq, and_false, false_and, not_true_eq_false, not_false_eq_true, implies_true, forall_const, true_implies, false_implies, ne_eq, q3]
    · simp (decide := true) only [true_and, and_true, and_self, exists_eq_left, exists_eq_left', forall_eq, forall_eq', Sum.inl.injEq, Sum.inr.injEq, Option.some.injEq, xcls_put, xlen_put, xval_put, xsz_put, xlo_put, xcls_new, xlen_new, xval_new, xsz_new, xlo_new, ↓reduceIte, reduceCtorEq, and_false, false_and, not_true_eq_false, not_false_eq_true, implies_true, forall_const, true_implies, false_implies, ne_eq, q4]
    · simp (decide := true) only [true_and, and_true, and_self, exists_eq_left, exists_eq_left', forall_eq, forall_eq', Sum.inl.injEq, Sum.inr.injEq, Option.some.injEq, xcls_put, xlen_put, xval_put, xsz_put, xlo_put, xcls_new, xlen_new, xval_new, xsz_new, xlo_new, ↓reduceIte, reduceCtorEq, and_false, false_and, not_true_eq_false, not_false_eq_true, implies_true, forall_const, true_implies, false_implies, ne_eq]
    · simp (decide := true) only [true_and, and_true, and_self, exists_eq_left, exists_eq_left', forall_eq, forall_eq', Sum.inl.injEq, Sum.inr.injEq, Option.some.injEq, xcls_put, xlen_put, xval_put, xsz_put, xlo_put, xcls_new, xlen_new, xval_new, xsz_new, xlo_new, ↓reduceIte, reduceCtorEq, and_false, false_and, not_true_eq_false, not_false_eq_true, implies_true, forall_const, true_implies, false_implies, ne_eq, hne', q8]
      refine congrArg nI ?_
      simp only [List.length_cons]
      omega
    · intro i p' hp
      have hi := (List.getElem?_eq_some_iff.mp hp).1
      simp at q5
      have e1 : ((hd0 + 1) % 17 + i) % 17 = (hd0 + (i + 1)) % 17 := by omega
      have e2 : ¬ (hd0 + (i + 1)) % 17 = hd0 := by omega
      simp (decide := true) only [true_and, and_true, and_self, exists_eq_left, exists_eq_left', forall_eq, forall_eq', Sum.inl.injEq, Sum.inr.injEq, Option.some.injEq, xcls_put, xlen_put, xval_put, xsz_put, xlo_put, xcls_new, xlen_new, xval_new, xsz_new, xlo_new, ↓reduceIte, reduceCtorEq, and_false, false_and, not_true_eq_false, not_false_eq_true, implies_true, forall_const, true_implies, false_implies, ne_eq, hne, e1, e2]
      exact q9 (i + 1) p' (by simpa using hp)
  constructor
  · intro z
    rw [nI_1] at z ⊢
    have h1 := (nI_ltI (by omega) (by omega)).mp z
    show _ ∧ _
    exact ⟨q1, key (nI (hd0 + 1)) (congrArg nI (by omega))⟩
  · intro z
    rw [nI_1] at z
    have h1 : ¬ hd0 + 1 < 17 := fun y => z (nI_lt y (by omega))
    show _ ∧ _
    exact ⟨q1, key 0 ((congrArg nI (by omega : (0 : Nat) = _)))⟩
theorem ad_removeFirst_c {F : Option Nat → xH → Nat → Prop} {p : Nat} (hd : 3 < d) (q : isAD h ad arr (p :: ps)) 
    (hQ : ∀ h', xMod [ad, arr] h h' → isAD h' ad arr ps → F (some p) h' k) : xCall G d k mJ3_removeFirst [xr (some ad)] h (xkR F T) := by
  refine xCall_of (d' := 3) hd (Nat.zero_le k) (vc_J3_removeFirst ⟨q.1, ad_pollFirst_c (by decide) q fun h' m q' => ?_⟩)
  exact ⟨fun a ha => by cases ha; exact hQ h' m q', fun z => by cases z⟩
theorem ad_pollLast_c {F : Option Nat → xH → Nat → Prop} {p : Nat} (hd : 2 < d) (q : isAD h ad arr (ps ++ [p])) 
    (hQ : ∀ h', xMod [ad, arr] h h' → isAD h' ad arr ps → F (some p) h' k) : xCall G d k mJ3_pollLast [xr (some ad)] h (xkR F T) := by
  obtain ⟨q1, q2, q3, q4, q5, hd0, q6, q7, q8, q9⟩ := q
  have hne : ¬ arr = ad := xne_cls q3 q1 (by decide)
  have hne' : ¬ ad = arr := fun z => hne z.symm
  have q0 := q9 ps.length p (by simp)
  simp only [List.length_append, List.length_cons, List.length_nil] at q5 q8
  refine xCall_of (d' := 2) hd (Nat.zero_le k) (vc_J3_pollLast ⟨q1, _, q2, q1, _, q8, _, rfl, ⟨6, _, rfl, q3⟩, xCall_of (d' := 1) (by decide) (Nat.zero_le _) (vc_J3_dec ?_)⟩)
  have key : ∀ (w : Int32) (T' : Nat → xH → Nat → Prop), w = nI ((hd0 + ps.length) % 17) → xCall G 2 (0 - 0) mJ3_elementAt [xr (some arr), xi w] h (xkR (fun o10 h8 k9 => ((∀ a11, o10 = some a11 → xcls h8 ad = 5 ∧ ∀ h12 : xH, h12 = xput h8 ad 2 (xi w) → xcls h12 arr = 1006 ∧ ∃ i13 : Nat, w = nI i13 ∧ i13 < 2147483648 ∧ i13 < xlen h12 arr ∧ ∀ h14 : xH, h14 = xput h12 arr i13 (xr none) → xkR F T (.inl (some (xr (some a11)))) h14 (k - 0)) ∧ (o10 = none → xkR F T (.inl (some (xr none))) h8 (k - 0)))) T') := by
    intro w T' hw
    subst hw
    refine xCall_of (d' := 1) (by decide) (Nat.zero_le _) (vc_J3_elementAt ⟨_, rfl, q3, _, rfl, by omega, by rw [q4]; exact Nat.mod_lt _ (by decide), _, q0, ?_⟩)
    show _ ∧ _
    refine ⟨fun a6 ha6 => ?_, fun z => by cases z⟩
    cases ha6
    simp (decide := true) only [true_and, and_true, and_self, exists_eq_left, exists_eq_left', forall_eq, forall_eq', Sum.inl.injEq, Sum.inr.injEq, Option.some.injEq, xcls_put, xlen_put, xval_put, xsz_put, xlo_put, xcls_new, xlen_new, xval_new, xsz_new, xlo_new, ↓reduceIte, reduceCtorEq, and_false, false_and, not_true_eq_false, not_false_eq_true, implies_true, forall_const, true_implies, false_implies, ne_eq, q1, q2, q3, q4, hne, hne']
    refine ⟨_, rfl, by omega, Nat.mod_lt _ (by decide), ?_⟩
    refine hQ _ ((xMod.rf.put (Or.inl (by simp))).put (Or.inl (by simp))) ⟨?_, ?_, ?_, ?_, by omega, hd0, q6, ?_, ?_, ?_⟩
    · simp (decide := true) only [true_and, and_true, and_self, exists_eq_left, exists_eq_left', forall_eq, forall_eq', Sum.inl.injEq, Sum.inr.injEq, Option.some.injEq, xcls_put, xlen_put, xval_put, xsz_put, xlo_put, xcls_new, xlen_new, xval_new, xsz_new, xlo_new, ↓reduceIte, reduceCtorEq, and_false, false_and, not_true_eq_false, not_false_eq_true, implies_true, forall_const, true_implies, false_implies, ne_eq, q1]
    · simp (decide := true) only [true_and, and_true, and_self, exists_eq_left, exists_eq_left', forall_eq, forall_eq', Sum.inl.injEq, Sum.inr.injEq, Option.some.injEq, xcls_put, xlen_put, xval_put, xsz_put, xlo_put, xcls_new, xlen_new, xval_new, xsz_new, xlo_new, ↓reduceIte, reduceCtorEq, and_false, false_and, not_true_eq_false, not_false_eq_true, implies_true, forall_const, true_implies, false_implies, ne_eq, hne', q2]
    · simp (decide := true) only [true_and, and_true, and_self, exists_eq_left, exists_eq_left', forall_eq, forall_eq', Sum.inl.injEq, Sum.inr.injEq, Option.some.injEq, xcls_put, xlen_put, xval_put, xsz_put, xlo_put, xcls_new, xlen_new, xval_new, xsz_new, xlo_new, ↓reduceIte, reduceCtorEq, and_false, false_and, not_true_eq_false, not_false_eq_true, implies_true, forall_const, true_implies, false_implies, ne_eq, q3]
    · simp (decide := true) only [true_and, and_true, and_self, exists_eq_left, exists_eq_left', forall_eq, forall_eq', Sum.inl.injEq, Sum.inr.injEq, Option.some.injEq, xcls_put, xlen_put, xval_put, xsz_put, xlo_put, xcls_new, xlen_new, xval_new, xsz_new, xlo_new, ↓reduceIte, reduceCtorEq, and_false, false_and, not_true_eq_false, not_false_eq_true, implies_true, forall_const, true_implies, false_implies, ne_eq, q4]
    · simp (decide := true) only [true_and, and_true, and_self, exists_eq_left, exists_eq_left', forall_eq, forall_eq', Sum.inl.injEq, Sum.inr.injEq, Option.some.injEq, xcls_put, xlen_put, xval_put, xsz_put, xlo_put, xcls_new, xlen_new, xval_new, xsz_new, xlo_new, ↓reduceIte, reduceCtorEq, and_false, false_and, not_true_eq_false, not_false_eq_true, implies_true, forall_const, true_implies, false_implies, ne_eq, hne', q7]
    · simp (decide := true) only [true_and, and_true, and_self, exists_eq_left, exists_eq_left', forall_eq, forall_eq', Sum.inl.injEq, Sum.inr.injEq, Option.some.injEq, xcls_put, xlen_put, xval_put, xsz_put, xlo_put, xcls_new, xlen_new, xval_new, xsz_new, xlo_new, ↓reduceIte, reduceCtorEq, and_false, false_and, not_true_eq_false, not_false_eq_true, implies_true, forall_const, true_implies, false_implies, ne_eq, hne']
    · intro i p' hp
      have hi := (List.getElem?_eq_some_iff.mp hp).1
      have e2 : ¬ (hd0 + i) % 17 = (hd0 + ps.length) % 17 := by omega
      simp (decide := true) only [true_and, and_true, and_self, exists_eq_left, exists_eq_left', forall_eq, forall_eq', Sum.inl.injEq, Sum.inr.injEq, Option.some.injEq, xcls_put, xlen_put, xval_put, xsz_put, xlo_put, xcls_new, xlen_new, xval_new, xsz_new, xlo_new, ↓reduceIte, reduceCtorEq, and_false, false_and, not_true_eq_false, not_false_eq_true, implies_true, forall_const, true_implies, false_implies, ne_eq, hne, e2]
      exact q9 i p' (by rw [List.getElem?_append_left hi]; exact hp)
  have e2 : (-1 : Int32) = iI (-1) := rfl
  have e3 : (0 : Int32) = iI 0 := rfl
  have e4 : (1 : Int32) = iI 1 := rfl
  rw [q4, e2, ← iI_n, iI_add]
  constructor
  · intro z
    rw [e3, iI_le (by decide) (by decide) (by omega) (by omega)] at z
    exact key _ _ (by rw [← iI_n]; exact congrArg iI (by omega))
  · intro z
    rw [e3, iI_le (by decide) (by decide) (by omega) (by omega)] at z
    rw [← iI_n, e4, iI_sub]
    exact key _ _ (by rw [← iI_n]; exact congrArg iI (by omega))
theorem ad_removeLast_c {F : Option Nat → xH → Nat → Prop} {p : Nat} (hd : 3 < d) (q : isAD h ad arr (ps ++ [p])) 
    (hQ : ∀ h', xMod [ad, arr] h h' → isAD h' ad arr ps → F (some p) h' k) : xCall G d k mJ3_removeLast [xr (some ad)] h (xkR F T) := by
  refine xCall_of (d' := 3) hd (Nat.zero_le k) (vc_J3_removeLast ⟨q.1, ad_pollLast_c (by decide) q fun h' m q' => ?_⟩)
  exact ⟨fun a ha => by cases ha; exact hQ h' m q', fun z => by cases z⟩
/-- clearing: only the array is written -/
theorem ad_cc2 {K : Nat} {Q : xR → xH → Prop} {e : Nat} (h17 : e ≤ 17) :
    ∀ (j i : Nat) (h : xH), i ≤ 17 → i + j = 17 → xcls h arr = 1006 → xlen h arr = 17 → (∀ h', xMod [arr] h h' → Q (.inl none) h') →
      xWp G mJ3_circularClear 1 K Q k 12 [some (xr (some arr)), some (xi (nI i)), some (xi (nI e)), some (xi (nI e))] [] h := by
  intro j
  induction j with
  | zero =>
    intro i h hi hj h1 h2 hQ
    exact vc_J3_circularClear_12 ⟨fun _ => ⟨fun z => absurd rfl z, fun _ => hQ h xMod.rf⟩, fun z => absurd (nI_le (by omega) (by omega)) z⟩
  | succ j ih =>
    intro i h hi hj h1 h2 hQ
    refine vc_J3_circularClear_12 ⟨fun _ => ⟨fun z => absurd rfl z, fun _ => hQ h xMod.rf⟩, fun z => ⟨arr, rfl, h1, i, rfl, by omega, by omega, fun h5 e5 => ?_⟩⟩
    rw [nI_1]
    subst e5
    exact ih (i + 1) _ (by omega) (by omega) (by simp (decide := true) only [true_and, and_true, and_self, exists_eq_left, exists_eq_left', forall_eq, forall_eq', Sum.inl.injEq, Sum.inr.injEq, Option.some.injEq, xcls_put, xlen_put, xval_put, xsz_put, xlo_put, xcls_new, xlen_new, xval_new, xsz_new, xlo_new, ↓reduceIte, reduceCtorEq, and_false, false_and, not_true_eq_false, not_false_eq_true, implies_true, forall_const, true_implies, false_implies, ne_eq, h1]) (by simp (decide := true) only [true_and, and_true, and_self, exists_eq_left, exists_eq_left', forall_eq, forall_eq', Sum.inl.injEq, Sum.inr.injEq, Option.some.injEq, xcls_put, xlen_put, xval_put, xsz_put, xlo_put, xcls_new, xlen_new, xval_new, xsz_new, xlo_new, ↓reduceIte, reduceCtorEq, and_false, false_and, not_true_eq_false, not_false_eq_true, implies_true, forall_const, true_implies, false_implies, ne_eq, h2]) fun h' m => hQ h' ((xMod.rf.put (Or.inl (by simp))).tr m)
theorem ad_cc1 {K : Nat} {Q : xR → xH → Prop} {e : Nat} (h17 : e < 17) :
    ∀ (j i : Nat) (h : xH), i + j = 17 → xcls h arr = 1006 → xlen h arr = 17 → (∀ h', xMod [arr] h h' → Q (.inl none) h') →
      xWp G mJ3_circularClear 1 K Q k 12 [some (xr (some arr)), some (xi (nI i)), some (xi (nI e)), some (xi (nI 17))] [] h := by
  intro j
  induction j with
  | zero =>
    intro i h hj h1 h2 hQ
    refine vc_J3_circularClear_12 ⟨fun _ => ⟨fun z => ad_cc2 (by omega) 17 0 h (by decide) (by decide) h1 h2 hQ, fun z => absurd ((nI_eq (by decide) (by omega)).mp z) (by omega)⟩, fun z => absurd (nI_le (by omega) (by omega)) z⟩
  | succ j ih =>
    intro i h hj h1 h2 hQ
    refine vc_J3_circularClear_12 ⟨fun z => absurd ((nI_leI (by omega) (by omega)).mp z) (by omega), fun z => ⟨arr, rfl, h1, i, rfl, by omega, by omega, fun h5 e5 => ?_⟩⟩
    rw [nI_1]
    subst e5
    exact ih (i + 1) _ (by omega) (by simp (decide := true) only [true_and, and_true, and_self, exists_eq_left, exists_eq_left', forall_eq, forall_eq', Sum.inl.injEq, Sum.inr.injEq, Option.some.injEq, xcls_put, xlen_put, xval_put, xsz_put, xlo_put, xcls_new, xlen_new, xval_new, xsz_new, xlo_new, ↓reduceIte, reduceCtorEq, and_false, false_and, not_true_eq_false, not_false_eq_true, implies_true, forall_const, true_implies, false_implies, ne_eq, h1]) (by simp (decide := true) only [true_and, and_true, and_self, exists_eq_left, exists_eq_left', forall_eq, forall_eq', Sum.inl.injEq, Sum.inr.injEq, Option.some.injEq, xcls_put, xlen_put, xval_put, xsz_put, xlo_put, xcls_new, xlen_new, xval_new, xsz_new, xlo_new, ↓reduceIte, reduceCtorEq, and_false, false_and, not_true_eq_false, not_false_eq_true, implies_true, forall_const, true_implies, false_implies, ne_eq, h2]) fun h' m => hQ h' ((xMod.rf.put (Or.inl (by simp))).tr m)
theorem ad_clear_c {F : xH → Nat → Prop} (hd : 2 < d) (q : isAD h ad arr ps) 
    (hQ : ∀ h', xMod [ad, arr] h h' → isAD h' ad arr [] → F h' k) : xCall G d k mJ3_clear [xr (some ad)] h (xkV F T) := by
  obtain ⟨q1, q2, q3, q4, q5, hd0, q6, q7, q8, q9⟩ := q
  have hne : ¬ arr = ad := xne_cls q3 q1 (by decide)
  have hne' : ¬ ad = arr := fun z => hne z.symm
  have ht : (hd0 + ps.length) % 17 < 17 := Nat.mod_lt _ (by decide)
  refine xCall_of (d' := 2) hd (Nat.zero_le k) (vc_J3_clear ⟨q1, _, q2, q1, _, q7, q1, _, q8, xCall_of (d' := 1) (by decide) (Nat.zero_le _) (vc_J3_circularClear ?_)⟩)
  have fin : ∀ h1 : xH, xMod [arr] h h1 → xcls h1 ad = 5 ∧ ∀ h6 : xH, h6 = xput h1 ad 2 (xi (0 : Int32)) → xcls h6 ad = 5 ∧ ∀ h7 : xH, h7 = xput h6 ad 1 (xi (0 : Int32)) → xkV F T (.inl none) h7 (k - 0) := by
    intro h1 m
    have n1 : xcls h ad ≠ 0 := by rw [q1]; decide
    have n2 : xcls h arr ≠ 0 := by rw [q3]; decide
    have a1 := (m.cl n1).trans q1
    have a2 := (m.cl n2).trans q3
    have a3 := (m.ln n2).trans q4
    have a4 := (m.vl n1 (by simpa using hne') 0).trans q2
    refine ⟨a1, fun h6 e6 => ⟨by rw [e6]; simp (decide := true) only [true_and, and_true, and_self, exists_eq_left, exists_eq_left', forall_eq, forall_eq', Sum.inl.injEq, Sum.inr.injEq, Option.some.injEq, xcls_put, xlen_put, xval_put, xsz_put, xlo_put, xcls_new, xlen_new, xval_new, xsz_new, xlo_new, ↓reduceIte, reduceCtorEq, and_false, false_and, not_true_eq_false, not_false_eq_true, implies_true, forall_const, true_implies, false_implies, ne_eq, a1], fun h7 e7 => ?_⟩⟩
    subst e6 e7
    refine hQ _ (((m.wk (by simp)).put (Or.inl (by simp))).put (Or.inl (by simp))) ⟨?_, ?_, ?_, ?_, by simp, 0, by decide, ?_, ?_, fun i p hp => by simp at hp⟩
    · simp (decide := true) only [true_and, and_true, and_self, exists_eq_left, exists_eq_left', forall_eq, forall_eq', Sum.inl.injEq, Sum.inr.injEq, Option.some.injEq, xcls_put, xlen_put, xval_put, xsz_put, xlo_put, xcls_new, xlen_new, xval_new, xsz_new, xlo_new, ↓reduceIte, reduceCtorEq, and_false, false_and, not_true_eq_false, not_false_eq_true, implies_true, forall_const, true_implies, false_implies, ne_eq, a1]
    · simp (decide := true) only [true_and, and_true, and_self, exists_eq_left, exists_eq_left', forall_eq, forall_eq', Sum.inl.injEq, Sum.inr.injEq, Option.some.injEq, xcls_put, xlen_put, xval_put, xsz_put, xlo_put, xcls_new, xlen_new, xval_new, xsz_new, xlo_new, ↓reduceIte, reduceCtorEq, and_false, false_and, not_true_eq_false, not_false_eq_true, implies_true, forall_const, true_implies, false_implies, ne_eq, a4]
    · simp (decide := true) only [true_and, and_true, and_self, exists_eq_left, exists_eq_left', forall_eq, forall_eq', Sum.inl.injEq, Sum.inr.injEq, Option.some.injEq, xcls_put, xlen_put, xval_put, xsz_put, xlo_put, xcls_new, xlen_new, xval_new, xsz_new, xlo_new, ↓reduceIte, reduceCtorEq, and_false, false_and, not_true_eq_false, not_false_eq_true, implies_true, forall_const, true_implies, false_implies, ne_eq, a2]
    · simp (decide := true) only [true_and, and_true, and_self, exists_eq_left, exists_eq_left', forall_eq, forall_eq', Sum.inl.injEq, Sum.inr.injEq, Option.some.injEq, xcls_put, xlen_put, xval_put, xsz_put, xlo_put, xcls_new, xlen_new, xval_new, xsz_new, xlo_new, ↓reduceIte, reduceCtorEq, and_false, false_and, not_true_eq_false, not_false_eq_true, implies_true, forall_const, true_implies, false_implies, ne_eq, a3]
    · (simp (decide := true) only [true_and, and_true, and_self, exists_eq_left, exists_eq_left', forall_eq, forall_eq', Sum.inl.injEq, Sum.inr.injEq, Option.some.injEq, xcls_put, xlen_put, xval_put, xsz_put, xlo_put, xcls_new, xlen_new, xval_new, xsz_new, xlo_new, ↓reduceIte, reduceCtorEq, and_false, false_and, not_true_eq_false, not_false_eq_true, implies_true, forall_const, true_implies, false_implies, ne_eq] <;> rfl)
    · (simp (decide := true) only [true_and, and_true, and_self, exists_eq_left, exists_eq_left', forall_eq, forall_eq', Sum.inl.injEq, Sum.inr.injEq, Option.some.injEq, xcls_put, xlen_put, xval_put, xsz_put, xlo_put, xcls_new, xlen_new, xval_new, xsz_new, xlo_new, ↓reduceIte, reduceCtorEq, and_false, false_and, not_true_eq_false, not_false_eq_true, implies_true, forall_const, true_implies, false_implies, ne_eq] <;> rfl)
  refine ⟨fun _ => ⟨arr, rfl, ⟨6, _, rfl, q3⟩, ?_⟩, fun _ => ?_⟩
  · rw [q4]
    exact ad_cc1 ht (17 - hd0) hd0 h (by omega) q3 q4 fun h' m => fin h' m
  · exact ad_cc2 (by omega) (17 - hd0) hd0 h (by omega) (by omega) q3 q4 fun h' m => fin h' m
end XAD

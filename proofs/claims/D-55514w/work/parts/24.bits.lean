/-! BitSet with one word, of the numbers 0..5 (next looks go up to 6) -/
def bL (m : Nat) : Int64 := Int64.ofNat m
def isBS (h : xH) (b w m : Nat) : Prop := xcls h b = 24 ∧ xval h b 0 = xr (some w) ∧ xcls h w = 1004 ∧ xlen h w = 1 ∧ m < 64 ∧ xval h b 1 = xi (nI (if m = 0 then 0 else 1)) ∧ xval h w 0 = xj (bL m)
theorem bs_get {m k : Nat} (hm : m < 64) (hk : k < 6) : ((lg_cmp (bL m &&& ((1 : Int64) <<< ((nI k).toInt64 &&& 63))) (0 : Int64)) = 0 ↔ m.testBit k = false) :=
  (by decide +kernel : ∀ (a : Fin 64) (b : Fin 6), ((lg_cmp (bL a &&& ((1 : Int64) <<< ((nI b).toInt64 &&& 63))) (0 : Int64)) = 0 ↔ a.1.testBit b = false)) ⟨m, hm⟩ ⟨k, hk⟩
theorem bs_set {m k : Nat} (hm : m < 64) (hk : k < 6) : (bL m ||| ((1 : Int64) <<< ((nI k).toInt64 &&& 63))) = bL (m ||| 1 <<< k) ∧ m ||| 1 <<< k < 64 ∧ m ||| 1 <<< k ≠ 0 :=
  (by decide +kernel : ∀ (a : Fin 64) (b : Fin 6), (bL a ||| ((1 : Int64) <<< ((nI b).toInt64 &&& 63))) = bL (a.1 ||| 1 <<< b.1) ∧ a.1 ||| 1 <<< b.1 < 64 ∧ a.1 ||| 1 <<< b.1 ≠ 0) ⟨m, hm⟩ ⟨k, hk⟩
theorem bs_flip {m k : Nat} (hm : m < 64) (hk : k < 6) : (bL m ^^^ ((1 : Int64) <<< ((nI k).toInt64 &&& 63))) = bL (m ^^^ 1 <<< k) ∧ m ^^^ 1 <<< k < 64 :=
  (by decide +kernel : ∀ (a : Fin 64) (b : Fin 6), (bL a ^^^ ((1 : Int64) <<< ((nI b).toInt64 &&& 63))) = bL (a.1 ^^^ 1 <<< b.1) ∧ a.1 ^^^ 1 <<< b.1 < 64) ⟨m, hm⟩ ⟨k, hk⟩
/-- without one -/
def bOff (m k : Nat) : Nat := if m.testBit k then m - 1 <<< k else m
theorem bs_clear {m k : Nat} (hm : m < 64) (hk : k < 6) : (bL m &&& (((1 : Int64) <<< ((nI k).toInt64 &&& 63)) ^^^ (-1 : Int64))) = bL (bOff m k) ∧ bOff m k < 64 :=
  (by decide +kernel : ∀ (a : Fin 64) (b : Fin 6), (bL a &&& (((1 : Int64) <<< ((nI b).toInt64 &&& 63)) ^^^ (-1 : Int64))) = bL (bOff a.1 b.1) ∧ bOff a.1 b.1 < 64) ⟨m, hm⟩ ⟨k, hk⟩
theorem bs_zero {m : Nat} (hm : m < 64) : ((lg_cmp (bL m) (0 : Int64)) = 0 ↔ m = 0) :=
  (by decide +kernel : ∀ (a : Fin 64), ((lg_cmp (bL a) (0 : Int64)) = 0 ↔ a.1 = 0)) ⟨m, hm⟩
theorem bs_word {k : Nat} (hk : k < 7) : nI k >>> ((6 : Int32) &&& 31) = 0 :=
  (by decide +kernel : ∀ (b : Fin 7), nI b.1 >>> ((6 : Int32) &&& 31) = 0) ⟨k, hk⟩
/-- what is left from a place on -/
def bFrom (m k : Nat) : Nat := m >>> k <<< k
theorem bs_from {m k : Nat} (hm : m < 64) (hk : k < 7) : (bL m &&& ((-1 : Int64) <<< ((nI k).toInt64 &&& 63))) = bL (bFrom m k) ∧ bFrom m k < 64 :=
  (by decide +kernel : ∀ (a : Fin 64) (b : Fin 7), (bL a &&& ((-1 : Int64) <<< ((nI b.1).toInt64 &&& 63))) = bL (bFrom a.1 b.1) ∧ bFrom a.1 b.1 < 64) ⟨m, hm⟩ ⟨k, hk⟩
/-- the lowest one -/
def bLow (m : Nat) : Nat := ((List.range 6).find? fun k => m.testBit k).getD 6
def bCard (m : Nat) : Nat := ((List.range 6).filter fun k => m.testBit k).length
theorem bl_low {m : Nat} (hm : m < 64) (h0 : m ≠ 0) : ((bL m).toInt32 ^^^ (-1 : Int32)) &&& ((bL m).toInt32 - (1 : Int32)) = nI (2 ^ bLow m - 1) ∧ bLow m < 6 ∧ ¬ (bL m).toInt32 = 0 :=
  (by decide +kernel : ∀ (a : Fin 64), a.1 ≠ 0 → ((bL a.1).toInt32 ^^^ (-1 : Int32)) &&& ((bL a.1).toInt32 - (1 : Int32)) = nI (2 ^ bLow a.1 - 1) ∧ bLow a.1 < 6 ∧ ¬ (bL a.1).toInt32 = 0) ⟨m, hm⟩ h0
def bitc (l1 : Int64) : Int32 :=
  let j1 := ((l1.toUInt64 >>> ((1 : Int32).toInt64.toUInt64 &&& Int64.toUInt64 63)).toInt64)
  let j2 := ((l1 - (j1 &&& (6148914691236517205 : Int64))) &&& (3689348814741910323 : Int64))
  let j3 := (((l1 - (j1 &&& (6148914691236517205 : Int64))).toUInt64 >>> ((2 : Int32).toInt64.toUInt64 &&& Int64.toUInt64 63)).toInt64)
  let j4 := (((j2 + (j3 &&& (3689348814741910323 : Int64))).toUInt64 >>> ((4 : Int32).toInt64.toUInt64 &&& Int64.toUInt64 63)).toInt64)
  let j5 := (((j2 + (j3 &&& (3689348814741910323 : Int64))) + j4) &&& (1085102592571150095 : Int64))
  let j6 := ((j5.toUInt64 >>> ((8 : Int32).toInt64.toUInt64 &&& Int64.toUInt64 63)).toInt64)
  let j7 := (((j5 + j6).toUInt64 >>> ((16 : Int32).toInt64.toUInt64 &&& Int64.toUInt64 63)).toInt64)
  let j8 := ((((j5 + j6) + j7).toUInt64 >>> ((32 : Int32).toInt64.toUInt64 &&& Int64.toUInt64 63)).toInt64)
  ((((j5 + j6) + j7) + j8).toInt32 &&& (127 : Int32))
section XBS
variable {G : xG} {d k : Nat} {h h' : xH} {T : Nat → xH → Nat → Prop} {S : List Nat} {b w m j : Nat}
theorem ntz32_c {F : Int32 → xH → Nat → Prop} {x : Int32} (hd : 1 < d) (hx : (x ^^^ (-1 : Int32)) &&& (x - (1 : Int32)) = nI (2 ^ j - 1)) (hj : j < 6) (hQ : F (nI j) h k) : xCall G d k mJ29_numberOfTrailingZeros [xi x] h (xkI F T) := by
  refine xCall_of (d' := 1) hd (Nat.zero_le k) (vc_J29_numberOfTrailingZeros ?_)
  rw [hx]
  clear hx
  rcases j with _ | _ | _ | _ | _ | _ | j
  · simp (decide := true) only [true_and, forall_eq, true_implies, false_implies, and_true]
    exact Eq.mp (congrArg (fun n => F n h k) (by decide)) hQ
  · simp (decide := true) only [true_and, forall_eq, true_implies, false_implies, and_true]
    exact Eq.mp (congrArg (fun n => F n h k) (by decide)) hQ
  · simp (decide := true) only [true_and, forall_eq, true_implies, false_implies, and_true]
    exact Eq.mp (congrArg (fun n => F n h k) (by decide)) hQ
  · simp (decide := true) only [true_and, forall_eq, true_implies, false_implies, and_true]
    exact Eq.mp (congrArg (fun n => F n h k) (by decide)) hQ
  · simp (decide := true) only [true_and, forall_eq, true_implies, false_implies, and_true]
    exact Eq.mp (congrArg (fun n => F n h k) (by decide)) hQ
  · simp (decide := true) only [true_and, forall_eq, true_implies, false_implies, and_true]
    exact Eq.mp (congrArg (fun n => F n h k) (by decide)) hQ
  · exact absurd hj (by omega)
theorem ntz_c {F : Int32 → xH → Nat → Prop} (hd : 2 < d) (hm : m < 64) (h0 : m ≠ 0) (hQ : F (nI (bLow m)) h k) : xCall G d k mJ28_numberOfTrailingZeros [xj (bL m)] h (xkI F T) := by
  obtain ⟨e1, e2, e3⟩ := bl_low hm h0
  exact xCall_of (d' := 2) hd (Nat.zero_le k) (vc_J28_numberOfTrailingZeros ⟨fun _ => ntz32_c (by decide) e1 e2 hQ, fun z => absurd z e3⟩)
theorem bc_c {F : Int32 → xH → Nat → Prop} (hd : 1 < d) (hm : m < 64) (hQ : F (nI (bCard m)) h k) : xCall G d k mJ28_bitCount [xj (bL m)] h (xkI F T) := by
  refine xCall_of (d' := 1) hd (Nat.zero_le k) (vc_J28_bitCount ?_)
  intro j1 e1 j2 e2 j3 e3 j4 e4 j5 e5 j6 e6 j7 e7 j8 e8
  have : (((j5 + j6) + j7) + j8).toInt32 &&& (127 : Int32) = nI (bCard m) := by
    subst e8 e7 e6 e5 e4 e3 e2 e1
    exact (by decide +kernel : ∀ a : Fin 64, bitc (bL a.1) = nI (bCard a.1)) ⟨m, hm⟩
  rw [this]
  exact hQ
theorem bs_inv_c {F : xH → Nat → Prop} (hd : 1 < d) (g8 : G.2.1 8 = xi 1) (hQ : F h k) : xCall G d k mJ26_checkInvariants [xr (some b)] h (xkV F T) :=
  xCall_of (d' := 1) hd (Nat.zero_le k) (vc_J26_checkInvariants ⟨_, g8, by decide, _, g8, by decide, _, g8, by decide, hQ⟩)
theorem bs_word_c {F : Int32 → xH → Nat → Prop} (hd : 1 < d) (hj : j < 7) (hQ : F 0 h k) : xCall G d k mJ26_wordIndex [xi (nI j)] h (xkI F T) := by
  refine xCall_of (d' := 1) hd (Nat.zero_le k) (vc_J26_wordIndex ?_)
  rw [bs_word hj]
  exact hQ
theorem isBS.md (q : isBS h b w m) (x : xMod S h h') (h1 : b ∉ S) (h2 : w ∉ S) : isBS h' b w m := by
  obtain ⟨q1, q2, q3, q4, q5, q6, q7⟩ := q
  have n1 : xcls h b ≠ 0 := by rw [q1]; decide
  have n2 : xcls h w ≠ 0 := by rw [q3]; decide
  exact ⟨(x.cl n1).trans q1, (x.vl n1 h1 _).trans q2, (x.cl n2).trans q3, (x.ln n2).trans q4, q5, (x.vl n1 h1 _).trans q6, (x.vl n2 h2 _).trans q7⟩
theorem bs_init_c {F : xH → Nat → Prop} (hd : 2 < d) (hk : 2 ≤ k) (hb : xcls h b = 24) (hQ : ∀ h', xMod [b] h h' → isBS h' b (xsz h) 0 → F h' (k - 2)) : xCall G d k mJ26_init [xr (some b)] h (xkV F T) := by
  have hn : ¬ b = xsz h := xne_new (by rw [hb]; decide) rfl
  have hn' : ¬ xsz h = b := fun z => hn z.symm
  refine xCall_of (d' := 2) hd hk (vc_J26_init ⟨by decide, ?_⟩)
  simp (decide := true) only [true_and, and_true, and_self, exists_eq_left, exists_eq_left', forall_eq, forall_eq', Sum.inl.injEq, Sum.inr.injEq, Option.some.injEq, xcls_put, xlen_put, xval_put, xsz_put, xlo_put, xcls_new, xlen_new, xval_new, xsz_new, xlo_new, ↓reduceIte, reduceCtorEq, and_false, false_and, not_true_eq_false, not_false_eq_true, implies_true, forall_const, true_implies, false_implies, ne_eq, hb]
  refine xCall_of (d' := 1) (by decide) (Nat.le_refl _) (vc_J26_initWords ?_)
  refine xCall_of (d' := 0) (by decide) (Nat.zero_le _) (vc_J26_wordIndex ?_)
  refine ⟨1, by decide, by decide, by decide, ?_⟩
  simp (decide := true) only [true_and, and_true, and_self, exists_eq_left, exists_eq_left', forall_eq, forall_eq', Sum.inl.injEq, Sum.inr.injEq, Option.some.injEq, xcls_put, xlen_put, xval_put, xsz_put, xlo_put, xcls_new, xlen_new, xval_new, xsz_new, xlo_new, ↓reduceIte, reduceCtorEq, and_false, false_and, not_true_eq_false, not_false_eq_true, implies_true, forall_const, true_implies, false_implies, ne_eq, hb, hn]
  show _ ∧ _
  simp (decide := true) only [true_and, and_true, and_self, exists_eq_left, exists_eq_left', forall_eq, forall_eq', Sum.inl.injEq, Sum.inr.injEq, Option.some.injEq, xcls_put, xlen_put, xval_put, xsz_put, xlo_put, xcls_new, xlen_new, xval_new, xsz_new, xlo_new, ↓reduceIte, reduceCtorEq, and_false, false_and, not_true_eq_false, not_false_eq_true, implies_true, forall_const, true_implies, false_implies, ne_eq, hb, hn]
  refine hQ _ ((((((xMod.rf.put (Or.inl (by simp))).put (Or.inl (by simp))).new).put (Or.inl (by simp))).put (Or.inl (by simp)))) ⟨?_, ?_, ?_, ?_, by decide, ?_, ?_⟩
  · simp (decide := true) only [true_and, and_true, and_self, exists_eq_left, exists_eq_left', forall_eq, forall_eq', Sum.inl.injEq, Sum.inr.injEq, Option.some.injEq, xcls_put, xlen_put, xval_put, xsz_put, xlo_put, xcls_new, xlen_new, xval_new, xsz_new, xlo_new, ↓reduceIte, reduceCtorEq, and_false, false_and, not_true_eq_false, not_false_eq_true, implies_true, forall_const, true_implies, false_implies, ne_eq, hb, hn]
  · simp (decide := true) only [true_and, and_true, and_self, exists_eq_left, exists_eq_left', forall_eq, forall_eq', Sum.inl.injEq, Sum.inr.injEq, Option.some.injEq, xcls_put, xlen_put, xval_put, xsz_put, xlo_put, xcls_new, xlen_new, xval_new, xsz_new, xlo_new, ↓reduceIte, reduceCtorEq, and_false, false_and, not_true_eq_false, not_false_eq_true, implies_true, forall_const, true_implies, false_implies, ne_eq, hb, hn]
  · simp (decide := true) only [true_and, and_true, and_self, exists_eq_left, exists_eq_left', forall_eq, forall_eq', Sum.inl.injEq, Sum.inr.injEq, Option.some.injEq, xcls_put, xlen_put, xval_put, xsz_put, xlo_put, xcls_new, xlen_new, xval_new, xsz_new, xlo_new, ↓reduceIte, reduceCtorEq, and_false, false_and, not_true_eq_false, not_false_eq_true, implies_true, forall_const, true_implies, false_implies, ne_eq, hb, hn']
  · simp (decide := true) only [true_and, and_true, and_self, exists_eq_left, exists_eq_left', forall_eq, forall_eq', Sum.inl.injEq, Sum.inr.injEq, Option.some.injEq, xcls_put, xlen_put, xval_put, xsz_put, xlo_put, xcls_new, xlen_new, xval_new, xsz_new, xlo_new, ↓reduceIte, reduceCtorEq, and_false, false_and, not_true_eq_false, not_false_eq_true, implies_true, forall_const, true_implies, false_implies, ne_eq, hb, hn']
  · (simp (decide := true) only [true_and, and_true, and_self, exists_eq_left, exists_eq_left', forall_eq, forall_eq', Sum.inl.injEq, Sum.inr.injEq, Option.some.injEq, xcls_put, xlen_put, xval_put, xsz_put, xlo_put, xcls_new, xlen_new, xval_new, xsz_new, xlo_new, ↓reduceIte, reduceCtorEq, and_false, false_and, not_true_eq_false, not_false_eq_true, implies_true, forall_const, true_implies, false_implies, ne_eq, hb, hn] <;> rfl)
  · (simp (decide := true) only [true_and, and_true, and_self, exists_eq_left, exists_eq_left', forall_eq, forall_eq', Sum.inl.injEq, Sum.inr.injEq, Option.some.injEq, xcls_put, xlen_put, xval_put, xsz_put, xlo_put, xcls_new, xlen_new, xval_new, xsz_new, xlo_new, ↓reduceIte, reduceCtorEq, and_false, false_and, not_true_eq_false, not_false_eq_true, implies_true, forall_const, true_implies, false_implies, ne_eq, hb, hn'] <;> rfl)
theorem bs_get_c {F : Int32 → xH → Nat → Prop} (hd : 2 < d) (g8 : G.2.1 8 = xi 1) (q : isBS h b w m) (hj : j < 6) (hQ : F (xb (m.testBit j)) h k) : xCall G d k mJ26_get [xr (some b), xi (nI j)] h (xkI F T) := by
  obtain ⟨q1, q2, q3, q4, q5, q6, q7⟩ := q
  refine xCall_of (d' := 2) hd (Nat.zero_le k) (vc_J26_get ⟨fun _ => ⟨q1, bs_inv_c (by decide) g8 (bs_word_c (by decide) (by omega) ?_)⟩, fun z => absurd (nI_le (Nat.zero_le j) (by omega)) z⟩)
  refine ⟨q1, _, q6, fun z => ?_, fun z => ⟨q1, _, q2, _, rfl, q3, 0, rfl, by decide, by rw [q4]; decide, _, q7, fun y => ?_, fun y => ?_⟩⟩
  · have : m = 0 := by
      by_cases hm : m = 0
      · exact hm
      · rw [if_neg hm] at z; exact absurd z (by decide)
    subst this
    rw [Nat.zero_testBit] at hQ
    exact hQ
  · rw [(bs_get q5 hj).mp y] at hQ
    exact hQ
  · have : m.testBit j = true := by
      by_cases hm : m.testBit j = true
      · exact hm
      · exact absurd ((bs_get q5 hj).mpr (by simpa using hm)) y
    rw [this] at hQ
    exact hQ
theorem bs_exp_c {F : xH → Nat → Prop} (hd : 2 < d) (q : isBS h b w m) (hQ : ∀ h', xMod [b] h h' → (xcls h' b = 24 ∧ xval h' b 0 = xr (some w) ∧ xcls h' w = 1004 ∧ xlen h' w = 1 ∧ xval h' b 1 = xi 1 ∧ xval h' w 0 = xj (bL m)) → F h' k) : xCall G d k mJ26_expandTo [xr (some b), xi 0] h (xkV F T) := by
  obtain ⟨q1, q2, q3, q4, q5, q6, q7⟩ := q
  have hn : ¬ b = w := xne_cls q1 q3 (by decide)
  have hn' : ¬ w = b := fun z => hn z.symm
  refine xCall_of (d' := 2) hd (Nat.zero_le k) (vc_J26_expandTo ⟨q1, _, q6, fun z => ?_, fun z => ⟨q1, ?_⟩⟩)
  · refine hQ _ xMod.rf ⟨q1, q2, q3, q4, ?_, q7⟩
    by_cases hm : m = 0
    · rw [if_pos hm] at z; exact absurd z (by decide)
    · rw [if_neg hm] at q6; exact q6
  · refine xCall_of (d' := 1) (by decide) (Nat.zero_le _) (vc_J26_ensureCapacity ⟨q1, _, q2, _, rfl, ⟨4, _, rfl, q3⟩, fun _ => ?_, fun z => absurd (by rw [q4]; decide) z⟩)
    show _ ∧ _
    refine ⟨q1, fun h4 e4 => ?_⟩
    subst e4
    refine hQ _ (xMod.rf.put (Or.inl (by simp))) ⟨?_, ?_, ?_, ?_, ?_, ?_⟩
    · simp (decide := true) only [true_and, and_true, and_self, exists_eq_left, exists_eq_left', forall_eq, forall_eq', Sum.inl.injEq, Sum.inr.injEq, Option.some.injEq, xcls_put, xlen_put, xval_put, xsz_put, xlo_put, xcls_new, xlen_new, xval_new, xsz_new, xlo_new, ↓reduceIte, reduceCtorEq, and_false, false_and, not_true_eq_false, not_false_eq_true, implies_true, forall_const, true_implies, false_implies, ne_eq, q1]
    · simp (decide := true) only [true_and, and_true, and_self, exists_eq_left, exists_eq_left', forall_eq, forall_eq', Sum.inl.injEq, Sum.inr.injEq, Option.some.injEq, xcls_put, xlen_put, xval_put, xsz_put, xlo_put, xcls_new, xlen_new, xval_new, xsz_new, xlo_new, ↓reduceIte, reduceCtorEq, and_false, false_and, not_true_eq_false, not_false_eq_true, implies_true, forall_const, true_implies, false_implies, ne_eq, q2]
    · simp (decide := true) only [true_and, and_true, and_self, exists_eq_left, exists_eq_left', forall_eq, forall_eq', Sum.inl.injEq, Sum.inr.injEq, Option.some.injEq, xcls_put, xlen_put, xval_put, xsz_put, xlo_put, xcls_new, xlen_new, xval_new, xsz_new, xlo_new, ↓reduceIte, reduceCtorEq, and_false, false_and, not_true_eq_false, not_false_eq_true, implies_true, forall_const, true_implies, false_implies, ne_eq, q3]
    · simp (decide := true) only [true_and, and_true, and_self, exists_eq_left, exists_eq_left', forall_eq, forall_eq', Sum.inl.injEq, Sum.inr.injEq, Option.some.injEq, xcls_put, xlen_put, xval_put, xsz_put, xlo_put, xcls_new, xlen_new, xval_new, xsz_new, xlo_new, ↓reduceIte, reduceCtorEq, and_false, false_and, not_true_eq_false, not_false_eq_true, implies_true, forall_const, true_implies, false_implies, ne_eq, q4]
    · (simp (decide := true) only [true_and, and_true, and_self, exists_eq_left, exists_eq_left', forall_eq, forall_eq', Sum.inl.injEq, Sum.inr.injEq, Option.some.injEq, xcls_put, xlen_put, xval_put, xsz_put, xlo_put, xcls_new, xlen_new, xval_new, xsz_new, xlo_new, ↓reduceIte, reduceCtorEq, and_false, false_and, not_true_eq_false, not_false_eq_true, implies_true, forall_const, true_implies, false_implies, ne_eq] <;> rfl)
    · simp (decide := true) only [true_and, and_true, and_self, exists_eq_left, exists_eq_left', forall_eq, forall_eq', Sum.inl.injEq, Sum.inr.injEq, Option.some.injEq, xcls_put, xlen_put, xval_put, xsz_put, xlo_put, xcls_new, xlen_new, xval_new, xsz_new, xlo_new, ↓reduceIte, reduceCtorEq, and_false, false_and, not_true_eq_false, not_false_eq_true, implies_true, forall_const, true_implies, false_implies, ne_eq, hn', q7]
theorem bs_rec_c {F : xH → Nat → Prop} (hd : 1 < d) (q1 : xcls h b = 24) (q2 : xval h b 0 = xr (some w)) (q3 : xcls h w = 1004) (q4 : xlen h w = 1) (q5 : m < 64) (q6 : xval h b 1 = xi 1) (q7 : xval h w 0 = xj (bL m))
    (hQ : ∀ h', xMod [b] h h' → isBS h' b w m → F h' k) : xCall G d k mJ26_recalculateWordsInUse [xr (some b)] h (xkV F T) := by
  have hn : ¬ b = w := xne_cls q1 q3 (by decide)
  have hn' : ¬ w = b := fun z => hn z.symm
  have fin : ∀ n : Int32, n = nI (if m = 0 then 0 else 1) → ∀ h2 : xH, h2 = xput h b 1 (xi n) → F h2 (k - 0) := by
    intro n e h2 e2
    subst e2 e
    refine hQ _ (xMod.rf.put (Or.inl (by simp))) ⟨?_, ?_, ?_, ?_, q5, ?_, ?_⟩
    · simp (decide := true) only [true_and, and_true, and_self, exists_eq_left, exists_eq_left', forall_eq, forall_eq', Sum.inl.injEq, Sum.inr.injEq, Option.some.injEq, xcls_put, xlen_put, xval_put, xsz_put, xlo_put, xcls_new, xlen_new, xval_new, xsz_new, xlo_new, ↓reduceIte, reduceCtorEq, and_false, false_and, not_true_eq_false, not_false_eq_true, implies_true, forall_const, true_implies, false_implies, ne_eq, q1]
    · simp (decide := true) only [true_and, and_true, and_self, exists_eq_left, exists_eq_left', forall_eq, forall_eq', Sum.inl.injEq, Sum.inr.injEq, Option.some.injEq, xcls_put, xlen_put, xval_put, xsz_put, xlo_put, xcls_new, xlen_new, xval_new, xsz_new, xlo_new, ↓reduceIte, reduceCtorEq, and_false, false_and, not_true_eq_false, not_false_eq_true, implies_true, forall_const, true_implies, false_implies, ne_eq, q2]
    · simp (decide := true) only [true_and, and_true, and_self, exists_eq_left, exists_eq_left', forall_eq, forall_eq', Sum.inl.injEq, Sum.inr.injEq, Option.some.injEq, xcls_put, xlen_put, xval_put, xsz_put, xlo_put, xcls_new, xlen_new, xval_new, xsz_new, xlo_new, ↓reduceIte, reduceCtorEq, and_false, false_and, not_true_eq_false, not_false_eq_true, implies_true, forall_const, true_implies, false_implies, ne_eq, q3]
    · simp (decide := true) only [true_and, and_true, and_self, exists_eq_left, exists_eq_left', forall_eq, forall_eq', Sum.inl.injEq, Sum.inr.injEq, Option.some.injEq, xcls_put, xlen_put, xval_put, xsz_put, xlo_put, xcls_new, xlen_new, xval_new, xsz_new, xlo_new, ↓reduceIte, reduceCtorEq, and_false, false_and, not_true_eq_false, not_false_eq_true, implies_true, forall_const, true_implies, false_implies, ne_eq, q4]
    · simp (decide := true) only [true_and, and_true, and_self, exists_eq_left, exists_eq_left', forall_eq, forall_eq', Sum.inl.injEq, Sum.inr.injEq, Option.some.injEq, xcls_put, xlen_put, xval_put, xsz_put, xlo_put, xcls_new, xlen_new, xval_new, xsz_new, xlo_new, ↓reduceIte, reduceCtorEq, and_false, false_and, not_true_eq_false, not_false_eq_true, implies_true, forall_const, true_implies, false_implies, ne_eq]
    · simp (decide := true) only [true_and, and_true, and_self, exists_eq_left, exists_eq_left', forall_eq, forall_eq', Sum.inl.injEq, Sum.inr.injEq, Option.some.injEq, xcls_put, xlen_put, xval_put, xsz_put, xlo_put, xcls_new, xlen_new, xval_new, xsz_new, xlo_new, ↓reduceIte, reduceCtorEq, and_false, false_and, not_true_eq_false, not_false_eq_true, implies_true, forall_const, true_implies, false_implies, ne_eq, hn', q7]
  refine xCall_of (d' := 1) hd (Nat.zero_le k) (vc_J26_recalculateWordsInUse ⟨q1, _, q6, vc_J26_recalculateWordsInUse_7 ⟨fun z => absurd z (by decide), fun _ => ⟨q1, _, q2, _, rfl, q3, 0, by decide, by decide, by rw [q4]; decide, _, q7, fun z => ?_, fun z => ⟨q1, ?_⟩⟩⟩⟩)
  · have hm := (bs_zero q5).mp z
    refine vc_J26_recalculateWordsInUse_7 ⟨fun _ => ⟨q1, fin _ ?_⟩, fun z => absurd (by decide) z⟩
    rw [if_pos hm]; decide
  · have hm : ¬ m = 0 := fun y => z ((bs_zero q5).mpr y)
    exact fin _ (by rw [if_neg hm]; decide)
theorem bs_set2_c {F : xH → Nat → Prop} (hd : 3 < d) (g8 : G.2.1 8 = xi 1) (q : isBS h b w m) (hj : j < 6) (hQ : ∀ h', xMod [b, w] h h' → isBS h' b w (m ||| 1 <<< j) → F h' k) : xCall G d k mJ26_set_2 [xr (some b), xi (nI j)] h (xkV F T) := by
  have hn : ¬ b = w := xne_cls q.1 q.2.2.1 (by decide)
  have hn' : ¬ w = b := fun z => hn z.symm
  have q5 := q.2.2.2.2.1
  obtain ⟨s1, s2, s3⟩ := bs_set q5 hj
  refine xCall_of (d' := 3) hd (Nat.zero_le k) (vc_J26_set_2 ⟨fun _ => bs_word_c (by decide) (by omega) ⟨q.1, bs_exp_c (by decide) q fun h4 x4 ⟨r1, r2, r3, r4, r6, r7⟩ => ?_⟩, fun z => absurd (nI_le (Nat.zero_le j) (by omega)) z⟩)
  refine ⟨r1, _, r2, _, rfl, r3, 0, rfl, by decide, by rw [r4]; decide, _, r7, r3, 0, rfl, by decide, by rw [r4]; decide, fun h5 e5 => ⟨by rw [e5]; simp (decide := true) only [true_and, and_true, and_self, exists_eq_left, exists_eq_left', forall_eq, forall_eq', Sum.inl.injEq, Sum.inr.injEq, Option.some.injEq, xcls_put, xlen_put, xval_put, xsz_put, xlo_put, xcls_new, xlen_new, xval_new, xsz_new, xlo_new, ↓reduceIte, reduceCtorEq, and_false, false_and, not_true_eq_false, not_false_eq_true, implies_true, forall_const, true_implies, false_implies, ne_eq, r1], bs_inv_c (by decide) g8 ?_⟩⟩
  rw [s1] at e5
  subst e5
  refine hQ _ ((x4.wk (by simp)).put (Or.inl (by simp))) ⟨?_, ?_, ?_, ?_, s2, ?_, ?_⟩
  · simp (decide := true) only [true_and, and_true, and_self, exists_eq_left, exists_eq_left', forall_eq, forall_eq', Sum.inl.injEq, Sum.inr.injEq, Option.some.injEq, xcls_put, xlen_put, xval_put, xsz_put, xlo_put, xcls_new, xlen_new, xval_new, xsz_new, xlo_new, ↓reduceIte, reduceCtorEq, and_false, false_and, not_true_eq_false, not_false_eq_true, implies_true, forall_const, true_implies, false_implies, ne_eq, r1]
  · simp (decide := true) only [true_and, and_true, and_self, exists_eq_left, exists_eq_left', forall_eq, forall_eq', Sum.inl.injEq, Sum.inr.injEq, Option.some.injEq, xcls_put, xlen_put, xval_put, xsz_put, xlo_put, xcls_new, xlen_new, xval_new, xsz_new, xlo_new, ↓reduceIte, reduceCtorEq, and_false, false_and, not_true_eq_false, not_false_eq_true, implies_true, forall_const, true_implies, false_implies, ne_eq, hn, r2]
  · simp (decide := true) only [true_and, and_true, and_self, exists_eq_left, exists_eq_left', forall_eq, forall_eq', Sum.inl.injEq, Sum.inr.injEq, Option.some.injEq, xcls_put, xlen_put, xval_put, xsz_put, xlo_put, xcls_new, xlen_new, xval_new, xsz_new, xlo_new, ↓reduceIte, reduceCtorEq, and_false, false_and, not_true_eq_false, not_false_eq_true, implies_true, forall_const, true_implies, false_implies, ne_eq, r3]
  · simp (decide := true) only [true_and, and_true, and_self, exists_eq_left, exists_eq_left', forall_eq, forall_eq', Sum.inl.injEq, Sum.inr.injEq, Option.some.injEq, xcls_put, xlen_put, xval_put, xsz_put, xlo_put, xcls_new, xlen_new, xval_new, xsz_new, xlo_new, ↓reduceIte, reduceCtorEq, and_false, false_and, not_true_eq_false, not_false_eq_true, implies_true, forall_const, true_implies, false_implies, ne_eq, r4]
  · rw [if_neg s3]; simp (decide := true) only [true_and, and_true, and_self, exists_eq_left, exists_eq_left', forall_eq, forall_eq', Sum.inl.injEq, Sum.inr.injEq, Option.some.injEq, xcls_put, xlen_put, xval_put, xsz_put, xlo_put, xcls_new, xlen_new, xval_new, xsz_new, xlo_new, ↓reduceIte, reduceCtorEq, and_false, false_and, not_true_eq_false, not_false_eq_true, implies_true, forall_const, true_implies, false_implies, ne_eq, hn, r6]
  · simp (decide := true) only [true_and, and_true, and_self, exists_eq_left, exists_eq_left', forall_eq, forall_eq', Sum.inl.injEq, Sum.inr.injEq, Option.some.injEq, xcls_put, xlen_put, xval_put, xsz_put, xlo_put, xcls_new, xlen_new, xval_new, xsz_new, xlo_new, ↓reduceIte, reduceCtorEq, and_false, false_and, not_true_eq_false, not_false_eq_true, implies_true, forall_const, true_implies, false_implies, ne_eq]
theorem bs_flip_c {F : xH → Nat → Prop} (hd : 3 < d) (g8 : G.2.1 8 = xi 1) (q : isBS h b w m) (hj : j < 6) (hQ : ∀ h', xMod [b, w] h h' → isBS h' b w (m ^^^ 1 <<< j) → F h' k) : xCall G d k mJ26_flip [xr (some b), xi (nI j)] h (xkV F T) := by
  have hn : ¬ b = w := xne_cls q.1 q.2.2.1 (by decide)
  have hn' : ¬ w = b := fun z => hn z.symm
  have q5 := q.2.2.2.2.1
  obtain ⟨s1, s2⟩ := bs_flip q5 hj
  refine xCall_of (d' := 3) hd (Nat.zero_le k) (vc_J26_flip ⟨fun _ => bs_word_c (by decide) (by omega) ⟨q.1, bs_exp_c (by decide) q fun h4 x4 ⟨r1, r2, r3, r4, r6, r7⟩ => ?_⟩, fun z => absurd (nI_le (Nat.zero_le j) (by omega)) z⟩)
  refine ⟨r1, _, r2, _, rfl, r3, 0, rfl, by decide, by rw [r4]; decide, _, r7, r3, 0, rfl, by decide, by rw [r4]; decide, fun h5 e5 => ?_⟩
  rw [s1] at e5
  subst e5
  refine ⟨by simp (decide := true) only [true_and, and_true, and_self, exists_eq_left, exists_eq_left', forall_eq, forall_eq', Sum.inl.injEq, Sum.inr.injEq, Option.some.injEq, xcls_put, xlen_put, xval_put, xsz_put, xlo_put, xcls_new, xlen_new, xval_new, xsz_new, xlo_new, ↓reduceIte, reduceCtorEq, and_false, false_and, not_true_eq_false, not_false_eq_true, implies_true, forall_const, true_implies, false_implies, ne_eq, r1], bs_rec_c (w := w) (m := m ^^^ 1 <<< j) (by decide) ?_ ?_ ?_ ?_ s2 ?_ ?_ fun h6 x6 q6 => ⟨q6.1, bs_inv_c (by decide) g8 (hQ _ ((((x4.wk (by simp)).put (Or.inl (by simp)))).tr (x6.wk (by simp))) q6)⟩⟩
  · simp (decide := true) only [true_and, and_true, and_self, exists_eq_left, exists_eq_left', forall_eq, forall_eq', Sum.inl.injEq, Sum.inr.injEq, Option.some.injEq, xcls_put, xlen_put, xval_put, xsz_put, xlo_put, xcls_new, xlen_new, xval_new, xsz_new, xlo_new, ↓reduceIte, reduceCtorEq, and_false, false_and, not_true_eq_false, not_false_eq_true, implies_true, forall_const, true_implies, false_implies, ne_eq, r1]
  · simp (decide := true) only [true_and, and_true, and_self, exists_eq_left, exists_eq_left', forall_eq, forall_eq', Sum.inl.injEq, Sum.inr.injEq, Option.some.injEq, xcls_put, xlen_put, xval_put, xsz_put, xlo_put, xcls_new, xlen_new, xval_new, xsz_new, xlo_new, ↓reduceIte, reduceCtorEq, and_false, false_and, not_true_eq_false, not_false_eq_true, implies_true, forall_const, true_implies, false_implies, ne_eq, hn, r2]
  · simp (decide := true) only [true_and, and_true, and_self, exists_eq_left, exists_eq_left', forall_eq, forall_eq', Sum.inl.injEq, Sum.inr.injEq, Option.some.injEq, xcls_put, xlen_put, xval_put, xsz_put, xlo_put, xcls_new, xlen_new, xval_new, xsz_new, xlo_new, ↓reduceIte, reduceCtorEq, and_false, false_and, not_true_eq_false, not_false_eq_true, implies_true, forall_const, true_implies, false_implies, ne_eq, r3]
  · simp (decide := true) only [true_and, and_true, and_self, exists_eq_left, exists_eq_left', forall_eq, forall_eq', Sum.inl.injEq, Sum.inr.injEq, Option.some.injEq, xcls_put, xlen_put, xval_put, xsz_put, xlo_put, xcls_new, xlen_new, xval_new, xsz_new, xlo_new, ↓reduceIte, reduceCtorEq, and_false, false_and, not_true_eq_false, not_false_eq_true, implies_true, forall_const, true_implies, false_implies, ne_eq, r4]
  · simp (decide := true) only [true_and, and_true, and_self, exists_eq_left, exists_eq_left', forall_eq, forall_eq', Sum.inl.injEq, Sum.inr.injEq, Option.some.injEq, xcls_put, xlen_put, xval_put, xsz_put, xlo_put, xcls_new, xlen_new, xval_new, xsz_new, xlo_new, ↓reduceIte, reduceCtorEq, and_false, false_and, not_true_eq_false, not_false_eq_true, implies_true, forall_const, true_implies, false_implies, ne_eq, hn, r6]
  · simp (decide := true) only [true_and, and_true, and_self, exists_eq_left, exists_eq_left', forall_eq, forall_eq', Sum.inl.injEq, Sum.inr.injEq, Option.some.injEq, xcls_put, xlen_put, xval_put, xsz_put, xlo_put, xcls_new, xlen_new, xval_new, xsz_new, xlo_new, ↓reduceIte, reduceCtorEq, and_false, false_and, not_true_eq_false, not_false_eq_true, implies_true, forall_const, true_implies, false_implies, ne_eq]
theorem bOff_0 : bOff 0 j = 0 := by unfold bOff; rw [Nat.zero_testBit]; rfl
theorem bs_clear_c {F : xH → Nat → Prop} (hd : 3 < d) (g8 : G.2.1 8 = xi 1) (q : isBS h b w m) (hj : j < 6) (hQ : ∀ h', xMod [b, w] h h' → isBS h' b w (bOff m j) → F h' k) : xCall G d k mJ26_clear [xr (some b), xi (nI j)] h (xkV F T) := by
  have q' := q
  obtain ⟨q1, q2, q3, q4, q5, q6, q7⟩ := q
  have hn : ¬ b = w := xne_cls q1 q3 (by decide)
  have hn' : ¬ w = b := fun z => hn z.symm
  obtain ⟨s1, s2⟩ := bs_clear q5 hj
  refine xCall_of (d' := 3) hd (Nat.zero_le k) (vc_J26_clear ⟨fun _ => bs_word_c (by decide) (by omega) ⟨q1, _, q6, fun z => ⟨q1, _, q2, _, rfl, q3, 0, rfl, by decide, by rw [q4]; decide, _, q7, q3, 0, rfl, by decide, by rw [q4]; decide, fun h5 e5 => ?_⟩, fun z => ?_⟩, fun z => absurd (nI_le (Nat.zero_le j) (by omega)) z⟩)
  · rw [s1] at e5
    subst e5
    have hm : ¬ m = 0 := fun y => by rw [if_pos y] at z; exact absurd z (by decide)
    rw [if_neg hm] at q6
    refine ⟨by simp (decide := true) only [true_and, and_true, and_self, exists_eq_left, exists_eq_left', forall_eq, forall_eq', Sum.inl.injEq, Sum.inr.injEq, Option.some.injEq, xcls_put, xlen_put, xval_put, xsz_put, xlo_put, xcls_new, xlen_new, xval_new, xsz_new, xlo_new, ↓reduceIte, reduceCtorEq, and_false, false_and, not_true_eq_false, not_false_eq_true, implies_true, forall_const, true_implies, false_implies, ne_eq, q1], bs_rec_c (w := w) (m := bOff m j) (by decide) ?_ ?_ ?_ ?_ s2 ?_ ?_ fun h6 x6 q6 => ⟨q6.1, bs_inv_c (by decide) g8 (hQ _ ((xMod.rf.put (Or.inl (by simp))).tr (x6.wk (by simp))) q6)⟩⟩
    · simp (decide := true) only [true_and, and_true, and_self, exists_eq_left, exists_eq_left', forall_eq, forall_eq', Sum.inl.injEq, Sum.inr.injEq, Option.some.injEq, xcls_put, xlen_put, xval_put, xsz_put, xlo_put, xcls_new, xlen_new, xval_new, xsz_new, xlo_new, ↓reduceIte, reduceCtorEq, and_false, false_and, not_true_eq_false, not_false_eq_true, implies_true, forall_const, true_implies, false_implies, ne_eq, q1]
    · simp (decide := true) only [true_and, and_true, and_self, exists_eq_left, exists_eq_left', forall_eq, forall_eq', Sum.inl.injEq, Sum.inr.injEq, Option.some.injEq, xcls_put, xlen_put, xval_put, xsz_put, xlo_put, xcls_new, xlen_new, xval_new, xsz_new, xlo_new, ↓reduceIte, reduceCtorEq, and_false, false_and, not_true_eq_false, not_false_eq_true, implies_true, forall_const, true_implies, false_implies, ne_eq, hn, q2]
    · simp (decide := true) only [true_and, and_true, and_self, exists_eq_left, exists_eq_left', forall_eq, forall_eq', Sum.inl.injEq, Sum.inr.injEq, Option.some.injEq, xcls_put, xlen_put, xval_put, xsz_put, xlo_put, xcls_new, xlen_new, xval_new, xsz_new, xlo_new, ↓reduceIte, reduceCtorEq, and_false, false_and, not_true_eq_false, not_false_eq_true, implies_true, forall_const, true_implies, false_implies, ne_eq, q3]
    · simp (decide := true) only [true_and, and_true, and_self, exists_eq_left, exists_eq_left', forall_eq, forall_eq', Sum.inl.injEq, Sum.inr.injEq, Option.some.injEq, xcls_put, xlen_put, xval_put, xsz_put, xlo_put, xcls_new, xlen_new, xval_new, xsz_new, xlo_new, ↓reduceIte, reduceCtorEq, and_false, false_and, not_true_eq_false, not_false_eq_true, implies_true, forall_const, true_implies, false_implies, ne_eq, q4]
    · (simp (decide := true) only [true_and, and_true, and_self, exists_eq_left, exists_eq_left', forall_eq, forall_eq', Sum.inl.injEq, Sum.inr.injEq, Option.some.injEq, xcls_put, xlen_put, xval_put, xsz_put, xlo_put, xcls_new, xlen_new, xval_new, xsz_new, xlo_new, ↓reduceIte, reduceCtorEq, and_false, false_and, not_true_eq_false, not_false_eq_true, implies_true, forall_const, true_implies, false_implies, ne_eq, hn, q6] <;> rfl)
    · simp (decide := true) only [true_and, and_true, and_self, exists_eq_left, exists_eq_left', forall_eq, forall_eq', Sum.inl.injEq, Sum.inr.injEq, Option.some.injEq, xcls_put, xlen_put, xval_put, xsz_put, xlo_put, xcls_new, xlen_new, xval_new, xsz_new, xlo_new, ↓reduceIte, reduceCtorEq, and_false, false_and, not_true_eq_false, not_false_eq_true, implies_true, forall_const, true_implies, false_implies, ne_eq]
  · have hm : m = 0 := by
      by_cases hm : m = 0
      · exact hm
      · rw [if_neg hm] at z; exact absurd (by decide) z
    subst hm
    exact hQ h xMod.rf (by rw [bOff_0]; exact q')
theorem bs_set_c {F : xH → Nat → Prop} {c : Bool} (hd : 4 < d) (g8 : G.2.1 8 = xi 1) (q : isBS h b w m) (hj : j < 6) (hQ : ∀ h', xMod [b, w] h h' → isBS h' b w (if c then m ||| 1 <<< j else bOff m j) → F h' k) : xCall G d k mJ26_set [xr (some b), xi (nI j), xi (xb c)] h (xkV F T) := by
  refine xCall_of (d' := 4) hd (Nat.zero_le k) (vc_J26_set ⟨fun z => ⟨q.1, bs_clear_c (by decide) g8 q hj fun h' x' q' => hQ h' x' ?_⟩, fun z => ⟨q.1, bs_set2_c (by decide) g8 q hj fun h' x' q' => hQ h' x' ?_⟩⟩)
  · cases c
    · exact q'
    · exact absurd z (by decide)
  · cases c
    · exact absurd rfl z
    · exact q'
theorem bs_isEmpty_c {F : Int32 → xH → Nat → Prop} (hd : 1 < d) (q : isBS h b w m) (hQ : F (xb (decide (m = 0))) h k) : xCall G d k mJ26_isEmpty [xr (some b)] h (xkI F T) := by
  obtain ⟨q1, q2, q3, q4, q5, q6, q7⟩ := q
  refine xCall_of (d' := 1) hd (Nat.zero_le k) (vc_J26_isEmpty ⟨q1, _, q6, fun z => ?_, fun z => ?_⟩)
  · have hm : ¬ m = 0 := fun y => by rw [if_pos y] at z; exact absurd rfl z
    rw [decide_eq_false hm] at hQ
    exact hQ
  · have hm : m = 0 := by
      by_cases hm : m = 0
      · exact hm
      · rw [if_neg hm] at z; exact absurd z (by decide)
    rw [decide_eq_true hm] at hQ
    exact hQ
/-- the next one from a place on: 6 for none -/
theorem bs_next_c {F : Int32 → xH → Nat → Prop} (hd : 3 < d) (g8 : G.2.1 8 = xi 1) (q : isBS h b w m) (hj : j < 7) (hQ : F (if bFrom m j = 0 then -1 else nI (bLow (bFrom m j))) h k) : xCall G d k mJ26_nextSetBit [xr (some b), xi (nI j)] h (xkI F T) := by
  obtain ⟨q1, q2, q3, q4, q5, q6, q7⟩ := q
  obtain ⟨s1, s2⟩ := bs_from q5 hj
  refine xCall_of (d' := 3) hd (Nat.zero_le k) (vc_J26_nextSetBit ⟨fun _ => ⟨q1, bs_inv_c (by decide) g8 (bs_word_c (by decide) (by omega) ?_)⟩, fun z => absurd (nI_le (Nat.zero_le j) (by omega)) z⟩)
  refine ⟨q1, _, q6, fun z => ⟨q1, _, q2, _, rfl, q3, 0, rfl, by decide, by rw [q4]; decide, _, q7, ?_⟩, fun z => ?_⟩
  · have hm : ¬ m = 0 := fun y => by rw [if_pos y] at z; exact absurd z (by decide)
    rw [s1]
    refine vc_J26_nextSetBit_63 ⟨fun y => ⟨q1, _, q6, fun x => absurd (by rw [if_neg hm]; decide) x, fun _ => ?_⟩, fun y => ?_⟩
    · rw [if_pos ((bs_zero s2).mp y)] at hQ
      exact hQ
    · have hz : ¬ bFrom m j = 0 := fun x => y ((bs_zero s2).mpr x)
      rw [if_neg hz] at hQ
      refine ntz_c (by decide) s2 hz ?_
      have : (0 : Int32) * 64 + nI (bLow (bFrom m j)) = nI (bLow (bFrom m j)) := by
        rw [show (0 : Int32) * 64 = 0 from rfl, Int32.zero_add]
      rw [this]
      exact hQ
  · have hm : m = 0 := by
      by_cases hm : m = 0
      · exact hm
      · rw [if_neg hm] at z; exact absurd (by decide) z
    subst hm
    have : bFrom 0 j = 0 := by unfold bFrom; simp
    rw [if_pos this] at hQ
    exact hQ
theorem bs_card_c {F : Int32 → xH → Nat → Prop} (hd : 2 < d) (q : isBS h b w m) (hQ : F (nI (bCard m)) h k) : xCall G d k mJ26_cardinality [xr (some b)] h (xkI F T) := by
  obtain ⟨q1, q2, q3, q4, q5, q6, q7⟩ := q
  refine xCall_of (d' := 2) hd (Nat.zero_le k) (vc_J26_cardinality (vc_J26_cardinality_4 ⟨q1, _, q6, fun z => ?_, fun z => ⟨q1, _, q2, _, rfl, q3, 0, rfl, by decide, by rw [q4]; decide, _, q7, bc_c (by decide) q5 ?_⟩⟩))
  · have hm : m = 0 := by
      by_cases hm : m = 0
      · exact hm
      · rw [if_neg hm] at z; exact absurd z (by decide)
    subst hm
    exact hQ
  · refine vc_J26_cardinality_4 ⟨q1, _, q6, fun y => ?_, fun y => absurd ?_ y⟩
    · rw [Int32.zero_add]
      exact hQ
    · have hm : ¬ m = 0 := fun y => by rw [if_pos y] at z; exact absurd (by decide) z
      rw [if_neg hm]; decide
end XBS

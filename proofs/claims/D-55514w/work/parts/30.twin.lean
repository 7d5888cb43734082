/-! the twin: its fields and arrays as a table of ints V f i (f the field's place) -/
def tL : Nat → Nat := fun f => match f with | 0 => 2 | 1 => 2 | 4 => 112 | 5 => 896 | 6 => 112 | 7 => 112 | 12 => 40 | 14 => 60 | 18 => 4 | _ => 0
def tK : Nat → Nat := fun f => match f with | 12 => 1001 | 14 => 1001 | _ => 1003
def isTw (h : xH) (m : Nat) (A : Nat → Nat) (V : Nat → Nat → Int32) : Prop :=
  xcls h m = 6 ∧ (∀ f, tL f = 0 → xval h m f = xi (V f 0)) ∧
  (∀ f, tL f ≠ 0 → xval h m f = xr (some (A f)) ∧ xcls h (A f) = tK f ∧ xlen h (A f) = tL f ∧ ∀ i, i < tL f → xval h (A f) i = xi (V f i)) ∧
  (∀ f g, tL f ≠ 0 → tL g ≠ 0 → A f = A g → f = g)
def tU (V : Nat → Nat → Int32) (f i : Nat) (v : Int32) : Nat → Nat → Int32 := fun g j => if g = f ∧ j = i then v else V g j
def tS (m : Nat) (A : Nat → Nat) : List Nat := m :: ([0, 1, 4, 5, 6, 7, 12, 14, 18].map A)
theorem tL_mem {f : Nat} (h : tL f ≠ 0) : f ∈ [0, 1, 4, 5, 6, 7, 12, 14, 18] := by
  by_cases hf : f < 19
  · exact (by decide : ∀ g : Fin 19, tL g.1 ≠ 0 → g.1 ∈ [0, 1, 4, 5, 6, 7, 12, 14, 18]) ⟨f, hf⟩ h
  · exfalso
    apply h
    unfold tL
    split <;> first | rfl | omega
theorem tK_a (f : Nat) : tK f ≠ 6 := by
  unfold tK
  split <;> decide
theorem tK_0 (f : Nat) : tK f ≠ 0 := by
  unfold tK
  split <;> decide
theorem nI_ex {P : Nat → Prop} {c : Nat} (hc : c < 2147483648) : (∃ i : Nat, nI c = nI i ∧ i < 2147483648 ∧ P i) ↔ P c :=
  ⟨fun ⟨i, e, hi, p⟩ => (nI_eq hc hi).mp e ▸ p, fun p => ⟨c, rfl, hc, p⟩⟩
theorem nI_mul (a b : Nat) : nI a * nI b = nI (a * b) := (Int32.ofNat_mul a b).symm
theorem t_ixH (a c : Nat) : (((13 : Int32) + ((6 : Int32) * nI a)) + nI c) = nI (13 + 6 * a + c) := by
  rw [← nI_add, ← nI_add, ← nI_mul]
  rfl
theorem t_ixS (a c : Nat) : (((61 : Int32) + ((8 : Int32) * nI a)) + nI c) = nI (61 + 8 * a + c) := by
  rw [← nI_add, ← nI_add, ← nI_mul]
  rfl
section XTW
variable {G : xG} {d k : Nat} {h h' : xH} {T : Nat → xH → Nat → Prop} {S : List Nat} {m : Nat} {A : Nat → Nat} {V : Nat → Nat → Int32} {a b c s i j : Nat}
theorem isTw.cl (q : isTw h m A V) : xcls h m = 6 := q.1
theorem isTw.ff (q : isTw h m A V) (f : Nat) (z : tL f = 0) : xval h m f = xi (V f 0) := q.2.1 f z
theorem isTw.rr (q : isTw h m A V) (f : Nat) (z : tL f ≠ 0) : xval h m f = xr (some (A f)) := (q.2.2.1 f z).1
theorem isTw.kk (q : isTw h m A V) (f : Nat) (z : tL f ≠ 0) : xcls h (A f) = tK f := (q.2.2.1 f z).2.1
theorem isTw.ll (q : isTw h m A V) (f : Nat) (z : tL f ≠ 0) : xlen h (A f) = tL f := (q.2.2.1 f z).2.2.1
theorem isTw.vv (q : isTw h m A V) (f : Nat) {i : Nat} (z : i < tL f) : xval h (A f) i = xi (V f i) := (q.2.2.1 f (by omega)).2.2.2 i z
theorem isTw.na (q : isTw h m A V) {f : Nat} (z : tL f ≠ 0) : ¬ A f = m := xne_cls (q.kk f z) q.cl (tK_a f)
theorem isTw.md (q : isTw h m A V) (x : xMod S h h') (hs : ∀ y, y ∈ tS m A → y ∉ S) : isTw h' m A V := by
  obtain ⟨q1, q2, q3, q4⟩ := q
  have n1 : xcls h m ≠ 0 := by rw [q1]; decide
  have sm : m ∉ S := hs m List.mem_cons_self
  refine ⟨(x.cl n1).trans q1, fun f z => (x.vl n1 sm _).trans (q2 f z), fun f z => ?_, q4⟩
  obtain ⟨r1, r2, r3, r4⟩ := q3 f z
  have n2 : xcls h (A f) ≠ 0 := by rw [r2]; exact tK_0 f
  have sa : A f ∉ S := hs (A f) (List.mem_cons_of_mem _ (List.mem_map.mpr ⟨f, tL_mem z, rfl⟩))
  exact ⟨(x.vl n1 sm _).trans r1, (x.cl n2).trans r2, (x.ln n2).trans r3, fun i hi => (x.vl n2 sa _).trans (r4 i hi)⟩
/-- a field of its own is set -/
theorem isTw.pf (q : isTw h m A V) (f : Nat) (z : tL f = 0) (v : Int32) : isTw (xput h m f (xi v)) m A (tU V f 0 v) := by
  refine ⟨q.cl, fun g hg => ?_, fun g hg => ⟨?_, q.kk g hg, q.ll g hg, fun i hi => ?_⟩, q.2.2.2⟩
  · unfold tU
    by_cases e : g = f
    · simp (decide := true) only [true_and, and_true, and_self, exists_eq_left, exists_eq_left', forall_eq, forall_eq', Sum.inl.injEq, Sum.inr.injEq, Option.some.injEq, xcls_put, xlen_put, xval_put, xsz_put, xlo_put, xcls_new, xlen_new, xval_new, xsz_new, xlo_new, ↓reduceIte, reduceCtorEq, and_false, false_and, not_true_eq_false, not_false_eq_true, implies_true, forall_const, true_implies, false_implies, ne_eq, e]
    · simp (decide := true) only [true_and, and_true, and_self, exists_eq_left, exists_eq_left', forall_eq, forall_eq', Sum.inl.injEq, Sum.inr.injEq, Option.some.injEq, xcls_put, xlen_put, xval_put, xsz_put, xlo_put, xcls_new, xlen_new, xval_new, xsz_new, xlo_new, ↓reduceIte, reduceCtorEq, and_false, false_and, not_true_eq_false, not_false_eq_true, implies_true, forall_const, true_implies, false_implies, ne_eq, e, q.ff g hg]
  · have e : ¬ g = f := fun y => hg (y ▸ z)
    simp (decide := true) only [true_and, and_true, and_self, exists_eq_left, exists_eq_left', forall_eq, forall_eq', Sum.inl.injEq, Sum.inr.injEq, Option.some.injEq, xcls_put, xlen_put, xval_put, xsz_put, xlo_put, xcls_new, xlen_new, xval_new, xsz_new, xlo_new, ↓reduceIte, reduceCtorEq, and_false, false_and, not_true_eq_false, not_false_eq_true, implies_true, forall_const, true_implies, false_implies, ne_eq, e, q.rr g hg]
  · have e : ¬ g = f := fun y => hg (y ▸ z)
    unfold tU
    simp (decide := true) only [true_and, and_true, and_self, exists_eq_left, exists_eq_left', forall_eq, forall_eq', Sum.inl.injEq, Sum.inr.injEq, Option.some.injEq, xcls_put, xlen_put, xval_put, xsz_put, xlo_put, xcls_new, xlen_new, xval_new, xsz_new, xlo_new, ↓reduceIte, reduceCtorEq, and_false, false_and, not_true_eq_false, not_false_eq_true, implies_true, forall_const, true_implies, false_implies, ne_eq, e, q.na hg, q.vv g hi]
/-- a place of one of its arrays is set -/
theorem isTw.pa (q : isTw h m A V) (f : Nat) {i : Nat} (z : i < tL f) (v : Int32) : isTw (xput h (A f) i (xi v)) m A (tU V f i v) := by
  have hz : tL f ≠ 0 := by omega
  have nm : ¬ m = A f := fun y => q.na hz y.symm
  refine ⟨q.cl, fun g hg => ?_, fun g hg => ⟨?_, q.kk g hg, q.ll g hg, fun j hj => ?_⟩, q.2.2.2⟩
  · have e : ¬ g = f := fun y => hz (y ▸ hg)
    unfold tU
    simp (decide := true) only [true_and, and_true, and_self, exists_eq_left, exists_eq_left', forall_eq, forall_eq', Sum.inl.injEq, Sum.inr.injEq, Option.some.injEq, xcls_put, xlen_put, xval_put, xsz_put, xlo_put, xcls_new, xlen_new, xval_new, xsz_new, xlo_new, ↓reduceIte, reduceCtorEq, and_false, false_and, not_true_eq_false, not_false_eq_true, implies_true, forall_const, true_implies, false_implies, ne_eq, e, nm, q.ff g hg]
  · simp (decide := true) only [true_and, and_true, and_self, exists_eq_left, exists_eq_left', forall_eq, forall_eq', Sum.inl.injEq, Sum.inr.injEq, Option.some.injEq, xcls_put, xlen_put, xval_put, xsz_put, xlo_put, xcls_new, xlen_new, xval_new, xsz_new, xlo_new, ↓reduceIte, reduceCtorEq, and_false, false_and, not_true_eq_false, not_false_eq_true, implies_true, forall_const, true_implies, false_implies, ne_eq, nm, q.rr g hg]
  · unfold tU
    by_cases e : g = f
    · subst e
      by_cases e2 : j = i
      · simp (decide := true) only [true_and, and_true, and_self, exists_eq_left, exists_eq_left', forall_eq, forall_eq', Sum.inl.injEq, Sum.inr.injEq, Option.some.injEq, xcls_put, xlen_put, xval_put, xsz_put, xlo_put, xcls_new, xlen_new, xval_new, xsz_new, xlo_new, ↓reduceIte, reduceCtorEq, and_false, false_and, not_true_eq_false, not_false_eq_true, implies_true, forall_const, true_implies, false_implies, ne_eq, e2]
      · simp (decide := true) only [true_and, and_true, and_self, exists_eq_left, exists_eq_left', forall_eq, forall_eq', Sum.inl.injEq, Sum.inr.injEq, Option.some.injEq, xcls_put, xlen_put, xval_put, xsz_put, xlo_put, xcls_new, xlen_new, xval_new, xsz_new, xlo_new, ↓reduceIte, reduceCtorEq, and_false, false_and, not_true_eq_false, not_false_eq_true, implies_true, forall_const, true_implies, false_implies, ne_eq, e2, q.vv g hj]
    · have e3 : ¬ A g = A f := fun y => e (q.2.2.2 g f hg hz y)
      simp (decide := true) only [true_and, and_true, and_self, exists_eq_left, exists_eq_left', forall_eq, forall_eq', Sum.inl.injEq, Sum.inr.injEq, Option.some.injEq, xcls_put, xlen_put, xval_put, xsz_put, xlo_put, xcls_new, xlen_new, xval_new, xsz_new, xlo_new, ↓reduceIte, reduceCtorEq, and_false, false_and, not_true_eq_false, not_false_eq_true, implies_true, forall_const, true_implies, false_implies, ne_eq, e, e3, q.vv g hj]
theorem xMod.tf (x : xMod S h h') (hs : ∀ y, y ∈ tS m A → y ∈ S) (f : Nat) (v : xV) : xMod S h (xput h' m f v) := x.put (Or.inl (hs m List.mem_cons_self))
theorem xMod.ta (x : xMod S h h') (hs : ∀ y, y ∈ tS m A → y ∈ S) (f : Nat) (z : tL f ≠ 0) (i : Nat) (v : xV) : xMod S h (xput h' (A f) i v) := x.put (Or.inl (hs (A f) (List.mem_cons_of_mem _ (List.mem_map.mpr ⟨f, tL_mem z, rfl⟩))))
/-! looks -/
def pIn (x lo hi : Int32) : Bool := decide (¬ x < lo ∧ ¬ hi < x)
theorem t_isBetween_c {F : Int32 → xH → Nat → Prop} {x lo hi : Int32} (hd : 1 < d) (hQ : F (xb (pIn x lo hi)) h k) : xCall G d k mX3_isBetween [xi x, xi lo, xi hi] h (xkI F T) := by
  unfold pIn at hQ
  refine xCall_of (d' := 1) hd (Nat.zero_le k) (vc_X3_isBetween ⟨fun z => ?_, fun z => ⟨fun y => ?_, fun y => ?_⟩⟩)
  · rw [decide_eq_false (fun x => x.1 z)] at hQ; exact hQ
  · rw [decide_eq_false (fun x => x.2 y)] at hQ; exact hQ
  · rw [decide_eq_true ⟨z, y⟩] at hQ; exact hQ
theorem t_hamletIs_c {F : Int32 → xH → Nat → Prop} (hd : 1 < d) (q : isTw h m A V) (hi : 13 + 6 * a + c < 112) (hQ : F (V 4 (13 + 6 * a + c)) h k) : xCall G d k mX3_hamletIs [xr (some m), xi (nI a), xi (nI c)] h (xkI F T) :=
  xCall_of (d' := 1) hd (Nat.zero_le k) (vc_X3_hamletIs ⟨q.cl, _, q.rr 4 (by decide), _, rfl, q.kk 4 (by decide), 13 + 6 * a + c, t_ixH a c, by omega, by rw [q.ll 4 (by decide)]; exact hi, _, q.vv 4 hi, hQ⟩)
theorem t_siteIs_c {F : Int32 → xH → Nat → Prop} (hd : 1 < d) (q : isTw h m A V) (hi : 61 + 8 * a + c < 112) (hQ : F (V 4 (61 + 8 * a + c)) h k) : xCall G d k mX3_siteIs [xr (some m), xi (nI a), xi (nI c)] h (xkI F T) :=
  xCall_of (d' := 1) hd (Nat.zero_le k) (vc_X3_siteIs ⟨q.cl, _, q.rr 4 (by decide), _, rfl, q.kk 4 (by decide), 61 + 8 * a + c, t_ixS a c, by omega, by rw [q.ll 4 (by decide)]; exact hi, _, q.vv 4 hi, hQ⟩)
end XTW

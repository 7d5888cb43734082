/-! what stays of a heap -/
def xMod (S : List Nat) (h h' : xH) : Prop := xlo h' = xlo h ∧ xsz h ≤ xsz h' ∧ ∀ a, a < xsz h → (xcls h' a = xcls h a ∧ xlen h' a = xlen h a ∧ (a ∉ S → ∀ i, xval h' a i = xval h a i))
abbrev xExt (h h' : xH) : Prop := xMod [] h h'
theorem xcls_lt' {h : xH} {a : Nat} (h0 : xcls h a ≠ 0) : a < xsz h := xcls_lt rfl h0
section XMOD
variable {S S' : List Nat} {h h' h'' : xH} {a b k n c : Nat} {v : xV} {f : Nat → xV}
theorem xMod.rf : xMod S h h := ⟨rfl, Nat.le_refl _, fun _ _ => ⟨rfl, rfl, fun _ _ => rfl⟩⟩
theorem xMod.tr (q : xMod S h h') (r : xMod S h' h'') : xMod S h h'' := by
  obtain ⟨q1, q2, q3⟩ := q
  obtain ⟨r1, r2, r3⟩ := r
  refine ⟨r1.trans q1, Nat.le_trans q2 r2, fun a ha => ?_⟩
  obtain ⟨a1, a2, a3⟩ := q3 a ha
  obtain ⟨b1, b2, b3⟩ := r3 a (Nat.lt_of_lt_of_le ha q2)
  exact ⟨b1.trans a1, b2.trans a2, fun hs i => (b3 hs i).trans (a3 hs i)⟩
theorem xMod.wk (q : xMod S h h') (hs : ∀ x, x ∈ S → x ∈ S') : xMod S' h h' := ⟨q.1, q.2.1, fun a ha => ⟨(q.2.2 a ha).1, (q.2.2 a ha).2.1, fun hn => (q.2.2 a ha).2.2 (fun z => hn (hs a z))⟩⟩
theorem xMod.of (q : xExt h h') : xMod S h h' := q.wk (fun x hx => by cases hx)
/-- what is written may be new -/
theorem xMod.nw (q : xMod S h h') (hs : ∀ x, x ∈ S → x ∈ S' ∨ xsz h ≤ x) : xMod S' h h' := ⟨q.1, q.2.1, fun a ha => ⟨(q.2.2 a ha).1, (q.2.2 a ha).2.1, fun hn => (q.2.2 a ha).2.2 (fun z => (hs a z).elim hn (fun y => absurd ha (by omega)))⟩⟩
theorem xMod.put (q : xMod S h h') (ha : a ∈ S ∨ xsz h ≤ a) : xMod S h (xput h' a k v) := by
  refine ⟨q.1, q.2.1, fun b hb => ⟨(q.2.2 b hb).1, (q.2.2 b hb).2.1, fun hn i => ?_⟩⟩
  rw [xval_put, if_neg ?_]
  · exact (q.2.2 b hb).2.2 hn i
  · rintro ⟨e, -⟩
    subst e
    exact ha.elim hn (fun y => absurd hb (by omega))
theorem xMod.fil (q : xMod S h h') (ha : a ∈ S ∨ xsz h ≤ a) : xMod S h (xfil h' a f) := by
  refine ⟨q.1, q.2.1, fun b hb => ⟨(q.2.2 b hb).1, (q.2.2 b hb).2.1, fun hn i => ?_⟩⟩
  rw [xval_fil, if_neg ?_]
  · exact (q.2.2 b hb).2.2 hn i
  · intro e
    subst e
    exact ha.elim hn (fun y => absurd hb (by omega))
theorem xMod.new (q : xMod S h h') : xMod S h (xnew h' c n f) := by
  have h1 := q.2.1
  refine ⟨q.1, by rw [xsz_new]; omega, fun b hb => ?_⟩
  have hb2 : ¬ b = xsz h' := by omega
  rw [xcls_new, if_neg hb2, xlen_new, if_neg hb2]
  exact ⟨(q.2.2 b hb).1, (q.2.2 b hb).2.1, fun hn i => by rw [xval_new, if_neg hb2]; exact (q.2.2 b hb).2.2 hn i⟩
theorem xMod.cl (q : xMod S h h') (h0 : xcls h a ≠ 0) : xcls h' a = xcls h a := (q.2.2 a (xcls_lt' h0)).1
theorem xMod.ln (q : xMod S h h') (h0 : xcls h a ≠ 0) : xlen h' a = xlen h a := (q.2.2 a (xcls_lt' h0)).2.1
theorem xMod.vl (q : xMod S h h') (h0 : xcls h a ≠ 0) (hs : a ∉ S) (i : Nat) : xval h' a i = xval h a i := (q.2.2 a (xcls_lt' h0)).2.2 hs i
theorem xMod.cl' (q : xMod S h h') (e : xcls h a = c) (h0 : c ≠ 0) : xcls h' a = c := (q.cl (by rw [e]; exact h0)).trans e
theorem xMod.vl' (q : xMod S h h') (e : xcls h a = c) (h0 : c ≠ 0) (hs : a ∉ S) (ev : xval h a k = v) : xval h' a k = v := (q.vl (by rw [e]; exact h0) hs k).trans ev
theorem xExt.vl (q : xExt h h') (h0 : xcls h a ≠ 0) (i : Nat) : xval h' a i = xval h a i := (q.2.2 a (xcls_lt' h0)).2.2 (fun z => by cases z) i
/-- a new cell isn't an old one -/
theorem xne_new (h0 : xcls h a ≠ 0) (e : b = xsz h) : ¬ a = b := fun z => absurd (xcls_lt' h0) (by rw [z, e]; exact Nat.lt_irrefl _)
theorem xne_cls {c c' : Nat} (h1 : xcls h a = c) (h2 : xcls h b = c') (hn : c ≠ c') : ¬ a = b := fun z => hn (h1.symm.trans (by rw [z]; exact h2))
end XMOD
/-! ints of integers -/
def iI (z : Int) : Int32 := Int32.ofInt z
theorem iI_n (n : Nat) : iI (n : Int) = nI n := rfl
theorem iI_add (a b : Int) : iI a + iI b = iI (a + b) := (Int32.ofInt_add a b).symm
theorem iI_sub (a b : Int) : iI a - iI b = iI (a - b) := (Int32.ofInt_sub a b).symm
theorem iI_mul (a b : Int) : iI a * iI b = iI (a * b) := (Int32.ofInt_mul a b).symm
theorem iI_toInt {a : Int} (h1 : -2147483648 ≤ a) (h2 : a < 2147483648) : (iI a).toInt = a := Int32.toInt_ofInt_of_le (by simpa using h1) (by simpa using h2)
theorem iI_lt {a b : Int} (h1 : -2147483648 ≤ a) (h2 : a < 2147483648) (h3 : -2147483648 ≤ b) (h4 : b < 2147483648) : iI a < iI b ↔ a < b := by
  rw [Int32.lt_iff_toInt_lt, iI_toInt h1 h2, iI_toInt h3 h4]
theorem iI_le {a b : Int} (h1 : -2147483648 ≤ a) (h2 : a < 2147483648) (h3 : -2147483648 ≤ b) (h4 : b < 2147483648) : iI a ≤ iI b ↔ a ≤ b := by
  rw [Int32.le_iff_toInt_le, iI_toInt h1 h2, iI_toInt h3 h4]
theorem iI_eq {a b : Int} (h1 : -2147483648 ≤ a) (h2 : a < 2147483648) (h3 : -2147483648 ≤ b) (h4 : b < 2147483648) : iI a = iI b ↔ a = b := by
  rw [← Int32.toInt_inj, iI_toInt h1 h2, iI_toInt h3 h4]
theorem iI_of (x : Int32) : x = iI x.toInt := by
  unfold iI
  exact (Int32.ofInt_toInt x).symm
theorem iI_div {a b : Int} (h1 : 0 ≤ a) (h2 : a < 2147483648) (h3 : 0 < b) (h4 : b < 2147483648) : iI a / iI b = iI (a / b) := by
  rw [← Int32.toInt_inj, Int32.toInt_div_of_ne_left, iI_toInt (by omega) h2, iI_toInt (by omega) h4, Int.tdiv_eq_ediv_of_nonneg h1]
  · have h5 : 0 ≤ a / b := Int.ediv_nonneg h1 (by omega)
    have h6 : a / b ≤ a := Int.ediv_le_self _ h1
    rw [iI_toInt (by omega) (by omega)]
  · intro z
    have z2 := congrArg Int32.toInt z
    rw [iI_toInt (by omega) h2] at z2
    have : Int32.minValue.toInt = -2147483648 := by decide
    omega

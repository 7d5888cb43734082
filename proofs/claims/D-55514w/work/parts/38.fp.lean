/-! quotients of small ints are numbers -/
def fpOk (f : FP.Core.Fmt) (d : FP.Core.Datum) : Prop := match d with | .nan => False | .inf _ => True | .fin _ c q => c < 2 * f.tails ∧ q ≤ f.qmax
def fpF (f : FP.Core.Fmt) : Prop := 2 ^ f.p = 2 * f.tails ∧ 0 < f.tails ∧ f.exps = 2 * f.emax + 2 ∧ f.qmin = 2 - (f.emax : Int) - (f.p : Int) ∧ f.qmax = (f.emax : Int) - (f.p : Int) + 1 ∧ 24 ≤ f.p ∧ f.p + 10 ≤ f.emax
theorem fpF64 : fpF FP.Core.b64 := by unfold fpF; decide
theorem fpF32 : fpF FP.Core.b32 := by unfold fpF; decide
theorem fp_asm {f : FP.Core.Fmt} {s : Bool} {e t : Nat} (he : e < f.exps) (ht : t < f.tails) : FP.Core.assemble f s e t % (f.exps * f.tails) = e * f.tails + t := by
  have h0 : FP.Core.assemble f s e t = (e * f.tails + t) + s.toNat * (f.exps * f.tails) := by
    unfold FP.Core.assemble
    rw [Nat.add_mul, Nat.mul_assoc]
    omega
  rw [h0, Nat.add_mul_mod_self_right]
  refine Nat.mod_eq_of_lt ?_
  have : (e + 1) * f.tails ≤ f.exps * f.tails := Nat.mul_le_mul_right _ he
  rw [Nat.add_mul] at this
  omega
theorem fp_enc {f : FP.Core.Fmt} (hf : fpF f) {d : FP.Core.Datum} (h : fpOk f d) : FP.Core.encode f d % (f.exps * f.tails) ≤ (f.exps - 1) * f.tails := by
  obtain ⟨f1, f2, f3, f4, f5, f6, f7⟩ := hf
  cases d with
  | nan => exact h.elim
  | inf s =>
    show FP.Core.assemble f s (f.exps - 1) 0 % _ ≤ _
    rw [fp_asm (by omega) f2]
    omega
  | fin s c q =>
    obtain ⟨h1, h2⟩ := h
    show (if c < f.tails then FP.Core.assemble f s 0 c else FP.Core.assemble f s ((q - f.qmin).toNat + 1) (c - f.tails)) % _ ≤ _
    by_cases hc : c < f.tails
    · rw [if_pos hc, fp_asm (by omega) hc]
      have : 1 * f.tails ≤ (f.exps - 1) * f.tails := Nat.mul_le_mul_right _ (by omega)
      omega
    · rw [if_neg hc, fp_asm (by omega) (by omega)]
      have : ((q - f.qmin).toNat + 1 + 1) * f.tails ≤ (f.exps - 1) * f.tails := Nat.mul_le_mul_right _ (by omega)
      rw [Nat.add_mul] at this
      omega
theorem fp_rr {f : FP.Core.Fmt} (hf : fpF f) (s : Bool) (n d : Nat) (e : Int) : fpOk f (FP.Core.roundRatio f s n d e) := by
  obtain ⟨f1, f2, f3, f4, f5, f6, f7⟩ := hf
  have bo : ∀ c q, c < 2 * f.tails → fpOk f (FP.Core.bound f s c q) := by
    intro c q hc
    unfold FP.Core.bound
    by_cases hq : q ≤ f.qmax
    · rw [if_pos hq]; exact ⟨hc, hq⟩
    · rw [if_neg hq]; trivial
  unfold FP.Core.roundRatio
  by_cases hn : n = 0
  · rw [if_pos hn]
    exact ⟨by omega, by omega⟩
  · rw [if_neg hn]
    unfold FP.Core.roundAt FP.Core.settle
    split
    · exact bo _ _ (by omega)
    · exact bo _ _ (by omega)
/-- an int below 2^24 stays a number -/
theorem fp_int {f : FP.Core.Fmt} (hf : fpF f) {i : Int} (hi : i.natAbs < 2 ^ 24) : ∃ s c q, FP.Core.round f (FP.Core.ofInt i) = .fin s c q ∧ c < 2 * f.tails ∧ q ≤ 1 ∧ f.qmin ≤ q ∧ (i ≠ 0 → c ≠ 0) := by
  obtain ⟨f1, f2, f3, f4, f5, f6, f7⟩ := hf
  show ∃ s c q, FP.Core.roundRatio f (decide (i < 0)) i.natAbs 1 0 = .fin s c q ∧ _
  unfold FP.Core.roundRatio
  by_cases h0 : i.natAbs = 0
  · rw [if_pos h0]
    exact ⟨_, 0, f.qmin, rfl, by omega, by omega, by omega, fun z => absurd (Int.natAbs_eq_zero.mp h0) z⟩
  · rw [if_neg h0]
    have hl : FP.Core.leading i.natAbs 1 ≤ 23 := by
      unfold FP.Core.leading
      have h1 : i.natAbs.log2 < 24 := (Nat.log2_lt h0).mpr hi
      have h2 : Nat.log2 1 = 0 := by decide
      rw [h2]
      simp only
      split <;> omega
    obtain ⟨q, hq⟩ : ∃ q, FP.Core.quantum f i.natAbs 1 0 = q := ⟨_, rfl⟩
    have hq1 : f.qmin ≤ q ∧ q ≤ 0 := by
      rw [← hq]
      unfold FP.Core.quantum
      omega
    rw [hq]
    unfold FP.Core.roundAt
    have e1 : FP.Core.unitsDen 1 0 q = 1 := by
      unfold FP.Core.unitsDen
      have : (q - 0).toNat = 0 := by omega
      rw [this]
    have e2 : FP.Core.unitsNum i.natAbs 0 q ≠ 0 := by
      unfold FP.Core.unitsNum
      have := Nat.two_pow_pos (0 - q).toNat
      exact Nat.mul_ne_zero h0 (by omega)
    obtain ⟨n, hn⟩ : ∃ n, FP.Core.unitsNum i.natAbs 0 q = n := ⟨_, rfl⟩
    rw [hn] at e2 ⊢
    have e3 : FP.Core.nearest n 1 = n := by
      unfold FP.Core.nearest
      rw [Nat.mod_one, if_pos (by decide), Nat.div_one]
    rw [e1, e3]
    unfold FP.Core.settle FP.Core.bound
    by_cases hc : n < 2 ^ f.p
    · rw [if_pos hc, if_pos (by omega)]
      exact ⟨_, n, q, rfl, by omega, by omega, by omega, fun _ => e2⟩
    · rw [if_neg hc, if_pos (by omega)]
      exact ⟨_, f.tails, q + 1, rfl, by omega, by omega, by omega, fun _ => by omega⟩
theorem fp_dec {f : FP.Core.Fmt} (hf : fpF f) {s : Bool} {c : Nat} {q : Int} (hc : c < 2 * f.tails) (h1 : q ≤ 1) (h2 : f.qmin ≤ q) : ∃ s' c' q', FP.Core.decode f (FP.Core.encode f (.fin s c q)) = .fin s' c' q' ∧ (c ≠ 0 → c' ≠ 0) := by
  obtain ⟨f1, f2, f3, f4, f5, f6, f7⟩ := hf
  have fe : ∀ e t, e < f.exps → t < f.tails → FP.Core.fieldE f (FP.Core.assemble f s e t) = e ∧ FP.Core.fieldT f (FP.Core.assemble f s e t) = t := by
    intro e t he ht
    unfold FP.Core.fieldE FP.Core.fieldT FP.Core.assemble
    constructor
    · rw [Nat.mul_comm, Nat.mul_add_div f2, Nat.div_eq_of_lt ht, Nat.add_zero, Nat.mul_comm, Nat.mul_add_mod, Nat.mod_eq_of_lt he]
    · rw [Nat.mul_comm, Nat.mul_add_mod, Nat.mod_eq_of_lt ht]
  have en : FP.Core.encode f (.fin s c q) = (if c < f.tails then FP.Core.assemble f s 0 c else FP.Core.assemble f s ((q - f.qmin).toNat + 1) (c - f.tails)) := rfl
  rw [en]
  by_cases ht : c < f.tails
  · rw [if_pos ht]
    obtain ⟨e1, e2⟩ := fe 0 c (by omega) ht
    unfold FP.Core.decode
    rw [e1, e2, if_neg (by omega), if_pos rfl]
    exact ⟨_, c, _, rfl, fun z => z⟩
  · rw [if_neg ht]
    obtain ⟨e1, e2⟩ := fe ((q - f.qmin).toNat + 1) (c - f.tails) (by omega) (by omega)
    unfold FP.Core.decode
    rw [e1, e2, if_neg (by omega), if_neg (by omega)]
    exact ⟨_, _, _, rfl, fun _ => by omega⟩
theorem fp_div {f : FP.Core.Fmt} (hf : fpF f) {a b : Int} (ha : a.natAbs < 2 ^ 24) (hb : b.natAbs < 2 ^ 24) (h0 : b ≠ 0) : FP.Core.div f (FP.Core.fromInt f a) (FP.Core.fromInt f b) % (f.exps * f.tails) ≤ (f.exps - 1) * f.tails := by
  obtain ⟨s, c, q, e1, e2, e3, e4, e5⟩ := fp_int hf ha
  obtain ⟨s', c', q', e1', e2', e3', e4', e5'⟩ := fp_int hf hb
  obtain ⟨t, d, r, d1, d2⟩ := fp_dec hf (s := s) e2 e3 e4
  obtain ⟨t', d', r', d1', d2'⟩ := fp_dec hf (s := s') e2' e3' e4'
  unfold FP.Core.div FP.Core.fromInt
  rw [e1, e1', d1, d1']
  refine fp_enc hf ?_
  show fpOk f (if d' = 0 then _ else FP.Core.roundRatio f (t != t') d d' (r - r'))
  rw [if_neg (d2' (e5' h0))]
  exact fp_rr hf _ _ _ _
theorem fp_lt {f : FP.Core.Fmt} (hf : fpF f) {d : FP.Core.Datum} (h : fpOk f d) : FP.Core.encode f d < 2 * (f.exps * f.tails) := by
  obtain ⟨f1, f2, f3, f4, f5, f6, f7⟩ := hf
  have al : ∀ (s : Bool) e t, e < f.exps → t < f.tails → FP.Core.assemble f s e t < 2 * (f.exps * f.tails) := by
    intro s e t he ht
    unfold FP.Core.assemble
    have hs : s.toNat ≤ 1 := by cases s <;> decide
    have h1 : s.toNat * f.exps ≤ 1 * f.exps := Nat.mul_le_mul_right _ hs
    have h2 : (s.toNat * f.exps + e + 1) * f.tails ≤ (2 * f.exps) * f.tails := Nat.mul_le_mul_right _ (by omega)
    rw [Nat.add_mul (s.toNat * f.exps + e) 1, Nat.mul_assoc 2] at h2
    omega
  cases d with
  | nan => exact h.elim
  | inf s => exact al s (f.exps - 1) 0 (by omega) f2
  | fin s c q =>
    obtain ⟨h1, h2⟩ := h
    show (if c < f.tails then FP.Core.assemble f s 0 c else FP.Core.assemble f s ((q - f.qmin).toNat + 1) (c - f.tails)) < _
    by_cases hc : c < f.tails
    · rw [if_pos hc]; exact al s 0 c (by omega) hc
    · rw [if_neg hc]; exact al s _ _ (by omega) (by omega)
theorem fp_intlt {f : FP.Core.Fmt} (hf : fpF f) (i : Int) : FP.Core.fromInt f i < 2 * (f.exps * f.tails) := fp_lt hf (fp_rr hf _ _ _ _)

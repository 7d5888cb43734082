/-! move, pass, hamlet, site as they are called (printed by mk87.py) -/
section XDG
variable {G : xG} {d k : Nat} {h h' h0 : xH} {T : Nat → xH → Nat → Prop} {S : List Nat} {x p N N0 i j c a b e r ka mm w m ll n al most dq da ip f dd kd t : Nat} {es hs ss hs' ss' ps ps' cs : List Nat} {W W' g X' Y' u : Nat → Int32} {nd y z v v0 x' y' z' w' mc : Int32} {s s' : xSt} {o : Option xSt} {bs bs' : List xSt} {ro : Option xRf} {rf : xRf} {Z : xZ} {Y : xM} {bo : Bool}
theorem X18_init_c {F : xH → Nat → Prop} (hd : 2 < d) (hc : xcls h t = 31) (hQ : ∀ h', xMod [t] h h' → xval h' t 0 = xr (some x) → xval h' t 1 = xi y → xval h' t 2 = xi z → F h' k) : xCall G d k mX18_init [xr (some t), xr (some x), xi y, xi z] h (xkV F T) := by
  refine xCall_of (d' := 2) hd (Nat.zero_le k) (vc_X18_init ⟨hc, fun h1 e1 => ⟨?_, fun h2 e2 => ⟨?_, fun h3 e3 => deed_init_c (by decide) ?_ fun h4 e4 => hQ h4 ?_ ?_ ?_ ?_⟩⟩⟩)
  · subst e1; simp (decide := true) only [true_and, and_true, and_self, exists_eq_left, exists_eq_left', forall_eq, forall_eq', Sum.inl.injEq, Sum.inr.injEq, Option.some.injEq, xcls_put, xlen_put, xval_put, xsz_put, xlo_put, xcls_new, xlen_new, xval_new, xsz_new, xlo_new, ↓reduceIte, reduceCtorEq, and_false, false_and, not_true_eq_false, not_false_eq_true, implies_true, forall_const, true_implies, false_implies, ne_eq, hc]
  · subst e2; subst e1; simp (decide := true) only [true_and, and_true, and_self, exists_eq_left, exists_eq_left', forall_eq, forall_eq', Sum.inl.injEq, Sum.inr.injEq, Option.some.injEq, xcls_put, xlen_put, xval_put, xsz_put, xlo_put, xcls_new, xlen_new, xval_new, xsz_new, xlo_new, ↓reduceIte, reduceCtorEq, and_false, false_and, not_true_eq_false, not_false_eq_true, implies_true, forall_const, true_implies, false_implies, ne_eq, hc]
  · subst e3; subst e2; subst e1; simp (decide := true) only [true_and, and_true, and_self, exists_eq_left, exists_eq_left', forall_eq, forall_eq', Sum.inl.injEq, Sum.inr.injEq, Option.some.injEq, xcls_put, xlen_put, xval_put, xsz_put, xlo_put, xcls_new, xlen_new, xval_new, xsz_new, xlo_new, ↓reduceIte, reduceCtorEq, and_false, false_and, not_true_eq_false, not_false_eq_true, implies_true, forall_const, true_implies, false_implies, ne_eq, hc, okD]
  · subst e4; subst e3; subst e2; subst e1
    exact (((xMod.rf.put (Or.inl (by simp))).put (Or.inl (by simp))).put (Or.inl (by simp))).put (Or.inl (by simp))
  · subst e4; subst e3; subst e2; subst e1; (simp (decide := true) only [true_and, and_true, and_self, exists_eq_left, exists_eq_left', forall_eq, forall_eq', Sum.inl.injEq, Sum.inr.injEq, Option.some.injEq, xcls_put, xlen_put, xval_put, xsz_put, xlo_put, xcls_new, xlen_new, xval_new, xsz_new, xlo_new, ↓reduceIte, reduceCtorEq, and_false, false_and, not_true_eq_false, not_false_eq_true, implies_true, forall_const, true_implies, false_implies, ne_eq, hc] <;> rfl)
  · subst e4; subst e3; subst e2; subst e1; (simp (decide := true) only [true_and, and_true, and_self, exists_eq_left, exists_eq_left', forall_eq, forall_eq', Sum.inl.injEq, Sum.inr.injEq, Option.some.injEq, xcls_put, xlen_put, xval_put, xsz_put, xlo_put, xcls_new, xlen_new, xval_new, xsz_new, xlo_new, ↓reduceIte, reduceCtorEq, and_false, false_and, not_true_eq_false, not_false_eq_true, implies_true, forall_const, true_implies, false_implies, ne_eq, hc] <;> rfl)
  · subst e4; subst e3; subst e2; subst e1; (simp (decide := true) only [true_and, and_true, and_self, exists_eq_left, exists_eq_left', forall_eq, forall_eq', Sum.inl.injEq, Sum.inr.injEq, Option.some.injEq, xcls_put, xlen_put, xval_put, xsz_put, xlo_put, xcls_new, xlen_new, xval_new, xsz_new, xlo_new, ↓reduceIte, reduceCtorEq, and_false, false_and, not_true_eq_false, not_false_eq_true, implies_true, forall_const, true_implies, false_implies, ne_eq, hc] <;> rfl)
theorem X19_init_c {F : xH → Nat → Prop} (hd : 2 < d) (hc : xcls h t = 32) (hQ : ∀ h', xMod [t] h h' → xval h' t 0 = xr (some x) → xval h' t 1 = xi y → F h' k) : xCall G d k mX19_init [xr (some t), xr (some x), xi y] h (xkV F T) := by
  refine xCall_of (d' := 2) hd (Nat.zero_le k) (vc_X19_init ⟨hc, fun h1 e1 => ⟨?_, fun h2 e2 => deed_init_c (by decide) ?_ fun h3 e3 => hQ h3 ?_ ?_ ?_⟩⟩)
  · subst e1; simp (decide := true) only [true_and, and_true, and_self, exists_eq_left, exists_eq_left', forall_eq, forall_eq', Sum.inl.injEq, Sum.inr.injEq, Option.some.injEq, xcls_put, xlen_put, xval_put, xsz_put, xlo_put, xcls_new, xlen_new, xval_new, xsz_new, xlo_new, ↓reduceIte, reduceCtorEq, and_false, false_and, not_true_eq_false, not_false_eq_true, implies_true, forall_const, true_implies, false_implies, ne_eq, hc]
  · subst e2; subst e1; simp (decide := true) only [true_and, and_true, and_self, exists_eq_left, exists_eq_left', forall_eq, forall_eq', Sum.inl.injEq, Sum.inr.injEq, Option.some.injEq, xcls_put, xlen_put, xval_put, xsz_put, xlo_put, xcls_new, xlen_new, xval_new, xsz_new, xlo_new, ↓reduceIte, reduceCtorEq, and_false, false_and, not_true_eq_false, not_false_eq_true, implies_true, forall_const, true_implies, false_implies, ne_eq, hc, okD]
  · subst e3; subst e2; subst e1
    exact ((xMod.rf.put (Or.inl (by simp))).put (Or.inl (by simp))).put (Or.inl (by simp))
  · subst e3; subst e2; subst e1; (simp (decide := true) only [true_and, and_true, and_self, exists_eq_left, exists_eq_left', forall_eq, forall_eq', Sum.inl.injEq, Sum.inr.injEq, Option.some.injEq, xcls_put, xlen_put, xval_put, xsz_put, xlo_put, xcls_new, xlen_new, xval_new, xsz_new, xlo_new, ↓reduceIte, reduceCtorEq, and_false, false_and, not_true_eq_false, not_false_eq_true, implies_true, forall_const, true_implies, false_implies, ne_eq, hc] <;> rfl)
  · subst e3; subst e2; subst e1; (simp (decide := true) only [true_and, and_true, and_self, exists_eq_left, exists_eq_left', forall_eq, forall_eq', Sum.inl.injEq, Sum.inr.injEq, Option.some.injEq, xcls_put, xlen_put, xval_put, xsz_put, xlo_put, xcls_new, xlen_new, xval_new, xsz_new, xlo_new, ↓reduceIte, reduceCtorEq, and_false, false_and, not_true_eq_false, not_false_eq_true, implies_true, forall_const, true_implies, false_implies, ne_eq, hc] <;> rfl)
theorem X5_init_c {F : xH → Nat → Prop} (hd : 2 < d) (hc : xcls h t = 7) (hQ : ∀ h', xMod [t] h h' → xval h' t 0 = xr (some x) → xval h' t 1 = xi y → xval h' t 2 = xi z → xval h' t 3 = xi z' → F h' k) : xCall G d k mX5_init [xr (some t), xr (some x), xi y, xi z, xi z'] h (xkV F T) := by
  refine xCall_of (d' := 2) hd (Nat.zero_le k) (vc_X5_init ⟨hc, fun h1 e1 => ⟨?_, fun h2 e2 => ⟨?_, fun h3 e3 => ⟨?_, fun h4 e4 => deed_init_c (by decide) ?_ fun h5 e5 => hQ h5 ?_ ?_ ?_ ?_ ?_⟩⟩⟩⟩)
  · subst e1; simp (decide := true) only [true_and, and_true, and_self, exists_eq_left, exists_eq_left', forall_eq, forall_eq', Sum.inl.injEq, Sum.inr.injEq, Option.some.injEq, xcls_put, xlen_put, xval_put, xsz_put, xlo_put, xcls_new, xlen_new, xval_new, xsz_new, xlo_new, ↓reduceIte, reduceCtorEq, and_false, false_and, not_true_eq_false, not_false_eq_true, implies_true, forall_const, true_implies, false_implies, ne_eq, hc]
  · subst e2; subst e1; simp (decide := true) only [true_and, and_true, and_self, exists_eq_left, exists_eq_left', forall_eq, forall_eq', Sum.inl.injEq, Sum.inr.injEq, Option.some.injEq, xcls_put, xlen_put, xval_put, xsz_put, xlo_put, xcls_new, xlen_new, xval_new, xsz_new, xlo_new, ↓reduceIte, reduceCtorEq, and_false, false_and, not_true_eq_false, not_false_eq_true, implies_true, forall_const, true_implies, false_implies, ne_eq, hc]
  · subst e3; subst e2; subst e1; simp (decide := true) only [true_and, and_true, and_self, exists_eq_left, exists_eq_left', forall_eq, forall_eq', Sum.inl.injEq, Sum.inr.injEq, Option.some.injEq, xcls_put, xlen_put, xval_put, xsz_put, xlo_put, xcls_new, xlen_new, xval_new, xsz_new, xlo_new, ↓reduceIte, reduceCtorEq, and_false, false_and, not_true_eq_false, not_false_eq_true, implies_true, forall_const, true_implies, false_implies, ne_eq, hc]
  · subst e4; subst e3; subst e2; subst e1; simp (decide := true) only [true_and, and_true, and_self, exists_eq_left, exists_eq_left', forall_eq, forall_eq', Sum.inl.injEq, Sum.inr.injEq, Option.some.injEq, xcls_put, xlen_put, xval_put, xsz_put, xlo_put, xcls_new, xlen_new, xval_new, xsz_new, xlo_new, ↓reduceIte, reduceCtorEq, and_false, false_and, not_true_eq_false, not_false_eq_true, implies_true, forall_const, true_implies, false_implies, ne_eq, hc, okD]
  · subst e5; subst e4; subst e3; subst e2; subst e1
    exact ((((xMod.rf.put (Or.inl (by simp))).put (Or.inl (by simp))).put (Or.inl (by simp))).put (Or.inl (by simp))).put (Or.inl (by simp))
  · subst e5; subst e4; subst e3; subst e2; subst e1; (simp (decide := true) only [true_and, and_true, and_self, exists_eq_left, exists_eq_left', forall_eq, forall_eq', Sum.inl.injEq, Sum.inr.injEq, Option.some.injEq, xcls_put, xlen_put, xval_put, xsz_put, xlo_put, xcls_new, xlen_new, xval_new, xsz_new, xlo_new, ↓reduceIte, reduceCtorEq, and_false, false_and, not_true_eq_false, not_false_eq_true, implies_true, forall_const, true_implies, false_implies, ne_eq, hc] <;> rfl)
  · subst e5; subst e4; subst e3; subst e2; subst e1; (simp (decide := true) only [true_and, and_true, and_self, exists_eq_left, exists_eq_left', forall_eq, forall_eq', Sum.inl.injEq, Sum.inr.injEq, Option.some.injEq, xcls_put, xlen_put, xval_put, xsz_put, xlo_put, xcls_new, xlen_new, xval_new, xsz_new, xlo_new, ↓reduceIte, reduceCtorEq, and_false, false_and, not_true_eq_false, not_false_eq_true, implies_true, forall_const, true_implies, false_implies, ne_eq, hc] <;> rfl)
  · subst e5; subst e4; subst e3; subst e2; subst e1; (simp (decide := true) only [true_and, and_true, and_self, exists_eq_left, exists_eq_left', forall_eq, forall_eq', Sum.inl.injEq, Sum.inr.injEq, Option.some.injEq, xcls_put, xlen_put, xval_put, xsz_put, xlo_put, xcls_new, xlen_new, xval_new, xsz_new, xlo_new, ↓reduceIte, reduceCtorEq, and_false, false_and, not_true_eq_false, not_false_eq_true, implies_true, forall_const, true_implies, false_implies, ne_eq, hc] <;> rfl)
  · subst e5; subst e4; subst e3; subst e2; subst e1; (simp (decide := true) only [true_and, and_true, and_self, exists_eq_left, exists_eq_left', forall_eq, forall_eq', Sum.inl.injEq, Sum.inr.injEq, Option.some.injEq, xcls_put, xlen_put, xval_put, xsz_put, xlo_put, xcls_new, xlen_new, xval_new, xsz_new, xlo_new, ↓reduceIte, reduceCtorEq, and_false, false_and, not_true_eq_false, not_false_eq_true, implies_true, forall_const, true_implies, false_implies, ne_eq, hc] <;> rfl)
theorem X13_init_c {F : xH → Nat → Prop} (hd : 2 < d) (hc : xcls h t = 26) (hQ : ∀ h', xMod [t] h h' → xval h' t 0 = xr (some x) → xval h' t 1 = xi y → xval h' t 2 = xi z → xval h' t 3 = xi z' → xval h' t 4 = xi w' → F h' k) : xCall G d k mX13_init [xr (some t), xr (some x), xi y, xi z, xi z', xi w'] h (xkV F T) := by
  refine xCall_of (d' := 2) hd (Nat.zero_le k) (vc_X13_init ⟨hc, fun h1 e1 => ⟨?_, fun h2 e2 => ⟨?_, fun h3 e3 => ⟨?_, fun h4 e4 => ⟨?_, fun h5 e5 => deed_init_c (by decide) ?_ fun h6 e6 => hQ h6 ?_ ?_ ?_ ?_ ?_ ?_⟩⟩⟩⟩⟩)
  · subst e1; simp (decide := true) only [true_and, and_true, and_self, exists_eq_left, exists_eq_left', forall_eq, forall_eq', Sum.inl.injEq, Sum.inr.injEq, Option.some.injEq, xcls_put, xlen_put, xval_put, xsz_put, xlo_put, xcls_new, xlen_new, xval_new, xsz_new, xlo_new, ↓reduceIte, reduceCtorEq, and_false, false_and, not_true_eq_false, not_false_eq_true, implies_true, forall_const, true_implies, false_implies, ne_eq, hc]
  · subst e2; subst e1; simp (decide := true) only [true_and, and_true, and_self, exists_eq_left, exists_eq_left', forall_eq, forall_eq', Sum.inl.injEq, Sum.inr.injEq, Option.some.injEq, xcls_put, xlen_put, xval_put, xsz_put, xlo_put, xcls_new, xlen_new, xval_new, xsz_new, xlo_new, ↓reduceIte, reduceCtorEq, and_false, false_and, not_true_eq_false, not_false_eq_true, implies_true, forall_const, true_implies, false_implies, ne_eq, hc]
  · subst e3; subst e2; subst e1; simp (decide := true) only [true_and, and_true, and_self, exists_eq_left, exists_eq_left', forall_eq, forall_eq', Sum.inl.injEq, Sum.inr.injEq, Option.some.injEq, xcls_put, xlen_put, xval_put, xsz_put, xlo_put, xcls_new, xlen_new, xval_new, xsz_new, xlo_new, ↓reduceIte, reduceCtorEq, and_false, false_and, not_true_eq_false, not_false_eq_true, implies_true, forall_const, true_implies, false_implies, ne_eq, hc]
  · subst e4; subst e3; subst e2; subst e1; simp (decide := true) only [true_and, and_true, and_self, exists_eq_left, exists_eq_left', forall_eq, forall_eq', Sum.inl.injEq, Sum.inr.injEq, Option.some.injEq, xcls_put, xlen_put, xval_put, xsz_put, xlo_put, xcls_new, xlen_new, xval_new, xsz_new, xlo_new, ↓reduceIte, reduceCtorEq, and_false, false_and, not_true_eq_false, not_false_eq_true, implies_true, forall_const, true_implies, false_implies, ne_eq, hc]
  · subst e5; subst e4; subst e3; subst e2; subst e1; simp (decide := true) only [true_and, and_true, and_self, exists_eq_left, exists_eq_left', forall_eq, forall_eq', Sum.inl.injEq, Sum.inr.injEq, Option.some.injEq, xcls_put, xlen_put, xval_put, xsz_put, xlo_put, xcls_new, xlen_new, xval_new, xsz_new, xlo_new, ↓reduceIte, reduceCtorEq, and_false, false_and, not_true_eq_false, not_false_eq_true, implies_true, forall_const, true_implies, false_implies, ne_eq, hc, okD]
  · subst e6; subst e5; subst e4; subst e3; subst e2; subst e1
    exact (((((xMod.rf.put (Or.inl (by simp))).put (Or.inl (by simp))).put (Or.inl (by simp))).put (Or.inl (by simp))).put (Or.inl (by simp))).put (Or.inl (by simp))
  · subst e6; subst e5; subst e4; subst e3; subst e2; subst e1; (simp (decide := true) only [true_and, and_true, and_self, exists_eq_left, exists_eq_left', forall_eq, forall_eq', Sum.inl.injEq, Sum.inr.injEq, Option.some.injEq, xcls_put, xlen_put, xval_put, xsz_put, xlo_put, xcls_new, xlen_new, xval_new, xsz_new, xlo_new, ↓reduceIte, reduceCtorEq, and_false, false_and, not_true_eq_false, not_false_eq_true, implies_true, forall_const, true_implies, false_implies, ne_eq, hc] <;> rfl)
  · subst e6; subst e5; subst e4; subst e3; subst e2; subst e1; (simp (decide := true) only [true_and, and_true, and_self, exists_eq_left, exists_eq_left', forall_eq, forall_eq', Sum.inl.injEq, Sum.inr.injEq, Option.some.injEq, xcls_put, xlen_put, xval_put, xsz_put, xlo_put, xcls_new, xlen_new, xval_new, xsz_new, xlo_new, ↓reduceIte, reduceCtorEq, and_false, false_and, not_true_eq_false, not_false_eq_true, implies_true, forall_const, true_implies, false_implies, ne_eq, hc] <;> rfl)
  · subst e6; subst e5; subst e4; subst e3; subst e2; subst e1; (simp (decide := true) only [true_and, and_true, and_self, exists_eq_left, exists_eq_left', forall_eq, forall_eq', Sum.inl.injEq, Sum.inr.injEq, Option.some.injEq, xcls_put, xlen_put, xval_put, xsz_put, xlo_put, xcls_new, xlen_new, xval_new, xsz_new, xlo_new, ↓reduceIte, reduceCtorEq, and_false, false_and, not_true_eq_false, not_false_eq_true, implies_true, forall_const, true_implies, false_implies, ne_eq, hc] <;> rfl)
  · subst e6; subst e5; subst e4; subst e3; subst e2; subst e1; (simp (decide := true) only [true_and, and_true, and_self, exists_eq_left, exists_eq_left', forall_eq, forall_eq', Sum.inl.injEq, Sum.inr.injEq, Option.some.injEq, xcls_put, xlen_put, xval_put, xsz_put, xlo_put, xcls_new, xlen_new, xval_new, xsz_new, xlo_new, ↓reduceIte, reduceCtorEq, and_false, false_and, not_true_eq_false, not_false_eq_true, implies_true, forall_const, true_implies, false_implies, ne_eq, hc] <;> rfl)
  · subst e6; subst e5; subst e4; subst e3; subst e2; subst e1; (simp (decide := true) only [true_and, and_true, and_self, exists_eq_left, exists_eq_left', forall_eq, forall_eq', Sum.inl.injEq, Sum.inr.injEq, Option.some.injEq, xcls_put, xlen_put, xval_put, xsz_put, xlo_put, xcls_new, xlen_new, xval_new, xsz_new, xlo_new, ↓reduceIte, reduceCtorEq, and_false, false_and, not_true_eq_false, not_false_eq_true, implies_true, forall_const, true_implies, false_implies, ne_eq, hc] <;> rfl)
theorem isPlace_c {F : Int32 → xH → Nat → Prop} (hd : 2 < d) (hQ : F (xb (pPlace y z)) h k) : xCall G d k mX0_isPlace [xi y, xi z] h (xkI F T) := by
  unfold pPlace at hQ
  refine xCall_of (d' := 2) hd (Nat.zero_le k) (vc_X0_isPlace (in_c (by decide) ⟨fun u => ?_, fun u => in_c (by decide) ⟨fun v => ?_, fun v => ?_⟩⟩))
  · rw [xb0.mp u] at hQ; exact hQ
  · rw [xb1.mp u, xb0.mp v] at hQ; exact hQ
  · rw [xb1.mp u, xb1.mp v] at hQ; exact hQ
theorem isSite_c {F : Int32 → xH → Nat → Prop} (hd : 2 < d) (hQ : F (xb (pIn y 1 40 && pIn z 0 99)) h k) : xCall G d k mX0_isSite [xi y, xi z] h (xkI F T) := by
  refine xCall_of (d' := 2) hd (Nat.zero_le k) (vc_X0_isSite (in_c (by decide) ⟨fun u => ?_, fun u => in_c (by decide) ⟨fun v => ?_, fun v => ?_⟩⟩))
  · rw [xb0.mp u] at hQ; exact hQ
  · rw [xb1.mp u, xb0.mp v] at hQ; exact hQ
  · rw [xb1.mp u, xb1.mp v] at hQ; exact hQ
theorem arePeople_c {F : Int32 → xH → Nat → Prop} (hd : 2 < d) (hQ : F (xb (pIn y 1 20)) h k) : xCall G d k mX0_arePeople [xi y] h (xkI F T) :=
  xCall_of (d' := 2) hd (Nat.zero_le k) (vc_X0_arePeople (in_c (by decide) ⟨xb_01 _, hQ⟩))
theorem areDays_c {F : Int32 → xH → Nat → Prop} (hd : 2 < d) (hQ : F (xb (pIn y 1 30)) h k) : xCall G d k mX0_areDays [xi y] h (xkI F T) :=
  xCall_of (d' := 2) hd (Nat.zero_le k) (vc_X0_areDays (in_c (by decide) ⟨xb_01 _, hQ⟩))
theorem xmove_c {F : Int32 → xH → Nat → Prop} (hd : 17 < d) (hk : 375 ≤ k) (gl : gL G h) (gk : gK G) (q : isX G h x dq da ip Z) (X : wG Z.1.1)
    (h1 : ∀ s s2, y = nI s → z = nI s2 → s < nS Z.1.1 → s2 < nS Z.1.1 → pNotMove Z.1.1 y z = (0, none) → ∀ h', xMod [x, dq, da, ip] h h' → isX G h' x dq da ip (didX Z (pMoves Z.1.1 s s2, Z.1.2)) → F (pToll Z.1.1 s s2) h' (k - 375))
    (h2 : (pNotMove Z.1.1 y z).1 ≠ 0 → ∀ h', xMod [x, dq, da, ip] h h' → isX G h' x dq da ip (refX Z (pNotMove Z.1.1 y z).2) → F (pNotMove Z.1.1 y z).1 h' (k - 375)) : xCall G d k mX0_move [xr (some x), xi y, xi z] h (xkI F T) := by
  refine xCall_of (d' := 17) hd hk (vc_X0_move ⟨by decide, fun h1' t ea eh => ?_⟩)
  have x1 : xExt h h1' := eh ▸ xMod.rf.new
  have c1 : xcls h1' t = 31 := by subst eh; simp (decide := true) only [true_and, and_true, and_self, exists_eq_left, exists_eq_left', forall_eq, forall_eq', Sum.inl.injEq, Sum.inr.injEq, Option.some.injEq, xcls_put, xlen_put, xval_put, xsz_put, xlo_put, xcls_new, xlen_new, xval_new, xsz_new, xlo_new, ↓reduceIte, reduceCtorEq, and_false, false_and, not_true_eq_false, not_false_eq_true, implies_true, forall_const, true_implies, false_implies, ne_eq, ea]
  refine X18_init_c (by decide) c1 fun h3 m3 f0 f1 f2 => ?_
  have x3 : xExt h h3 := x1.tn m3 (fun y hy => Or.inr (by rw [List.mem_singleton.mp hy]; omega))
  have c3 : xcls h3 t = 31 := m3.cl' c1 (by decide)
  have q3 := q.ex x3
  refine X_now q3 fun p hs ss pr => pr_s pr fun r R _ => row_has_c (by decide) R ⟨fun u => ⟨c3, ?_⟩, fun u => X_now q3 fun p2 hs2 ss2 pr2 => pr_s pr2 fun r2 R2 _ => row_has_c (by decide) R2 ⟨fun w => ⟨c3, ?_⟩, fun w => ⟨c3, ?_⟩⟩⟩
  · have hb := xb0.mp u
    rw [← pr.ns] at hb
    have hO : pNotMove Z.1.1 y z = (-1, none) := by unfold pNotMove; rw [hb]; rfl
    exact deed_c (bo := false) (dd := 15) (kd := 54) (Y := mX18_does) (v := 0) (s' := Z.1) (O := pNotMove Z.1.1 y z) (by decide) (by decide) (by decide) (gl.md x3) q3 X (by rw [c3]; unfold okD; decide) f0 (by rw [c3]; simp [dsp_HamletWells_Deed_does]) (fun _ => hO) (by decide) (fun z => by cases z) (fun z => by rw [hO] at z; exact absurd (congrArg Prod.fst z) (by decide)) fun hn h' m q' => h2 hn h' ((xMod.of x3).tr m) q'
  · have hb := xb1.mp u
    have hb2 := xb0.mp w
    rw [← pr.ns] at hb
    rw [← pr2.ns] at hb2
    have hO : pNotMove Z.1.1 y z = (-1, none) := by unfold pNotMove; rw [hb, hb2]; rfl
    exact deed_c (bo := false) (dd := 15) (kd := 54) (Y := mX18_does) (v := 0) (s' := Z.1) (O := pNotMove Z.1.1 y z) (by decide) (by decide) (by decide) (gl.md x3) q3 X (by rw [c3]; unfold okD; decide) f0 (by rw [c3]; simp [dsp_HamletWells_Deed_does]) (fun _ => hO) (by decide) (fun z => by cases z) (fun z => by rw [hO] at z; exact absurd (congrArg Prod.fst z) (by decide)) fun hn h' m q' => h2 hn h' ((xMod.of x3).tr m) q'
  · have hb := xb1.mp u
    have hb2 := xb1.mp w
    rw [← pr.ns] at hb
    rw [← pr2.ns] at hb2
    have p4 := pr.pw.2.2.2
    obtain ⟨s, hs', rfl⟩ := (pHas_iff (by omega)).mp hb
    obtain ⟨s2, hs2, rfl⟩ := (pHas_iff (by omega)).mp hb2
    refine deed_c (bo := true) (dd := 15) (kd := 54) (Y := mX18_does) (v := pToll Z.1.1 s s2) (s' := (pMoves Z.1.1 s s2, Z.1.2)) (O := pNotMove Z.1.1 (nI s) (nI s2)) (by decide) (by decide) (by decide) (gl.md x3) q3 X (by rw [c3]; unfold okD; decide) f0 (by rw [c3]; simp [dsp_HamletWells_Deed_does]) (fun z => by cases z) (by decide) (fun _ h5 hs5 ss5 x5 q5 => ?_) (fun e h' m q' => h1 s s2 rfl rfl hs' hs2 e h' ((xMod.of x3).tr m) q') fun hn h' m q' => h2 hn h' ((xMod.of x3).tr m) q'
    exact xCall_of (d' := 14) (by decide) (Nat.le_refl _) (vc_X18_does ⟨x5.cl' c3 (by decide), _, x5.vl' c3 (by decide) (by simp) f1, x5.cl' c3 (by decide), _, x5.vl' c3 (by decide) (by simp) f2, _, rfl, q5.cl, moves_c (by decide) (by decide) gk q5 X hs' hs2 (fun e h' g q' => ⟨e, rfl, _, _, g, q'⟩) fun r dt e h' e' x' _ r' => ⟨r, dt, e, x', r'⟩⟩)
theorem xpass_c {F : Int32 → xH → Nat → Prop} (hd : 17 < d) (hk : 26270 ≤ k) (gl : gL G h) (q : isX G h x dq da ip Z) (X : wG Z.1.1)
    (h1 : ∀ n, y = nI n → 1 ≤ n → n ≤ 30 → ∀ h', xMod [x, dq, da, ip] h h' → isX G h' x dq da ip (didX Z ((cDays n (Z.1.1, Z.1.2, 0)).1, (cDays n (Z.1.1, Z.1.2, 0)).2.1)) → F (cDays n (Z.1.1, Z.1.2, 0)).2.2 h' (k - 26270))
    (h2' : pIn y 1 30 = false → ∀ h', xMod [x, dq, da, ip] h h' → isX G h' x dq da ip Z → F (-2) h' (k - 26270)) : xCall G d k mX0_pass [xr (some x), xi y] h (xkI F T) := by
  have h2 : (if pIn y 1 30 then ((0 : Int32), (none : Option (Int32 × Int32))) else (-2, none)).1 ≠ 0 → ∀ h', xMod [x, dq, da, ip] h h' → isX G h' x dq da ip (refX Z (if pIn y 1 30 then ((0 : Int32), (none : Option (Int32 × Int32))) else (-2, none)).2) → F (if pIn y 1 30 then ((0 : Int32), (none : Option (Int32 × Int32))) else (-2, none)).1 h' (k - 26270) := by
    cases hb : pIn y 1 30 with
    | true => exact fun z => absurd rfl z
    | false => exact fun _ h' m q' => h2' hb h' m q'
  refine xCall_of (d' := 17) hd hk (vc_X0_pass ⟨by decide, fun h1' t ea eh => ?_⟩)
  have x1 : xExt h h1' := eh ▸ xMod.rf.new
  have c1 : xcls h1' t = 32 := by subst eh; simp (decide := true) only [true_and, and_true, and_self, exists_eq_left, exists_eq_left', forall_eq, forall_eq', Sum.inl.injEq, Sum.inr.injEq, Option.some.injEq, xcls_put, xlen_put, xval_put, xsz_put, xlo_put, xcls_new, xlen_new, xval_new, xsz_new, xlo_new, ↓reduceIte, reduceCtorEq, and_false, false_and, not_true_eq_false, not_false_eq_true, implies_true, forall_const, true_implies, false_implies, ne_eq, ea]
  refine X19_init_c (by decide) c1 fun h3 m3 f0 f1 => ?_
  have x3 : xExt h h3 := x1.tn m3 (fun y hy => Or.inr (by rw [List.mem_singleton.mp hy]; omega))
  have c3 : xcls h3 t = 32 := m3.cl' c1 (by decide)
  have q3 := q.ex x3
  refine areDays_c (by decide) ⟨c3, ?_⟩
  cases hb : pIn y 1 30 with
  | false =>
    have hO : (if pIn y 1 30 then ((0 : Int32), (none : Option (Int32 × Int32))) else (-2, none)) = ((-2 : Int32), (none : Option (Int32 × Int32))) := by rw [hb]; rfl
    exact deed_c (bo := false) (dd := 15) (kd := 25950) (Y := mX19_does) (v := 0) (s' := Z.1) (O := if pIn y 1 30 then ((0 : Int32), (none : Option (Int32 × Int32))) else (-2, none)) (by decide) (by decide) (by decide) (gl.md x3) q3 X (by rw [c3]; unfold okD; decide) f0 (by rw [c3]; simp [dsp_HamletWells_Deed_does]) (fun _ => hO) (by decide) (fun z => by cases z) (fun z => by rw [hO] at z; exact absurd (congrArg Prod.fst z) (by decide)) fun hn h' m q' => h2 hn h' ((xMod.of x3).tr m) q'
  | true =>
    obtain ⟨n, hn, hn1, rfl⟩ := pIn_1 hb
    have hO : (if pIn (nI n) 1 30 then ((0 : Int32), (none : Option (Int32 × Int32))) else (-2, none)) = ((0 : Int32), (none : Option (Int32 × Int32))) := by rw [hb]; rfl
    refine deed_c (bo := true) (dd := 15) (kd := 25950) (Y := mX19_does) (v := (cDays n (Z.1.1, Z.1.2, 0)).2.2) (s' := ((cDays n (Z.1.1, Z.1.2, 0)).1, (cDays n (Z.1.1, Z.1.2, 0)).2.1)) (O := if pIn (nI n) 1 30 then ((0 : Int32), (none : Option (Int32 × Int32))) else (-2, none)) (by decide) (by decide) (by decide) (gl.md x3) q3 X (by rw [c3]; unfold okD; decide) f0 (by rw [c3]; simp [dsp_HamletWells_Deed_does]) (fun z => by cases z) (by decide) (fun _ h5 hs5 ss5 x5 q5 => ?_) (fun e h' m q' => h1 n rfl hn1 hn h' ((xMod.of x3).tr m) q') fun hn h' m q' => h2 hn h' ((xMod.of x3).tr m) q'
    refine xCall_of (d' := 14) (by decide) (Nat.le_refl _) (vc_X19_does ⟨x5.cl' c3 (by decide), _, x5.vl' c3 (by decide) (by simp) f1, _, rfl, q5.cl, goes_c (by decide) hn (by omega) q5 X fun h' m' q' => ⟨hO, rfl, _, _, xGr.of m' (fun y hy => ?_), q'⟩⟩)
    have hN := q5.hN
    rcases List.mem_cons.mp hy with e | e
    · omega
    · rcases List.mem_append.mp e with e | e
      · exact hN.2.1 y e
      · exact hN.2.2 y e
theorem xhamlet_c {F : Int32 → xH → Nat → Prop} (hd : 17 < d) (hk : 356 ≤ k) (gl : gL G h) (gk : gK G) (q : isX G h x dq da ip Z) (X : wG Z.1.1)
    (h1 : nH Z.1.1 < 8 → pNotHamlet Z.1.1 y z z' = (0, none) → ∀ h', xMod [x, dq, da, ip] h h' → isX G h' x dq da ip (didX Z (pTellsH Z.1.1 y z z', Z.1.2)) → F (nI (nH Z.1.1)) h' (k - 356))
    (h2 : (pNotHamlet Z.1.1 y z z').1 ≠ 0 → ∀ h', xMod [x, dq, da, ip] h h' → isX G h' x dq da ip (refX Z (pNotHamlet Z.1.1 y z z').2) → F (pNotHamlet Z.1.1 y z z').1 h' (k - 356)) : xCall G d k mX0_hamlet [xr (some x), xi y, xi z, xi z'] h (xkI F T) := by
  refine xCall_of (d' := 17) hd hk (vc_X0_hamlet ⟨by decide, fun h1' t ea eh => ?_⟩)
  have x1 : xExt h h1' := eh ▸ xMod.rf.new
  have c1 : xcls h1' t = 7 := by subst eh; simp (decide := true) only [true_and, and_true, and_self, exists_eq_left, exists_eq_left', forall_eq, forall_eq', Sum.inl.injEq, Sum.inr.injEq, Option.some.injEq, xcls_put, xlen_put, xval_put, xsz_put, xlo_put, xcls_new, xlen_new, xval_new, xsz_new, xlo_new, ↓reduceIte, reduceCtorEq, and_false, false_and, not_true_eq_false, not_false_eq_true, implies_true, forall_const, true_implies, false_implies, ne_eq, ea]
  refine X5_init_c (by decide) c1 fun h3 m3 f0 f1 f2 f3 => ?_
  have x3 : xExt h h3 := x1.tn m3 (fun y hy => Or.inr (by rw [List.mem_singleton.mp hy]; omega))
  have c3 : xcls h3 t = 7 := m3.cl' c1 (by decide)
  have q3 := q.ex x3
  refine isPlace_c (by decide) ⟨fun u => ⟨c3, ?_⟩, fun u => arePeople_c (by decide) ⟨fun w => ⟨c3, ?_⟩, fun w => ⟨c3, ?_⟩⟩⟩
  · have hO : pNotHamlet Z.1.1 y z z' = (-2, none) := by unfold pNotHamlet; rw [xb0.mp u]; rfl
    exact deed_c (bo := false) (dd := 15) (kd := 34) (Y := mX5_does) (v := 0) (s' := Z.1) (O := pNotHamlet Z.1.1 y z z') (by decide) (by decide) (by decide) (gl.md x3) q3 X (by rw [c3]; unfold okD; decide) f0 (by rw [c3]; simp [dsp_HamletWells_Deed_does]) (fun _ => hO) (by decide) (fun z => by cases z) (fun z => by rw [hO] at z; exact absurd (congrArg Prod.fst z) (by decide)) fun hn h' m q' => h2 hn h' ((xMod.of x3).tr m) q'
  · have hO : pNotHamlet Z.1.1 y z z' = (-2, none) := by unfold pNotHamlet; rw [xb1.mp u, xb0.mp w]; rfl
    exact deed_c (bo := false) (dd := 15) (kd := 34) (Y := mX5_does) (v := 0) (s' := Z.1) (O := pNotHamlet Z.1.1 y z z') (by decide) (by decide) (by decide) (gl.md x3) q3 X (by rw [c3]; unfold okD; decide) f0 (by rw [c3]; simp [dsp_HamletWells_Deed_does]) (fun _ => hO) (by decide) (fun z => by cases z) (fun z => by rw [hO] at z; exact absurd (congrArg Prod.fst z) (by decide)) fun hn h' m q' => h2 hn h' ((xMod.of x3).tr m) q'
  · have hO : pNotHamlet Z.1.1 y z z' = if nH Z.1.1 = 8 then ((-5 : Int32), some ((1 : Int32), (8 : Int32))) else match pHamletAt Z.1.1 y z with | none => (0, none) | some a => (-5, some (2, nI a)) := by unfold pNotHamlet; rw [xb1.mp u, xb1.mp w]; rfl
    have hlt : ∀ {A : Prop}, A → pNotHamlet Z.1.1 y z z' = (0, none) → nH Z.1.1 < 8 := fun _ e => by
      have := q.nw
      obtain ⟨p, hs, ss, q'⟩ := this
      have := q'.pr.pw.2.1
      by_cases h8 : nH Z.1.1 = 8
      · rw [hO, if_pos h8] at e
        exact absurd (congrArg Prod.fst e) (by decide)
      · omega
    refine deed_c (bo := true) (dd := 15) (kd := 34) (Y := mX5_does) (v := nI (nH Z.1.1)) (s' := (pTellsH Z.1.1 y z z', Z.1.2)) (O := pNotHamlet Z.1.1 y z z') (by decide) (by decide) (by decide) (gl.md x3) q3 X (by rw [c3]; unfold okD; decide) f0 (by rw [c3]; simp [dsp_HamletWells_Deed_does]) (fun z => by cases z) (by decide) (fun _ h5 hs5 ss5 x5 q5 => ?_) (fun e h' m q' => h1 (hlt e e) e h' ((xMod.of x3).tr m) q') fun hn h' m q' => h2 hn h' ((xMod.of x3).tr m) q'
    have hN5 := xcls_lt' (h := h5) (a := xsz h3) (by rw [q5.cl]; decide)
    exact xCall_of (d' := 14) (by decide) (Nat.le_refl _) (vc_X5_does ⟨x5.cl' c3 (by decide), _, x5.vl' c3 (by decide) (by simp) f1, x5.cl' c3 (by decide), _, x5.vl' c3 (by decide) (by simp) f2, x5.cl' c3 (by decide), _, x5.vl' c3 (by decide) (by simp) f3, _, rfl, q5.cl, phamlet_c (by decide) (by decide) gk q5 (by omega) (fun h8 hat h' hs' g q' => ⟨by rw [hO, if_neg (by omega), hat], rfl, _, _, g, q'⟩) (fun h8 h' e' x' _ r' => ⟨1, 8, by rw [hO, if_pos h8], x', r'⟩) fun h8 t' hat h' e' x' _ r' => ⟨2, nI t', by rw [hO, if_neg (by omega), hat], x', r'⟩⟩)
theorem xsite_c {F : Int32 → xH → Nat → Prop} (hd : 17 < d) (hk : 359 ≤ k) (gl : gL G h) (gk : gK G) (q : isX G h x dq da ip Z) (X : wG Z.1.1)
    (h1 : nS Z.1.1 < 6 → pNotSite Z.1.1 y z z' w' = (0, none) → ∀ h', xMod [x, dq, da, ip] h h' → isX G h' x dq da ip (didX Z (pTellsS Z.1.1 y z z' w', Z.1.2)) → F (nI (nS Z.1.1)) h' (k - 359))
    (h2 : (pNotSite Z.1.1 y z z' w').1 ≠ 0 → ∀ h', xMod [x, dq, da, ip] h h' → isX G h' x dq da ip (refX Z (pNotSite Z.1.1 y z z' w').2) → F (pNotSite Z.1.1 y z z' w').1 h' (k - 359)) : xCall G d k mX0_site [xr (some x), xi y, xi z, xi z', xi w'] h (xkI F T) := by
  refine xCall_of (d' := 17) hd hk (vc_X0_site ⟨by decide, fun h1' t ea eh => ?_⟩)
  have x1 : xExt h h1' := eh ▸ xMod.rf.new
  have c1 : xcls h1' t = 26 := by subst eh; simp (decide := true) only [true_and, and_true, and_self, exists_eq_left, exists_eq_left', forall_eq, forall_eq', Sum.inl.injEq, Sum.inr.injEq, Option.some.injEq, xcls_put, xlen_put, xval_put, xsz_put, xlo_put, xcls_new, xlen_new, xval_new, xsz_new, xlo_new, ↓reduceIte, reduceCtorEq, and_false, false_and, not_true_eq_false, not_false_eq_true, implies_true, forall_const, true_implies, false_implies, ne_eq, ea]
  refine X13_init_c (by decide) c1 fun h3 m3 f0 f1 f2 f3 f4 => ?_
  have x3 : xExt h h3 := x1.tn m3 (fun y hy => Or.inr (by rw [List.mem_singleton.mp hy]; omega))
  have c3 : xcls h3 t = 26 := m3.cl' c1 (by decide)
  have q3 := q.ex x3
  refine isPlace_c (by decide) ⟨fun u => ⟨c3, ?_⟩, fun u => isSite_c (by decide) ⟨fun w => ⟨c3, ?_⟩, fun w => ⟨c3, ?_⟩⟩⟩
  · have hO : pNotSite Z.1.1 y z z' w' = (-2, none) := by unfold pNotSite; rw [xb0.mp u]; rfl
    exact deed_c (bo := false) (dd := 15) (kd := 36) (Y := mX13_does) (v := 0) (s' := Z.1) (O := pNotSite Z.1.1 y z z' w') (by decide) (by decide) (by decide) (gl.md x3) q3 X (by rw [c3]; unfold okD; decide) f0 (by rw [c3]; simp [dsp_HamletWells_Deed_does]) (fun _ => hO) (by decide) (fun z => by cases z) (fun z => by rw [hO] at z; exact absurd (congrArg Prod.fst z) (by decide)) fun hn h' m q' => h2 hn h' ((xMod.of x3).tr m) q'
  · have hO : pNotSite Z.1.1 y z z' w' = (-2, none) := by
      unfold pNotSite
      have := xb0.mp w
      rw [Bool.and_eq_false_iff] at this
      rw [xb1.mp u]
      rcases this with e | e
      · rw [e]; rfl
      · rw [e]; cases pIn z' 1 40 <;> rfl
    exact deed_c (bo := false) (dd := 15) (kd := 36) (Y := mX13_does) (v := 0) (s' := Z.1) (O := pNotSite Z.1.1 y z z' w') (by decide) (by decide) (by decide) (gl.md x3) q3 X (by rw [c3]; unfold okD; decide) f0 (by rw [c3]; simp [dsp_HamletWells_Deed_does]) (fun _ => hO) (by decide) (fun z => by cases z) (fun z => by rw [hO] at z; exact absurd (congrArg Prod.fst z) (by decide)) fun hn h' m q' => h2 hn h' ((xMod.of x3).tr m) q'
  · have hO : pNotSite Z.1.1 y z z' w' = if nS Z.1.1 = 6 then ((-5 : Int32), some ((1 : Int32), (6 : Int32))) else match pSiteAt Z.1.1 y z with | none => (0, none) | some a => (-5, some (2, nI a)) := by
      unfold pNotSite
      have := xb1.mp w
      rw [Bool.and_eq_true] at this
      rw [xb1.mp u, this.1, this.2]; rfl
    have hlt : ∀ {A : Prop}, A → pNotSite Z.1.1 y z z' w' = (0, none) → nS Z.1.1 < 6 := fun _ e => by
      have := q.nw
      obtain ⟨p, hs, ss, q'⟩ := this
      have := q'.pr.pw.2.2.2
      by_cases h8 : nS Z.1.1 = 6
      · rw [hO, if_pos h8] at e
        exact absurd (congrArg Prod.fst e) (by decide)
      · omega
    refine deed_c (bo := true) (dd := 15) (kd := 36) (Y := mX13_does) (v := nI (nS Z.1.1)) (s' := (pTellsS Z.1.1 y z z' w', Z.1.2)) (O := pNotSite Z.1.1 y z z' w') (by decide) (by decide) (by decide) (gl.md x3) q3 X (by rw [c3]; unfold okD; decide) f0 (by rw [c3]; simp [dsp_HamletWells_Deed_does]) (fun z => by cases z) (by decide) (fun _ h5 hs5 ss5 x5 q5 => ?_) (fun e h' m q' => h1 (hlt e e) e h' ((xMod.of x3).tr m) q') fun hn h' m q' => h2 hn h' ((xMod.of x3).tr m) q'
    have hN5 := xcls_lt' (h := h5) (a := xsz h3) (by rw [q5.cl]; decide)
    exact xCall_of (d' := 14) (by decide) (Nat.le_refl _) (vc_X13_does ⟨x5.cl' c3 (by decide), _, x5.vl' c3 (by decide) (by simp) f1, x5.cl' c3 (by decide), _, x5.vl' c3 (by decide) (by simp) f2, x5.cl' c3 (by decide), _, x5.vl' c3 (by decide) (by simp) f3, x5.cl' c3 (by decide), _, x5.vl' c3 (by decide) (by simp) f4, _, rfl, q5.cl, psite_c (by decide) (by decide) gk q5 (by omega) (fun h8 hat h' hs' g q' => ⟨by rw [hO, if_neg (by omega), hat], rfl, _, _, g, q'⟩) (fun h8 h' e' x' _ r' => ⟨1, 6, by rw [hO, if_pos h8], x', r'⟩) fun h8 t' hat h' e' x' _ r' => ⟨2, nI t', by rw [hO, if_neg (by omega), hat], x', r'⟩⟩)
end XDG

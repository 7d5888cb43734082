/-! the province is changed: one number after the other; what is refused -/
def isRf (h : xH) (e : Nat) (r dt : Int32) (o : Option Nat) : Prop := xcls h e = 15 ∧ xval h e 6 = xi r ∧ xval h e 7 = xi dt ∧ xval h e 0 = xr o
def gK (G : xG) : Prop := G.2.1 8 = xi 1 ∧ (∃ o, G.2.1 1 = xr o) ∧ (∃ o, G.2.1 2 = xr o)
section XPM
variable {G : xG} {d k : Nat} {h h' h0 : xH} {T : Nat → xH → Nat → Prop} {S : List Nat} {x p N i j s c a b e r ka mm w m ll : Nat} {es hs ss : List Nat} {W W' : Nat → Int32} {nd y z v x' y' : Int32} {o : Option Nat}
theorem isRf.md (q : isRf h e y z o) (m : xMod S h h') (h1 : e ∉ S) : isRf h' e y z o := ⟨m.cl' q.1 (by decide), m.vl' q.1 (by decide) h1 q.2.1, m.vl' q.1 (by decide) h1 q.2.2.1, m.vl' q.1 (by decide) h1 q.2.2.2⟩
theorem isRf.ex (q : isRf h e y z o) (m : xExt h h') : isRf h' e y z o := q.md m (by simp)
theorem thr_init_c {F : xH → Nat → Prop} (hd : 2 < d) (gk : gK G) (hc : xcls h e = 15 ∨ xcls h e = 16 ∨ xcls h e = 48) (hQ : ∀ h', xMod [e] h h' → xval h' e 0 = xr o → F h' k) : xCall G d k mJ8_init_2 [xr (some e), xr none, xr o, xi (0 : Int32), xi (0 : Int32)] h (xkV F T) := by
  obtain ⟨-, ⟨o1, g1⟩, ⟨o2, g2⟩⟩ := gk
  refine xCall_of (d' := 2) hd (Nat.zero_le k) (vc_J8_init_2 (xCall_of (d' := 1) (by decide) (Nat.le_refl _) (vc_J7_init_3 ⟨by decide, hc, fun h1 e1 => ⟨o1, g1, by rw [e1]; exact hc, fun h3 e3 => ⟨o2, g2, by rw [e3, e1]; exact hc, fun h5 e5 => ⟨fun _ => ⟨by rw [e5, e3, e1]; exact hc, fun h6 e6 => ⟨by rw [e6, e5, e3, e1]; exact hc, fun h7 e7 => ⟨by rw [e7, e6, e5, e3, e1]; exact hc, fun h8 e8 => ⟨fun z => absurd rfl z, fun _ => ⟨by rw [e8, e7, e6, e5, e3, e1]; exact hc, fun h9 e9 => ?_⟩⟩⟩⟩⟩, fun z => absurd rfl z⟩⟩⟩⟩)))
  refine hQ h9 ?_ ?_
  · rw [e9, e8, e7, e6, e5, e3, e1]
    exact ((((((xMod.rf.put (Or.inl (by simp))).put (Or.inl (by simp))).put (Or.inl (by simp))).put (Or.inl (by simp))).put (Or.inl (by simp))).put (Or.inl (by simp))).put (Or.inl (by simp))
  · rw [e9, e8]
    simp (decide := true) only [true_and, and_true, and_self, exists_eq_left, exists_eq_left', forall_eq, forall_eq', Sum.inl.injEq, Sum.inr.injEq, Option.some.injEq, xcls_put, xlen_put, xval_put, xsz_put, xlo_put, xcls_new, xlen_new, xval_new, xsz_new, xlo_new, ↓reduceIte, reduceCtorEq, and_false, false_and, not_true_eq_false, not_false_eq_true, implies_true, forall_const, true_implies, false_implies, ne_eq]
theorem rf_init_c {F : xH → Nat → Prop} (hd : 3 < d) (gk : gK G) (hc : xcls h e = 15) (hQ : ∀ h', xMod [e] h h' → isRf h' e y z o → F h' k) : xCall G d k mX9_init_2 [xr (some e), xi y, xi z, xr o] h (xkV F T) := by
  refine xCall_of (d' := 3) hd (Nat.zero_le k) (vc_X9_init_2 (thr_init_c (by decide) gk (Or.inl hc) fun h1 m1 v1 => ?_))
  have c1 := m1.cl' hc (by decide)
  refine ⟨c1, fun h3 e3 => ⟨by rw [e3]; exact c1, fun h4 e4 => hQ h4 ?_ ⟨by rw [e4, e3]; exact c1, ?_, ?_, ?_⟩⟩⟩
  · rw [e4, e3]
    exact (m1.put (Or.inl (by simp))).put (Or.inl (by simp))
  · rw [e4, e3]; simp (decide := true) only [true_and, and_true, and_self, exists_eq_left, exists_eq_left', forall_eq, forall_eq', Sum.inl.injEq, Sum.inr.injEq, Option.some.injEq, xcls_put, xlen_put, xval_put, xsz_put, xlo_put, xcls_new, xlen_new, xval_new, xsz_new, xlo_new, ↓reduceIte, reduceCtorEq, and_false, false_and, not_true_eq_false, not_false_eq_true, implies_true, forall_const, true_implies, false_implies, ne_eq]
  · rw [e4]; simp (decide := true) only [true_and, and_true, and_self, exists_eq_left, exists_eq_left', forall_eq, forall_eq', Sum.inl.injEq, Sum.inr.injEq, Option.some.injEq, xcls_put, xlen_put, xval_put, xsz_put, xlo_put, xcls_new, xlen_new, xval_new, xsz_new, xlo_new, ↓reduceIte, reduceCtorEq, and_false, false_and, not_true_eq_false, not_false_eq_true, implies_true, forall_const, true_implies, false_implies, ne_eq]
  · rw [e4, e3]; simp (decide := true) only [true_and, and_true, and_self, exists_eq_left, exists_eq_left', forall_eq, forall_eq', Sum.inl.injEq, Sum.inr.injEq, Option.some.injEq, xcls_put, xlen_put, xval_put, xsz_put, xlo_put, xcls_new, xlen_new, xval_new, xsz_new, xlo_new, ↓reduceIte, reduceCtorEq, and_false, false_and, not_true_eq_false, not_false_eq_true, implies_true, forall_const, true_implies, false_implies, ne_eq]; exact v1
theorem needs_c {F : xH → Nat → Prop} {c : Bool} (hd : 5 < d) (hk : 9 ≤ k) (gk : gK G) (hF : c = true → F h k) (hT : c = false → ∀ h' e, xExt h h' → xsz h ≤ e → isRf h' e y z none → T e h' (k - 9)) : xCall G d k mX0_needs [xi (xb c), xi y, xi z] h (xkV F T) := by
  cases c with
  | true => exact xCall_of (d' := 5) hd (Nat.zero_le k) (vc_X0_needs ⟨fun _ => hF rfl, fun z => absurd z (by decide)⟩)
  | false =>
    refine xCall_of (d' := 5) hd hk (vc_X0_needs ⟨fun z => absurd rfl z, fun _ => ⟨by decide, fun h1 a2 ea eh => ?_⟩⟩)
    have x1 : xExt h h1 := eh ▸ xMod.rf.new
    have c1 : xcls h1 a2 = 15 := by subst eh; simp (decide := true) only [true_and, and_true, and_self, exists_eq_left, exists_eq_left', forall_eq, forall_eq', Sum.inl.injEq, Sum.inr.injEq, Option.some.injEq, xcls_put, xlen_put, xval_put, xsz_put, xlo_put, xcls_new, xlen_new, xval_new, xsz_new, xlo_new, ↓reduceIte, reduceCtorEq, and_false, false_and, not_true_eq_false, not_false_eq_true, implies_true, forall_const, true_implies, false_implies, ne_eq, ea]
    have hz : xsz h ≤ a2 := by omega
    refine xCall_of (d' := 4) (by decide) (Nat.le_refl _) (vc_X9_init (rf_init_c (by decide) gk c1 fun h3 m3 R3 => ?_))
    exact ⟨by rw [R3.1]; decide, hT rfl h3 a2 (x1.t1 m3 hz) hz R3⟩
/-! one number -/
theorem stF_lt (hj : j < 8) : stF j < 8 := (by decide : ∀ j : Fin 8, stF j.1 < 8) ⟨j, hj⟩
theorem stF_inj {j' : Nat} (hj : j < 8) (hj' : j' < 8) (e : stF j' = stF j) : j' = j :=
  (by decide : ∀ (j j' : Fin 8), stF j'.1 = stF j.1 → j'.1 = j.1) ⟨j, hj⟩ ⟨j', hj'⟩ e
theorem pvF_ok (h2 : 2 ≤ j) (h3 : j ≤ 10) (h5 : j ≠ 5) : pvF j < 13 ∧ pvF j ≠ 2 ∧ pvF j ≠ 3 := (by decide : ∀ j : Fin 11, 2 ≤ j.1 → j.1 ≠ 5 → pvF j.1 < 13 ∧ pvF j.1 ≠ 2 ∧ pvF j.1 ≠ 3) ⟨j, by omega⟩ h2 h5
theorem isPh.uo (q : isPh h hs W) (hl : hs.length ≤ 8) (e : ∀ i j, i < 8 → j < 6 → pH W' i j = pH W i j) : isPh h hs W' := fun i a ha => by
  have := (List.getElem?_eq_some_iff.mp ha).1
  obtain ⟨q1, q2, q3⟩ := q i a ha
  exact ⟨q1, q2, fun j hj => by rw [e i j (by omega) hj]; exact q3 j hj⟩
theorem isPs.uo (q : isPs h ss W) (hl : ss.length ≤ 6) (e : ∀ i j, i < 6 → j < 8 → pS W' i j = pS W i j) : isPs h ss W' := fun i a ha => by
  have := (List.getElem?_eq_some_iff.mp ha).1
  obtain ⟨q1, q2, q3⟩ := q i a ha
  refine ⟨q1, q2, fun j hj => ?_⟩
  rw [e i (stF j) (by omega) (stF_lt hj)]
  exact q3 j hj
theorem isPf.uo (q : isPf h p W nd) (e : ∀ j, j < 13 → j ≠ 2 → j ≠ 3 → W' j = W j) : isPf h p W' nd := ⟨fun j a b c => by
  have v := pvF_ok a b c
  rw [e (pvF j) v.1 v.2.1 v.2.2]
  exact q.1 j a b c, q.2⟩
theorem isPr.pH (q : isPr G h N p hs ss W nd) (ha : hs[i]? = some a) (hj : j < 6) (v : Int32) : isPr G (xput h a (j + 1) (xi v)) N p hs ss (uW W (13 + 6 * i + j) v) nd := by
  have hl := q.lh
  have hls := q.ls
  have hi := (List.getElem?_eq_some_iff.mp ha).1
  obtain ⟨q1, q2, q3, q4, q5, q6⟩ := q
  have ca := (q3 i a ha).1
  have m : xMod [a] h (xput h a (j + 1) (xi v)) := xMod.rf.put (Or.inl (by simp))
  have cl : ∀ x, x ∈ [a] → xcls h x = 13 := fun x hx => by rw [List.mem_singleton.mp hx]; exact ca
  refine ⟨q1.md m (fun x hx => by rw [cl x hx]; decide), (q2.md m q1.cl (fun z => by have := cl p z; rw [q1.cl] at this; cases this)).uo (fun t h1 h2 h3 => uW_ne (by omega)), fun i' a' ha' => ?_, (q4.md m (fun x hx => by rw [cl x hx]; decide)).uo hls (fun s' j' h1 h2 => pS_uH (by omega) hj), (uW_ne (by omega)).trans q5, (uW_ne (by omega)).trans q6⟩
  have hi' := (List.getElem?_eq_some_iff.mp ha').1
  obtain ⟨r1, r2, r3⟩ := q3 i' a' ha'
  refine ⟨m.cl' r1 (by decide), ?_, fun j' hj' => ?_⟩
  · simp (decide := true) only [true_and, and_true, and_self, exists_eq_left, exists_eq_left', forall_eq, forall_eq', Sum.inl.injEq, Sum.inr.injEq, Option.some.injEq, xcls_put, xlen_put, xval_put, xsz_put, xlo_put, xcls_new, xlen_new, xval_new, xsz_new, xlo_new, ↓reduceIte, reduceCtorEq, and_false, false_and, not_true_eq_false, not_false_eq_true, implies_true, forall_const, true_implies, false_implies, ne_eq, Nat.succ_ne_zero]
    exact r2
  · rw [pH_uH hj hj']
    by_cases e : i' = i
    · subst e
      cases ha.symm.trans ha'
      by_cases e2 : j' = j
      · subst e2
        rw [if_pos ⟨rfl, rfl⟩]
        simp (decide := true) only [true_and, and_true, and_self, exists_eq_left, exists_eq_left', forall_eq, forall_eq', Sum.inl.injEq, Sum.inr.injEq, Option.some.injEq, xcls_put, xlen_put, xval_put, xsz_put, xlo_put, xcls_new, xlen_new, xval_new, xsz_new, xlo_new, ↓reduceIte, reduceCtorEq, and_false, false_and, not_true_eq_false, not_false_eq_true, implies_true, forall_const, true_implies, false_implies, ne_eq]
      · rw [if_neg (fun z => e2 z.2)]
        have : ¬ j' + 1 = j + 1 := by omega
        simp (decide := true) only [true_and, and_true, and_self, exists_eq_left, exists_eq_left', forall_eq, forall_eq', Sum.inl.injEq, Sum.inr.injEq, Option.some.injEq, xcls_put, xlen_put, xval_put, xsz_put, xlo_put, xcls_new, xlen_new, xval_new, xsz_new, xlo_new, ↓reduceIte, reduceCtorEq, and_false, false_and, not_true_eq_false, not_false_eq_true, implies_true, forall_const, true_implies, false_implies, ne_eq, this]
        exact r3 j' hj'
    · have hne : ¬ a' = a := fun z => e (q3.inj hl ha' (z ▸ ha))
      rw [if_neg (fun z => e z.1)]
      simp (decide := true) only [true_and, and_true, and_self, exists_eq_left, exists_eq_left', forall_eq, forall_eq', Sum.inl.injEq, Sum.inr.injEq, Option.some.injEq, xcls_put, xlen_put, xval_put, xsz_put, xlo_put, xcls_new, xlen_new, xval_new, xsz_new, xlo_new, ↓reduceIte, reduceCtorEq, and_false, false_and, not_true_eq_false, not_false_eq_true, implies_true, forall_const, true_implies, false_implies, ne_eq, hne]
      exact r3 j' hj'
theorem isPr.pS (q : isPr G h N p hs ss W nd) (ha : ss[i]? = some a) (hj : j < 8) (v : Int32) : isPr G (xput h a (j + 1) (xi v)) N p hs ss (uW W (61 + 8 * i + stF j) v) nd := by
  have hl := q.lh
  have hls := q.ls
  have hi := (List.getElem?_eq_some_iff.mp ha).1
  have hst := stF_lt hj
  obtain ⟨q1, q2, q3, q4, q5, q6⟩ := q
  have ca := (q4 i a ha).1
  have m : xMod [a] h (xput h a (j + 1) (xi v)) := xMod.rf.put (Or.inl (by simp))
  have cl : ∀ x, x ∈ [a] → xcls h x = 14 := fun x hx => by rw [List.mem_singleton.mp hx]; exact ca
  refine ⟨q1.md m (fun x hx => by rw [cl x hx]; decide), (q2.md m q1.cl (fun z => by have := cl p z; rw [q1.cl] at this; cases this)).uo (fun t h1 h2 h3 => uW_ne (by omega)), (q3.md m (fun x hx => by rw [cl x hx]; decide)).uo hl (fun s' j' h1 h2 => pH_uS (by omega) h2), fun i' a' ha' => ?_, (uW_ne (by omega)).trans q5, (uW_ne (by omega)).trans q6⟩
  have hi' := (List.getElem?_eq_some_iff.mp ha').1
  obtain ⟨r1, r2, r3⟩ := q4 i' a' ha'
  refine ⟨m.cl' r1 (by decide), ?_, fun j' hj' => ?_⟩
  · simp (decide := true) only [true_and, and_true, and_self, exists_eq_left, exists_eq_left', forall_eq, forall_eq', Sum.inl.injEq, Sum.inr.injEq, Option.some.injEq, xcls_put, xlen_put, xval_put, xsz_put, xlo_put, xcls_new, xlen_new, xval_new, xsz_new, xlo_new, ↓reduceIte, reduceCtorEq, and_false, false_and, not_true_eq_false, not_false_eq_true, implies_true, forall_const, true_implies, false_implies, ne_eq, Nat.succ_ne_zero]
    exact r2
  · rw [pS_uS hst (stF_lt hj')]
    by_cases e : i' = i
    · subst e
      cases ha.symm.trans ha'
      by_cases e2 : j' = j
      · subst e2
        rw [if_pos ⟨rfl, rfl⟩]
        simp (decide := true) only [true_and, and_true, and_self, exists_eq_left, exists_eq_left', forall_eq, forall_eq', Sum.inl.injEq, Sum.inr.injEq, Option.some.injEq, xcls_put, xlen_put, xval_put, xsz_put, xlo_put, xcls_new, xlen_new, xval_new, xsz_new, xlo_new, ↓reduceIte, reduceCtorEq, and_false, false_and, not_true_eq_false, not_false_eq_true, implies_true, forall_const, true_implies, false_implies, ne_eq]
      · rw [if_neg (fun z => e2 (stF_inj hj hj' z.2))]
        have : ¬ j' + 1 = j + 1 := by omega
        simp (decide := true) only [true_and, and_true, and_self, exists_eq_left, exists_eq_left', forall_eq, forall_eq', Sum.inl.injEq, Sum.inr.injEq, Option.some.injEq, xcls_put, xlen_put, xval_put, xsz_put, xlo_put, xcls_new, xlen_new, xval_new, xsz_new, xlo_new, ↓reduceIte, reduceCtorEq, and_false, false_and, not_true_eq_false, not_false_eq_true, implies_true, forall_const, true_implies, false_implies, ne_eq, this]
        exact r3 j' hj'
    · have hne : ¬ a' = a := fun z => e (q4.inj hls ha' (z ▸ ha))
      rw [if_neg (fun z => e z.1)]
      simp (decide := true) only [true_and, and_true, and_self, exists_eq_left, exists_eq_left', forall_eq, forall_eq', Sum.inl.injEq, Sum.inr.injEq, Option.some.injEq, xcls_put, xlen_put, xval_put, xsz_put, xlo_put, xcls_new, xlen_new, xval_new, xsz_new, xlo_new, ↓reduceIte, reduceCtorEq, and_false, false_and, not_true_eq_false, not_false_eq_true, implies_true, forall_const, true_implies, false_implies, ne_eq, hne]
      exact r3 j' hj'
theorem isPb.pp (q : isPb G h N p hs ss) (hj : 2 ≤ j) : isPb G (xput h p j (xi v)) N p hs ss := by
  obtain ⟨rh, lh, ah, rs, ls, as, mh, ms, ⟨a1, a2, a3⟩, ⟨b1, b2, b3, b4, b5⟩, ⟨c1, c2, c3, c4, c5⟩, dd⟩ := q
  have m : xMod [p] h (xput h p j (xi v)) := xMod.rf.put (Or.inl (by simp))
  have n1 : ¬ rh = p := xne_cls b1 a1 (by decide)
  have n2 : ¬ rs = p := xne_cls c1 a1 (by decide)
  have n3 : ¬ lh = p := xne_cls b4.1 a1 (by decide)
  have n4 : ¬ ls = p := xne_cls c4.1 a1 (by decide)
  have j0 : ¬ 0 = j := by omega
  have j1 : ¬ 1 = j := by omega
  have hp : ∀ x, x ∈ [p] → xcls h x ≠ 1006 ∧ xcls h x ≠ 1009 := fun x hx => by rw [List.mem_singleton.mp hx, a1]; decide
  refine ⟨rh, lh, ah, rs, ls, as, mh, ms, ⟨a1, ?_, ?_⟩, ⟨b1, ?_, ?_, b4.md m (by simpa using n3) hp, ?_⟩, ⟨c1, ?_, ?_, c4.md m (by simpa using n4) hp, ?_⟩, dd⟩
  · simp (decide := true) only [true_and, and_true, and_self, exists_eq_left, exists_eq_left', forall_eq, forall_eq', Sum.inl.injEq, Sum.inr.injEq, Option.some.injEq, xcls_put, xlen_put, xval_put, xsz_put, xlo_put, xcls_new, xlen_new, xval_new, xsz_new, xlo_new, ↓reduceIte, reduceCtorEq, and_false, false_and, not_true_eq_false, not_false_eq_true, implies_true, forall_const, true_implies, false_implies, ne_eq, j0]; exact a2
  · simp (decide := true) only [true_and, and_true, and_self, exists_eq_left, exists_eq_left', forall_eq, forall_eq', Sum.inl.injEq, Sum.inr.injEq, Option.some.injEq, xcls_put, xlen_put, xval_put, xsz_put, xlo_put, xcls_new, xlen_new, xval_new, xsz_new, xlo_new, ↓reduceIte, reduceCtorEq, and_false, false_and, not_true_eq_false, not_false_eq_true, implies_true, forall_const, true_implies, false_implies, ne_eq, j1]; exact a3
  · simp (decide := true) only [true_and, and_true, and_self, exists_eq_left, exists_eq_left', forall_eq, forall_eq', Sum.inl.injEq, Sum.inr.injEq, Option.some.injEq, xcls_put, xlen_put, xval_put, xsz_put, xlo_put, xcls_new, xlen_new, xval_new, xsz_new, xlo_new, ↓reduceIte, reduceCtorEq, and_false, false_and, not_true_eq_false, not_false_eq_true, implies_true, forall_const, true_implies, false_implies, ne_eq, n1]; exact b2
  · simp (decide := true) only [true_and, and_true, and_self, exists_eq_left, exists_eq_left', forall_eq, forall_eq', Sum.inl.injEq, Sum.inr.injEq, Option.some.injEq, xcls_put, xlen_put, xval_put, xsz_put, xlo_put, xcls_new, xlen_new, xval_new, xsz_new, xlo_new, ↓reduceIte, reduceCtorEq, and_false, false_and, not_true_eq_false, not_false_eq_true, implies_true, forall_const, true_implies, false_implies, ne_eq, n1]; exact b3
  · simp (decide := true) only [true_and, and_true, and_self, exists_eq_left, exists_eq_left', forall_eq, forall_eq', Sum.inl.injEq, Sum.inr.injEq, Option.some.injEq, xcls_put, xlen_put, xval_put, xsz_put, xlo_put, xcls_new, xlen_new, xval_new, xsz_new, xlo_new, ↓reduceIte, reduceCtorEq, and_false, false_and, not_true_eq_false, not_false_eq_true, implies_true, forall_const, true_implies, false_implies, ne_eq, n3]; exact b5
  · simp (decide := true) only [true_and, and_true, and_self, exists_eq_left, exists_eq_left', forall_eq, forall_eq', Sum.inl.injEq, Sum.inr.injEq, Option.some.injEq, xcls_put, xlen_put, xval_put, xsz_put, xlo_put, xcls_new, xlen_new, xval_new, xsz_new, xlo_new, ↓reduceIte, reduceCtorEq, and_false, false_and, not_true_eq_false, not_false_eq_true, implies_true, forall_const, true_implies, false_implies, ne_eq, n2]; exact c2
  · simp (decide := true) only [true_and, and_true, and_self, exists_eq_left, exists_eq_left', forall_eq, forall_eq', Sum.inl.injEq, Sum.inr.injEq, Option.some.injEq, xcls_put, xlen_put, xval_put, xsz_put, xlo_put, xcls_new, xlen_new, xval_new, xsz_new, xlo_new, ↓reduceIte, reduceCtorEq, and_false, false_and, not_true_eq_false, not_false_eq_true, implies_true, forall_const, true_implies, false_implies, ne_eq, n2]; exact c3
  · simp (decide := true) only [true_and, and_true, and_self, exists_eq_left, exists_eq_left', forall_eq, forall_eq', Sum.inl.injEq, Sum.inr.injEq, Option.some.injEq, xcls_put, xlen_put, xval_put, xsz_put, xlo_put, xcls_new, xlen_new, xval_new, xsz_new, xlo_new, ↓reduceIte, reduceCtorEq, and_false, false_and, not_true_eq_false, not_false_eq_true, implies_true, forall_const, true_implies, false_implies, ne_eq, n4]; exact c5
theorem pvF_inj {j' : Nat} (h1 : 2 ≤ j) (h2 : j ≤ 10) (h3 : j ≠ 5) (h1' : 2 ≤ j') (h2' : j' ≤ 10) (h3' : j' ≠ 5) (e : pvF j' = pvF j) : j' = j := by
  have := (by decide : ∀ (j j' : Fin 11), 2 ≤ j.1 → 2 ≤ j'.1 → j.1 ≠ 5 → j'.1 ≠ 5 → pvF j'.1 = pvF j.1 → j'.1 = j.1) ⟨j, by omega⟩ ⟨j', by omega⟩ h1 h1' h3 h3' e
  exact this
theorem isPr.pP (q : isPr G h N p hs ss W nd) (h2 : 2 ≤ j) (h3 : j ≤ 10) (h5 : j ≠ 5) (v : Int32) : isPr G (xput h p j (xi v)) N p hs ss (uW W (pvF j) v) nd := by
  have hl := q.lh
  have hls := q.ls
  obtain ⟨q1, q2, q3, q4, q5, q6⟩ := q
  have m : xMod [p] h (xput h p j (xi v)) := xMod.rf.put (Or.inl (by simp))
  have cl : ∀ x, x ∈ [p] → xcls h x = 2 := fun x hx => by rw [List.mem_singleton.mp hx]; exact q1.cl
  have hv := pvF_ok h2 h3 h5
  refine ⟨q1.pp h2, ⟨fun j' a b c => ?_, ?_⟩, (q3.md m (fun x hx => by rw [cl x hx]; decide)).uo hl (fun i' j' h1 h2 => pH_u0 hv.1), (q4.md m (fun x hx => by rw [cl x hx]; decide)).uo hls (fun i' j' h1 h2 => pS_u0 hv.1), (uW_ne (fun z => hv.2.1 z.symm)).trans q5, (uW_ne (fun z => hv.2.2 z.symm)).trans q6⟩
  · by_cases e : j' = j
    · subst e
      rw [uW_eq]
      simp (decide := true) only [true_and, and_true, and_self, exists_eq_left, exists_eq_left', forall_eq, forall_eq', Sum.inl.injEq, Sum.inr.injEq, Option.some.injEq, xcls_put, xlen_put, xval_put, xsz_put, xlo_put, xcls_new, xlen_new, xval_new, xsz_new, xlo_new, ↓reduceIte, reduceCtorEq, and_false, false_and, not_true_eq_false, not_false_eq_true, implies_true, forall_const, true_implies, false_implies, ne_eq]
    · rw [uW_ne (fun z => e (pvF_inj h2 h3 h5 a b c z))]
      simp (decide := true) only [true_and, and_true, and_self, exists_eq_left, exists_eq_left', forall_eq, forall_eq', Sum.inl.injEq, Sum.inr.injEq, Option.some.injEq, xcls_put, xlen_put, xval_put, xsz_put, xlo_put, xcls_new, xlen_new, xval_new, xsz_new, xlo_new, ↓reduceIte, reduceCtorEq, and_false, false_and, not_true_eq_false, not_false_eq_true, implies_true, forall_const, true_implies, false_implies, ne_eq, e]
      exact q2.1 j' a b c
  · have : ¬ 5 = j := fun z => h5 z.symm
    simp (decide := true) only [true_and, and_true, and_self, exists_eq_left, exists_eq_left', forall_eq, forall_eq', Sum.inl.injEq, Sum.inr.injEq, Option.some.injEq, xcls_put, xlen_put, xval_put, xsz_put, xlo_put, xcls_new, xlen_new, xval_new, xsz_new, xlo_new, ↓reduceIte, reduceCtorEq, and_false, false_and, not_true_eq_false, not_false_eq_true, implies_true, forall_const, true_implies, false_implies, ne_eq, this]
    exact q2.2
theorem isPr.pN (q : isPr G h N p hs ss W nd) (v : Int32) : isPr G (xput h p 5 (xi v)) N p hs ss W v := by
  have hl := q.lh
  have hls := q.ls
  obtain ⟨q1, q2, q3, q4, q5, q6⟩ := q
  have m : xMod [p] h (xput h p 5 (xi v)) := xMod.rf.put (Or.inl (by simp))
  have cl : ∀ x, x ∈ [p] → xcls h x = 2 := fun x hx => by rw [List.mem_singleton.mp hx]; exact q1.cl
  refine ⟨q1.pp (by decide), ⟨fun j' a b c => ?_, ?_⟩, q3.md m (fun x hx => by rw [cl x hx]; decide), q4.md m (fun x hx => by rw [cl x hx]; decide), q5, q6⟩
  · simp (decide := true) only [true_and, and_true, and_self, exists_eq_left, exists_eq_left', forall_eq, forall_eq', Sum.inl.injEq, Sum.inr.injEq, Option.some.injEq, xcls_put, xlen_put, xval_put, xsz_put, xlo_put, xcls_new, xlen_new, xval_new, xsz_new, xlo_new, ↓reduceIte, reduceCtorEq, and_false, false_and, not_true_eq_false, not_false_eq_true, implies_true, forall_const, true_implies, false_implies, ne_eq, c]
    exact q2.1 j' a b c
  · simp (decide := true) only [true_and, and_true, and_self, exists_eq_left, exists_eq_left', forall_eq, forall_eq', Sum.inl.injEq, Sum.inr.injEq, Option.some.injEq, xcls_put, xlen_put, xval_put, xsz_put, xlo_put, xcls_new, xlen_new, xval_new, xsz_new, xlo_new, ↓reduceIte, reduceCtorEq, and_false, false_and, not_true_eq_false, not_false_eq_true, implies_true, forall_const, true_implies, false_implies, ne_eq]
theorem isPr.hN (q : isPr G h N p hs ss W nd) : N ≤ p ∧ (∀ a, a ∈ hs → N ≤ a) ∧ (∀ a, a ∈ ss → N ≤ a) := by
  obtain ⟨⟨_, _, _, _, _, _, _, _, -, -, -, -, e, f⟩, -⟩ := q
  exact ⟨e.1, f.2.2.1, f.2.2.2⟩
end XPM

/-! the twin's constructor -/
section XTI2
variable {G : xG} {d k : Nat} {h h' h0 : xH} {T : Nat → xH → Nat → Prop} {m : Nat} {A : Nat → Nat}
theorem t_init_c {F : xH → Nat → Prop} (hd : 1 < d) (hk : 1349 ≤ k) (hm : xcls h m = 6) (hz : ∀ f, tL f = 0 → xval h m f = xi 0)
    (hQ : ∀ h' A, isTw h' m A tV0 → xMod [m] h h' → (∀ f, tL f ≠ 0 → xsz h ≤ A f) → F h' (k - 1349)) : xCall G d k mX3_init [xr (some m)] h (xkV F T) := by
  have i0 : isTi h h m (fun _ => 0) [] := ⟨hm, fun _ _ => rfl, (fun f hf => by cases hf), (fun f g hf => by cases hf)⟩
  have y0 : xMod [m] h h := xMod.rf
  have x0 : xsz h ≤ xsz h := Nat.le_refl _
  have st : ∀ {hb h1 : xH} {A : Nat → Nat} {L : List Nat} (f : Nat), isTi hb h1 m A L → xsz hb ≤ xsz h1 → f ∉ L → tL f ≠ 0 → ∀ (h2 h3 : xH) (a : Nat) (c n : Nat) (g : Nat → xV), c = tK f → n = tL f → g = (fun _ => xi 0) → a = xsz h1 → h2 = xnew h1 c n g → h3 = xput h2 m f (xr (some a)) → ∃ A', isTi hb h3 m A' (f :: L) ∧ xsz hb ≤ xsz h3 ∧ (xMod [m] h h1 → xMod [m] h h3) ∧ xcls h2 m = 6 := by
    intro hb h1 A L f q x hf hz h2 h3 a c n g ec en eg ea e2 e3
    subst ec en eg ea e2 e3
    refine ⟨_, q.step x f hf hz, by simp (decide := true) only [true_and, and_true, and_self, exists_eq_left, exists_eq_left', forall_eq, forall_eq', Sum.inl.injEq, Sum.inr.injEq, Option.some.injEq, xcls_put, xlen_put, xval_put, xsz_put, xlo_put, xcls_new, xlen_new, xval_new, xsz_new, xlo_new, ↓reduceIte, reduceCtorEq, and_false, false_and, not_true_eq_false, not_false_eq_true, implies_true, forall_const, true_implies, false_implies, ne_eq]; omega, fun y => (y.new).put (Or.inl (by simp)), ?_⟩
    have hne : ¬ m = xsz h1 := xne_new (by rw [q.1]; decide) rfl
    simp (decide := true) only [true_and, and_true, and_self, exists_eq_left, exists_eq_left', forall_eq, forall_eq', Sum.inl.injEq, Sum.inr.injEq, Option.some.injEq, xcls_put, xlen_put, xval_put, xsz_put, xlo_put, xcls_new, xlen_new, xval_new, xsz_new, xlo_new, ↓reduceIte, reduceCtorEq, and_false, false_and, not_true_eq_false, not_false_eq_true, implies_true, forall_const, true_implies, false_implies, ne_eq, hne]; exact q.1
  refine xCall_of (d' := 1) hd hk (vc_X3_init ⟨by decide, 2, rfl, by decide, by decide, fun h1 a2 ea eh => ?_⟩)
  have s1 := fun h3 e3 => st 0 i0 x0 (by decide) (by decide) h1 h3 a2 1003 2 (fun _ => xdf FieldType.int) rfl rfl rfl ea eh e3
  refine ⟨(s1 _ rfl).choose_spec.2.2.2, fun h4 e4 => ?_⟩
  obtain ⟨A1, i1, x1, y1, -⟩ := s1 h4 e4
  refine ⟨2, rfl, by decide, by decide, fun h5 a6 ea eh => ?_⟩
  have s2 := fun h3 e3 => st 1 i1 x1 (by decide) (by decide) h5 h3 a6 1003 2 (fun _ => xdf FieldType.int) rfl rfl rfl ea eh e3
  refine ⟨(s2 _ rfl).choose_spec.2.2.2, fun h8 e8 => ?_⟩
  obtain ⟨A2, i2, x2, y2, -⟩ := s2 h8 e8
  refine ⟨112, rfl, by decide, by decide, fun h9 a10 ea eh => ?_⟩
  have s3 := fun h3 e3 => st 4 i2 x2 (by decide) (by decide) h9 h3 a10 1003 112 (fun _ => xdf FieldType.int) rfl rfl rfl ea eh e3
  refine ⟨(s3 _ rfl).choose_spec.2.2.2, fun h12 e12 => ?_⟩
  obtain ⟨A3, i3, x3, y3, -⟩ := s3 h12 e12
  refine ⟨896, rfl, by decide, by decide, fun h13 a14 ea eh => ?_⟩
  have s4 := fun h3 e3 => st 5 i3 x3 (by decide) (by decide) h13 h3 a14 1003 896 (fun _ => xdf FieldType.int) rfl rfl rfl ea eh e3
  refine ⟨(s4 _ rfl).choose_spec.2.2.2, fun h16 e16 => ?_⟩
  obtain ⟨A4, i4, x4, y4, -⟩ := s4 h16 e16
  refine ⟨112, rfl, by decide, by decide, fun h17 a18 ea eh => ?_⟩
  have s5 := fun h3 e3 => st 6 i4 x4 (by decide) (by decide) h17 h3 a18 1003 112 (fun _ => xdf FieldType.int) rfl rfl rfl ea eh e3
  refine ⟨(s5 _ rfl).choose_spec.2.2.2, fun h20 e20 => ?_⟩
  obtain ⟨A5, i5, x5, y5, -⟩ := s5 h20 e20
  refine ⟨112, rfl, by decide, by decide, fun h21 a22 ea eh => ?_⟩
  have s6 := fun h3 e3 => st 7 i5 x5 (by decide) (by decide) h21 h3 a22 1003 112 (fun _ => xdf FieldType.int) rfl rfl rfl ea eh e3
  refine ⟨(s6 _ rfl).choose_spec.2.2.2, fun h24 e24 => ?_⟩
  obtain ⟨A6, i6, x6, y6, -⟩ := s6 h24 e24
  refine ⟨40, rfl, by decide, by decide, fun h25 a26 ea eh => ?_⟩
  have s7 := fun h3 e3 => st 12 i6 x6 (by decide) (by decide) h25 h3 a26 1001 40 (fun _ => xdf FieldType.char) rfl rfl rfl ea eh e3
  refine ⟨(s7 _ rfl).choose_spec.2.2.2, fun h28 e28 => ?_⟩
  obtain ⟨A7, i7, x7, y7, -⟩ := s7 h28 e28
  refine ⟨60, rfl, by decide, by decide, fun h29 a30 ea eh => ?_⟩
  have s8 := fun h3 e3 => st 14 i7 x7 (by decide) (by decide) h29 h3 a30 1001 60 (fun _ => xdf FieldType.char) rfl rfl rfl ea eh e3
  refine ⟨(s8 _ rfl).choose_spec.2.2.2, fun h32 e32 => ?_⟩
  obtain ⟨A8, i8, x8, y8, -⟩ := s8 h32 e32
  refine ⟨i8.1, fun h33 e33 => ⟨4, rfl, by decide, by decide, fun h34 a35 ea eh => ?_⟩⟩
  have i9 := i8.put (v := xi (-1 : Int32))
  rw [← e33] at i9
  have x9 : xsz (xput h m 17 (xi (-1 : Int32))) ≤ xsz h33 := by rw [e33]; exact x8
  have s9 := fun h3 e3 => st 18 i9 x9 (by decide) (by decide) h34 h3 a35 1003 4 (fun _ => xdf FieldType.int) rfl rfl rfl ea eh e3
  refine ⟨(s9 _ rfl).choose_spec.2.2.2, fun h37 e37 => ?_⟩
  obtain ⟨A9, i10, x10, y10, -⟩ := s9 h37 e37
  have q0 := i10.tw (v := fun f => if f = 17 then -1 else 0) (fun f hf => by
    by_cases e : f = 17
    · simp (decide := true) only [true_and, and_true, and_self, exists_eq_left, exists_eq_left', forall_eq, forall_eq', Sum.inl.injEq, Sum.inr.injEq, Option.some.injEq, xcls_put, xlen_put, xval_put, xsz_put, xlo_put, xcls_new, xlen_new, xval_new, xsz_new, xlo_new, ↓reduceIte, reduceCtorEq, and_false, false_and, not_true_eq_false, not_false_eq_true, implies_true, forall_const, true_implies, false_implies, ne_eq, e]
    · simp (decide := true) only [true_and, and_true, and_self, exists_eq_left, exists_eq_left', forall_eq, forall_eq', Sum.inl.injEq, Sum.inr.injEq, Option.some.injEq, xcls_put, xlen_put, xval_put, xsz_put, xlo_put, xcls_new, xlen_new, xval_new, xsz_new, xlo_new, ↓reduceIte, reduceCtorEq, and_false, false_and, not_true_eq_false, not_false_eq_true, implies_true, forall_const, true_implies, false_implies, ne_eq, e]; exact hz f hf)
  have y9 : xMod [m] h h33 := by rw [e33]; exact (y8 (y7 (y6 (y5 (y4 (y3 (y2 (y1 y0)))))))).put (Or.inl (by simp))
  have y37 := y10 y9
  have hA : ∀ f, tL f ≠ 0 → xsz h ≤ A9 f := fun f z => by
    have hm : f ∈ [18, 14, 12, 7, 6, 5, 4, 1, 0] := by
      have := tL_mem z
      simp only [List.mem_cons, List.not_mem_nil, or_false] at this ⊢
      omega
    exact (i10.2.2.1 f hm).2.2.2.2.2
  have hA4 := hA 4 (by decide)
  refine ⟨q0.cl, _, q0.rr 4 (by decide), _, rfl, q0.kk 4 (by decide), 1, rfl, by decide, (by rw [q0.ll 4 (by decide)]; decide), fun h41 e41 => ?_⟩
  have q1 := q0.pa 4 (show 1 < tL 4 by decide) 200
  rw [← e41] at q1
  refine ⟨q1.cl, _, q1.rr 4 (by decide), _, rfl, q1.kk 4 (by decide), 4, rfl, by decide, (by rw [q1.ll 4 (by decide)]; decide), fun h45 e45 => ?_⟩
  have q2 := q1.pa 4 (show 4 < tL 4 by decide) 3
  rw [← e45] at q2
  refine hQ h45 A9 (q2.cg fun f i h8 h9 => ?_) (by rw [e45, e41]; exact (y37.put (Or.inr hA4)).put (Or.inr hA4)) hA
  unfold tV0 tU
  by_cases e4 : f = 4
  · subst e4
    by_cases i4 : i = 4
    · subst i4; rfl
    · by_cases i1 : i = 1
      · subst i1; rfl
      · simp only [i4, i1, ↓reduceIte, and_false]
        rfl
  · by_cases e17 : f = 17
    · subst e17
      rw [h8 rfl]
      rfl
    · simp only [e4, e17, ↓reduceIte, false_and, ite_self]
end XTI2

/-! StringBuilder -/
def isSB (h : xH) (b v cap : Nat) (cs : List Nat) : Prop := xcls h b = 11 ∧ xval h b 0 = xr (some v) ∧ xval h b 1 = xi 0 ∧ xval h b 3 = xi (nI cs.length) ∧ xcls h v = 1000 ∧ xlo h ≤ v ∧ xlen h v = cap ∧ cs.length ≤ cap ∧ cap ≤ 34 ∧ (∀ (i c : Nat), cs[i]? = some c → c < 128 ∧ xval h v i = xi (nI c)) ∧ ∀ t, t < cap → ∃ w : Int32, xval h v t = xi w ∧ fits .byte (.int w) = true
theorem sb_fit {c : Nat} (h : c < 128) : fits .byte (.int (nI c)) = true ∧ narrow .byte (.int (nI c)) = .int (nI c) ∧ (nI c).toInt8.toInt32 = nI c :=
  (by decide +kernel : ∀ c : Fin 128, fits .byte (.int (nI c.1)) = true ∧ narrow .byte (.int (nI c.1)) = .int (nI c.1) ∧ (nI c.1).toInt8.toInt32 = nI c.1) ⟨c, h⟩
theorem sb_sr {n : Nat} (h : n < 1000) : nI n >>> ((0 : Int32) &&& 31) = nI n :=
  (by decide +kernel : ∀ n : Fin 1000, nI n.1 >>> ((0 : Int32) &&& 31) = nI n.1) ⟨n, h⟩
theorem sb_sl {n : Nat} (h : n < 1000) : nI n <<< ((0 : Int32) &&& 31) = nI n :=
  (by decide +kernel : ∀ n : Fin 1000, nI n.1 <<< ((0 : Int32) &&& 31) = nI n.1) ⟨n, h⟩
section XSB
variable {G : xG} {d k : Nat} {h h' h0 : xH} {T : Nat → xH → Nat → Prop} {S : List Nat} {x p i j c a b e r w m n o v cap : Nat} {cs ds : List Nat} {y z : Int32}
theorem isSB.md (q : isSB h b v cap cs) (m : xMod S h h') (h1 : b ∉ S) (h2 : v ∉ S) : isSB h' b v cap cs := by
  obtain ⟨q1, q2, q3, q4, q5, q6, q7, q8, q9, q10, q11⟩ := q
  exact ⟨m.cl' q1 (by decide), m.vl' q1 (by decide) h1 q2, m.vl' q1 (by decide) h1 q3, m.vl' q1 (by decide) h1 q4, m.cl' q5 (by decide), by rw [m.1]; exact q6, (m.ln (by rw [q5]; decide)).trans q7, q8, q9, fun i c e => ⟨(q10 i c e).1, m.vl' q5 (by decide) h2 (q10 i c e).2⟩, fun t ht => by
    obtain ⟨w, e1, e2⟩ := q11 t ht
    exact ⟨w, m.vl' q5 (by decide) h2 e1, e2⟩⟩
theorem sb_latin_c {F : Int32 → xH → Nat → Prop} (hd : 1 < d) (gs : G.2.1 3 = xi 1) (q : isSB h b v cap cs) (hQ : F 1 h k) : xCall G d k mJ11_isLatin1 [xr (some b)] h (xkI F T) :=
  xCall_of (d' := 1) hd (Nat.zero_le k) (vc_J11_isLatin1 ⟨1, gs, fun z => absurd z (by decide), fun _ => ⟨q.1, 0, q.2.2.1, fun z => absurd rfl z, fun _ => hQ⟩⟩)
theorem sb_init_c {F : xH → Nat → Prop} (hd : 4 < d) (hk : 17 ≤ k) (gs : G.2.1 3 = xi 1) (hc : xcls h b = 11) (hz : xval h b 3 = xi 0) (hlo : xlo h ≤ xsz h)
    (hQ : ∀ h' v, xMod [b] h h' → xsz h ≤ v → isSB h' b v 16 [] → F h' (k - 17)) : xCall G d k mJ12_init [xr (some b)] h (xkV F T) := by
  refine xCall_of (d' := 4) hd hk (vc_J12_init (xCall_of (d' := 3) (by decide) (Nat.le_refl _) (vc_J11_init ⟨by decide, 1, gs, fun z => absurd z (by decide), fun _ => ⟨16, rfl, by decide, by decide, fun h7 a8 ea eh => ?_⟩⟩)))
  have x7 : xExt h h7 := eh ▸ xMod.rf.new
  have c7 : xcls h7 b = 11 := x7.cl' hc (by decide)
  have nb : ¬ a8 = b := fun z => xne_new (by rw [hc]; decide) ea z.symm
  have nb' : ¬ b = a8 := fun z => nb z.symm
  refine ⟨c7, fun h10 e10 => ⟨by rw [e10, xcls_put]; exact c7, fun h11 e11 => ?_⟩⟩
  have m11 : xMod [b] h h11 := by
    rw [e11, e10]
    exact ((xMod.of x7).put (Or.inl (by simp))).put (Or.inl (by simp))
  refine hQ h11 a8 m11 (by omega) ⟨m11.cl' hc (by decide), ?_, ?_, ?_, ?_, ?_, ?_, by decide, by decide, fun i c e => (by simp at e), fun t ht => ⟨0, ?_, rfl⟩⟩
  · subst e11 e10 eh; simp (decide := true) only [true_and, and_true, and_self, exists_eq_left, exists_eq_left', forall_eq, forall_eq', Sum.inl.injEq, Sum.inr.injEq, Option.some.injEq, xcls_put, xlen_put, xval_put, xsz_put, xlo_put, xcls_new, xlen_new, xval_new, xsz_new, xlo_new, ↓reduceIte, reduceCtorEq, and_false, false_and, not_true_eq_false, not_false_eq_true, implies_true, forall_const, true_implies, false_implies, ne_eq, nb, nb']
  · subst e11 e10 eh; simp (decide := true) only [true_and, and_true, and_self, exists_eq_left, exists_eq_left', forall_eq, forall_eq', Sum.inl.injEq, Sum.inr.injEq, Option.some.injEq, xcls_put, xlen_put, xval_put, xsz_put, xlo_put, xcls_new, xlen_new, xval_new, xsz_new, xlo_new, ↓reduceIte, reduceCtorEq, and_false, false_and, not_true_eq_false, not_false_eq_true, implies_true, forall_const, true_implies, false_implies, ne_eq, nb, nb']
  · have : xval h7 b 3 = xi 0 := x7.vl' hc (by decide) (by simp) hz
    rw [e11, xval_put, if_neg (by simp), e10, xval_put, if_neg (by simp)]
    exact this
  · subst e11 e10 eh; simp (decide := true) only [true_and, and_true, and_self, exists_eq_left, exists_eq_left', forall_eq, forall_eq', Sum.inl.injEq, Sum.inr.injEq, Option.some.injEq, xcls_put, xlen_put, xval_put, xsz_put, xlo_put, xcls_new, xlen_new, xval_new, xsz_new, xlo_new, ↓reduceIte, reduceCtorEq, and_false, false_and, not_true_eq_false, not_false_eq_true, implies_true, forall_const, true_implies, false_implies, ne_eq, ea]
  · rw [m11.1, ea]; exact hlo
  · subst e11 e10 eh; simp (decide := true) only [true_and, and_true, and_self, exists_eq_left, exists_eq_left', forall_eq, forall_eq', Sum.inl.injEq, Sum.inr.injEq, Option.some.injEq, xcls_put, xlen_put, xval_put, xsz_put, xlo_put, xcls_new, xlen_new, xval_new, xsz_new, xlo_new, ↓reduceIte, reduceCtorEq, and_false, false_and, not_true_eq_false, not_false_eq_true, implies_true, forall_const, true_implies, false_implies, ne_eq, ea]
  · rw [e11, xval_put, if_neg (fun z => nb z.1), e10, xval_put, if_neg (fun z => nb z.1), eh, xval_new, if_pos ea]
    rfl
end XSB

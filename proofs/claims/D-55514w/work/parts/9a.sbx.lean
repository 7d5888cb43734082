/-! a builder that was made since h0 -/
def isB (h0 h : xH) (b : Nat) (cs : List Nat) : Prop := xExt h0 h ∧ xsz h0 ≤ b ∧ ∃ v cap, xsz h0 ≤ v ∧ isSB h b v cap cs ∧ (cap = 16 ∨ cap = 34)
def gT (G : xG) (h : xH) : Prop := G.2.1 3 = xi 1 ∧ (∃ o, G.2.1 4 = xr o) ∧ gDig G h ∧ xlo h ≤ xsz h
section XSX
variable {G : xG} {d k : Nat} {h h' h0 : xH} {T : Nat → xH → Nat → Prop} {S : List Nat} {x p i j c a b e r w m n o v cap P L st : Nat} {cs ds : List Nat} {y z : Int32}
theorem isB.ex (q : isB h0 h b cs) (m : xExt h h') : isB h0 h' b cs := by
  obtain ⟨q1, q2, v, cap, q3, q4, q5⟩ := q
  exact ⟨q1.tr m, q2, v, cap, q3, q4.md m (by simp) (by simp), q5⟩
theorem isB.xx (q : isB h0 h b cs) : xExt h0 h := q.1
theorem isB.cl (q : isB h0 h b cs) : xcls h b = 11 := by
  obtain ⟨q1, q2, v, cap, q3, q4, q5⟩ := q
  exact q4.1
theorem gT.ex (g : gT G h) (m : xExt h h') : gT G h' := ⟨g.1, g.2.1, g.2.2.1.md m (fun x hx => by cases hx), by rw [m.1]; exact Nat.le_trans g.2.2.2 m.2.1⟩
theorem B_q {F : xH → Nat → Prop} (q1 : xExt h0 h) (q2 : xsz h0 ≤ b) (q3 : xsz h0 ≤ v) (hQ : ∀ h', isB h0 h' b ds → F h' k) : sbQ F h b v ds k := by
  intro h' v' cap' m hv' s hc
  refine hQ h' ⟨q1.tn m (fun x hx => ?_), q2, v', cap', ?_, s, hc⟩
  · rcases List.mem_cons.mp hx with e | e
    · rw [e]; exact Or.inr q2
    · rw [List.mem_singleton.mp e]; exact Or.inr q3
  · rcases hv' with z | z
    · rw [z]; exact q3
    · exact Nat.le_trans q1.2.1 z
theorem B_char_c {F : Option Nat → xH → Nat → Prop} (hd : 6 < d) (hk : 35 ≤ k) (gt : gT G h0) (q : isB h0 h b cs) (hc : c < 128) (hn : cs.length < 34) (hQ : ∀ h', isB h0 h' b (cs ++ [c]) → F (some b) h' (k - 35)) : xCall G d k mJ12_append_3 [xr (some b), xi (nI c)] h (xkR F T) := by
  obtain ⟨q1, q2, v, cap, q3, q4, q5⟩ := q
  exact sb_char_c hd hk gt.1 q4 q5 hc hn (gt.ex q1).2.2.2 (B_q q1 q2 q3 hQ)
theorem B_int_c {F : Option Nat → xH → Nat → Prop} (hd : 6 < d) (hk : 35 ≤ k) (gt : gT G h0) (q : isB h0 h b cs) (hn : pN y) (hl : cs.length + (pTx y).length ≤ 34) (hQ : ∀ h', isB h0 h' b (cs ++ pTx y) → F (some b) h' (k - 35)) : xCall G d k mJ12_append_2 [xr (some b), xi y] h (xkR F T) := by
  obtain ⟨q1, q2, v, cap, q3, q4, q5⟩ := q
  obtain ⟨n, hn, rfl⟩ := hn
  rw [pTx_n hn] at hQ hl
  have g1 := gt.ex q1
  exact sb_int_c hd hk gt.1 g1.2.2.1 q4 q5 hn hl g1.2.2.2 (by rw [q1.1]; exact Nat.le_trans gt.2.2.2 q2) (B_q q1 q2 q3 hQ)
theorem B_str_c {F : Option Nat → xH → Nat → Prop} (hd : 8 < d) (hk : 35 ≤ k) (gt : gT G h0) (q : isB h0 h b cs) (qs : isStr h0 st ds) (hl : cs.length + ds.length ≤ 34) (hQ : ∀ h', isB h0 h' b (cs ++ ds) → F (some b) h' (k - 35)) : xCall G d k mJ12_append [xr (some b), xr (some st)] h (xkR F T) := by
  obtain ⟨q1, q2, v, cap, q3, q4, q5⟩ := q
  have qs1 : isStr h st ds := qs.md q1 (fun x hx => by cases hx)
  refine sb_str_c hd hk gt.1 q4 qs1 q5 hl (gt.ex q1).2.2.2 (fun bv e => ?_) (B_q q1 q2 q3 hQ)
  obtain ⟨s1, -, bv', s2, s3, -⟩ := qs
  have := q1.vl' s1 (by decide) (by simp) s2
  have e2 : bv' = bv := by simpa using this.symm.trans e
  subst e2
  have := xcls_lt' (h := h0) (a := bv') (by rw [s3]; decide)
  omega
theorem B_new_c {F : xH → Nat → Prop} (hd : 4 < d) (hk : 17 ≤ k) (gt : gT G h0) (eb : b = xsz h0) (eh : h = xnew h0 11 4 (fun j => xdf (tyJ12 j))) (hQ : ∀ h', isB h0 h' b [] → F h' (k - 17)) : xCall G d k mJ12_init [xr (some b)] h (xkV F T) := by
  have x1 : xExt h0 h := eh ▸ xMod.rf.new
  have c1 : xcls h b = 11 := by subst eh; simp (decide := true) only [true_and, and_true, and_self, exists_eq_left, exists_eq_left', forall_eq, forall_eq', Sum.inl.injEq, Sum.inr.injEq, Option.some.injEq, xcls_put, xlen_put, xval_put, xsz_put, xlo_put, xcls_new, xlen_new, xval_new, xsz_new, xlo_new, ↓reduceIte, reduceCtorEq, and_false, false_and, not_true_eq_false, not_false_eq_true, implies_true, forall_const, true_implies, false_implies, ne_eq, eb]
  refine sb_init_c hd hk gt.1 c1 (by subst eh; (simp (decide := true) only [true_and, and_true, and_self, exists_eq_left, exists_eq_left', forall_eq, forall_eq', Sum.inl.injEq, Sum.inr.injEq, Option.some.injEq, xcls_put, xlen_put, xval_put, xsz_put, xlo_put, xcls_new, xlen_new, xval_new, xsz_new, xlo_new, ↓reduceIte, reduceCtorEq, and_false, false_and, not_true_eq_false, not_false_eq_true, implies_true, forall_const, true_implies, false_implies, ne_eq, eb] <;> rfl)) (gt.ex x1).2.2.2 fun h' v m hv s => hQ h' ⟨x1.tn m (fun x hx => Or.inr (by rw [List.mem_singleton.mp hx]; omega)), by omega, v, 16, Nat.le_trans x1.2.1 hv, s, Or.inl rfl⟩
theorem B_toString_c {F : Option Nat → xH → Nat → Prop} (hd : 9 < d) (hk : 40 ≤ k) (gt : gT G h0) (q : isB h0 h b cs) (hQ : ∀ h' a, xExt h0 h' → isStr h' a cs → F (some a) h' (k - 40)) : xCall G d k mJ12_toString [xr (some b)] h (xkR F T) := by
  obtain ⟨q1, q2, v, cap, q3, q4, q5⟩ := q
  exact sb_toString_c hd hk gt.1 q4 (gt.ex q1).2.2.2 fun h' a x _ s => hQ h' a (q1.tr x) s
theorem B_at_c {F : Option Nat → xH → Nat → Prop} (hd : 7 < d) (hk : 175 ≤ k) (gt : gT G h0) (q : isB h0 h b cs) (a0 : xcls h0 a = 13 ∨ xcls h0 a = 14) (a1 : xval h0 a 1 = xi y) (a2 : xval h0 a 2 = xi z) (hy : pN y) (hz : pN z) (hl : cs.length + (pPl y z).length ≤ 34) (hQ : ∀ h', isB h0 h' b (cs ++ pPl y z) → F (some b) h' (k - 175)) : xCall G d k mX0_at [xr (some b), xr (some a)] h (xkR F T) := by
  have hn0 : xcls h0 a ≠ 0 := by rcases a0 with z | z <;> rw [z] <;> decide
  have hlen : (pPl y z).length = (pTx y).length + (pTx z).length + 3 := by
    unfold pPl
    simp only [List.length_cons, List.length_append, List.length_nil]
    omega
  have kc : ∀ {h2 : xH}, xExt h0 h2 → xcls h2 a = 13 ∨ xcls h2 a = 14 := fun m => by rw [m.cl hn0]; exact a0
  refine xCall_of (d' := 7) hd hk (vc_X0_at ⟨b, rfl, q.cl, B_char_c (c := 64) (by decide) (by decide) gt q (by decide) (by omega) fun h2 q2 => ⟨a, rfl, kc q2.xx, _, (q2.xx.vl hn0 1).trans a1, b, rfl, q2.cl, B_int_c (by decide) (by decide) gt q2 hy (by simp; omega) fun h8 q8 => ⟨b, rfl, q8.cl, B_char_c (c := 44) (by decide) (by decide) gt q8 (by decide) (by simp; omega) fun h12 q12 => ⟨kc q12.xx, _, (q12.xx.vl hn0 2).trans a2, b, rfl, q12.cl, B_int_c (by decide) (by decide) gt q12 hz (by simp; omega) fun h17 q17 => ⟨b, rfl, q17.cl, B_char_c (c := 32) (by decide) (by decide) gt q17 (by decide) (by simp; omega) fun h21 q21 => hQ h21 ?_⟩⟩⟩⟩⟩)
  have e : cs ++ pPl y z = cs ++ [64] ++ pTx y ++ [44] ++ pTx z ++ [32] := by unfold pPl; simp
  rw [e]
  exact q21
end XSX

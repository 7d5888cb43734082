/-! StringBuilder: toString -/
section XSG
variable {G : xG} {d k : Nat} {h h' h0 : xH} {T : Nat → xH → Nat → Prop} {S : List Nat} {x p i j c a b e r w m n o v cap P L st : Nat} {cs ds : List Nat} {y z : Int32}
theorem copyOfRange_c {F : Option Nat → xH → Nat → Prop} (hd : 4 < d) (hk : 1 + n ≤ k) (hc : xcls h v = 1000) (hv : xlen h v = cap) (hn : n ≤ cap) (hcap : cap ≤ 1000) (hlo : xlo h ≤ xsz h) (hf : ∀ t, t < cap → ∃ w : Int32, xval h v t = xi w ∧ fits .byte (.int w) = true)
    (hQ : ∀ h' a, xExt h h' → xsz h ≤ a → xcls h' a = 1000 → xlen h' a = n → (∀ t, t < n → xval h' a t = xval h v t) → F (some a) h' (k - (1 + n))) : xCall G d k mJ17_copyOfRange [xr (some v), xi (0 : Int32), xi (nI n)] h (xkR F T) := by
  refine xCall_of (d' := 4) hd hk (vc_J17_copyOfRange ⟨fun z => absurd rfl z, fun _ => ⟨v, rfl, ⟨0, _, rfl, hc⟩, fun z => ?_, fun z => ?_⟩⟩)
  · rw [hv] at z
    have e : n = cap := (nI_eq (by omega) (by omega)).mp z
    subst e
    refine ⟨by decide, hc, by rw [hv]; exact Nat.le_refl _, fun t ht => hf t (by rw [← hv]; exact ht), fun h6 a7 ea eh => ?_⟩
    have x6 : xExt h h6 := eh ▸ xMod.rf.new
    have c6 : xcls h6 a7 = 1000 := by subst eh; simp (decide := true) only [true_and, and_true, and_self, exists_eq_left, exists_eq_left', forall_eq, forall_eq', Sum.inl.injEq, Sum.inr.injEq, Option.some.injEq, xcls_put, xlen_put, xval_put, xsz_put, xlo_put, xcls_new, xlen_new, xval_new, xsz_new, xlo_new, ↓reduceIte, reduceCtorEq, and_false, false_and, not_true_eq_false, not_false_eq_true, implies_true, forall_const, true_implies, false_implies, ne_eq, ea]
    refine ⟨c6, hQ h6 a7 x6 (by omega) c6 ?_ fun t ht => ?_⟩
    · rw [eh, xlen_new, if_pos ea]; exact hv
    · rw [eh, xval_new, if_pos ea]
  · have hne : n ≠ cap := fun e => z (by rw [hv, e])
    refine xCall_of (d' := 3) (by decide) (Nat.le_refl _) (vc_J17_copyOfRangeByte (xCall_of (d' := 1) (by decide) (Nat.zero_le _) (vc_J17_checkLength ⟨fun _ => ?_, fun z => absurd (nI_pos' (by omega)) z⟩)))
    have e0 : nI n - (0 : Int32) = nI n := by rw [← iI_n, show (0 : Int32) = iI 0 from rfl, iI_sub, Int.sub_zero]
    have e1 : nI cap - (0 : Int32) = nI cap := by rw [← iI_n, show (0 : Int32) = iI 0 from rfl, iI_sub, Int.sub_zero]
    refine ⟨n, e0, by omega, Nat.le_refl _, fun h3 a4 ea eh => ⟨v, rfl, ?_, by decide, fun n8 e8 => ?_⟩⟩
    · exact ⟨0, _, rfl, (eh ▸ xMod.rf.new : xExt h h3).cl' hc (by decide)⟩
    · have x3 : xExt h h3 := eh ▸ xMod.rf.new
      have c3 : xcls h3 v = 1000 := x3.cl' hc (by decide)
      have l3 : xlen h3 v = cap := (x3.ln (by rw [hc]; decide)).trans hv
      have c4 : xcls h3 a4 = 1000 := by subst eh; simp (decide := true) only [true_and, and_true, and_self, exists_eq_left, exists_eq_left', forall_eq, forall_eq', Sum.inl.injEq, Sum.inr.injEq, Option.some.injEq, xcls_put, xlen_put, xval_put, xsz_put, xlo_put, xcls_new, xlen_new, xval_new, xsz_new, xlo_new, ↓reduceIte, reduceCtorEq, and_false, false_and, not_true_eq_false, not_false_eq_true, implies_true, forall_const, true_implies, false_implies, ne_eq, ea]
      have l4 : xlen h3 a4 = n := by subst eh; simp (decide := true) only [true_and, and_true, and_self, exists_eq_left, exists_eq_left', forall_eq, forall_eq', Sum.inl.injEq, Sum.inr.injEq, Option.some.injEq, xcls_put, xlen_put, xval_put, xsz_put, xlo_put, xcls_new, xlen_new, xval_new, xsz_new, xlo_new, ↓reduceIte, reduceCtorEq, and_false, false_and, not_true_eq_false, not_false_eq_true, implies_true, forall_const, true_implies, false_implies, ne_eq, ea]
      have v3 : ∀ t, xval h3 v t = xval h v t := fun t => x3.vl (by rw [hc]; decide) t
      rw [l3, e0, e1, if_pos (nI_lt (by omega) (by omega))] at e8
      refine ⟨by decide, c3, c4, by rw [x3.1, ea]; exact hlo, 0, 0, n, rfl, rfl, e8, by omega, by omega, by omega, by omega, fun t ht => by rw [Nat.zero_add, v3]; exact hf t (by omega), fun h11 e11 => ?_⟩
      have m11 : xMod [] h h11 := e11 ▸ xcpy_md (Or.inr (by omega)) x3
      have v11 : ∀ t, xval h11 a4 t = if 0 ≤ t ∧ t < 0 + n then xval h3 v (0 + (t - 0)) else xval h3 a4 t := fun t => by
        rw [e11]
        show xval (xfil _ _ _) a4 t = _
        rw [xval_fil, if_pos rfl]
      refine hQ h11 a4 m11 (by omega) ?_ ?_ (fun t ht => ?_)
      · rw [e11]; exact c4
      · rw [e11]; exact l4
      · rw [v11, if_pos (by omega), Nat.zero_add, v3]; rfl
theorem sb_toString_c {F : Option Nat → xH → Nat → Prop} (hd : 9 < d) (hk : 40 ≤ k) (gs : G.2.1 3 = xi 1) (q : isSB h b v cap cs) (hlo : xlo h ≤ xsz h)
    (hQ : ∀ h' a, xExt h h' → xsz h ≤ a → isStr h' a cs → F (some a) h' (k - 40)) : xCall G d k mJ12_toString [xr (some b)] h (xkR F T) := by
  refine xCall_of (d' := 9) hd hk (vc_J12_toString ⟨by decide, fun h1 a2 ea eh => ?_⟩)
  have x1 : xExt h h1 := eh ▸ xMod.rf.new
  have c1 : xcls h1 a2 = 12 := by subst eh; simp (decide := true) only [true_and, and_true, and_self, exists_eq_left, exists_eq_left', forall_eq, forall_eq', Sum.inl.injEq, Sum.inr.injEq, Option.some.injEq, xcls_put, xlen_put, xval_put, xsz_put, xlo_put, xcls_new, xlen_new, xval_new, xsz_new, xlo_new, ↓reduceIte, reduceCtorEq, and_false, false_and, not_true_eq_false, not_false_eq_true, implies_true, forall_const, true_implies, false_implies, ne_eq, ea]
  have q1 : isSB h1 b v cap cs := q.md x1 (by simp) (by simp)
  have la : xlo h1 ≤ a2 := by rw [x1.1, ea]; exact hlo
  obtain ⟨b1, b2, b3, b4, b5, b6, b7, b8, b9, b10, b11⟩ := id q1
  refine xCall_of (d' := 8) (by decide) (Nat.le_refl _) (vc_J13_init (xCall_of (d' := 7) (by decide) (Nat.le_refl _) (vc_J13_init_2 ⟨by decide, b, rfl, b1, xCall_of (d' := 1) (by decide) (Nat.zero_le _) (vc_J11_getValue ⟨b1, _, b2, ?_⟩)⟩)))
  refine ⟨b1, xCall_of (d' := 2) (by decide) (Nat.zero_le _) (vc_J12_length ⟨b1, xCall_of (d' := 1) (by decide) (Nat.zero_le _) (vc_J11_length ⟨b1, _, b4, ?_⟩)⟩)⟩
  refine ⟨b1, sb_latin_c (by decide) gs q1 ⟨fun z => absurd z (by decide), fun _ => ⟨c1, la, fun h32 e32 => ?_⟩⟩⟩
  have m32 : xMod [a2] h1 h32 := e32 ▸ xMod.rf.put (Or.inl (by simp))
  have nv : v ∉ [a2] := by
    intro z
    rw [List.mem_singleton.mp z, c1] at b5
    cases b5
  have v32 : ∀ t, xval h32 v t = xval h1 v t := fun t => m32.vl (by rw [b5]; decide) nv t
  refine copyOfRange_c (cap := cap) (by decide) (by omega) (m32.cl' b5 (by decide)) ((m32.ln (by rw [b5]; decide)).trans b7) b8 (by omega) (by rw [m32.1, x1.1]; exact Nat.le_trans hlo (Nat.le_trans x1.2.1 m32.2.1)) (fun t ht => by
    obtain ⟨w, e1, e2⟩ := b11 t ht
    exact ⟨w, by rw [v32]; exact e1, e2⟩) fun h33 a x33 ha ca lna va => ⟨x33.cl' (m32.cl' c1 (by decide)) (by decide), by rw [x33.1, m32.1]; exact la, fun h36 e36 => ?_⟩
  have c33 : xcls h33 a2 = 12 := x33.cl' (m32.cl' c1 (by decide)) (by decide)
  have naa : ¬ a = a2 := xne_cls ca c33 (by decide)
  have x36 : xExt h h36 := by
    rw [e36]
    exact ((x1.tn m32 (fun y hy => Or.inr (by rw [List.mem_singleton.mp hy]; omega))).tr x33).put (Or.inr (by omega))
  refine hQ h36 a2 x36 (by omega) ⟨by rw [e36]; exact c33, ?_, a, by rw [e36, xval_put, if_pos ⟨rfl, rfl⟩], by rw [e36]; exact ca, by rw [e36]; exact lna, fun i c e => ?_⟩
  · rw [e36, xval_put, if_neg (by simp), x33.vl (by rw [m32.cl' c1 (by decide)]; decide), e32, xval_put, if_pos ⟨rfl, rfl⟩]
  · have hi := (List.getElem?_eq_some_iff.mp e).1
    rw [e36, xval_put, if_neg (fun z => naa z.1), va i hi, v32]
    exact b10 i c e
end XSG

/-! StringBuilder: room, signs, texts -/
section XSC
variable {G : xG} {d k : Nat} {h h' h0 : xH} {T : Nat → xH → Nat → Prop} {S : List Nat} {x p i j c a b e r w m n o v cap : Nat} {cs ds : List Nat} {y z : Int32}
theorem xcpy_md {a b i j n : Nat} (hb : b ∈ S ∨ xsz h ≤ b) (m : xMod S h h') : xMod S h (xcpy h' a b i j n) := m.fil hb
theorem sb_grow (n : Nat) (h1 : 16 < n) (h2 : n ≤ 34) : (if nI n - nI 16 < nI 16 + (2 : Int32) <<< ((0 : Int32) &&& 31) then nI 16 + (2 : Int32) <<< ((0 : Int32) &&& 31) else nI n - nI 16) = 18 :=
  (by decide +kernel : ∀ n : Fin 35, 16 < n.1 → (if nI n.1 - nI 16 < nI 16 + (2 : Int32) <<< ((0 : Int32) &&& 31) then nI 16 + (2 : Int32) <<< ((0 : Int32) &&& 31) else nI n.1 - nI 16) = 18) ⟨n, by omega⟩ h1
/-- a copy of the bytes in a longer array -/
theorem copyOf_c {F : Option Nat → xH → Nat → Prop} (hd : 2 < d) (hk : 1 + n ≤ k) (hc : xcls h v = 1000) (hv : xlen h v = m) (hm : m < n) (hn : n ≤ 1000) (hlo : xlo h ≤ xsz h) (hf : ∀ t, t < m → ∃ w : Int32, xval h v t = xi w ∧ fits .byte (.int w) = true)
    (hQ : ∀ h' a, xExt h h' → xsz h ≤ a → xcls h' a = 1000 → xlo h' ≤ a → xlen h' a = n → (∀ t, t < m → xval h' a t = xval h v t) → (∀ t, m ≤ t → t < n → xval h' a t = xi 0) → F (some a) h' (k - (1 + n))) : xCall G d k mJ17_copyOf [xr (some v), xi (nI n)] h (xkR F T) := by
  refine xCall_of (d' := 2) hd hk (vc_J17_copyOf ⟨v, rfl, ⟨0, _, rfl, hc⟩, fun z => ⟨n, rfl, by omega, Nat.le_refl _, fun h3 a4 ea eh => ?_⟩, fun z => ?_⟩)
  · have x3 : xExt h h3 := eh ▸ xMod.rf.new
    have c3 : xcls h3 v = 1000 := x3.cl' hc (by decide)
    have l3 : xlen h3 v = m := (x3.ln (by rw [hc]; decide)).trans hv
    have c4 : xcls h3 a4 = 1000 := by subst eh; simp (decide := true) only [true_and, and_true, and_self, exists_eq_left, exists_eq_left', forall_eq, forall_eq', Sum.inl.injEq, Sum.inr.injEq, Option.some.injEq, xcls_put, xlen_put, xval_put, xsz_put, xlo_put, xcls_new, xlen_new, xval_new, xsz_new, xlo_new, ↓reduceIte, reduceCtorEq, and_false, false_and, not_true_eq_false, not_false_eq_true, implies_true, forall_const, true_implies, false_implies, ne_eq, ea]
    have l4 : xlen h3 a4 = n := by subst eh; simp (decide := true) only [true_and, and_true, and_self, exists_eq_left, exists_eq_left', forall_eq, forall_eq', Sum.inl.injEq, Sum.inr.injEq, Option.some.injEq, xcls_put, xlen_put, xval_put, xsz_put, xlo_put, xcls_new, xlen_new, xval_new, xsz_new, xlo_new, ↓reduceIte, reduceCtorEq, and_false, false_and, not_true_eq_false, not_false_eq_true, implies_true, forall_const, true_implies, false_implies, ne_eq, ea]
    have v4 : ∀ t, xval h3 a4 t = xi 0 := fun t => by rw [eh, xval_new, if_pos ea]; rfl
    have nv : ¬ v = a4 := fun z => xne_new (by rw [hc]; decide) ea z
    have v3 : ∀ t, xval h3 v t = xval h v t := fun t => x3.vl (by rw [hc]; decide) t
    refine ⟨⟨0, _, rfl, c3⟩, by decide, fun n7 e7 => ?_⟩
    have e7' : n7 = nI m := by
      rw [e7, l3, if_neg (nI_nlt (by omega) (by omega))]
    refine ⟨by decide, c3, c4, by rw [x3.1, ea]; exact hlo, 0, 0, m, rfl, rfl, e7', by omega, by omega, by omega, by omega, fun t ht => by rw [Nat.zero_add, v3]; exact hf t ht, fun h11 e11 => ?_⟩
    have m11 : xMod [] h h11 := e11 ▸ xcpy_md (Or.inr (by omega)) x3
    have v11 : ∀ t, xval h11 a4 t = if 0 ≤ t ∧ t < 0 + m then xval h3 v (0 + (t - 0)) else xval h3 a4 t := fun t => by
      rw [e11]
      show xval (xfil _ _ _) a4 t = _
      rw [xval_fil, if_pos rfl]
    refine hQ h11 a4 m11 (by omega) ?_ (by rw [m11.1, ea]; exact hlo) ?_ (fun t ht => ?_) (fun t h1 h2 => ?_)
    · rw [e11]; exact c4
    · rw [e11]; exact l4
    · rw [v11, if_pos (by omega), Nat.zero_add, v3]; rfl
    · rw [v11, if_neg (by omega), v4]
  · rw [hv] at z
    have := (nI_eq (by omega) (by omega)).mp z
    omega
theorem sb_ensure_c {F : xH → Nat → Prop} (hd : 4 < d) (hk : 35 ≤ k) (q : isSB h b v cap cs) (hcap : cap = 16 ∨ cap = 34) (hn : n ≤ 34) (hlo : xlo h ≤ xsz h)
    (hQ : ∀ h' v' cap', xMod [b] h h' → (v' = v ∨ xsz h ≤ v') → isSB h' b v' cap' cs → (cap' = 16 ∨ cap' = 34) → n ≤ cap' → F h' (k - 35)) : xCall G d k mJ11_ensureCapacityInternal [xr (some b), xi (nI n)] h (xkV F T) := by
  obtain ⟨q1, q2, q3, q4, q5, q6, q7, q8, q9, q10, q11⟩ := id q
  have hsr : (nI (xlen h v)) >>> ((0 : Int32) &&& 31) = nI cap := by rw [q7]; exact sb_sr (by omega)
  refine xCall_of (d' := 4) hd hk (vc_J11_ensureCapacityInternal ⟨q1, _, q2, v, rfl, ⟨0, _, rfl, q5⟩, q1, 0, q3, ?_⟩)
  rw [hsr]
  have e0 : nI n - nI cap = iI ((n : Int) - cap) := by rw [← iI_n, ← iI_n, iI_sub]
  have eq0 : (nI n - nI cap ≤ 0) ↔ n ≤ cap := by
    rw [e0, show (0 : Int32) = iI 0 from rfl, iI_le (by omega) (by omega) (by decide) (by decide)]
    omega
  refine ⟨fun z => hQ h v cap xMod.rf (Or.inl rfl) q hcap (eq0.mp z), fun z => ?_⟩
  have hgt : cap < n := by
    have : ¬ n ≤ cap := fun y => z (eq0.mpr y)
    omega
  have hc16 : cap = 16 := by omega
  subst hc16
  refine ⟨q1, _, q2, q1, xCall_of (d' := 3) (by decide) (Nat.zero_le _) (vc_J11_newCapacity ⟨q1, _, q2, v, rfl, ⟨0, _, rfl, q5⟩, q1, 0, q3, q1, 0, q3, ?_⟩)⟩
  rw [q7, sb_sl (by omega)]
  refine xCall_of (d' := 1) (by decide) (Nat.zero_le _) (vcs_J15_newLength ⟨by decide, fun n1 e1 => ?_⟩)
  rw [sb_grow n hgt hn] at e1
  subst e1
  refine ⟨fun z => absurd z (by decide), fun _ => ⟨fun z => absurd z (by decide), fun _ => ⟨fun _ => ⟨q1, 0, q3, q1, 0, q3, copyOf_c (n := 34) (m := 16) (by decide) (by decide) q5 q7 (by decide) (by decide) hlo q11 fun h10 a x10 ha ca la ea v1 v2 => ⟨x10.cl' q1 (by decide), fun h13 e13 => ?_⟩⟩, fun z => absurd z (by decide)⟩⟩⟩
  have m13 : xMod [b] h h13 := e13 ▸ (xMod.of x10).put (Or.inl (by simp))
  have nab : ¬ a = b := xne_cls ca (x10.cl' q1 (by decide)) (by decide)
  have w13 : ∀ t, xval h13 a t = xval h10 a t := fun t => by rw [e13, xval_put, if_neg (fun z => nab z.1)]
  have b13 : ∀ j, j ≠ 0 → xval h13 b j = xval h b j := fun j hj => by
    rw [e13, xval_put, if_neg (fun z => hj z.2)]
    exact x10.vl (by rw [q1]; decide) j
  refine hQ h13 a 34 m13 (Or.inr ha) ⟨m13.cl' q1 (by decide), by rw [e13, xval_put, if_pos ⟨rfl, rfl⟩], (b13 1 (by decide)).trans q3, (b13 3 (by decide)).trans q4, by rw [e13]; exact ca, by rw [m13.1, ← x10.1]; exact la, by rw [e13]; exact ea, by omega, by decide, fun i c e => ⟨(q10 i c e).1, ?_⟩, fun t ht => ?_⟩ (Or.inr rfl) hn
  · have hi := (List.getElem?_eq_some_iff.mp e).1
    rw [w13, v1 i (by omega)]
    exact (q10 i c e).2
  · by_cases h16 : t < 16
    · obtain ⟨w, e1, e2⟩ := q11 t h16
      exact ⟨w, by rw [w13, v1 t h16]; exact e1, e2⟩
    · exact ⟨0, by rw [w13]; exact v2 t (by omega) ht, rfl⟩
end XSC

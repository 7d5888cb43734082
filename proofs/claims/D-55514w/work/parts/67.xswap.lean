/-! the class: swaps, what a site saves -/
def swT (mm n : Nat) : List (Nat × Nat) := (List.range' 0 n).flatMap fun o => ((List.range' 0 n).filter fun c => mm.testBit o && !mm.testBit c).map fun c => (o, c)
def swC (W : Nat → Int32) (mm : Nat) (q : Nat × Nat) : Int32 := pCost W (bOff mm q.1 ||| 1 <<< q.2)
def isSw (h : xH) (e : Nat) (W : Nat → Int32) (mm : Nat) (q : Nat × Nat) : Prop := xcls h e = 35 ∧ xval h e 0 = xi (nI q.1) ∧ xval h e 1 = xi (nI q.2) ∧ xval h e 2 = xi (swC W mm q)
def isSL (h : xH) (N ll : Nat) (es : List Nat) (W : Nat → Int32) (mm : Nat) (Z : List (Nat × Nat)) : Prop :=
  (∃ (ns : List Nat) (mc : Int32), isLN h ll ns es mc ∧ ∀ n, n ∈ ns → N ≤ n) ∧ N ≤ ll ∧ es.length = Z.length ∧ ∀ (i e : Nat) (q : Nat × Nat), es[i]? = some e → Z[i]? = some q → isSw h e W mm q
theorem sw_bits {m o c : Nat} (hm : m < 64) (ho : o < 6) (hc : c < 6) (h1 : m.testBit o = true) (h2 : m.testBit c = false) : m ^^^ 1 <<< o = bOff m o ∧ bOff m o ^^^ 1 <<< c = bOff m o ||| 1 <<< c ∧ bOff m o ^^^ 1 <<< o = m ∧ bOff m o < 64 :=
  (by decide +kernel : ∀ (m : Fin 64) (o c : Fin 6), m.1.testBit o.1 = true → m.1.testBit c.1 = false → m.1 ^^^ 1 <<< o.1 = bOff m.1 o.1 ∧ bOff m.1 o.1 ^^^ 1 <<< c.1 = bOff m.1 o.1 ||| 1 <<< c.1 ∧ bOff m.1 o.1 ^^^ 1 <<< o.1 = m.1 ∧ bOff m.1 o.1 < 64) ⟨m, hm⟩ ⟨o, ho⟩ ⟨c, hc⟩ h1 h2
section XXS
variable {G : xG} {d k : Nat} {h h' h0 : xH} {T : Nat → xH → Nat → Prop} {S : List Nat} {x p N i j s c a b e r ka mm w m ll : Nat} {es hs ss : List Nat} {W W' : Nat → Int32} {nd y z v x' y' : Int32} {Z : List (Nat × Nat)}
theorem isSw.md {q : Nat × Nat} (a : isSw h e W mm q) (m : xMod S h h') (h1 : e ∉ S) : isSw h' e W mm q := ⟨m.cl' a.1 (by decide), m.vl' a.1 (by decide) h1 a.2.1, m.vl' a.1 (by decide) h1 a.2.2.1, m.vl' a.1 (by decide) h1 a.2.2.2⟩
theorem isSL.md (a : isSL h N ll es W mm Z) (m : xMod S h h') (h1 : ∀ x, x ∈ S → xcls h x ≠ 17 ∧ xcls h x ≠ 25 ∧ (xcls h x = 35 → x ∉ es)) : isSL h' N ll es W mm Z := by
  obtain ⟨⟨ns, mc, a1, a2⟩, a3, a4, a5⟩ := a
  refine ⟨⟨ns, mc, a1.md m (fun x hx => ⟨(h1 x hx).1, (h1 x hx).2.1⟩), a2⟩, a3, a4, fun i e q he hq => (a5 i e q he hq).md m fun z => (h1 e z).2.2 (a5 i e q he hq).1 (List.mem_of_getElem? he)⟩
theorem swaps_i {Kc : Nat} {Q : xR → xH → Prop} (g8 : G.2.1 8 = xi 1) (X : wG W) (hm : pSet W mm) {o : Nat} (ho : o < nS W) (hb : xsz h0 ≤ b ∨ b ∈ [b, w]) : ∀ j i es Z h kk, i + j = nS W → Z.length ≤ 6 * o + i → isNw G h x p hs ss W nd → isBS h b w mm → xMod [b, w] h0 h → isSL h (xsz h0) ll es W mm Z → j * 89 ≤ kk →
    (∀ h' es' kk', xMod [b, w] h0 h' → isBS h' b w mm → isNw G h' x p hs ss W nd → isSL h' (xsz h0) ll es' W mm (Z ++ ((List.range' i j).filter fun c => mm.testBit o && !mm.testBit c).map fun c => (o, c)) → kk - j * 89 ≤ kk' → xWp G mX0_swaps 11 Kc Q kk' 10 [some (xr (some x)), some (xr (some b)), some (xr (some ll)), some (xi (nI (o + 1))), none] [] h') →
    xWp G mX0_swaps 11 Kc Q kk 27 [some (xr (some x)), some (xr (some b)), some (xr (some ll)), some (xi (nI o)), some (xi (nI i))] [] h := by
  intro j
  induction j with
  | zero =>
    intro i es Z h kk hi hZ q B x0 L hk hQ
    have hns := q.pr.ns
    have h6 := q.pr.pw.2.2.2
    refine vc_X0_swaps_27 ⟨q.1, _, q.2.1, p, rfl, pr_s q.pr fun r R _ => row_many_c (by decide) R ⟨fun _ => ?_, fun z => absurd (nI_le (by omega) (by omega)) z⟩⟩
    rw [nI_1]
    rw [List.range'_zero, List.filter_nil, List.map_nil, List.append_nil] at hQ
    exact hQ h es _ x0 B q L (by omega)
  | succ j ih =>
    intro i es Z h kk hi hZ q B x0 L hk hQ
    rw [Nat.succ_mul] at hk
    have hns := q.pr.ns
    have h6 := q.pr.pw.2.2.2
    have skip : (mm.testBit o && !mm.testBit i) = false → ∀ kk1, kk - 0 ≤ kk1 → xWp G mX0_swaps 11 Kc Q kk1 27 [some (xr (some x)), some (xr (some b)), some (xr (some ll)), some (xi (nI o)), some (xi (nI (i + 1)))] [] h := by
      intro hc kk1 hk1
      rw [List.range'_succ, List.filter_cons, if_neg (by rw [hc]; exact Bool.false_ne_true)] at hQ
      exact ih (i + 1) es Z h kk1 (by omega) (by omega) q B x0 L (by omega) fun h' es' kk' a1 a2 a3 a4 a5 => hQ h' es' kk' a1 a2 a3 a4 (by omega)
    refine vc_X0_swaps_27 ⟨q.1, _, q.2.1, p, rfl, pr_s q.pr fun r R _ => row_many_c (by decide) R ⟨fun z => absurd ((nI_leI (by omega) (by omega)).mp z) (by omega), fun _ => ⟨b, rfl, B.1, bs_get_c (by decide) g8 B (by omega) ⟨fun z => ?_, fun z => ⟨B.1, bs_get_c (by decide) g8 B (by omega) ⟨fun z2 => ?_, fun z2 => ⟨B.1, bs_flip_c (by decide) g8 B (by omega) fun h1 m1 B1 => ⟨by omega, fun h28 a29 ea eh => ?_⟩⟩⟩⟩⟩⟩⟩⟩
    · rw [nI_1]
      exact skip (by rw [xb0.mp z]; rfl) _ (by omega)
    · rw [nI_1]
      exact skip (by rw [xb1.mp z, xb1.mp z2]; rfl) _ (by omega)
    · have hbo := xb1.mp z
      have hbc := xb0.mp z2
      obtain ⟨f1, f2, f3, f4⟩ := sw_bits B.lt (show o < 6 by omega) (show i < 6 by omega) hbo hbc
      rw [f1] at B1
      have hset1 : pSet W (bOff mm o) := b_offlt h6 hm ho
      have hset2 := b_orlt h6 hset1 (show i < nS W by omega)
      have q1 := q.md m1 (bs_pIc B)
      have L1 : isSL h1 (xsz h0) ll es W mm Z := L.md m1 (fun y hy => by
        simp only [List.mem_cons, List.not_mem_nil, or_false] at hy
        rcases hy with rfl | rfl
        · rw [B.1]; exact ⟨by decide, by decide, fun z => absurd z (by decide)⟩
        · rw [B.2.2.1]; exact ⟨by decide, by decide, fun z => absurd z (by decide)⟩)
      have m28 : xExt h1 h28 := eh ▸ xMod.rf.new
      have c28 : xcls h28 a29 = 35 := by subst eh; simp (decide := true) only [true_and, and_true, and_self, exists_eq_left, exists_eq_left', forall_eq, forall_eq', Sum.inl.injEq, Sum.inr.injEq, Option.some.injEq, xcls_put, xlen_put, xval_put, xsz_put, xlo_put, xcls_new, xlen_new, xval_new, xsz_new, xlo_new, ↓reduceIte, reduceCtorEq, and_false, false_and, not_true_eq_false, not_false_eq_true, implies_true, forall_const, true_implies, false_implies, ne_eq, ea]
      have x1 := x0.tr m1
      have x28 := x1.tx m28
      have hz : xsz h0 ≤ a29 := by rw [ea]; exact x1.2.1
      have B28 := B1.ex m28
      have q28 := q1.ex m28
      refine ⟨q28.1, costWith_c (by decide) (by omega) g8 q28 X B28 (by omega) (by rw [f2]; exact hset2.1) fun h30 m30 B30 q30 => ?_⟩
      have ec : cCost W (bOff mm o ^^^ 1 <<< i) = swC W mm (o, i) := by
        unfold cCost swC
        rw [f2, if_pos (pPlan_of hset2.2)]
      rw [ec]
      have c30 : xcls h30 a29 = 35 := m30.cl' c28 (by decide)
      refine xCall_of (d' := 2) (by decide) (Nat.zero_le _) (vc_X22_init (xCall_of (d' := 1) (by decide) (Nat.zero_le _) (vc_J30_init ⟨by decide, c30, fun h3 e3 => ⟨by rw [e3]; exact c30, fun h4 e4 => ⟨by rw [e4, e3]; exact c30, fun h5 e5 => ?_⟩⟩⟩)))
      have m5 : xMod [a29] h30 h5 := by
        rw [e5, e4, e3]
        exact ((xMod.rf.put (Or.inl (by simp))).put (Or.inl (by simp))).put (Or.inl (by simp))
      have sw5 : isSw h5 a29 W mm (o, i) := by
        refine ⟨by rw [e5, e4, e3]; exact c30, ?_, ?_, ?_⟩
        · rw [e5, e4, e3]; simp (decide := true) only [true_and, and_true, and_self, exists_eq_left, exists_eq_left', forall_eq, forall_eq', Sum.inl.injEq, Sum.inr.injEq, Option.some.injEq, xcls_put, xlen_put, xval_put, xsz_put, xlo_put, xcls_new, xlen_new, xval_new, xsz_new, xlo_new, ↓reduceIte, reduceCtorEq, and_false, false_and, not_true_eq_false, not_false_eq_true, implies_true, forall_const, true_implies, false_implies, ne_eq]
        · rw [e5, e4]; simp (decide := true) only [true_and, and_true, and_self, exists_eq_left, exists_eq_left', forall_eq, forall_eq', Sum.inl.injEq, Sum.inr.injEq, Option.some.injEq, xcls_put, xlen_put, xval_put, xsz_put, xlo_put, xcls_new, xlen_new, xval_new, xsz_new, xlo_new, ↓reduceIte, reduceCtorEq, and_false, false_and, not_true_eq_false, not_false_eq_true, implies_true, forall_const, true_implies, false_implies, ne_eq]
        · rw [e5]; simp (decide := true) only [true_and, and_true, and_self, exists_eq_left, exists_eq_left', forall_eq, forall_eq', Sum.inl.injEq, Sum.inr.injEq, Option.some.injEq, xcls_put, xlen_put, xval_put, xsz_put, xlo_put, xcls_new, xlen_new, xval_new, xsz_new, xlo_new, ↓reduceIte, reduceCtorEq, and_false, false_and, not_true_eq_false, not_false_eq_true, implies_true, forall_const, true_implies, false_implies, ne_eq]
      have na : a29 ∉ es := by
        intro hin
        obtain ⟨t, ht⟩ := List.mem_iff_getElem?.mp hin
        have htl : t < Z.length := by rw [← L1.2.2.1]; exact (List.getElem?_eq_some_iff.mp ht).1
        have := (L1.2.2.2 t a29 _ ht (List.getElem?_eq_getElem htl)).1
        have := xcls_lt this (by decide)
        omega
      have x30 := x28.tr m30
      have x5 := x30.t1 m5 hz
      have L28 : isSL h28 (xsz h0) ll es W mm Z := L1.md m28 (fun y hy => by cases hy)
      have L30 : isSL h30 (xsz h0) ll es W mm Z := L28.md m30 (fun y hy => by
        simp only [List.mem_cons, List.not_mem_nil, or_false] at hy
        rcases hy with rfl | rfl
        · rw [B28.1]; exact ⟨by decide, by decide, fun z => absurd z (by decide)⟩
        · rw [B28.2.2.1]; exact ⟨by decide, by decide, fun z => absurd z (by decide)⟩)
      have L5 : isSL h5 (xsz h0) ll es W mm Z := L30.md m5 (fun y hy => by
        rw [List.mem_singleton.mp hy, c30]
        exact ⟨by decide, by decide, fun _ => na⟩)
      have B5 : isBS h5 b w (bOff mm o) := B30.md m5 (fun y => by have := List.mem_singleton.mp y; have h1 := B30.1; rw [this, c30] at h1; cases h1) (fun y => by have := List.mem_singleton.mp y; have h1 := B30.2.2.1; rw [this, c30] at h1; cases h1)
      have q5 := q30.md m5 (fun y hy => by rw [List.mem_singleton.mp hy, c30]; exact ⟨⟨by decide, by decide, by decide, by decide, by decide, by decide, by decide⟩, by decide⟩)
      obtain ⟨⟨ns, mc, LN, hn⟩, hll, hlen, hsw⟩ := L5
      have hzl : Z.length ≤ 36 := by omega
      refine ⟨ll, rfl, LN.1, ll_addLast_c (by decide) (by omega) LN (by omega) fun h6' m6 LN6 => ⟨?_, ?_⟩⟩
      · exact m6.cl' B5.1 (by decide)
      have ncl : ∀ y, y ∈ ll :: ns → xcls h5 y = 17 ∨ xcls h5 y = 25 := fun y hy => by
        rcases List.mem_cons.mp hy with e | e
        · rw [e]; exact Or.inl LN.1
        · obtain ⟨t, ht⟩ := List.mem_iff_getElem?.mp e
          exact Or.inr (LN.2.2.2.2.2.2.2.1 t y ht).1
      have B6 : isBS h6' b w (bOff mm o) := B5.md m6 (fun y => by rcases ncl b y with h1 | h1 <;> rw [B5.1] at h1 <;> cases h1) (fun y => by rcases ncl w y with h1 | h1 <;> rw [B5.2.2.1] at h1 <;> cases h1)
      have q6 := q5.md m6 (fun y hy => by rcases ncl y hy with h1 | h1 <;> rw [h1] <;> exact ⟨⟨by decide, by decide, by decide, by decide, by decide, by decide, by decide⟩, by decide⟩)
      have x6 : xMod [b, w] h0 h6' := x5.tn m6 (fun y hy => by
        rcases List.mem_cons.mp hy with e | e
        · rw [e]; exact Or.inr hll
        · exact Or.inr (hn y e))
      have L6 : isSL h6' (xsz h0) ll (es ++ [a29]) W mm (Z ++ [(o, i)]) := by
        refine ⟨⟨_, _, LN6, fun n hn' => ?_⟩, hll, by rw [List.length_append, List.length_append, hlen]; rfl, fun t e q' he hq => ?_⟩
        · rcases List.mem_append.mp hn' with e | e
          · exact hn n e
          · rw [List.mem_singleton.mp e]; exact x5.2.1
        · have sw : isSw h5 e W mm q' := by
            by_cases hlt : t < es.length
            · rw [List.getElem?_append_left hlt] at he
              rw [List.getElem?_append_left (by omega)] at hq
              exact hsw t e q' he hq
            · have ht1 := (List.getElem?_eq_some_iff.mp he).1
              rw [List.length_append, List.length_singleton] at ht1
              have et : t = es.length := by omega
              rw [List.getElem?_append_right (by omega), et, Nat.sub_self] at he
              rw [List.getElem?_append_right (by omega), et, hlen, Nat.sub_self] at hq
              cases he
              cases hq
              exact sw5
          exact sw.md m6 (fun y => by rcases ncl e y with h1 | h1 <;> rw [sw.1] at h1 <;> cases h1)
      refine bs_flip_c (by decide) g8 B6 (by omega) fun h7 m7 B7 => ?_
      rw [f3] at B7
      rw [nI_1]
      have L7 : isSL h7 (xsz h0) ll (es ++ [a29]) W mm (Z ++ [(o, i)]) := L6.md m7 (fun y hy => by
        simp only [List.mem_cons, List.not_mem_nil, or_false] at hy
        rcases hy with rfl | rfl
        · rw [B6.1]; exact ⟨by decide, by decide, fun z => absurd z (by decide)⟩
        · rw [B6.2.2.1]; exact ⟨by decide, by decide, fun z => absurd z (by decide)⟩)
      rw [List.range'_succ, List.filter_cons, if_pos (by rw [hbo, hbc]; rfl), List.map_cons] at hQ
      refine ih (i + 1) (es ++ [a29]) (Z ++ [(o, i)]) h7 _ (by omega) (by rw [List.length_append, List.length_singleton]; omega) (q6.md m7 (bs_pIc B6)) B7 (x6.tr m7) L7 (by omega) fun h' es' kk' a1 a2 a3 a4 a5 => hQ h' es' kk' a1 a2 a3 ?_ (by omega)
      rw [List.append_assoc] at a4
      exact a4
theorem swaps_o {Kc : Nat} {Q : xR → xH → Prop} (g8 : G.2.1 8 = xi 1) (X : wG W) (hm : pSet W mm) : ∀ j i es Z h kk, i + j = nS W → Z.length ≤ 6 * i → isNw G h x p hs ss W nd → isBS h b w mm → xMod [b, w] h0 h → isSL h (xsz h0) ll es W mm Z → 534 * j ≤ kk →
    (∀ h' es', xMod [b, w] h0 h' → isBS h' b w mm → isNw G h' x p hs ss W nd → isSL h' (xsz h0) ll es' W mm (Z ++ (List.range' i j).flatMap fun o => ((List.range' 0 (nS W)).filter fun c => mm.testBit o && !mm.testBit c).map fun c => (o, c)) → Q (.inl (some (xr (some ll)))) h') →
    xWp G mX0_swaps 11 Kc Q kk 10 [some (xr (some x)), some (xr (some b)), some (xr (some ll)), some (xi (nI i)), none] [] h := by
  intro j
  induction j with
  | zero =>
    intro i es Z h kk hi hZ q B x0 L hk hQ
    have hns := q.pr.ns
    have h6 := q.pr.pw.2.2.2
    refine vc_X0_swaps_10 ⟨q.1, _, q.2.1, p, rfl, pr_s q.pr fun r R _ => row_many_c (by decide) R ⟨fun _ => ?_, fun z => absurd (nI_le (by omega) (by omega)) z⟩⟩
    rw [List.range'_zero, List.flatMap_nil, List.append_nil] at hQ
    exact hQ h es x0 B q L
  | succ j ih =>
    intro i es Z h kk hi hZ q B x0 L hk hQ
    have hns := q.pr.ns
    have h6 := q.pr.pw.2.2.2
    refine vc_X0_swaps_10 ⟨q.1, _, q.2.1, p, rfl, pr_s q.pr fun r R _ => row_many_c (by decide) R ⟨fun z => absurd ((nI_leI (by omega) (by omega)).mp z) (by omega), fun _ => ?_⟩⟩
    refine swaps_i g8 X hm (o := i) (by omega) (Or.inr (by simp)) (nS W) 0 es Z h _ (Nat.zero_add _) (by omega) q B x0 L (by omega) fun h1 es1 k1 a1 a2 a3 a4 a5 => ?_
    rw [List.range'_succ, List.flatMap_cons] at hQ
    refine ih (i + 1) es1 _ h1 k1 (by omega) ?_ a3 a2 a1 a4 (by omega) fun h' es' b1 b2 b3 b4 => hQ h' es' b1 b2 b3 ?_
    · have h1 := List.length_filter_le (fun c => mm.testBit i && !mm.testBit c) (List.range' 0 (nS W))
      rw [List.length_range'] at h1
      rw [List.length_append, List.length_map]
      omega
    · rw [List.append_assoc] at b4
      exact b4
theorem swaps_c {F : Option Nat → xH → Nat → Prop} (hd : 11 < d) (hk : 3209 ≤ k) (g8 : G.2.1 8 = xi 1) (q : isNw G h x p hs ss W nd) (X : wG W) (B : isBS h b w mm) (hm : pSet W mm) (hQ : ∀ h' ll es, xMod [b, w] h h' → isNw G h' x p hs ss W nd → isSL h' (xsz h) ll es W mm (swT mm (nS W)) → F (some ll) h' (k - 3209)) : xCall G d k mX0_swaps [xr (some x), xr (some b)] h (xkR F T) := by
  have h6 := q.pr.pw.2.2.2
  refine xCall_of (d' := 11) hd hk (vc_X0_swaps ⟨by decide, fun h1 a2 ea eh => ?_⟩)
  have x1 : xExt h h1 := eh ▸ xMod.rf.new
  have c1 : xcls h1 a2 = 17 := by subst eh; simp (decide := true) only [true_and, and_true, and_self, exists_eq_left, exists_eq_left', forall_eq, forall_eq', Sum.inl.injEq, Sum.inr.injEq, Option.some.injEq, xcls_put, xlen_put, xval_put, xsz_put, xlo_put, xcls_new, xlen_new, xval_new, xsz_new, xlo_new, ↓reduceIte, reduceCtorEq, and_false, false_and, not_true_eq_false, not_false_eq_true, implies_true, forall_const, true_implies, false_implies, ne_eq, ea]
  have hz : xsz h ≤ a2 := by omega
  refine ll_init_c (by decide) c1 (by subst eh; (simp (decide := true) only [true_and, and_true, and_self, exists_eq_left, exists_eq_left', forall_eq, forall_eq', Sum.inl.injEq, Sum.inr.injEq, Option.some.injEq, xcls_put, xlen_put, xval_put, xsz_put, xlo_put, xcls_new, xlen_new, xval_new, xsz_new, xlo_new, ↓reduceIte, reduceCtorEq, and_false, false_and, not_true_eq_false, not_false_eq_true, implies_true, forall_const, true_implies, false_implies, ne_eq, ea] <;> rfl)) (by subst eh; (simp (decide := true) only [true_and, and_true, and_self, exists_eq_left, exists_eq_left', forall_eq, forall_eq', Sum.inl.injEq, Sum.inr.injEq, Option.some.injEq, xcls_put, xlen_put, xval_put, xsz_put, xlo_put, xcls_new, xlen_new, xval_new, xsz_new, xlo_new, ↓reduceIte, reduceCtorEq, and_false, false_and, not_true_eq_false, not_false_eq_true, implies_true, forall_const, true_implies, false_implies, ne_eq, ea] <;> rfl)) fun h3 m3 L3 => ?_
  have x3 := x1.t1 m3 hz
  refine swaps_o g8 X hm (h0 := h) (nS W) 0 [] [] h3 _ (Nat.zero_add _) (Nat.le_refl _) (q.ex x3) (B.ex x3) x3.of ⟨⟨[], 0, L3, fun n hn => by cases hn⟩, hz, rfl, fun i e q he => by simp at he⟩ (by omega) fun h4 es' a1 a2' a3 a4 => hQ h4 a2 es' a1 a3 a4
end XXS

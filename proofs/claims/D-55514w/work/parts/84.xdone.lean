/-! a deed that is done -/
def bPush (bs : List xSt) (s : xSt) : List xSt := if bs.length < 8 then bs ++ [s] else (bs ++ [s]).tail
def okD (c : Nat) : Prop := c = 7 ∨ c = 26 ∨ c = 27 ∨ c = 28 ∨ c = 29 ∨ c = 30 ∨ c = 31 ∨ c = 32 ∨ c = 54
theorem nI_lei {a b : Nat} (ha : a < 2147483648) (hb : b < 2147483648) : nI a ≤ nI b ↔ a ≤ b := by
  rw [← iI_n, ← iI_n, iI_le (by omega) (by omega) (by omega) (by omega)]
  omega
section XDN
variable {G : xG} {d k : Nat} {h h' h0 : xH} {T : Nat → xH → Nat → Prop} {S : List Nat} {x p N N0 i j c a b e r ka mm w m ll n al most dq da ip f dd kd t : Nat} {es hs ss hs' ss' ps ps' cs : List Nat} {W W' g X' Y' u : Nat → Int32} {nd y z v x' y' mc : Int32} {s s' : xSt} {o : Option xSt} {bs bs' : List xSt} {ro : Option xRf} {rf : xRf} {Z : xZ} {Y : xM}
theorem xCall.mi {F F' : Int32 → xH → Nat → Prop} {T' : Nat → xH → Nat → Prop} {k' d' : Nat} {args : List xV} (hd : d ≤ d') (hk : k ≤ k') (q : xCall G d k Y args h (xkI F T)) (hF : ∀ v h1 j j', F v h1 j → F' v h1 j') (hT : ∀ e h1 j j', T e h1 j → T' e h1 j') : xCall G d' k' Y args h (xkI F' T') := by
  obtain ⟨d1, k1, h1, h2, hc⟩ := q
  refine ⟨d1, k1, Nat.lt_of_lt_of_le h1 hd, Nat.le_trans h2 hk, hc.mono fun r h' z => ?_⟩
  match r, z with
  | .inl (some (.inl v)), z => exact hF v h' _ _ z
  | .inr e, z => exact hT e h' _ _ z
theorem okD.n0 (q : okD c) : c ≠ 0 := by rcases q with z | z | z | z | z | z | z | z | z <;> rw [z] <;> decide
theorem isX.deed (q : isX G h x dq da ip Z) (m : xMod [dq, da] h h') (hD : isAD h' dq da ps') (hl : ps'.length = bs'.length) (hl8 : ps'.length ≤ 8) (hb : ∀ (i p : Nat) (s : xSt), ps'[i]? = some p → bs'[i]? = some s → isFz G h da p s) (hp : isFz G h da p s') :
    isX G (xput h' x 0 (xr (some p))) x dq da ip (s', Z.2.1, bs', Z.2.2.2) ∧ xMod [x, dq, da, ip] h (xput h' x 0 (xr (some p))) := by
  obtain ⟨q1, q2, q3, q4, q5, q6, q7⟩ := q
  obtain ⟨b1, ps, b2, -⟩ := q4
  have cdq : xcls h dq = 5 := b2.1
  have cda : xcls h da = 1006 := b2.2.2.1
  have cip : xcls h ip = 1001 := q7.2.1
  have nx : x ∉ [dq, da] := by
    intro z
    rcases List.mem_cons.mp z with z | z
    · rw [z, cdq] at q1; cases q1
    · rw [List.mem_singleton.mp z, cda] at q1; cases q1
  have m2 : xMod [x, dq, da] h (xput h' x 0 (xr (some p))) := (m.wk (fun y hy => List.mem_cons_of_mem _ hy)).put (Or.inl (by simp))
  have ok : okZ h da [x, dq, da] := by
    intro y hy
    rcases List.mem_cons.mp hy with z | z
    · subst z; exact Or.inr (Or.inl q1)
    · rcases List.mem_cons.mp z with z | z
      · subst z; exact Or.inr (Or.inr (Or.inl cdq))
      · rw [List.mem_singleton.mp z]; exact Or.inl ⟨rfl, cda⟩
  have ev : ∀ j, j ≠ 0 → xval (xput h' x 0 (xr (some p))) x j = xval h x j := fun j hj => by
    rw [xval_put, if_neg (fun z => hj z.2)]
    exact m.vl (by rw [q1]; decide) nx j
  have hx1 : xcls h' x = 1 := m.cl' q1 (by decide)
  have nip : ip ∉ [x, dq, da] := by
    intro z
    rcases ok ip z with ⟨z, y⟩ | y | y | y
    · rw [y] at cip; cases cip
    · rw [y] at cip; cases cip
    · rw [y] at cip; cases cip
    · rcases List.mem_cons.mp z with z | z
      · rw [← z, y] at q1; cases q1
      · rcases List.mem_cons.mp z with z | z
        · rw [← z, y] at cdq; cases cdq
        · rw [← List.mem_singleton.mp z, y] at cda; cases cda
  have nd1 : ¬ dq = x := xne_cls cdq q1 (by decide)
  have nd2 : ¬ da = x := xne_cls cda q1 (by decide)
  refine ⟨⟨m2.cl' q1 (by decide), ⟨p, ?_, hp.md m2 ok.fz⟩, q3.md (ev 1 (by decide)) m2 ok, ⟨(ev 2 (by decide)).trans b1, ps', ?_, hl, hl8, fun i p s a b => (hb i p s a b).md m2 ok.fz⟩, q5.md (ev 3 (by decide)) m2 ok, q6.md (ev 4 (by decide)) m2 ok, q7.md (ev 5 (by decide)) (ev 6 (by decide)) (ev 7 (by decide)) m2 nip⟩, m2.wk (fun y hy => by simp at hy ⊢; rcases hy with z | z | z <;> simp [z])⟩
  · rw [xval_put, if_pos ⟨rfl, rfl⟩]
  · exact hD.md (S := [x]) (xMod.rf.put (Or.inl (by simp))) (by simp [nd1]) (by simp [nd2])
/-- one field of its own put -/
theorem isX.own (q : isX G h x dq da ip Z) {w : xV} (ev : xput h x j w = h') : xMod [x, dq, da, ip] h h' ∧ okZ h da [x] := by
  subst ev
  exact ⟨xMod.rf.put (Or.inl (by simp)), fun y hy => by rw [List.mem_singleton.mp hy]; exact Or.inr (Or.inl q.1)⟩
theorem isX.refuse (q : isX G h x dq da ip Z) (hr : isRF h e rf) : isX G (xput h x 3 (xr (some e))) x dq da ip (Z.1, Z.2.1, Z.2.2.1, some rf, Z.2.2.2.2) ∧ xMod [x, dq, da, ip] h (xput h x 3 (xr (some e))) := by
  obtain ⟨m', ok⟩ := q.own (j := 3) (w := xr (some e)) rfl
  obtain ⟨q1, q2, q3, q4, q5, q6, q7⟩ := q
  have m : xMod [x] h (xput h x 3 (xr (some e))) := xMod.rf.put (Or.inl (by simp))
  have ev : ∀ j, j ≠ 3 → xval (xput h x 3 (xr (some e))) x j = xval h x j := fun j hj => by rw [xval_put, if_neg (fun z => hj z.2)]
  have cdq : xcls h dq = 5 := by obtain ⟨b1, ps, b2, -⟩ := q4; exact b2.1
  have cda : xcls h da = 1006 := by obtain ⟨b1, ps, b2, -⟩ := q4; exact b2.2.2.1
  have nd1 : ¬ dq = x := xne_cls cdq q1 (by decide)
  have nd2 : ¬ da = x := xne_cls cda q1 (by decide)
  have nd3 : ¬ ip = x := xne_cls q7.2.1 q1 (by decide)
  refine ⟨⟨m.cl' q1 (by decide), q2.md (ev 0 (by decide)) m ok, q3.md (ev 1 (by decide)) m ok, q4.md (ev 2 (by decide)) m ok (by simp [nd1]) (by simp [nd2]), ⟨fun z => (by cases z), fun r hr' => ?_⟩, q6.md (ev 4 (by decide)) m ok, q7.md (ev 5 (by decide)) (ev 6 (by decide)) (ev 7 (by decide)) m (by simp [nd3])⟩, m'⟩
  cases hr'
  refine ⟨e, ?_, hr.md m (fun y hy => by rw [List.mem_singleton.mp hy, q1]; decide)⟩
  rw [xval_put, if_pos ⟨rfl, rfl⟩]
theorem done_c {F : Int32 → xH → Nat → Prop} {R : Int32 → xSt → Prop} {R' : xRf → Prop} (h7 : 7 < dd) (hd : dd < d) (hk : 316 + kd ≤ k) (gl : gL G h) (q : isX G h x dq da ip Z) (X : wG Z.1.1) (ht : okD (xcls h t)) (t0 : xval h t 0 = xr (some x)) (hY : (xcls h t, Y) ∈ dsp_HamletWells_Deed_does)
    (hdoes : ∀ h1 hs ss, xExt h h1 → isPr G h1 (xsz h) (xsz h) hs ss Z.1.1 Z.1.2 → xCall G dd kd Y [xr (some t), xr (some (xsz h))] h1 (xkI (fun v h2 _ => ∃ hs' ss' s', xGr (xsz h) h1 h2 ∧ isPr G h2 (xsz h) (xsz h) hs' ss' s'.1 s'.2 ∧ R v s') (fun e h2 _ => ∃ rf, xGr (xsz h) h1 h2 ∧ isRF h2 e rf ∧ R' rf)))
    (hF : ∀ v s' h', R v s' → xMod [x, dq, da, ip] h h' → isX G h' x dq da ip (s', Z.2.1, bPush Z.2.2.1 Z.1, Z.2.2.2) → F v h' (k - (316 + kd)))
    (hE : ∀ rf h', R' rf → xMod [x, dq, da, ip] h h' → isX G h' x dq da ip (Z.1, Z.2.1, Z.2.2.1, some rf, Z.2.2.2.2) → F (-5) h' (k - (316 + kd))) : xCall G d k mX4_done [xr (some t)] h (xkI F T) := by
  refine xCall_of (d' := dd) hd hk (vc_X4_done ⟨by omega, fun h1 p1 ea eh => ?_⟩)
  have x1 : xExt h h1 := eh ▸ xMod.rf.new
  have c1 : xcls h1 p1 = 2 := by subst eh; simp (decide := true) only [true_and, and_true, and_self, exists_eq_left, exists_eq_left', forall_eq, forall_eq', Sum.inl.injEq, Sum.inr.injEq, Option.some.injEq, xcls_put, xlen_put, xval_put, xsz_put, xlo_put, xcls_new, xlen_new, xval_new, xsz_new, xlo_new, ↓reduceIte, reduceCtorEq, and_false, false_and, not_true_eq_false, not_false_eq_true, implies_true, forall_const, true_implies, false_implies, ne_eq, ea]
  have hz1 : xsz h1 = p1 + 1 := by rw [eh, ea, xsz_new]
  have q1 := q.ex x1
  obtain ⟨p, a1, ⟨hs, ss, a2⟩, a3⟩ := q1.2.1
  have hne : p ≠ p1 := by
    intro z
    obtain ⟨p', a1', ⟨hs', ss', a2'⟩, -⟩ := q.2.1
    have e1 : xval h1 x 0 = xr (some p') := x1.vl' q.1 (by decide) (by simp) a1'
    have e2 : p' = p := by simpa using e1.symm.trans a1
    subst e2
    exact xne_new (by rw [a2'.cl]; decide) ea z
  have t1 : okD (xcls h1 t) := by rw [x1.cl ht.n0]; exact ht
  have t01 : xval h1 t 0 = xr (some x) := (x1.vl ht.n0 0).trans t0
  refine ⟨t1, _, t01, x, rfl, q1.1, _, a1, pcopy_c (by omega) (by omega) (gl.md x1) a2 X hne c1 hz1 fun h6 hs6 ss6 m6 q6 => ?_⟩
  have x6 : xExt h h6 := x1.tn m6 (fun y hy => Or.inr (by rw [List.mem_singleton.mp hy]; omega))
  have cY : (xcls h6 t, Y) ∈ dsp_HamletWells_Deed_does := by rw [x6.cl ht.n0]; exact hY
  subst ea
  refine ⟨Y, cY, xCall.mi (Nat.le_refl _) (by omega) (hdoes h6 hs6 ss6 x6 q6) ?_ ?_⟩
  · rintro v h8 - j8 ⟨hs8, ss8, s8, g8, q8, r8⟩
    have x8 : xExt h h8 := g8 h x6 (Nat.le_refl _)
    have Q8 := q.ex x8
    have t8 : okD (xcls h8 t) := by rw [x8.cl ht.n0]; exact ht
    have t08 : xval h8 t 0 = xr (some x) := (x8.vl ht.n0 0).trans t0
    obtain ⟨o1, o2, o3⟩ := Q8.2.1
    obtain ⟨b1, ps, b2, b3, b4, b5⟩ := Q8.2.2.2.1
    have c2 : xcls h8 o1 = 2 := o3.2.1
    have fz8 : isFz G h8 da (xsz h) s8 := q8.fz (by rw [b2.2.2.1]; decide) (fun _ => by
      obtain ⟨-, ps', b2', -⟩ := q.2.2.2.1
      exact xcls_lt' (by rw [b2'.2.2.1]; decide))
    refine ⟨t8, _, t08, x, rfl, Q8.1, _, b1, t8, _, t08, x, rfl, Q8.1, _, o2, dq, rfl, b2.1, ad_addLast_c (c := 2) (by omega) b2 (by omega) c2 (by decide) fun h18 m18 b18 => ?_⟩
    have keep : ∀ h', xMod [dq, da] h8 h' → okD (xcls h' t) ∧ xval h' t 0 = xr (some x) ∧ xcls h' x = 1 ∧ xval h' x 2 = xr (some dq) := by
      intro h' m'
      have nt : t ∉ [dq, da] := by
        intro z
        have := t8
        rcases List.mem_cons.mp z with z | z
        · rw [z, b2.1] at this; revert this; unfold okD; decide
        · rw [List.mem_singleton.mp z, b2.2.2.1] at this; revert this; unfold okD; decide
      have nx : x ∉ [dq, da] := by
        intro z
        rcases List.mem_cons.mp z with z | z
        · exact xne_cls Q8.1 b2.1 (by decide) z
        · exact xne_cls Q8.1 b2.2.2.1 (by decide) (List.mem_singleton.mp z)
      exact ⟨by rw [m'.cl t8.n0]; exact t8, (m'.vl t8.n0 nt 0).trans t08, m'.cl' Q8.1 (by decide), m'.vl' Q8.1 (by decide) nx b1⟩
    have pair : ∀ (i p : Nat) (s : xSt), (ps ++ [o1])[i]? = some p → (Z.2.2.1 ++ [Z.1])[i]? = some s → isFz G h8 da p s := by
      intro i p s e1 e2
      by_cases hi : i < ps.length
      · rw [List.getElem?_append_left hi] at e1
        rw [List.getElem?_append_left (by omega)] at e2
        exact b5 i p s e1 e2
      · rw [List.getElem?_append_right (by omega)] at e1
        rw [List.getElem?_append_right (by omega), ← b3] at e2
        by_cases h0 : i - ps.length = 0
        · rw [h0] at e1 e2
          simp only [List.getElem?_cons_zero, Option.some.injEq] at e1 e2
          subst e1 e2
          exact o3
        · obtain ⟨j, hj⟩ : ∃ j, i - ps.length = j + 1 := ⟨i - ps.length - 1, by omega⟩
          rw [hj] at e1
          simp at e1
    have md8 : ∀ {h' : xH} {p : Nat} {s : xSt}, xMod [dq, da] h8 h' → isFz G h8 da p s → isFz G h' da p s := fun m' f => f.md m' (okZ.fz (da := da) (S := [dq, da]) fun y hy => by
      rcases List.mem_cons.mp hy with z | z
      · rw [z]; exact Or.inr (Or.inr (Or.inl b2.1))
      · rw [List.mem_singleton.mp z]; exact Or.inl ⟨rfl, b2.2.2.1⟩)
    obtain ⟨t18, t018, x18, d18⟩ := keep h18 m18
    refine ⟨t18, _, t018, x, rfl, x18, _, d18, dq, rfl, b18.1, ad_size_c (by omega) b18 ⟨fun z => ⟨t18, _, t018, x, rfl, x18, fun h29 e29 => ?_⟩, fun z => ⟨t18, _, t018, x, rfl, x18, _, d18, dq, rfl, b18.1, ?_⟩⟩⟩
    · have hl : (ps ++ [o1]).length ≤ 8 := (nI_lei (b := 8) (by rw [List.length_append]; show ps.length + 1 < _; omega) (by decide)).mp z
      subst e29
      obtain ⟨q29, m29⟩ := Q8.deed m18 b18 (bs' := Z.2.2.1 ++ [Z.1]) (by simp; exact b3) hl pair fz8
      refine hF v s8 _ r8 ((xMod.of x8).tr m29) ?_
      unfold bPush
      rw [if_pos (by simp at hl; omega)]
      exact q29
    · have hl : ¬ (ps ++ [o1]).length ≤ 8 := fun y => z ((nI_lei (b := 8) (by rw [List.length_append]; show ps.length + 1 < _; omega) (by decide)).mpr y)
      have hl8 : ps.length = 8 := by simp at hl; omega
      obtain ⟨p0, ps', hps⟩ : ∃ p0 ps', ps ++ [o1] = p0 :: ps' := by
        cases ps with
        | nil => simp at hl8
        | cons a as => exact ⟨a, as ++ [o1], rfl⟩
      have hlp : ps'.length = 8 := by
        have := congrArg List.length hps
        simp at this
        omega
      obtain ⟨s0, bs', hbs⟩ : ∃ s0 bs', Z.2.2.1 ++ [Z.1] = s0 :: bs' := by
        cases hz : Z.2.2.1 with
        | nil => rw [hz, hl8] at b3; cases b3
        | cons a as => exact ⟨a, as ++ [Z.1], rfl⟩
      have hlb : bs'.length = 8 := by
        have := congrArg List.length hbs
        simp at this
        omega
      rw [hps] at b18
      have c0 : xcls h18 p0 = 2 := by
        have : isFz G h8 da p0 s0 := pair 0 p0 s0 (by rw [hps]; rfl) (by rw [hbs]; rfl)
        exact (md8 m18 this).2.1
      refine ad_removeFirst_c (by omega) b18 fun h34 m34 b34 => ?_
      have m834 := m18.tr m34
      obtain ⟨t34, t034, x34, d34⟩ := keep h34 m834
      refine ⟨fun b e => ?_, t34, _, t034, x, rfl, x34, fun h39 e39 => ?_⟩
      · cases e
        rw [m34.cl' c0 (by decide)]
        decide
      subst e39
      obtain ⟨q39, m39⟩ := Q8.deed m834 b34 (bs' := bs') (by omega) (by omega) (fun i p s e1 e2 => pair (i + 1) p s (by rw [hps]; exact e1) (by rw [hbs]; exact e2)) fz8
      refine hF v s8 _ r8 ((xMod.of x8).tr m39) ?_
      unfold bPush
      rw [if_neg (by omega), hbs]
      exact q39
  · rintro e h8 - j8 ⟨rf, g8, r8, R8⟩
    have x8 : xExt h h8 := g8 h x6 (Nat.le_refl _)
    have Q8 := q.ex x8
    have t8 : okD (xcls h8 t) := by rw [x8.cl ht.n0]; exact ht
    have t08 : xval h8 t 0 = xr (some x) := (x8.vl ht.n0 0).trans t0
    have ⟨ce, r1, r2⟩ := r8
    refine ⟨r1.1, t8, _, t08, x, rfl, Q8.1, fun h53 e53 => ?_⟩
    subst e53
    obtain ⟨q1, m1⟩ := Q8.refuse r8
    exact hE rf _ R8 ((xMod.of x8).tr m1) q1
end XDN

/-! StringBuilder: append(int), toString, length; charAt -/
section XSF
variable {G : xG} {d k : Nat} {h h' h0 : xH} {T : Nat → xH → Nat → Prop} {S : List Nat} {x p i j c a b e r w m n o v cap P L st : Nat} {cs ds : List Nat} {y z : Int32}
theorem sb_app (q : isSB h b v cap cs) (hl : cs.length + ds.length ≤ cap) (hds : ∀ (t c : Nat), ds[t]? = some c → c < 128) (m : xMod [v] h h') (h1 : ∀ (t c : Nat), ds[t]? = some c → xval h' v (cs.length + t) = xi (nI c)) (h2 : ∀ p, ¬ (cs.length ≤ p ∧ p < cs.length + ds.length) → xval h' v p = xval h v p) :
    isSB (xput h' b 3 (xi (nI (cs.length + ds.length)))) b v cap (cs ++ ds) ∧ xMod [b, v] h (xput h' b 3 (xi (nI (cs.length + ds.length)))) := by
  obtain ⟨q1, q2, q3, q4, q5, q6, q7, q8, q9, q10, q11⟩ := q
  have nb : ¬ b = v := xne_cls q1 q5 (by decide)
  have nvb : ¬ v = b := fun z => nb z.symm
  have mm : xMod [b, v] h (xput h' b 3 (xi (nI (cs.length + ds.length)))) := (m.wk (fun x hx => List.mem_cons_of_mem _ hx)).put (Or.inl (by simp))
  have vb : ∀ j, j ≠ 3 → xval (xput h' b 3 (xi (nI (cs.length + ds.length)))) b j = xval h b j := fun j hj => by
    rw [xval_put, if_neg (fun z => hj z.2)]
    exact m.vl (by rw [q1]; decide) (by simp [nb]) j
  have vv : ∀ t, xval (xput h' b 3 (xi (nI (cs.length + ds.length)))) v t = xval h' v t := fun t => by rw [xval_put, if_neg (fun z => nvb z.1)]
  refine ⟨⟨mm.cl' q1 (by decide), (vb 0 (by decide)).trans q2, (vb 1 (by decide)).trans q3, ?_, mm.cl' q5 (by decide), by rw [mm.1]; exact q6, (mm.ln (by rw [q5]; decide)).trans q7, by simpa using hl, q9, fun i c' e => ?_, fun t ht => ?_⟩, mm⟩
  · rw [xval_put, if_pos ⟨rfl, rfl⟩, List.length_append]
  · rw [vv]
    by_cases hi : i < cs.length
    · rw [List.getElem?_append_left hi] at e
      rw [h2 i (by omega)]
      exact q10 i c' e
    · rw [List.getElem?_append_right (by omega)] at e
      refine ⟨hds _ _ e, ?_⟩
      have := h1 _ _ e
      rwa [show cs.length + (i - cs.length) = i by omega] at this
  · rw [vv]
    by_cases hi : cs.length ≤ t ∧ t < cs.length + ds.length
    · have e := List.getElem?_eq_getElem (l := ds) (i := t - cs.length) (by omega)
      have := h1 _ _ e
      rw [show cs.length + (t - cs.length) = t by omega] at this
      exact ⟨_, this, (sb_fit (hds _ _ e)).1⟩
    · rw [h2 t hi]
      exact q11 t ht
theorem pDg_lt {v t c : Nat} (e : (pDg v)[t]? = some c) : c < 128 := by
  have ht := (List.getElem?_eq_some_iff.mp e).1
  rw [pDg_get ht] at e
  cases e
  omega
theorem sb_int_c {F : Option Nat → xH → Nat → Prop} (hd : 6 < d) (hk : 35 ≤ k) (gs : G.2.1 3 = xi 1) (gd : gDig G h) (q : isSB h b v cap cs) (hcap : cap = 16 ∨ cap = 34) (hn : n < 1000000) (hl : cs.length + (pDg n).length ≤ 34) (hlo : xlo h ≤ xsz h) (hlb : xlo h ≤ b)
    (hQ : sbQ (F (some b)) h b v (cs ++ pDg n) (k - 35)) : xCall G d k mJ12_append_2 [xr (some b), xi (nI n)] h (xkR F T) := by
  have q1 := q.1
  have q4 := q.2.2.2.1
  refine xCall_of (d' := 6) hd hk (vc_J12_append_2 ⟨q1, xCall_of (d' := 5) (by decide) (Nat.le_refl _) (vc_J11_append_2 ⟨q1, _, q4, stringSize_c (by decide) hn ⟨q1, ?_⟩⟩)⟩)
  rw [show nI cs.length + nI (pDg n).length = nI (cs.length + (pDg n).length) by rw [← iI_n, ← iI_n, ← iI_n, iI_add]; rfl]
  refine sb_ensure_c (by decide) (by decide) q hcap (by omega) hlo fun h2 v2 cap2 m2 hv2 s2 hc2 hl2 => ⟨s2.1, sb_latin_c (by decide) gs s2 ⟨fun z => absurd z (by decide), fun _ => ⟨s2.1, _, s2.2.1, ?_⟩⟩⟩
  have gd2 := gd.md m2 (fun x hx => by rw [List.mem_singleton.mp hx]; exact hlb)
  refine getChars_c (by decide) hn gd2 s2.2.2.2.2.1 s2.2.2.2.2.2.1 (by rw [s2.2.2.2.2.2.2.1]; exact hl2) (by omega) fun h3 m3 v31 v32 => ⟨m3.cl' s2.1 (by decide), fun h14 e14 => ?_⟩
  obtain ⟨s4, m4⟩ := sb_app (ds := pDg n) s2 hl2 (fun t c e => pDg_lt e) m3 (fun t c e => by
    have ht := (List.getElem?_eq_some_iff.mp e).1
    rw [v31 t ht]
    rw [pDg_get ht] at e
    cases e
    rfl) v32
  rw [← e14] at s4 m4
  refine hQ h14 v2 cap2 ?_ hv2 s4 hc2
  refine (m2.wk (fun x hx => by rw [List.mem_singleton.mp hx]; exact List.mem_cons_self)).tn m4 fun x hx => ?_
  rcases List.mem_cons.mp hx with e | e
  · rw [e]; exact Or.inl List.mem_cons_self
  · rw [List.mem_singleton.mp e]
    rcases hv2 with z | z
    · rw [z]; exact Or.inl (by simp)
    · exact Or.inr z
theorem str_coder_c {F : Int32 → xH → Nat → Prop} (hd : 1 < d) (gs : G.2.1 3 = xi 1) (q : isStr h st cs) (hQ : F 0 h k) : xCall G d k mJ13_coder [xr (some st)] h (xkI F T) :=
  xCall_of (d' := 1) hd (Nat.zero_le k) (vc_J13_coder ⟨1, gs, fun z => absurd z (by decide), fun _ => ⟨q.1, 0, q.2.1, rfl, hQ⟩⟩)
theorem str_length_c {F : Int32 → xH → Nat → Prop} (hd : 2 < d) (gs : G.2.1 3 = xi 1) (q : isStr h st cs) (hl : cs.length < 1000) (hQ : F (nI cs.length) h k) : xCall G d k mJ13_length [xr (some st)] h (xkI F T) := by
  obtain ⟨q1, q2, bv, q3, q4, q5, q6⟩ := id q
  refine xCall_of (d' := 2) hd (Nat.zero_le k) (vc_J13_length ⟨q1, _, q3, bv, rfl, ⟨0, _, rfl, q4⟩, q1, str_coder_c (by decide) gs q ?_⟩)
  show F (nI (xlen h bv) >>> ((0 : Int32) &&& 31)) h k
  rw [q5, sb_sr hl]
  exact hQ
theorem str_latin_c {F : Int32 → xH → Nat → Prop} (hd : 1 < d) (gs : G.2.1 3 = xi 1) (q : isStr h st cs) (hQ : F 1 h k) : xCall G d k mJ13_isLatin1 [xr (some st)] h (xkI F T) :=
  xCall_of (d' := 1) hd (Nat.zero_le k) (vc_J13_isLatin1 ⟨1, gs, fun z => absurd z (by decide), fun _ => ⟨q.1, 0, q.2.1, fun z => absurd rfl z, fun _ => hQ⟩⟩)
theorem str_chr {c : Nat} (h : c < 128) : ((nI c &&& (255 : Int32)).toUInt32 % 65536).toInt32 = nI c ∧ narrow .char (.int (nI c)) = .int (nI c) :=
  (by decide +kernel : ∀ c : Fin 128, ((nI c.1 &&& (255 : Int32)).toUInt32 % 65536).toInt32 = nI c.1 ∧ narrow .char (.int (nI c.1)) = .int (nI c.1)) ⟨c, h⟩
theorem str_charAt_c {F : Int32 → xH → Nat → Prop} (hd : 5 < d) (gs : G.2.1 3 = xi 1) (g4 : ∃ o, G.2.1 4 = xr o) (q : isStr h st cs) (hl : cs.length < 1000) (hi : cs[i]? = some c) (hQ : F (nI c) h k) : xCall G d k mJ13_charAt [xr (some st), xi (nI i)] h (xkI F T) := by
  obtain ⟨q1, q2, bv, q3, q4, q5, q6⟩ := id q
  obtain ⟨o, g4⟩ := g4
  have hi' := (List.getElem?_eq_some_iff.mp hi).1
  obtain ⟨c1, c2⟩ := q6 i c hi
  obtain ⟨e1, e2⟩ := str_chr c1
  refine xCall_of (d' := 5) hd (Nat.zero_le k) (vc_J13_charAt ⟨q1, str_latin_c (by decide) gs q ⟨fun z => absurd z (by decide), fun _ => ⟨q1, _, q3, xCall_of (d' := 4) (by decide) (Nat.zero_le _) (vc_J18_charAt ⟨bv, rfl, ⟨0, _, rfl, q4⟩, xCall_of (d' := 2) (by decide) (Nat.zero_le _) (vc_J13_checkIndex ⟨o, g4, xCall_of (d' := 1) (by decide) (Nat.zero_le _) (vc_J6_checkIndex ⟨fun z => absurd z (nI_pos (by omega)), fun _ => ⟨fun _ => ?_, fun z => absurd (nI_lt (by rw [q5]; exact hi') (by omega)) z⟩⟩)⟩)⟩)⟩⟩⟩)
  exact ⟨q4, i, rfl, by omega, by rw [q5]; exact hi', _, c2, by rw [e1]; exact e2, by rw [e1]; exact ⟨e2, hQ⟩⟩
theorem sb_str_c {F : Option Nat → xH → Nat → Prop} (hd : 8 < d) (hk : 35 ≤ k) (gs : G.2.1 3 = xi 1) (q : isSB h b v cap cs) (qs : isStr h st ds) (hcap : cap = 16 ∨ cap = 34) (hl : cs.length + ds.length ≤ 34) (hlo : xlo h ≤ xsz h) (hbv : ∀ bv, xval h st 0 = xr (some bv) → bv ≠ v)
    (hQ : sbQ (F (some b)) h b v (cs ++ ds) (k - 35)) : xCall G d k mJ12_append [xr (some b), xr (some st)] h (xkR F T) := by
  have q1 := q.1
  have q4 := q.2.2.2.1
  have s0 := qs.1
  have hl1 : ds.length < 1000 := by omega
  refine xCall_of (d' := 8) hd hk (vc_J12_append ⟨q1, xCall_of (d' := 7) (by decide) (Nat.le_refl _) (vc_J11_append ⟨fun a1 ea => ?_, fun z => (by cases z)⟩)⟩)
  cases ea
  refine ⟨s0, str_length_c (by decide) gs qs hl1 ⟨q1, _, q4, q1, ?_⟩⟩
  rw [show nI cs.length + nI ds.length = nI (cs.length + ds.length) by rw [← iI_n, ← iI_n, ← iI_n, iI_add]; rfl]
  refine sb_ensure_c (by decide) (by decide) q hcap (by omega) hlo fun h2 v2 cap2 m2 hv2 s2 hc2 hl2 => ?_
  have nst : st ∉ [b] := fun z => by rw [List.mem_singleton.mp z, q1] at s0; cases s0
  have qs2 : isStr h2 st ds := qs.md m2 (fun x hx => by rw [List.mem_singleton.mp hx, q1]; decide)
  obtain ⟨w1, w2, bv, w3, w4, w5, w6⟩ := id qs2
  have hbv2 : bv ≠ v2 := by
    have e0 : xval h st 0 = xr (some bv) := by
      have := m2.vl (a := st) (by rw [s0]; decide) nst 0
      rw [this] at w3
      exact w3
    rcases hv2 with z | z
    · rw [z]; exact hbv bv e0
    · obtain ⟨-, -, bv', y3, y4, -⟩ := qs
      have : bv' = bv := by simpa using y3.symm.trans e0
      subst this
      have := xcls_lt' (h := h) (a := bv') (by rw [y4]; decide)
      omega
  refine ⟨s2.1, _, s2.2.2.2.1, s2.1, xCall_of (d' := 4) (by decide) (Nat.zero_le _) (vc_J11_putStringAt ⟨s2.1, xCall_of (d' := 3) (by decide) (Nat.zero_le _) (vc_J11_inflateIfNeededFor ⟨1, gs, fun z => absurd z (by decide), fun _ => ⟨s2.1, 0, s2.2.2.1, st, rfl, w1, str_coder_c (by decide) gs qs2 ⟨fun _ => ?_, fun z => absurd rfl z⟩⟩⟩)⟩)⟩
  refine ⟨s2.1, _, s2.2.1, s2.1, 0, s2.2.2.1, st, rfl, w1, xCall_of (d' := 3) (by decide) (Nat.zero_le _) (vc_J13_getBytes ⟨w1, str_coder_c (by decide) gs qs2 ⟨fun z => absurd rfl z, fun _ => ⟨w1, _, w3, w1, _, w3, bv, rfl, ⟨0, _, rfl, w4⟩, bv, rfl, v2, rfl, by decide, w4, s2.2.2.2.2.1, s2.2.2.2.2.2.1, 0, cs.length, ds.length, rfl, sb_sl (by omega), by rw [w5], by rw [w5]; omega, by rw [s2.2.2.2.2.2.2.1]; exact hl2, by rw [w5]; omega, by rw [s2.2.2.2.2.2.2.1]; omega, fun t ht => ?_, fun h19 e19 => ?_⟩⟩⟩)⟩
  · have := w6 t _ (List.getElem?_eq_getElem ht)
    rw [Nat.zero_add]
    exact ⟨_, this.2, (sb_fit this.1).1⟩
  · have v19 : ∀ t, xval h19 v2 t = if cs.length ≤ t ∧ t < cs.length + ds.length then xval h2 bv (0 + (t - cs.length)) else xval h2 v2 t := fun t => by
      rw [e19]
      show xval (xfil _ _ _) v2 t = _
      rw [xval_fil, if_pos rfl]
    have m19 : xMod [v2] h2 h19 := e19 ▸ xcpy_md (Or.inl (by simp)) xMod.rf
    have nb : ¬ b = v2 := xne_cls s2.1 s2.2.2.2.2.1 (by decide)
    have c19 : xval h19 b 3 = xi (nI cs.length) := m19.vl' s2.1 (by decide) (by simp [nb]) s2.2.2.2.1
    refine ⟨m19.cl' s2.1 (by decide), nI cs.length, c19, m19.cl' s2.1 (by decide), fun h12 e12 => ?_⟩
    · obtain ⟨s4, m4⟩ := sb_app (ds := ds) s2 hl2 (fun t c e => (w6 t c e).1) m19 (fun t c e => by
        have ht := (List.getElem?_eq_some_iff.mp e).1
        rw [v19, if_pos (by omega), Nat.zero_add, Nat.add_sub_cancel_left]
        exact (w6 t c e).2) (fun p hp => by rw [v19, if_neg hp])
      rw [show nI cs.length + nI ds.length = nI (cs.length + ds.length) by rw [← iI_n, ← iI_n, ← iI_n, iI_add]; rfl] at e12
      rw [← e12] at s4 m4
      refine hQ h12 v2 cap2 ?_ hv2 s4 hc2
      refine (m2.wk (fun x hx => by rw [List.mem_singleton.mp hx]; exact List.mem_cons_self)).tn m4 fun x hx => ?_
      rcases List.mem_cons.mp hx with e | e
      · rw [e]; exact Or.inl List.mem_cons_self
      · rw [List.mem_singleton.mp e]
        rcases hv2 with z | z
        · rw [z]; exact Or.inl (by simp)
        · exact Or.inr z
end XSF

/-! the class: hamlets, sites, drinkers, sums -/
theorem drinkerL_at {W : Nat → Int32} {s x : Int32} : ∀ (l : List Nat) (n : Nat), n + l.length < 2147483648 →
    (∀ i, i < (l.filter fun a => decide (oI (pWell W a) = s)).length → x = nI (n + i) → pDrinkerL W s x n l = (l.filter fun a => decide (oI (pWell W a) = s))[i]?) ∧
    ((∀ i, i < (l.filter fun a => decide (oI (pWell W a) = s)).length → x ≠ nI (n + i)) → pDrinkerL W s x n l = none)
  | [], n, _ => ⟨fun i hi => by simp at hi, fun _ => rfl⟩
  | a :: l, n, hl => by
    rw [List.length_cons] at hl
    rw [List.filter_cons]
    unfold pDrinkerL
    by_cases h : oI (pWell W a) = s
    · obtain ⟨ih1, ih2⟩ := drinkerL_at (W := W) (s := s) (x := x) l (n + 1) (by omega)
      have hfl := List.length_filter_le (fun a => decide (oI (pWell W a) = s)) l
      rw [if_pos (decide_eq_true h), if_pos h]
      refine ⟨fun i hi e => ?_, fun hn => ?_⟩
      · rw [List.length_cons] at hi
        cases i with
        | zero => rw [if_pos (show nI n = x from e.symm)]; rfl
        | succ i =>
          rw [if_neg (fun z => by
            have := (nI_eq (by omega) (by omega)).mp (z.trans e)
            omega), List.getElem?_cons_succ]
          exact ih1 i (by omega) (e.trans (congrArg nI (by omega)))
      · rw [if_neg (fun z => hn 0 (by rw [List.length_cons]; omega) z.symm)]
        exact ih2 fun i hi e => hn (i + 1) (by rw [List.length_cons]; omega) (e.trans (congrArg nI (by omega)))
    · obtain ⟨ih1, ih2⟩ := drinkerL_at (W := W) (s := s) (x := x) l n (by omega)
      rw [if_neg (fun z => h (of_decide_eq_true z)), if_neg h]
      exact ⟨ih1, ih2⟩
section XXL
variable {G : xG} {d k : Nat} {h h' h0 : xH} {T : Nat → xH → Nat → Prop} {S : List Nat} {x p N i j s c a b e r ka mm w m ll : Nat} {es hs ss : List Nat} {W W' : Nat → Int32} {nd y z v x' y' : Int32}
theorem bit_c {F : Int32 → xH → Nat → Prop} (hd : 1 < d) (hv : v = 0 ∨ v = 1) (hQ : F v h k) : xCall G d k mX0_bit [xi v] h (xkI F T) := by
  refine xCall_of (d' := 1) hd (Nat.zero_le k) (vc_X0_bit ⟨fun z => ?_, fun z => ?_⟩)
  · subst z; exact hQ
  · have := hv.resolve_left z
    subst this; exact hQ
theorem xhamletOf_c {F : Int32 → xH → Nat → Prop} (hd : 10 < d) (hk : 11 ≤ k) (q : isNw G h x p hs ss W nd) (X : wG W) (hQ : ∀ h', xExt h h' → F (pHamletOf W y z) h' (k - 11)) : xCall G d k mX0_hamletOf [xr (some x), xi y, xi z] h (xkI F T) := by
  have hnh := q.pr.nh
  have h8 := q.pr.lh
  have hns := q.pr.ns
  have h6 := q.pr.ls
  unfold pHamletOf at hQ
  refine xCall_of (d' := 10) hd hk (vc_X0_hamletOf ⟨q.1, _, q.2.1, p, rfl, pr_h q.pr fun r R _ => row_has_c (by decide) R ⟨fun u => ⟨q.1, _, q.2.1, p, rfl, ?_⟩, fun u => ?_⟩⟩)
  · rw [← hnh] at u
    have hb := xb1.mp u
    obtain ⟨i, hi, rfl⟩ := (pHas_iff (by omega)).mp hb
    rw [hb, if_pos rfl, nI_clamp (by omega)] at hQ
    simp only at hQ
    obtain ⟨a, ha⟩ := q.pr.hx hi
    refine pr_h q.pr fun r R _ => row_of_c (by decide) R ha (q.pr.hm ha).cs.1 ⟨fun b' e' => by cases e'; exact (q.pr.hm ha).cs.2.1, q.1, _, q.2.1, p, rfl, q.pr.cl, well_c (by decide) (by decide) q.pr X ha fun h1 x1 => ?_⟩
    have q1 := q.ex x1
    have hm := q1.pr.hm ha
    replace hQ := hQ h1 x1
    refine ⟨fun e => ?_, fun e => ?_, fun e => ?_, fun e => ?_, fun e => ?_, fun e => ?_, fun e => ?_, fun e => ?_, fun e => ?_⟩
    · subst e; exact ⟨a, rfl, hm.1, _, hm.2.2 0 (by decide), hQ⟩
    · subst e; exact ⟨a, rfl, hm.1, _, hm.2.2 1 (by decide), hQ⟩
    · subst e; exact ⟨a, rfl, hm.1, _, hm.2.2 2 (by decide), hQ⟩
    · subst e
      have hQ : F (bI (pWell W i)) h1 (k - 11) := hQ
      cases ho : pWell W i with
      | none =>
        rw [ho] at hQ
        exact ⟨fun a26 e => (by cases e), fun _ => hQ⟩
      | some t =>
        rw [ho] at hQ
        have htl := pNear_lt t ho
        obtain ⟨b, hb⟩ := q.pr.sx htl
        have e9 : oE ss (some t) = some b := hb
        rw [e9]
        refine ⟨fun a26 e => ?_, fun e => by cases e⟩
        cases e
        have st := q1.pr.st hb
        exact ⟨st.1, _, st.2.1, hQ⟩
    · subst e
      have hQ : F (match pWell W i with | none => -6 | some t => pFar W i t) h1 (k - 11) := hQ
      cases ho : pWell W i with
      | none =>
        rw [ho] at hQ
        exact ⟨fun a26 e => (by cases e), fun _ => hQ⟩
      | some t =>
        rw [ho] at hQ
        have htl := pNear_lt t ho
        obtain ⟨b, hb⟩ := q.pr.sx htl
        have e9 : oE ss (some t) = some b := hb
        rw [e9]
        refine ⟨fun a26 e => ?_, fun e => by cases e⟩
        cases e
        have st := q1.pr.st hb
        exact ⟨st.1, far_sh_c (by decide) st hm X hi htl hQ⟩
    · subst e; exact ⟨a, rfl, hm.1, _, hm.2.2 3 (by decide), hQ⟩
    · subst e; exact ⟨a, rfl, hm.1, _, hm.2.2 4 (by decide), hQ⟩
    · subst e; exact ⟨a, rfl, hm.1, _, hm.2.2 5 (by decide), hQ⟩
    · rw [if_neg (by rintro rfl; exact absurd e (by decide)), if_neg (by rintro rfl; exact absurd e (by decide)), if_neg (by rintro rfl; exact absurd e (by decide)), if_neg (by rintro rfl; exact absurd e (by decide)), if_neg (by rintro rfl; exact absurd e (by decide)), if_neg (by rintro rfl; exact absurd e (by decide)), if_neg (by rintro rfl; exact absurd e (by decide)), if_neg (by rintro rfl; exact absurd e (by decide))] at hQ
      exact hQ
  · rw [← hnh] at u
    rw [xb0.mp u, if_neg Bool.false_ne_true] at hQ
    exact hQ h xMod.rf
theorem xsiteOf_c {F : Int32 → xH → Nat → Prop} (hd : 12 < d) (hk : 139 ≤ k) (q : isNw G h x p hs ss W nd) (X : wG W) (hQ : ∀ h', xExt h h' → F (pSiteOf W y z) h' (k - 139)) : xCall G d k mX0_siteOf [xr (some x), xi y, xi z] h (xkI F T) := by
  have hns := q.pr.ns
  have h6 := q.pr.ls
  unfold pSiteOf at hQ
  refine xCall_of (d' := 12) hd hk (vc_X0_siteOf ⟨q.1, _, q.2.1, p, rfl, pr_s q.pr fun r R _ => row_has_c (by decide) R ⟨fun u => ⟨q.1, _, q.2.1, p, rfl, ?_⟩, fun u => ?_⟩⟩)
  · rw [← hns] at u
    have hb := xb1.mp u
    obtain ⟨s, hs', rfl⟩ := (pHas_iff (by omega)).mp hb
    rw [hb, if_pos rfl, nI_clamp (by omega)] at hQ
    simp only at hQ
    obtain ⟨a, ha⟩ := q.pr.sx hs'
    have st := q.pr.st ha
    have hX := X.2 s hs'
    have hQ0 := hQ h xMod.rf
    refine pr_s q.pr fun r R _ => row_of_c (by decide) R ha st.cs.1 ⟨fun b' e' => by cases e'; exact st.cs.2.1, fun e => ?_, fun e => ?_, fun e => ?_, fun e => ?_, fun e => ?_, fun e => ?_, fun e => ?_, fun e => ?_, fun e => ?_, fun e => ?_, fun e => ?_⟩
    · subst e; exact ⟨a, rfl, st.1, _, st.2.2 0 (by decide), hQ0⟩
    · subst e; exact ⟨a, rfl, st.1, _, st.2.2 1 (by decide), hQ0⟩
    · subst e; exact ⟨a, rfl, st.1, _, st.2.2 4 (by decide), hQ0⟩
    · subst e; exact ⟨a, rfl, st.1, _, st.2.2 3 (by decide), hQ0⟩
    · subst e; exact ⟨a, rfl, st.1, _, st.2.2 5 (by decide), bit_c (by decide) hX.2.1 hQ0⟩
    · subst e; exact ⟨a, rfl, st.1, _, st.2.2 6 (by decide), bit_c (by decide) hX.2.2 hQ0⟩
    · subst e; exact ⟨a, rfl, st.1, sgives_c (by decide) st hX.2.2 hQ0⟩
    · subst e; exact ⟨q.1, _, q.2.1, p, rfl, q.pr.cl, asked_c (by decide) (by decide) q.pr X ha fun h1 x1 => hQ h1 x1⟩
    · subst e
      refine ⟨q.1, _, q.2.1, p, rfl, q.pr.cl, drinkers_c (by decide) (by decide) q.pr X ha fun h1 ll ns mc x1 _ _ L1 => ⟨ll, rfl, L1.1, ll_size_c (by decide) L1 ?_⟩⟩
      rw [dE_len, ← pMany_len]
      exact hQ h1 x1
    · subst e; exact ⟨a, rfl, st.1, _, st.2.2 7 (by decide), hQ0⟩
    · rw [if_neg (by rintro rfl; exact absurd e (by decide)), if_neg (by rintro rfl; exact absurd e (by decide)), if_neg (by rintro rfl; exact absurd e (by decide)), if_neg (by rintro rfl; exact absurd e (by decide)), if_neg (by rintro rfl; exact absurd e (by decide)), if_neg (by rintro rfl; exact absurd e (by decide)), if_neg (by rintro rfl; exact absurd e (by decide)), if_neg (by rintro rfl; exact absurd e (by decide)), if_neg (by rintro rfl; exact absurd e (by decide)), if_neg (by rintro rfl; exact absurd e (by decide))] at hQ0
      exact hQ0
  · rw [← hns] at u
    rw [xb0.mp u, if_neg Bool.false_ne_true] at hQ
    exact hQ h xMod.rf
theorem xdrinker_c {F : Int32 → xH → Nat → Prop} (hd : 11 < d) (hk : 131 ≤ k) (q : isNw G h x p hs ss W nd) (X : wG W) (hQ : ∀ h', xExt h h' → F (pDrinker W y z) h' (k - 131)) : xCall G d k mX0_drinker [xr (some x), xi y, xi z] h (xkI F T) := by
  have hns := q.pr.ns
  have h6 := q.pr.ls
  have h8 := q.pr.lh
  have hnh := q.pr.nh
  unfold pDrinker at hQ
  refine xCall_of (d' := 11) hd hk (vc_X0_drinker ⟨q.1, _, q.2.1, p, rfl, pr_s q.pr fun r R _ => row_has_c (by decide) R ⟨fun u => ⟨q.1, _, q.2.1, q.1, _, q.2.1, p, rfl, ?_⟩, fun u => ?_⟩⟩)
  · rw [← hns] at u
    have hb := xb1.mp u
    obtain ⟨s, hs', rfl⟩ := (pHas_iff (by omega)).mp hb
    rw [hb, if_pos rfl] at hQ
    obtain ⟨a, ha⟩ := q.pr.sx hs'
    have st := q.pr.st ha
    refine pr_s q.pr fun r R _ => row_of_c (by decide) R ha st.cs.1 ⟨fun b' e' => by cases e'; exact st.cs.2.1, p, rfl, q.pr.cl, drinkers_c (by decide) (by decide) q.pr X ha fun h1 ll ns mc x1 _ _ L1 => ⟨ll, rfl, L1.1, ll_size_c (by decide) L1 (in_c (by decide) ?_)⟩⟩
    have q1 := q.ex x1
    replace hQ := hQ h1 x1
    have hlen : (pDrinks W (nI s)).length ≤ 8 := Nat.le_trans pDrinks_len (by omega)
    rw [dE_len] at *
    obtain ⟨k1, k2⟩ := drinkerL_at (W := W) (s := nI s) (x := z) (List.range' 0 (nH W)) 0 (by rw [List.length_range']; omega)
    change (∀ i, i < (pDrinks W (nI s)).length → z = nI (0 + i) → _ = (pDrinks W (nI s))[i]?) at k1
    change (∀ i, i < (pDrinks W (nI s)).length → z ≠ nI (0 + i)) → _ at k2
    refine ⟨fun e => ?_, fun e => ⟨L1.1, ?_⟩⟩
    · have hb2 : pHas (pDrinks W (nI s)).length z = false := xb0.mp e
      rw [k2 (fun i hi e2 => by
        rw [(pHas_iff (by omega)).mpr ⟨i, hi, by rw [e2, Nat.zero_add]⟩] at hb2
        cases hb2)] at hQ
      exact hQ
    · have hb2 : pHas (pDrinks W (nI s)).length z = true := xb1.mp e
      obtain ⟨i, hi, rfl⟩ := (pHas_iff (by omega)).mp hb2
      have hi2 : i < (dE hs (pDrinks W (nI s))).length := by rw [dE_len]; exact hi
      have hL : ∀ t, t ∈ pDrinks W (nI s) → t < hs.length := fun t ht => by rw [← hnh]; exact pDrinks_lt t ht
      obtain ⟨t, ht⟩ : ∃ t, (pDrinks W (nI s))[i]? = some t := ⟨_, List.getElem?_eq_getElem hi⟩
      have he := List.getElem?_eq_getElem hi2
      have hm := q1.pr.hm (dE_at he hL ht)
      rw [k1 i hi (by rw [Nat.zero_add]), ht] at hQ
      exact ll_get_c (by decide) L1 he ⟨fun b' e' => by cases e'; exact hm.cs.2.1, _, rfl, hm.1, _, hm.2.1, hQ⟩
  · rw [← hns] at u
    rw [xb0.mp u, if_neg Bool.false_ne_true] at hQ
    exact hQ h xMod.rf
/-! what one is worth -/
theorem wo27 (q : isPr G h N p hs ss W nd) (c : xcls h w = 41) {D : Nat} (hD : 2 < D) : isWo G D 0 h w ss (fun s => pS W s 7) := by
  intro h' m i b hb F T k hk hQ
  have q' := (q.ex m).st hb
  have c' := m.cl' c (by decide)
  exact ⟨_, by rw [c']; exact dsp_HamletWells_Worth_of_41, xCall_of (d' := 2) hD (Nat.zero_le k) (vc_X27_of ⟨fun b' e' => by cases e'; exact q'.cs.2.1, c', xCall_of (d' := 1) (by decide) (Nat.zero_le _) (vc_X27_of_2 ⟨b, rfl, q'.1, _, q'.2.2 7 (by decide), hQ h' xMod.rf⟩)⟩)⟩
theorem wo28 (q : isPr G h N p hs ss W nd) (c : xcls h w = 42) {D : Nat} (hD : 2 < D) : isWo G D 0 h w hs (fun s => pH W s 4) := by
  intro h' m i b hb F T k hk hQ
  have q' := (q.ex m).hm hb
  have c' := m.cl' c (by decide)
  exact ⟨_, by rw [c']; exact dsp_HamletWells_Worth_of_42, xCall_of (d' := 2) hD (Nat.zero_le k) (vc_X28_of ⟨fun b' e' => by cases e'; exact q'.cs.2.1, c', xCall_of (d' := 1) (by decide) (Nat.zero_le _) (vc_X28_of_2 ⟨b, rfl, q'.1, _, q'.2.2 4 (by decide), hQ h' xMod.rf⟩)⟩)⟩
theorem wo29 (q : isPr G h N p hs ss W nd) (X : wG W) (c : xcls h w = 43) {D : Nat} (hD : 3 < D) : isWo G D 0 h w ss (fun s => pS W s 6) := by
  intro h' m i b hb F T k hk hQ
  have q' := (q.ex m).st hb
  have c' := m.cl' c (by decide)
  exact ⟨_, by rw [c']; exact dsp_HamletWells_Worth_of_43, xCall_of (d' := 3) hD (Nat.zero_le k) (vc_X29_of ⟨fun b' e' => by cases e'; exact q'.cs.2.1, c', xCall_of (d' := 2) (by decide) (Nat.zero_le _) (vc_X29_of_2 ⟨b, rfl, q'.1, _, q'.2.2 6 (by decide), bit_c (by decide) (X.2 i (q.si hb)).2.2 (hQ h' xMod.rf)⟩)⟩)⟩
theorem wo30 (q : isPr G h N p hs ss W nd) (c : xcls h w = 44) {D : Nat} (hD : 2 < D) : isWo G D 0 h w hs (fun s => pH W s 2) := by
  intro h' m i b hb F T k hk hQ
  have q' := (q.ex m).hm hb
  have c' := m.cl' c (by decide)
  exact ⟨_, by rw [c']; exact dsp_HamletWells_Worth_of_44, xCall_of (d' := 2) hD (Nat.zero_le k) (vc_X30_of ⟨fun b' e' => by cases e'; exact q'.cs.2.1, c', xCall_of (d' := 1) (by decide) (Nat.zero_le _) (vc_X30_of_2 ⟨b, rfl, q'.1, _, q'.2.2 2 (by decide), hQ h' xMod.rf⟩)⟩)⟩
theorem wo32 (q : isPr G h N p hs ss W nd) (c : xcls h w = 46) {D : Nat} (hD : 2 < D) : isWo G D 0 h w hs (fun s => pH W s 3) := by
  intro h' m i b hb F T k hk hQ
  have q' := (q.ex m).hm hb
  have c' := m.cl' c (by decide)
  exact ⟨_, by rw [c']; exact dsp_HamletWells_Worth_of_46, xCall_of (d' := 2) hD (Nat.zero_le k) (vc_X32_of ⟨fun b' e' => by cases e'; exact q'.cs.2.1, c', xCall_of (d' := 1) (by decide) (Nat.zero_le _) (vc_X32_of_2 ⟨b, rfl, q'.1, _, q'.2.2 3 (by decide), hQ h' xMod.rf⟩)⟩)⟩
theorem wo31 (q : isNw G h x p hs ss W nd) (X : wG W) (h0 : pMask W ≠ 0) (c : xcls h w = 45) (v0 : xval h w 0 = xr (some x)) {D : Nat} (hD : 11 < D) : isWo G D 11 h w hs (fun i => pH W i 2 * pFar W i ((pWell W i).getD 0)) := by
  intro h' m i b hb F T k hk hQ
  have q' := q.ex m
  have hm := q'.pr.hm hb
  have c' := m.cl' c (by decide)
  obtain ⟨t, ht⟩ := pNear_some (a := i) q.pr.pw (pMask_ok q.pr.pw) h0
  have ht' : pWell W i = some t := ht
  have htl := pNear_lt t ht
  obtain ⟨st, hst⟩ := q.pr.sx htl
  refine ⟨_, by rw [c']; exact dsp_HamletWells_Worth_of_45, xCall_of (d' := 11) hD hk (vc_X31_of ⟨fun b' e' => by cases e'; exact hm.cs.2.1, c', xCall_of (d' := 10) (by decide) (Nat.le_refl _) (vc_X31_of_2 ⟨b, rfl, hm.1, _, hm.2.2 2 (by decide), c', _, m.vl' c (by decide) (by simp) v0, x, rfl, q'.1, _, q'.2.1, p, rfl, q'.pr.cl, well_c (by decide) (by decide) q'.pr X hb fun h1 x1 => ?_⟩)⟩)⟩
  have q1 := q'.ex x1
  have e9 : oE ss (pWell W i) = some st := by rw [ht']; exact hst
  refine ⟨st, e9, (q1.pr.st hst).1, far_sh_c (by decide) (q1.pr.st hst) (q1.pr.hm hb) X (q.pr.hi hb) htl ?_⟩
  have := hQ h1 x1
  simp only [ht'] at this
  exact this
end XXL

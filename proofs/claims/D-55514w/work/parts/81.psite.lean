/-! the province: what sites do -/
section XPU
variable {G : xG} {d k : Nat} {h h' h0 : xH} {T : Nat → xH → Nat → Prop} {S : List Nat} {x p N N0 i j s c a b e r ka mm w m ll n o al most : Nat} {es hs ss hs' ss' : List Nat} {W W' f g X' Y' : Nat → Int32} {nd y z v u x' y' t mc : Int32}
theorem st_open (q : isPr G h N p hs ss W nd) (X : wG W) (hs' : ss[s]? = some a) : xval h a 6 = xi (xb (pOpen W s)) ∧ xval h a 7 = xi (xb (pPump W s)) := by
  have st := q.st hs'
  have hx := X.2 s (q.si hs')
  have e5 : pS W s 5 = xb (pOpen W s) := by unfold pOpen; rcases hx.2.1 with z | z <;> rw [z] <;> rfl
  have e6 : pS W s 6 = xb (pPump W s) := by unfold pPump; rcases hx.2.2 with z | z <;> rw [z] <;> rfl
  exact ⟨(st.2.2 5 (by decide)).trans (congrArg xi e5), (st.2.2 6 (by decide)).trans (congrArg xi e6)⟩
theorem pOpens_X (p : pW W) (X : wG W) : wG (pOpens W s) ∧ pW (pOpens W s) := by
  obtain ⟨x1, p1⟩ := X.u0 (n := 1) (v := W 1 - pPrice W s) p (by decide) (by decide) (by decide)
  obtain ⟨x2, p2⟩ := x1.u0 (n := 7) (v := uW W 1 (W 1 - pPrice W s) 7 + pPrice (uW W 1 (W 1 - pPrice W s)) s) p1 (by decide) (by decide) (by decide)
  exact x2.uS p2 (Or.inl rfl) (Or.inr rfl)
theorem opens_c {F : Int32 → xH → Nat → Prop} (hd : 11 < d) (hk : 271 ≤ k) (gk : gK G) (q : isPr G h N p hs ss W nd) (X : wG W) (hs' : s < nS W)
    (hF : pNotOpen W (nI s) = (0, none) → ∀ h', xGr N h h' → isPr G h' N p hs ss (pOpens W s) nd → F (nI (pMany (pOpens W s) (nI s))) h' (k - 271))
    (hT : ∀ r dt, pNotOpen W (nI s) = (-5, some (r, dt)) → ∀ h' e, xExt h h' → xsz h ≤ e → isRf h' e r dt none → T e h' (k - 271)) : xCall G d k mX1_opens [xr (some p), xi (nI s)] h (xkI F T) := by
  have h6 := q.pw.2.2.2
  obtain ⟨a, ha⟩ := q.sx hs'
  obtain ⟨v6, -⟩ := st_open q X ha
  have st := q.st ha
  have hn : pNotOpen W (nI s) = if pOpen W s then (-5, some (3, nI (pMany W (nI s)))) else if pPrice W s ≤ W 1 then (0, none) else (-5, some (5, pPrice W s - W 1)) := by
    unfold pNotOpen
    rw [if_pos ((pHas_iff (by omega)).mpr ⟨s, hs', rfl⟩), nI_clamp (by omega)]
  refine xCall_of (d' := 11) hd hk (vc_X1_opens (pr_s q fun r R _ => row_of_c (by decide) R ha st.cs.1 ⟨fun b' e' => by cases e'; exact st.cs.2.1, a, rfl, st.1, _, v6, fun u => ⟨q.cl, drinkers_c (by decide) (by decide) q X ha fun h1 ll ns mc x1 _ _ L1 => ⟨ll, rfl, L1.1, ll_size_c (by decide) L1 (needs_c (c := false) (by decide) (by decide) gk (fun z => by cases z) fun _ h2 e x2 hz r2 => ?_)⟩⟩, fun u => ⟨q.cl, drinkers_c (by decide) (by decide) q X ha fun h1 ll ns mc x1 _ _ L1 => ⟨ll, rfl, L1.1, ll_size_c (by decide) L1 (needs_c (c := true) (by decide) (by decide) gk (fun _ => ?_) fun z => by cases z)⟩⟩⟩))
  · have hop := xb1.mp u
    rw [dE_len, ← pMany_len] at r2
    refine hT _ _ (by rw [hn, if_pos hop]) h2 e (x1.tr x2) (Nat.le_trans x1.2.1 hz) r2
  · have hop := xb0.mp u
    rw [if_neg (by rw [hop]; exact Bool.false_ne_true)] at hn
    have q1 := q.ex x1
    have st1 := q1.st ha
    refine pr_f q1 3 (by decide) (by decide) (by decide) ⟨st1.1, sopens_c (by decide) st1 ⟨fun y => ⟨st1.1, sopens_c (by decide) st1 (pr_f q1 3 (by decide) (by decide) (by decide) (needs_c (c := false) (by decide) (by decide) gk (fun z => by cases z) fun _ h2 e x2 hz r2 => ?_))⟩, fun y => ⟨st1.1, sopens_c (by decide) st1 (pr_f q1 3 (by decide) (by decide) (by decide) (needs_c (c := true) (by decide) (by decide) gk (fun _ => ?_) fun z => by cases z))⟩⟩⟩
    · exact hT _ _ (by rw [hn, if_neg (show ¬ pPrice W s ≤ W 1 from Int32.not_le.mpr y)]; rfl) h2 e (x1.tr x2) (Nat.le_trans x1.2.1 hz) r2
    · have hok : pNotOpen W (nI s) = (0, none) := by rw [hn, if_pos (show pPrice W s ≤ W 1 from Int32.not_lt.mp y)]
      refine pr_f q1 3 (by decide) (by decide) (by decide) ⟨st1.1, sopens_c (by decide) st1 ⟨q1.cl, fun h31 e31 => ?_⟩⟩
      have q31 := q1.pP (j := 3) (by decide) (by decide) (by decide) (W 1 - pPrice W s)
      have m31 : xGr N h1 h31 := xGr.of (S := [p]) (e31 ▸ xMod.rf.put (Or.inl (by simp))) (fun x hx => by rw [List.mem_singleton.mp hx]; exact q1.hN.1)
      have e31' : h31 = xput h1 p 3 (xi (W 1 - pPrice W s)) := e31
      rw [← e31'] at q31
      have st31 := q31.st ha
      refine pr_f q31 6 (by decide) (by decide) (by decide) ⟨st31.1, sopens_c (by decide) st31 ⟨q31.cl, fun h36 e36 => ?_⟩⟩
      have q36 := q31.pP (j := 6) (by decide) (by decide) (by decide) (uW W (pvF 3) (W 1 - pPrice W s) (pvF 6) + pPrice (uW W (pvF 3) (W 1 - pPrice W s)) s)
      have m36 : xGr N h31 h36 := xGr.of (S := [p]) (e36 ▸ xMod.rf.put (Or.inl (by simp))) (fun x hx => by rw [List.mem_singleton.mp hx]; exact q31.hN.1)
      rw [← e36] at q36
      have st36 := q36.st ha
      refine ⟨st36.1, fun h37 e37 => ?_⟩
      have q37 := q36.pS ha (j := 5) (by decide) 1
      have m37 : xGr N h36 h37 := xGr.of (S := [a]) (e37 ▸ xMod.rf.put (Or.inl (by simp))) (fun x hx => by rw [List.mem_singleton.mp hx]; exact q36.hN.2.2 a (List.mem_of_getElem? ha))
      rw [← e37] at q37
      have q37' : isPr G h37 N p hs ss (pOpens W s) nd := q37
      have gr := (((xGr.ex (N := N) x1).tr m31).tr m36).tr m37
      refine ⟨q37'.cl, drinkers_c (by decide) (by decide) q37' (pOpens_X q.pw X).1 ha fun h38 ll2 ns2 mc2 x38 _ _ L2 => ⟨ll2, rfl, L2.1, ll_size_c (by decide) L2 ?_⟩⟩
      rw [dE_len, ← pMany_len]
      exact hF hok h38 (gr.tr (xGr.ex x38)) (q37'.ex x38)
theorem openOne_c {F : Option Nat → xH → Nat → Prop} (hd : 6 < d) (hk : 9 ≤ k) (gk : gK G) (q : isPr G h N p hs ss W nd) (X : wG W) (ha : ss[s]? = some a)
    (hF : pOpen W s = true → F (some a) h (k - 9))
    (hT : pOpen W s = false → ∀ h' e, xExt h h' → xsz h ≤ e → isRf h' e 4 (pS W s 4) none → T e h' (k - 9)) : xCall G d k mX1_openOne [xr (some p), xi (nI s)] h (xkR F T) := by
  obtain ⟨v6, -⟩ := st_open q X ha
  have st := q.st ha
  exact xCall_of (d' := 6) hd hk (vc_X1_openOne (pr_s q fun r R _ => row_of_c (by decide) R ha st.cs.1 ⟨fun b' e' => by cases e'; exact st.cs.2.1, a, rfl, st.1, _, v6, st.1, _, st.2.2 3 (by decide), needs_c (by decide) (by decide) gk hF hT⟩))
theorem shuts_c {F : Int32 → xH → Nat → Prop} (hd : 7 < d) (hk : 21 ≤ k) (gk : gK G) (q : isPr G h N p hs ss W nd) (X : wG W) (hs' : s < nS W)
    (hF : pNotShut W (nI s) = (0, none) → ∀ h', xGr N h h' → isPr G h' N p hs ss (pShuts W s) nd → F (nI (bCard (pMask (pShuts W s)))) h' (k - 21))
    (hT : ∀ r dt, pNotShut W (nI s) = (-5, some (r, dt)) → ∀ h' e, xExt h h' → xsz h ≤ e → isRf h' e r dt none → T e h' (k - 21)) : xCall G d k mX1_shuts [xr (some p), xi (nI s)] h (xkI F T) := by
  have h6 := q.pw.2.2.2
  obtain ⟨a, ha⟩ := q.sx hs'
  have hn : pNotShut W (nI s) = if pOpen W s then (0, none) else (-5, some (4, pS W s 4)) := by
    unfold pNotShut
    rw [if_pos ((pHas_iff (by omega)).mpr ⟨s, hs', rfl⟩), nI_clamp (by omega)]
  refine xCall_of (d' := 7) hd hk (vc_X1_shuts ⟨q.cl, openOne_c (by decide) (by decide) gk q X ha (fun hop => ?_) (fun hop h2 e x2 hz r2 => hT _ _ (by rw [hn, if_neg (by rw [hop]; exact Bool.false_ne_true)]) h2 e x2 hz r2)⟩)
  rw [if_pos hop] at hn
  have st := q.st ha
  refine pr_f q 4 (by decide) (by decide) (by decide) ⟨a, rfl, st.1, _, st.2.2 6 (by decide), bit_c (by decide) (X.2 s hs').2.2 ⟨q.cl, fun h10 e10 => ?_⟩⟩
  have q10 := q.pP (j := 4) (by decide) (by decide) (by decide) (W 4 + pS W s 6)
  have m10 : xGr N h h10 := xGr.of (S := [p]) (e10 ▸ xMod.rf.put (Or.inl (by simp))) (fun x hx => by rw [List.mem_singleton.mp hx]; exact q.hN.1)
  have e10' : h10 = xput h p 4 (xi (W 4 + pS W s 6)) := e10
  rw [← e10'] at q10
  refine ⟨(q10.st ha).1, fun h11 e11 => ?_⟩
  have q11 := q10.pS ha (j := 6) (by decide) 0
  have m11 : xGr N h10 h11 := xGr.of (S := [a]) (e11 ▸ xMod.rf.put (Or.inl (by simp))) (fun x hx => by rw [List.mem_singleton.mp hx]; exact q10.hN.2.2 a (List.mem_of_getElem? ha))
  rw [← e11] at q11
  refine ⟨(q11.st ha).1, fun h12 e12 => ?_⟩
  have q12 := q11.pS ha (j := 5) (by decide) 0
  have m12 : xGr N h11 h12 := xGr.of (S := [a]) (e12 ▸ xMod.rf.put (Or.inl (by simp))) (fun x hx => by rw [List.mem_singleton.mp hx]; exact q11.hN.2.2 a (List.mem_of_getElem? ha))
  rw [← e12] at q12
  have q12' : isPr G h12 N p hs ss (pShuts W s) nd := q12
  obtain ⟨x1, p1⟩ := X.u0 (n := 4) (v := W 4 + pS W s 6) q.pw (by decide) (by decide) (by decide)
  obtain ⟨x2, p2⟩ := x1.uS (s := s) (j := 6) (v := 0) p1 (Or.inr rfl) (Or.inl rfl)
  obtain ⟨x3, p3⟩ := x2.uS (s := s) (j := 5) (v := 0) p2 (Or.inl rfl) (Or.inl rfl)
  exact ⟨q12'.cl, openMany_c (by decide) (by decide) gk.1 q12' x3 fun h13 x13 => hF hn h13 (((m10.tr m11).tr m12).tr (xGr.ex x13)) (q12'.ex x13)⟩
theorem pumps_c {F : Int32 → xH → Nat → Prop} (hd : 7 < d) (hk : 27 ≤ k) (gk : gK G) (q : isPr G h N p hs ss W nd) (X : wG W) (hs' : s < nS W) (hW : 0 ≤ W 4)
    (hF : pNotPump W (nI s) = (0, none) → ∀ h', xGr N h h' → isPr G h' N p hs ss (pPumps W s) nd → F (pGives (pPumps W s) s) h' (k - 27))
    (hT : ∀ r dt, pNotPump W (nI s) = (-5, some (r, dt)) → ∀ h' e, xExt h h' → xsz h ≤ e → isRf h' e r dt none → T e h' (k - 27)) : xCall G d k mX1_pumps [xr (some p), xi (nI s)] h (xkI F T) := by
  have h6 := q.pw.2.2.2
  obtain ⟨a, ha⟩ := q.sx hs'
  obtain ⟨-, v7⟩ := st_open q X ha
  have hn : pNotPump W (nI s) = if pOpen W s then (if pPump W s then (-5, some (6, W 4)) else if W 4 = 0 then (-5, some (8, 3)) else (0, none)) else (-5, some (4, pS W s 4)) := by
    unfold pNotPump
    rw [if_pos ((pHas_iff (by omega)).mpr ⟨s, hs', rfl⟩), nI_clamp (by omega)]
  refine xCall_of (d' := 7) hd hk (vc_X1_pumps ⟨q.cl, openOne_c (by decide) (by decide) gk q X ha (fun hop => ?_) (fun hop h2 e x2 hz r2 => hT _ _ (by rw [hn, if_neg (by rw [hop]; exact Bool.false_ne_true)]) h2 e x2 hz r2)⟩)
  rw [if_pos hop] at hn
  have st := q.st ha
  refine ⟨a, rfl, st.1, _, v7, fun u => pr_f q 4 (by decide) (by decide) (by decide) (needs_c (c := false) (by decide) (by decide) gk (fun z => by cases z) fun _ h2 e x2 hz r2 => hT _ _ (by rw [hn, if_pos (xb1.mp u)]; rfl) h2 e x2 hz r2), fun u => pr_f q 4 (by decide) (by decide) (by decide) (needs_c (c := true) (by decide) (by decide) gk (fun _ => pr_f q 4 (by decide) (by decide) (by decide) ⟨fun y => pr_f q 4 (by decide) (by decide) (by decide) (needs_c (c := false) (by decide) (by decide) gk (fun z => by cases z) fun _ h2 e x2 hz r2 => ?_), fun y => pr_f q 4 (by decide) (by decide) (by decide) (needs_c (c := true) (by decide) (by decide) gk (fun _ => ?_) fun z => by cases z)⟩) fun z => by cases z)⟩
  · have h0 : W 4 = 0 := Int32.le_antisymm y hW
    have r2' : isRf h2 e 8 3 none := by
      have : (3 : Int32) - W (pvF 4) = 3 := by rw [show W (pvF 4) = W 4 from rfl, h0]; rfl
      rw [this] at r2
      exact r2
    exact hT _ _ (by rw [hn, if_neg (by rw [xb0.mp u]; exact Bool.false_ne_true), if_pos h0]) h2 e x2 hz r2'
  · have h0 : ¬ W 4 = 0 := fun e => y (by rw [show W (pvF 4) = W 4 from rfl, e]; decide)
    rw [if_neg (by rw [xb0.mp u]; exact Bool.false_ne_true), if_neg h0] at hn
    refine ⟨st.1, fun h22 e22 => ?_⟩
    have q22 := q.pS ha (j := 6) (by decide) 1
    have m22 : xGr N h h22 := xGr.of (S := [a]) (e22 ▸ xMod.rf.put (Or.inl (by simp))) (fun x hx => by rw [List.mem_singleton.mp hx]; exact q.hN.2.2 a (List.mem_of_getElem? ha))
    rw [← e22] at q22
    refine pr_f q22 4 (by decide) (by decide) (by decide) ⟨q22.cl, fun h24 e24 => ?_⟩
    have q24 := q22.pP (j := 4) (by decide) (by decide) (by decide) (uW W (61 + 8 * s + stF 6) 1 (pvF 4) - 1)
    have m24 : xGr N h22 h24 := xGr.of (S := [p]) (e24 ▸ xMod.rf.put (Or.inl (by simp))) (fun x hx => by rw [List.mem_singleton.mp hx]; exact q22.hN.1)
    rw [← e24] at q24
    have eW : uW (uW W (61 + 8 * s + stF 6) 1) (pvF 4) (uW W (61 + 8 * s + stF 6) 1 (pvF 4) - 1) = pPumps W s := by
      funext i
      have e4 : uW W (61 + 8 * s + stF 6) 1 (pvF 4) = W 4 := uW_ne (show 4 ≠ 61 + 8 * s + 6 by omega)
      rw [e4]
      unfold pPumps
      show (if i = 4 then W 4 - 1 else if i = 61 + 8 * s + 6 then 1 else W i) = (if i = 61 + 8 * s + 6 then 1 else if i = 4 then W 4 - 1 else W i)
      by_cases i4 : i = 4
      · rw [if_pos i4, if_neg (by omega), if_pos i4]
      · rw [if_neg i4, if_neg i4]
    rw [eW] at q24
    refine ⟨(q24.st ha).1, sgives_c (by decide) (q24.st ha) ?_ (hF hn h24 (m22.tr m24) q24)⟩
    right
    show uW (uW W 4 (W 4 - 1)) (61 + 8 * s + 6) 1 (61 + 8 * s + 6) = 1
    exact uW_eq
theorem unpumps_c {F : Int32 → xH → Nat → Prop} (hd : 7 < d) (hk : 18 ≤ k) (gk : gK G) (q : isPr G h N p hs ss W nd) (X : wG W) (hs' : s < nS W)
    (hF : pNotUnpump W (nI s) = (0, none) → ∀ h', xGr N h h' → isPr G h' N p hs ss (pUnpumps W s) nd → F (pUnpumps W s 4) h' (k - 18))
    (hT : ∀ r dt, pNotUnpump W (nI s) = (-5, some (r, dt)) → ∀ h' e, xExt h h' → xsz h ≤ e → isRf h' e r dt none → T e h' (k - 18)) : xCall G d k mX1_unpumps [xr (some p), xi (nI s)] h (xkI F T) := by
  have h6 := q.pw.2.2.2
  obtain ⟨a, ha⟩ := q.sx hs'
  obtain ⟨-, v7⟩ := st_open q X ha
  have hn : pNotUnpump W (nI s) = if pOpen W s then (if pPump W s then (0, none) else (-5, some (7, nI s))) else (-5, some (4, pS W s 4)) := by
    unfold pNotUnpump
    rw [if_pos ((pHas_iff (by omega)).mpr ⟨s, hs', rfl⟩), nI_clamp (by omega)]
  refine xCall_of (d' := 7) hd hk (vc_X1_unpumps ⟨q.cl, openOne_c (by decide) (by decide) gk q X ha (fun hop => ?_) (fun hop h2 e x2 hz r2 => hT _ _ (by rw [hn, if_neg (by rw [hop]; exact Bool.false_ne_true)]) h2 e x2 hz r2)⟩)
  rw [if_pos hop] at hn
  have st := q.st ha
  refine ⟨a, rfl, st.1, _, v7, needs_c (by decide) (by decide) gk (fun hp => ?_) fun hp h2 e x2 hz r2 => hT _ _ (by rw [hn, if_neg (by rw [hp]; exact Bool.false_ne_true)]) h2 e x2 hz r2⟩
  rw [if_pos hp] at hn
  refine ⟨st.1, fun h8 e8 => ?_⟩
  have q8 := q.pS ha (j := 6) (by decide) 0
  have m8 : xGr N h h8 := xGr.of (S := [a]) (e8 ▸ xMod.rf.put (Or.inl (by simp))) (fun x hx => by rw [List.mem_singleton.mp hx]; exact q.hN.2.2 a (List.mem_of_getElem? ha))
  rw [← e8] at q8
  refine pr_f q8 4 (by decide) (by decide) (by decide) ⟨q8.cl, fun h10 e10 => ?_⟩
  have q10 := q8.pP (j := 4) (by decide) (by decide) (by decide) (uW W (61 + 8 * s + stF 6) 0 (pvF 4) + 1)
  have m10 : xGr N h8 h10 := xGr.of (S := [p]) (e10 ▸ xMod.rf.put (Or.inl (by simp))) (fun x hx => by rw [List.mem_singleton.mp hx]; exact q8.hN.1)
  rw [← e10] at q10
  have q10' : isPr G h10 N p hs ss (pUnpumps W s) nd := q10
  exact pr_f q10' 4 (by decide) (by decide) (by decide) (hF hn h10 (m8.tr m10) q10')
end XPU

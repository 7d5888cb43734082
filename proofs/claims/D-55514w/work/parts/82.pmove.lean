/-! the province: moves -/
section XPU
variable {G : xG} {d k : Nat} {h h' h0 : xH} {T : Nat → xH → Nat → Prop} {S : List Nat} {x p N N0 i j s c a b e r ka mm w m ll n o al most s2 : Nat} {es hs ss hs' ss' : List Nat} {W W' f g X' Y' : Nat → Int32} {nd y z v u x' y' t mc : Int32}
theorem isSt.far {F : Int32 → xH → Nat → Prop} (hd : 1 < d) (q : isSt h a s W) (r : isSt h b s2 W) (X : wG W) (hs : s < nS W) (hs2 : s2 < nS W) (hQ : F (pAway (pS W s 0) (pS W s2 0) + pAway (pS W s 1) (pS W s2 1)) h k) : xCall G d k mX6_far [xr (some a), xr (some b)] h (xkI F T) := by
  refine far_c hd (Or.inr q.1) (q.2.2 0 (by decide)) (q.2.2 1 (by decide)) (Or.inr r.1) (r.2.2 0 (by decide)) (r.2.2 1 (by decide)) ?_
  show F (cAbs (pS W s 0 - pS W s2 0) + cAbs (pS W s 1 - pS W s2 1)) h k
  rw [(cAbs_away ((X.2 s hs).1 0 (by decide)) ((X.2 s2 hs2).1 0 (by decide))).1, (cAbs_away ((X.2 s hs).1 1 (by decide)) ((X.2 s2 hs2).1 1 (by decide))).1]
  exact hQ
theorem nI_ne (ha : a < 1000) (hb : b < 1000) (e : a ≠ b) : nI a ≠ nI b := fun z => e (by have := congrArg Int32.toNatClampNeg z; rwa [nI_clamp (by omega), nI_clamp (by omega)] at this)
theorem pToll_u (hn : n < 13) (v : Int32) : pToll (uW W n v) s s2 = pToll W s s2 := by
  unfold pToll
  rw [pS_u0 (by omega), pS_u0 (by omega), pS_u0 (by omega), pS_u0 (by omega)]
theorem moves_c {F : Int32 → xH → Nat → Prop} (hd : 7 < d) (hk : 54 ≤ k) (gk : gK G) (q : isPr G h N p hs ss W nd) (X : wG W) (hs' : s < nS W) (hs2 : s2 < nS W)
    (hF : pNotMove W (nI s) (nI s2) = (0, none) → ∀ h', xGr N h h' → isPr G h' N p hs ss (pMoves W s s2) nd → F (pToll W s s2) h' (k - 54))
    (hT : ∀ r dt, pNotMove W (nI s) (nI s2) = (-5, some (r, dt)) → ∀ h' e, xExt h h' → xsz h ≤ e → isRf h' e r dt none → T e h' (k - 54)) : xCall G d k mX1_moves [xr (some p), xi (nI s), xi (nI s2)] h (xkI F T) := by
  have h6 := q.pw.2.2.2
  obtain ⟨a, ha⟩ := q.sx hs'
  obtain ⟨b, hb⟩ := q.sx hs2
  obtain ⟨-, va⟩ := st_open q X ha
  obtain ⟨-, vb⟩ := st_open q X hb
  have hn : pNotMove W (nI s) (nI s2) = if nI s = nI s2 then (-5, some (9, nI s)) else if pOpen W s then (if pOpen W s2 then (if pPump W s then (if pPump W s2 then (-5, some (6, W 4)) else if pToll W s s2 ≤ W 1 then (0, none) else (-5, some (5, pToll W s s2 - W 1))) else (-5, some (7, nI s))) else (-5, some (4, pS W s2 4))) else (-5, some (4, pS W s 4)) := by
    unfold pNotMove
    rw [if_pos ((pHas_iff (by omega)).mpr ⟨s, hs', rfl⟩), if_pos ((pHas_iff (by omega)).mpr ⟨s2, hs2, rfl⟩), nI_clamp (by omega), nI_clamp (by omega)]
  have sa := q.st ha
  have sb := q.st hb
  refine xCall_of (d' := 7) hd hk (vc_X1_moves ⟨fun hE => needs_c (c := false) (by decide) (by decide) gk (fun z => by cases z) fun _ h2 e x2 hz r2 => hT _ _ (by rw [hn, if_pos hE]) h2 e x2 hz r2, fun hE => needs_c (c := true) (by decide) (by decide) gk (fun _ => ?_) fun z => by cases z⟩)
  rw [if_neg hE] at hn
  refine ⟨q.cl, openOne_c (by decide) (by decide) gk q X ha (fun hop => ⟨q.cl, openOne_c (by decide) (by decide) gk q X hb (fun hop2 => ?_) fun hop2 h2 e x2 hz r2 => hT _ _ (by rw [hn, if_pos hop, if_neg (by rw [hop2]; exact Bool.false_ne_true)]) h2 e x2 hz r2⟩) fun hop h2 e x2 hz r2 => hT _ _ (by rw [hn, if_neg (by rw [hop]; exact Bool.false_ne_true)]) h2 e x2 hz r2⟩
  rw [if_pos hop, if_pos hop2] at hn
  refine ⟨a, rfl, sa.1, _, va, needs_c (by decide) (by decide) gk (fun hp => ?_) fun hp h2 e x2 hz r2 => hT _ _ (by rw [hn, if_neg (by rw [hp]; exact Bool.false_ne_true)]) h2 e x2 hz r2⟩
  rw [if_pos hp] at hn
  refine ⟨b, rfl, sb.1, _, vb, fun u => pr_f q 4 (by decide) (by decide) (by decide) (needs_c (c := false) (by decide) (by decide) gk (fun z => by cases z) fun _ h2 e x2 hz r2 => hT _ _ (by rw [hn, if_pos (xb1.mp u)]; rfl) h2 e x2 hz r2), fun u => pr_f q 4 (by decide) (by decide) (by decide) (needs_c (c := true) (by decide) (by decide) gk (fun _ => ?_) fun z => by cases z)⟩
  rw [if_neg (by rw [xb0.mp u]; exact Bool.false_ne_true)] at hn
  refine ⟨sa.1, isSt.far (by decide) sa sb X hs' hs2 (pr_f q 3 (by decide) (by decide) (by decide) ⟨fun y => pr_f q 3 (by decide) (by decide) (by decide) (needs_c (c := false) (by decide) (by decide) gk (fun z => by cases z) fun _ h2 e x2 hz r2 => hT _ _ (by rw [hn, if_neg (show ¬ pToll W s s2 ≤ W 1 from Int32.not_le.mpr y)]; rfl) h2 e x2 hz r2), fun y => pr_f q 3 (by decide) (by decide) (by decide) (needs_c (c := true) (by decide) (by decide) gk (fun _ => ?_) fun z => by cases z)⟩)⟩
  rw [if_pos (show pToll W s s2 ≤ W 1 from Int32.not_lt.mp y)] at hn
  refine pr_f q 3 (by decide) (by decide) (by decide) ⟨q.cl, fun h35 e35 => ?_⟩
  have q35 := q.pP (j := 3) (by decide) (by decide) (by decide) (W 1 - pToll W s s2)
  have m35 : xGr N h h35 := xGr.of (S := [p]) (e35 ▸ xMod.rf.put (Or.inl (by simp))) (fun x hx => by rw [List.mem_singleton.mp hx]; exact q.hN.1)
  have e35' : h35 = xput h p 3 (xi (W 1 - pToll W s s2)) := e35
  rw [← e35'] at q35
  refine pr_f q35 7 (by decide) (by decide) (by decide) ⟨q35.cl, fun h37 e37 => ?_⟩
  have q37 := q35.pP (j := 7) (by decide) (by decide) (by decide) (uW W (pvF 3) (W 1 - pToll W s s2) (pvF 7) + pToll W s s2)
  have m37 : xGr N h35 h37 := xGr.of (S := [p]) (e37 ▸ xMod.rf.put (Or.inl (by simp))) (fun x hx => by rw [List.mem_singleton.mp hx]; exact q35.hN.1)
  have e37' : h37 = xput h35 p 7 (xi (uW W (pvF 3) (W 1 - pToll W s s2) (pvF 7) + pToll W s s2)) := e37
  rw [← e37'] at q37
  refine ⟨(q37.st ha).1, fun h38 e38 => ?_⟩
  have q38 := q37.pS ha (j := 6) (by decide) 0
  have m38 : xGr N h37 h38 := xGr.of (S := [a]) (e38 ▸ xMod.rf.put (Or.inl (by simp))) (fun x hx => by rw [List.mem_singleton.mp hx]; exact q.hN.2.2 a (List.mem_of_getElem? ha))
  rw [← e38] at q38
  refine ⟨(q38.st hb).1, fun h39 e39 => ?_⟩
  have q39 := q38.pS hb (j := 6) (by decide) 1
  have m39 : xGr N h38 h39 := xGr.of (S := [b]) (e39 ▸ xMod.rf.put (Or.inl (by simp))) (fun x hx => by rw [List.mem_singleton.mp hx]; exact q.hN.2.2 b (List.mem_of_getElem? hb))
  rw [← e39] at q39
  have eW : uW (uW (uW (uW W (pvF 3) (W 1 - pToll W s s2)) (pvF 7) (uW W (pvF 3) (W 1 - pToll W s s2) (pvF 7) + pToll W s s2)) (61 + 8 * s + stF 6) 0) (61 + 8 * s2 + stF 6) 1 = pMoves W s s2 := by
    show _ = uW (uW (uW (uW W 1 (W 1 - pToll W s s2)) 8 (uW W 1 (W 1 - pToll W s s2) 8 + pToll (uW W 1 (W 1 - pToll W s s2)) s s2)) (61 + 8 * s + 6) 0) (61 + 8 * s2 + 6) 1
    rw [pToll_u (by decide)]
    rfl
  rw [eW] at q39
  exact hF hn h39 (((m35.tr m37).tr m38).tr m39) q39
end XPU

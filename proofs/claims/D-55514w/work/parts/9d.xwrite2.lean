/-! write -/
def gW (G : xG) (h : xH) : Prop := isStr h (G.2.2 0) [] ∧ isStr h (G.2.2 4) [112]
section XWM
variable {G : xG} {d k : Nat} {h h' h0 : xH} {T : Nat → xH → Nat → Prop} {S : List Nat} {x p N N0 i j c a b e r ka mm w m ll n al most dq da ip f dd kd t st it s : Nat} {es hs ss hs' ss' ps ps' cs acc : List Nat} {W W' g X' Y' u : Nat → Int32} {nd y z v v0 x' y' z' w' mc : Int32} {o : Option xSt} {bs bs' : List xSt} {ro : Option xRf} {rf : xRf} {Z : xZ} {Y : xM} {bo : Bool}
theorem pDrinks_l2 {y : Int32} : ∀ t, t ∈ pDrinks W y → t < nH W := fun t ht => by
  unfold pDrinks at ht
  have := (List.mem_filter.mp ht).1
  rw [List.mem_range'_1] at this
  omega
theorem xwrite_t {K : Nat} {Q : xR → xH → Prop} (gt : gT G h0) (q : isX G h0 x dq da ip Z) (X : wG Z.1.1) (e0 : xval h0 x 0 = xr (some p)) (pr : isPr G h0 0 p hs ss Z.1.1 Z.1.2) (ha : ss[s]? = some a)
    (qb : isB h0 h b cs) (hlen : cs.length + (pDrinks Z.1.1 (nI s)).length ≤ 34) (hk : 460 ≤ k)
    (hQ : ∀ h', xMod [x, dq, da, ip] h0 h' → isX G h' x dq da ip (lnX Z (cs ++ (pDrinks Z.1.1 (nI s)).map (97 + ·))) → Q (.inl (some (xi (nI (cs ++ (pDrinks Z.1.1 (nI s)).map (97 + ·)).length)))) h') :
    xcls h x = 1 ∧ ∃ o41 : Option Nat, xval h x 0 = xr o41 ∧ ∃ a42, o41 = some a42 ∧ xcls h a42 = 2 ∧ xCall G 15 k mX1_drinkers [xr (some a42), xr (some a)] h (xkR (fun o45 h43 k44 => ∃ a46, o45 = some a46 ∧ xcls h43 a46 = 17 ∧ xCall G 15 k44 mJ19_iterator [xr (some a46)] h43 (xkR (fun o49 h47 k48 => xWp G mX0_write 15 K Q k48 104 [some (xr (some x)), none, none, some (xr (some b)), some (xr o49), none] [] h47) (fun q h _ => Q (.inr q) h))) (fun q h _ => Q (.inr q) h)) := by
  have pr1 := pr.ex qb.1
  have hl8 := pr.lh
  have hns := pr.nh
  have hdl : (pDrinks Z.1.1 (nI s)).length ≤ 8 := by
    unfold pDrinks
    exact Nat.le_trans (List.length_filter_le _ _) (by rw [List.length_range']; omega)
  refine ⟨qb.1.cl' q.1 (by decide), _, qb.1.vl' q.1 (by decide) (by simp) e0, p, rfl, pr1.cl, drinkers_c (by decide) (by omega) pr1 X ha fun h43 ll ns mc x43 hll _ ql => ⟨ll, rfl, ql.1, ll_iterator_c (by decide) (by omega) ql fun h47 it x47 hit qi => ?_⟩⟩
  have qb47 := (qb.ex x43).ex x47
  exact xwrite_l gt q pr (L := pDrinks Z.1.1 (nI s)) (cs := cs) (fun t ht => by rw [← hns]; exact pDrinks_l2 t ht) hl8 hQ (pDrinks Z.1.1 (nI s)).length 0 h47 _ ns mc (Nat.zero_add _) (by simpa using qb47) (ql.md x47 (fun y hy => by cases hy)) qi (Nat.le_trans (qb.1.tr x43).2.1 hit) hlen (by omega)
theorem pTx_le2 (h : ∃ n, n ≤ 99 ∧ y = nI n) : (pTx y).length ≤ 2 := by
  obtain ⟨n, hn, rfl⟩ := h
  rw [pTx_n (by omega)]
  exact (by decide +kernel : ∀ n : Fin 100, (pDg n.1).length ≤ 2) ⟨n, by omega⟩
theorem xwrite_c {F : Int32 → xH → Nat → Prop} (hd : 15 < d) (hk : 800 ≤ k) (gt : gT G h) (gw : gW G h) (q : isX G h x dq da ip Z) (X : wG Z.1.1) (hN : ∀ s, s < nS Z.1.1 → pN (pS Z.1.1 s 3))
    (h0' : pHas (nS Z.1.1) y = false → F (-1) h (k - 800))
    (hQ : ∀ s, y = nI s → s < nS Z.1.1 → ∀ h', xMod [x, dq, da, ip] h h' → isX G h' x dq da ip (lnX Z (pLineS Z.1.1 s)) → F (nI (pLineS Z.1.1 s).length) h' (k - 800)) : xCall G d k mX0_write [xr (some x), xi y] h (xkI F T) := by
  obtain ⟨p, e0, ⟨hs, ss, pr⟩, na⟩ := q.2.1
  have hns := pr.ns
  have p4 := pr.pw.2.2.2
  refine xCall_of (d' := 15) hd hk (vc_X0_write ⟨q.1, _, e0, p, rfl, pr_s pr fun r R _ => row_has_c (by decide) R ⟨fun u => ?_, fun u => ?_⟩⟩)
  · rw [← hns] at u
    have hb : pHas (nS Z.1.1) y = true := by
      cases hb : pHas (nS Z.1.1) y with
      | true => rfl
      | false => rw [hb] at u; exact absurd rfl u
    obtain ⟨s, hs', rfl⟩ := (pHas_iff (by omega)).mp hb
    obtain ⟨a, ha⟩ := pr.sx hs'
    have st := pr.st ha
    obtain ⟨v6, v7⟩ := st_open pr X ha
    have hx0 := (X.2 s hs').1 0 (by decide)
    have hx1 := (X.2 s hs').1 1 (by decide)
    have hp0 : pN (pS Z.1.1 s 0) := by obtain ⟨n, hn, e⟩ := hx0; exact ⟨n, by omega, e⟩
    have hp1 : pN (pS Z.1.1 s 1) := by obtain ⟨n, hn, e⟩ := hx1; exact ⟨n, by omega, e⟩
    have l0 := pTx_le2 (hx0.imp fun n hn => ⟨by omega, hn.2⟩)
    have l1 := pTx_le2 (hx1.imp fun n hn => ⟨by omega, hn.2⟩)
    have lp : (pPl (pS Z.1.1 s 0) (pS Z.1.1 s 1)).length ≤ 7 := by
      unfold pPl
      simp only [List.length_cons, List.length_append, List.length_nil]
      omega
    have l3 := pTx_len (pS Z.1.1 s 3)
    have ls : (pTx (nI s)).length ≤ 2 := pTx_le2 ⟨s, by omega, rfl⟩
    have hts : pTx (nI s) = pDg s := pTx_n (by omega)
    have hdl : (pDrinks Z.1.1 (nI s)).length ≤ 8 := by
      have := pr.pw.2.1
      unfold pDrinks
      exact Nat.le_trans (List.length_filter_le _ _) (by rw [List.length_range']; omega)
    have t0 : xval h a 1 = xi (pS Z.1.1 s 0) := st.2.2 0 (by decide)
    have t1 : xval h a 2 = xi (pS Z.1.1 s 1) := st.2.2 1 (by decide)
    have t4 : xval h a 5 = xi (pS Z.1.1 s 3) := st.2.2 4 (by decide)
    have kc : ∀ {h2 : xH}, xExt h h2 → xcls h2 a = 14 := fun m => m.cl' st.1 (by decide)
    have kv : ∀ {h2 : xH} (m : xExt h h2) (j : Nat) {w : xV}, xval h a j = w → xval h2 a j = w := fun m j _ e => (m.vl (by rw [st.1]; decide) j).trans e
    refine ⟨q.1, _, e0, p, rfl, pr_s pr fun r2 R2 _ => row_of_c (by decide) R2 ha st.cs.1 ⟨fun b' e' => by cases e'; exact st.cs.2.1, by decide, fun h15 b eb eh => B_new_c (by decide) (by decide) gt eb eh fun h17 q17 => ⟨q17.cl, B_int_c (by decide) (by decide) gt q17 ⟨s, by omega, rfl⟩ (by simp; omega) fun h19 q19 => B_at_c (by decide) (by decide) gt q19 (Or.inr st.1) t0 t1 hp0 hp1 (by simp; omega) fun h22 q22 => ⟨a, rfl, kc q22.1, _, kv q22.1 5 t4, b, rfl, q22.cl, B_int_c (by decide) (by decide) gt q22 (hN s hs') (by simp; omega) fun h28 q28 => ⟨kc q28.1, _, kv q28.1 6 v6, fun z => ?_, fun z => ?_⟩⟩⟩⟩⟩
    · refine ⟨b, rfl, q28.cl, B_char_c (c := 45) (by decide) (by decide) gt q28 (by decide) (by simp; omega) fun h33 q33 => ⟨kc q33.1, _, kv q33.1 7 v7, fun z2 => ⟨b, rfl, q33.cl, B_str_c (ds := []) (by decide) (by decide) gt q33 gw.1 (by simp; omega) fun h38 q38 => xwrite_t gt q X e0 pr ha q38 (by simp; omega) (by decide) fun h' m' q' => by
        have eqn : [] ++ pTx (nI s) ++ pPl (pS Z.1.1 s 0) (pS Z.1.1 s 1) ++ pTx (pS Z.1.1 s 3) ++ [45] ++ [] ++ (pDrinks Z.1.1 (nI s)).map (97 + ·) = pLineS Z.1.1 s := by unfold pLineS; rw [if_neg (by rw [xb0.mp z]; exact Bool.false_ne_true), if_neg (by rw [xb0.mp z2]; exact Bool.false_ne_true), hts]; simp
        rw [eqn] at q' ⊢
        exact hQ s rfl hs' h' m' q'⟩, fun z2 => ⟨b, rfl, q33.cl, B_str_c (ds := [112]) (by decide) (by decide) gt q33 gw.2 (by simp; omega) fun h38 q38 => xwrite_t gt q X e0 pr ha q38 (by simp; omega) (by decide) fun h' m' q' => by
        have eqn : [] ++ pTx (nI s) ++ pPl (pS Z.1.1 s 0) (pS Z.1.1 s 1) ++ pTx (pS Z.1.1 s 3) ++ [45] ++ [112] ++ (pDrinks Z.1.1 (nI s)).map (97 + ·) = pLineS Z.1.1 s := by unfold pLineS; rw [if_neg (by rw [xb0.mp z]; exact Bool.false_ne_true), if_pos (xb1.mp z2), hts]; simp
        rw [eqn] at q' ⊢
        exact hQ s rfl hs' h' m' q'⟩⟩⟩
    · refine ⟨b, rfl, q28.cl, B_char_c (c := 111) (by decide) (by decide) gt q28 (by decide) (by simp; omega) fun h33 q33 => ⟨kc q33.1, _, kv q33.1 7 v7, fun z2 => ⟨b, rfl, q33.cl, B_str_c (ds := []) (by decide) (by decide) gt q33 gw.1 (by simp; omega) fun h38 q38 => xwrite_t gt q X e0 pr ha q38 (by simp; omega) (by decide) fun h' m' q' => by
        have eqn : [] ++ pTx (nI s) ++ pPl (pS Z.1.1 s 0) (pS Z.1.1 s 1) ++ pTx (pS Z.1.1 s 3) ++ [111] ++ [] ++ (pDrinks Z.1.1 (nI s)).map (97 + ·) = pLineS Z.1.1 s := by unfold pLineS; rw [if_pos (xb1.mp z), if_neg (by rw [xb0.mp z2]; exact Bool.false_ne_true), hts]; simp
        rw [eqn] at q' ⊢
        exact hQ s rfl hs' h' m' q'⟩, fun z2 => ⟨b, rfl, q33.cl, B_str_c (ds := [112]) (by decide) (by decide) gt q33 gw.2 (by simp; omega) fun h38 q38 => xwrite_t gt q X e0 pr ha q38 (by simp; omega) (by decide) fun h' m' q' => by
        have eqn : [] ++ pTx (nI s) ++ pPl (pS Z.1.1 s 0) (pS Z.1.1 s 1) ++ pTx (pS Z.1.1 s 3) ++ [111] ++ [112] ++ (pDrinks Z.1.1 (nI s)).map (97 + ·) = pLineS Z.1.1 s := by unfold pLineS; rw [if_pos (xb1.mp z), if_pos (xb1.mp z2), hts]; simp
        rw [eqn] at q' ⊢
        exact hQ s rfl hs' h' m' q'⟩⟩⟩
  · rw [← hns] at u
    exact h0' (xb0.mp u)
end XWM

/-! writeHamlet -/
section XWH
variable {G : xG} {d k : Nat} {h h' h0 : xH} {T : Nat → xH → Nat → Prop} {S : List Nat} {x p N N0 i j c a b e r ka mm w m ll n al most dq da ip f dd kd t st it s : Nat} {es hs ss hs' ss' ps ps' cs acc : List Nat} {W W' g X' Y' u : Nat → Int32} {nd y z v v0 x' y' z' w' mc : Int32} {o : Option xSt} {bs bs' : List xSt} {ro : Option xRf} {rf : xRf} {Z : xZ} {Y : xM} {bo : Bool}
/-- the line is made and put -/
theorem line_end {Q : xR → xH → Prop} (gt : gT G h0) (q : isX G h0 x dq da ip Z) (qb : isB h0 h b cs) (hk : 40 ≤ k) (hd : 9 < d) (hlen : cs.length ≤ 34)
    (hQ : ∀ h', xMod [x, dq, da, ip] h0 h' → isX G h' x dq da ip (lnX Z cs) → Q (.inl (some (xi (nI cs.length)))) h') :
    xcls h b = 11 ∧ xCall G d k mJ12_toString [xr (some b)] h (xkR (fun o51 h49 k50 => xcls h49 x = 1 ∧ ∀ h52 : xH, h52 = xput h49 x 4 (xr o51) → xcls h52 x = 1 ∧ ∃ o53 : Option Nat, xval h52 x 4 = xr o53 ∧ ∃ a54, o53 = some a54 ∧ xcls h52 a54 = 12 ∧ xCall G d k50 mJ13_length [xr (some a54)] h52 (xkI (fun n57 h55 k56 => Q (.inl (some (xi n57))) h55) (fun q h _ => Q (.inr q) h))) (fun q h _ => Q (.inr q) h)) := by
  refine ⟨qb.cl, B_toString_c (by omega) hk gt qb fun h99 a x99 s99 => ?_⟩
  have q99 := q.ex x99
  refine ⟨q99.1, fun h102 e102 => ?_⟩
  subst e102
  obtain ⟨q1, m1⟩ := q99.lin s99
  obtain ⟨st, e1, e2⟩ := q1.2.2.2.2.2.1
  exact ⟨q1.1, _, e1, st, rfl, e2.1, str_length_c (by omega) gt.1 e2 (show cs.length < 1000 by omega) (hQ _ ((xMod.of x99).tr m1) q1)⟩
theorem xwriteH_c {F : Int32 → xH → Nat → Prop} (hd : 15 < d) (hk : 500 ≤ k) (gt : gT G h) (q : isX G h x dq da ip Z) (X : wG Z.1.1) (hW : ∀ i t, i < nH Z.1.1 → pWell Z.1.1 i = some t → t < nS Z.1.1) (hN : ∀ i, i < nH Z.1.1 → pN (pH Z.1.1 i 2) ∧ pN (pH Z.1.1 i 3))
    (h0' : pHas (nH Z.1.1) y = false → F (-1) h (k - 500))
    (hQ : ∀ s, y = nI s → s < nH Z.1.1 → ∀ h', xMod [x, dq, da, ip] h h' → isX G h' x dq da ip (lnX Z (pLineH Z.1.1 s)) → F (nI (pLineH Z.1.1 s).length) h' (k - 500)) : xCall G d k mX0_writeHamlet [xr (some x), xi y] h (xkI F T) := by
  obtain ⟨p, e0, ⟨hs, ss, pr⟩, na⟩ := q.2.1
  have hnh := pr.nh
  have p2 := pr.pw.2.1
  have p4 := pr.pw.2.2.2
  refine xCall_of (d' := 15) hd hk (vc_X0_writeHamlet ⟨q.1, _, e0, p, rfl, pr_h pr fun r R _ => row_has_c (by decide) R ⟨fun u => ?_, fun u => ?_⟩⟩)
  · rw [← hnh] at u
    have hb : pHas (nH Z.1.1) y = true := by
      cases hb : pHas (nH Z.1.1) y with
      | true => rfl
      | false => rw [hb] at u; exact absurd rfl u
    obtain ⟨s, hs', rfl⟩ := (pHas_iff (by omega)).mp hb
    obtain ⟨a, ha⟩ := pr.hx hs'
    have hm := pr.hm ha
    have hx0 := X.1 s hs' 0 (by decide)
    have hx1 := X.1 s hs' 1 (by decide)
    have hp0 : pN (pH Z.1.1 s 0) := by obtain ⟨n, hn, e⟩ := hx0; exact ⟨n, by omega, e⟩
    have hp1 : pN (pH Z.1.1 s 1) := by obtain ⟨n, hn, e⟩ := hx1; exact ⟨n, by omega, e⟩
    have l0 := pTx_le2 (hx0.imp fun n hn => ⟨by omega, hn.2⟩)
    have l1 := pTx_le2 (hx1.imp fun n hn => ⟨by omega, hn.2⟩)
    have lp : (pPl (pH Z.1.1 s 0) (pH Z.1.1 s 1)).length ≤ 7 := by
      unfold pPl
      simp only [List.length_cons, List.length_append, List.length_nil]
      omega
    have l2 := pTx_len (pH Z.1.1 s 2)
    have l3 := pTx_len (pH Z.1.1 s 3)
    obtain ⟨n2, n3⟩ := hN s hs'
    refine ⟨q.1, _, e0, p, rfl, pr_h pr fun r2 R2 _ => row_of_c (by decide) R2 ha hm.cs.1 ⟨fun b' e' => by cases e'; exact hm.cs.2.1, q.1, _, e0, p, rfl, pr.cl, well_c (by decide) (by decide) pr X ha fun h17 x17 => ⟨by decide, fun h20 b eb eh => ?_⟩⟩⟩
    have gt1 := gt.ex x17
    have q1 := q.ex x17
    have t0 : xval h17 a 1 = xi (pH Z.1.1 s 0) := x17.vl' hm.1 (by decide) (by simp) (hm.2.2 0 (by decide))
    have t1 : xval h17 a 2 = xi (pH Z.1.1 s 1) := x17.vl' hm.1 (by decide) (by simp) (hm.2.2 1 (by decide))
    have t2 : xval h17 a 3 = xi (pH Z.1.1 s 2) := x17.vl' hm.1 (by decide) (by simp) (hm.2.2 2 (by decide))
    have t3 : xval h17 a 4 = xi (pH Z.1.1 s 3) := x17.vl' hm.1 (by decide) (by simp) (hm.2.2 3 (by decide))
    have c17 : xcls h17 a = 13 := x17.cl' hm.1 (by decide)
    have kc : ∀ {h2 : xH}, xExt h17 h2 → xcls h2 a = 13 := fun m => m.cl' c17 (by decide)
    have kv : ∀ {h2 : xH} (m : xExt h17 h2) (j : Nat) {w : xV}, xval h17 a j = w → xval h2 a j = w := fun m j _ e => (m.vl (by rw [c17]; decide) j).trans e
    refine B_new_c (by decide) (by decide) gt1 eb eh fun h22 q22 => letter_c (by decide) (hm.md (x17.tr q22.1) (by simp)) (by omega) ⟨q22.cl, B_char_c (by decide) (by decide) gt1 q22 (by omega) (by simp) fun h27 q27 => B_at_c (by decide) (by decide) gt1 q27 (Or.inl c17) t0 t1 hp0 hp1 (by simp; omega) fun h30 q30 => ⟨a, rfl, kc q30.1, _, kv q30.1 3 t2, b, rfl, q30.cl, B_int_c (by decide) (by decide) gt1 q30 n2 (by simp; omega) fun h36 q36 => ⟨fun a39 e39 => ?_, fun e39 => ?_⟩⟩⟩
    · cases hw : pWell Z.1.1 s with
      | none => rw [hw] at e39; cases e39
      | some t =>
        rw [hw] at e39
        have ht := hW s t hs' hw
        have hst : ss[t]? = some a39 := e39
        have s39 := (pr.ex (x17.tr q36.1)).st hst
        have lt : (pTx (nI t)).length ≤ 2 := pTx_le2 ⟨t, by omega, rfl⟩
        have htt : pTx (nI t) = pDg t := pTx_n (by omega)
        refine ⟨q36.cl, B_char_c (c := 62) (by decide) (by decide) gt1 q36 (by decide) (by simp; omega) fun h40 q40 => ⟨((pr.ex (x17.tr q40.1)).st hst).1, _, ((pr.ex (x17.tr q40.1)).st hst).2.1, b, rfl, q40.cl, B_int_c (by decide) (by decide) gt1 q40 ⟨t, by omega, rfl⟩ (by simp; omega) fun h45 q45 => ⟨kc q45.1, _, kv q45.1 4 t3, fun z => ?_, fun z => ?_⟩⟩⟩
        · refine line_end (Q := fun r h2 => xkI F T r h2 (k - 500)) gt1 q1 q45 (by omega) (by decide) (by simp; omega) fun h' m' q' => ?_
          have eqn : [] ++ [97 + s] ++ pPl (pH Z.1.1 s 0) (pH Z.1.1 s 1) ++ pTx (pH Z.1.1 s 2) ++ [62] ++ pTx (nI t) = pLineH Z.1.1 s := by unfold pLineH; rw [hw, if_pos z, htt]; simp
          rw [eqn] at q' ⊢
          exact hQ s rfl hs' h' ((xMod.of x17).tr m') q'
        · refine ⟨q45.cl, B_char_c (c := 33) (by decide) (by decide) gt1 q45 (by decide) (by simp; omega) fun h58 q58 => ⟨kc q58.1, _, kv q58.1 4 t3, b, rfl, q58.cl, B_int_c (by decide) (by decide) gt1 q58 n3 (by simp; omega) fun h63 q63 => line_end (Q := fun r h2 => xkI F T r h2 (k - 500)) gt1 q1 q63 (by omega) (by decide) (by simp; omega) fun h' m' q' => ?_⟩⟩
          have eqn : [] ++ [97 + s] ++ pPl (pH Z.1.1 s 0) (pH Z.1.1 s 1) ++ pTx (pH Z.1.1 s 2) ++ [62] ++ pTx (nI t) ++ [33] ++ pTx (pH Z.1.1 s 3) = pLineH Z.1.1 s := by unfold pLineH; rw [hw, if_neg z, htt]; simp
          rw [eqn] at q' ⊢
          exact hQ s rfl hs' h' ((xMod.of x17).tr m') q'
    · have hw : pWell Z.1.1 s = none := by
        cases hw : pWell Z.1.1 s with
        | none => rfl
        | some t =>
          rw [hw] at e39
          obtain ⟨a', ha'⟩ := pr.sx (hW s t hs' hw)
          have : ss[t]? = none := e39
          rw [this] at ha'
          cases ha'
      refine ⟨kc q36.1, _, kv q36.1 4 t3, fun z => ?_, fun z => ?_⟩
      · refine line_end (Q := fun r h2 => xkI F T r h2 (k - 500)) gt1 q1 q36 (by omega) (by decide) (by simp; omega) fun h' m' q' => ?_
        have eqn : [] ++ [97 + s] ++ pPl (pH Z.1.1 s 0) (pH Z.1.1 s 1) ++ pTx (pH Z.1.1 s 2) = pLineH Z.1.1 s := by unfold pLineH; rw [hw, if_pos z]; simp
        rw [eqn] at q' ⊢
        exact hQ s rfl hs' h' ((xMod.of x17).tr m') q'
      · refine ⟨q36.cl, B_char_c (c := 33) (by decide) (by decide) gt1 q36 (by decide) (by simp; omega) fun h58 q58 => ⟨kc q58.1, _, kv q58.1 4 t3, b, rfl, q58.cl, B_int_c (by decide) (by decide) gt1 q58 n3 (by simp; omega) fun h63 q63 => line_end (Q := fun r h2 => xkI F T r h2 (k - 500)) gt1 q1 q63 (by omega) (by decide) (by simp; omega) fun h' m' q' => ?_⟩⟩
        have eqn : [] ++ [97 + s] ++ pPl (pH Z.1.1 s 0) (pH Z.1.1 s 1) ++ pTx (pH Z.1.1 s 2) ++ [33] ++ pTx (pH Z.1.1 s 3) = pLineH Z.1.1 s := by unfold pLineH; rw [hw, if_neg z]; simp
        rw [eqn] at q' ⊢
        exact hQ s rfl hs' h' ((xMod.of x17).tr m') q'
  · rw [← hnh] at u
    exact h0' (xb0.mp u)
end XWH

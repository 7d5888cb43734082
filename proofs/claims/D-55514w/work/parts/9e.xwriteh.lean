/-! writeHamlet -/
section XWH
variable {G : xG} {d k : Nat} {h h' h0 : xH} {T : Nat → xH → Nat → Prop} {S : List Nat} {x p N N0 i j c a b e r ka mm w m ll n al most dq da ip f dd kd t st it s : Nat} {es hs ss hs' ss' ps ps' cs acc : List Nat} {W W' g X' Y' u : Nat → Int32} {nd y z v v0 x' y' z' w' mc : Int32} {o : Option xSt} {bs bs' : List xSt} {ro : Option xRf} {rf : xRf} {Z : xZ} {Y : xM} {bo : Bool}
/-- the line is made and put -/
theorem line_end {Q : xR → xH → Prop} (gt : gT G h0) (q : isX G h0 x dq da ip Z) (qb : isB h0 h b cs) (hk : 40 ≤ k) (hd : 9 < d) (hlen : cs.length ≤ 34)
    (hQ : ∀ h', xMod [x, dq, da, ip] h0 h' → isX G h' x dq da ip (lnX Z cs) → Q (.inl (some (xi (nI cs.length)))) h') :
    xcls h b = 11 ∧ xCall G d k mJ12_toString [xr (some b)] h (xkR (fun o51 h49 k50 => xcls h49 x = 1 ∧ ∀ h52 : xH, h52 = xput h49 x 4 (xr o51) → xcls h52 x = 1 ∧ ∃ o53 : Option Nat, xval h52 x 4 = xr o53 ∧ ∃ a54, o53 = some a54 ∧ xcls h52 a54 = 12 ∧ xCall G d k50 mJ13_length [xr (some a54)] h52 (xkI (fun n57 h55 k56 => Q (.inl (some (xi n57))) h55) (fun q h _ => Q (.inr q) h))) (fun q h _ => Q (.inr q) h)) := by
  refine ⟨qb.cl, B_toString_c (by omega) hk gt qb fun h99 a x99 s99 => ?_⟩
  have q99 := q.ex x99
  refine ⟨q99.1, fun h102 e102 => ?_⟩
  subst e102
  obtain ⟨q1, m1⟩ := q99.lin s99
  obtain ⟨st, e1, e2⟩ := q1.2.2.2.2.2.1
  exact ⟨q1.1, _, e1, st, rfl, e2.1, str_length_c (by omega) gt.1 e2 (show cs.length < 1000 by omega) (hQ _ ((xMod.of x99).tr m1) q1)⟩
end XWH

/-! orders: by thirst, by strain -/
def cThi (W : Nat → Int32) (i j : Nat) : Int32 := if pH W i 3 = pH W j 3 then (if pH W i 2 = pH W j 2 then nI i - nI j else pH W j 2 - pH W i 2) else pH W j 3 - pH W i 3
section XOR
variable {G : xG} {d k : Nat} {h h' h0 : xH} {T : Nat → xH → Nat → Prop} {S : List Nat} {x p N i j c a b : Nat} {W : Nat → Int32}
theorem thi_c {F : Int32 → xH → Nat → Prop} (hd : 2 < d) (hx : xcls h x = 38) (qa : isHm h a i W) (qb : isHm h b j W) (hQ : F (cThi W i j) h k) : xCall G d k mX25_compare [xr (some x), xr (some a), xr (some b)] h (xkI F T) := by
  unfold cThi at hQ
  have a3 := qa.2.2 3 (by decide)
  have b3 := qb.2.2 3 (by decide)
  have a2 := qa.2.2 2 (by decide)
  have b2 := qb.2.2 2 (by decide)
  refine xCall_of (d' := 2) hd (Nat.zero_le k) (vc_X25_compare ⟨fun b' e' => by cases e'; exact qa.cs.2.1, fun b' e' => by cases e'; exact qb.cs.2.1, hx, xCall_of (d' := 1) (by decide) (Nat.zero_le _) (vc_X25_compare_2 ⟨a, rfl, qa.1, _, a3, b, rfl, qb.1, _, b3, fun z => ⟨qa.1, _, a2, qb.1, _, b2, fun z2 => ⟨qa.1, _, qa.2.1, qb.1, _, qb.2.1, ?_⟩, fun z2 => ⟨qb.1, _, b2, qa.1, _, a2, ?_⟩⟩, fun z => ⟨qb.1, _, b3, qa.1, _, a3, ?_⟩⟩)⟩)
  · rw [if_pos z, if_pos z2] at hQ; exact hQ
  · rw [if_pos z, if_neg z2] at hQ; exact hQ
  · rw [if_neg z] at hQ; exact hQ
end XOR

def cSpr (W : Nat → Int32) (s : Nat) : Int32 := pGives W s - pAsked W (nI s)
section XOS
variable {G : xG} {d k : Nat} {h h' h0 : xH} {T : Nat → xH → Nat → Prop} {S : List Nat} {x c p N i j a b s s2 : Nat} {hs ss : List Nat} {W : Nat → Int32} {nd : Int32}
theorem spare_c {F : Int32 → xH → Nat → Prop} (hd : 12 < d) (hk : 139 ≤ k) (hc : xcls h c = 40) (hv : xval h c 0 = xr (some x)) (q : isNw G h x p hs ss W nd) (X : wG W) (ha : ss[s]? = some a) (hQ : ∀ h', xExt h h' → F (cSpr W s) h' (k - 139)) : xCall G d k mX26_spare [xr (some c), xr (some a)] h (xkI F T) := by
  have st := q.pr.st ha
  exact xCall_of (d' := 12) hd hk (vc_X26_spare ⟨a, rfl, st.1, sgives_c (by decide) st (X.2 s (q.pr.si ha)).2.2 ⟨hc, _, hv, x, rfl, q.1, _, q.2.1, p, rfl, q.pr.cl, asked_c (by decide) (by decide) q.pr X ha fun h' x' => hQ h' x'⟩⟩)
def cStr (W : Nat → Int32) (i j : Nat) : Int32 := if cSpr W i = cSpr W j then nI i - nI j else cSpr W i - cSpr W j
theorem str_cmp_c {F : Int32 → xH → Nat → Prop} (hd : 14 < d) (hk : 556 ≤ k) (hc : xcls h c = 40) (hv : xval h c 0 = xr (some x)) (q : isNw G h x p hs ss W nd) (X : wG W) (ha : ss[s]? = some a) (hb : ss[s2]? = some b) (hQ : ∀ h', xExt h h' → F (cStr W s s2) h' (k - 556)) : xCall G d k mX26_compare [xr (some c), xr (some a), xr (some b)] h (xkI F T) := by
  unfold cStr at hQ
  have sa := q.pr.st ha
  have sb := q.pr.st hb
  have kc : ∀ {h2 : xH}, xExt h h2 → xcls h2 c = 40 := fun m => m.cl' hc (by decide)
  have kv : ∀ {h2 : xH}, xExt h h2 → xval h2 c 0 = xr (some x) := fun m => m.vl' hc (by decide) (by simp) hv
  refine xCall_of (d' := 14) hd hk (vc_X26_compare ⟨fun b' e' => by cases e'; exact sa.cs.2.1, fun b' e' => by cases e'; exact sb.cs.2.1, hc, xCall_of (d' := 13) (by decide) (Nat.le_refl _) (vc_X26_compare_2 ⟨hc, spare_c (by decide) (by decide) hc hv q X ha fun h1 x1 => ⟨kc x1, spare_c (by decide) (by decide) (kc x1) (kv x1) (q.ex x1) X hb fun h4 x4 => ⟨fun z => ?_, fun z => ?_⟩⟩⟩)⟩)
  · have sa4 := (q.pr.ex (x1.tr x4)).st ha
    have sb4 := (q.pr.ex (x1.tr x4)).st hb
    refine ⟨a, rfl, sa4.1, _, sa4.2.1, b, rfl, sb4.1, _, sb4.2.1, ?_⟩
    have := hQ h4 (x1.tr x4)
    rw [if_pos z] at this
    exact this
  · have x14 := x1.tr x4
    refine ⟨kc x14, spare_c (by decide) (by decide) (kc x14) (kv x14) (q.ex x14) X ha fun h11 x11 => ⟨kc (x14.tr x11), spare_c (by decide) (by decide) (kc (x14.tr x11)) (kv (x14.tr x11)) (q.ex (x14.tr x11)) X hb fun h16 x16 => ?_⟩⟩
    have := hQ h16 ((x14.tr x11).tr x16)
    rw [if_neg z] at this
    exact this
end XOS

/-! the twin: what the sites' changes do -/
def tOpens (V : Nat → Nat → Int32) (s : Nat) : Nat → Nat → Int32 :=
  let V1 := tU V 4 1 (V 4 1 - pPrice (V 4) s)
  let V2 := tU V1 4 7 (V1 4 7 + pPrice (V1 4) s)
  tU V2 4 (61 + 8 * s + 5) 1
def tShuts (V : Nat → Nat → Int32) (s : Nat) : Nat → Nat → Int32 := tU (tU (tU V 4 4 (V 4 4 + pS (V 4) s 6)) 4 (61 + 8 * s + 6) 0) 4 (61 + 8 * s + 5) 0
def tPumps (V : Nat → Nat → Int32) (s : Nat) : Nat → Nat → Int32 := tU (tU V 4 4 (V 4 4 - 1)) 4 (61 + 8 * s + 6) 1
def tMoves (V : Nat → Nat → Int32) (a b : Nat) : Nat → Nat → Int32 :=
  let V1 := tU V 4 1 (V 4 1 - pToll (V 4) a b)
  let V2 := tU V1 4 8 (V1 4 8 + pToll (V1 4) a b)
  tU (tU V2 4 (61 + 8 * a + 6) 0) 4 (61 + 8 * b + 6) 1
theorem pW_tU {V : Nat → Nat → Int32} {i : Nat} {v : Int32} (p : pW (V 4)) (h2 : i ≠ 2) (h3 : i ≠ 3) : pW (tU V 4 i v 4) := by
  have e2 : tU V 4 i v 4 2 = V 4 2 := if_neg (fun z => h2 z.2.symm)
  have e3 : tU V 4 i v 4 3 = V 4 3 := if_neg (fun z => h3 z.2.symm)
  unfold pW nH nS at p ⊢
  rw [e2, e3]
  exact p
section XTD
variable {G : xG} {d k : Nat} {h h' : xH} {T : Nat → xH → Nat → Prop} {S : List Nat} {m : Nat} {A : Nat → Nat} {V : Nat → Nat → Int32} {a b c s i j mm : Nat} {x y : Int32}
theorem t_opens_c {F : Int32 → xH → Nat → Prop} (hd : 6 < d) (q : isTw h m A V) (p : pW (V 4)) (hs : s < 6) (hQ : ∀ h', isTw h' m A (tOpens V s) → xMod (tS m A) h h' → F (nI (pMany (tOpens V s 4) (nI s))) h' k) : xCall G d k mX3_opens [xr (some m), xi (nI s)] h (xkI F T) := by
  refine xCall_of (d' := 6) hd (Nat.zero_le k) (vc_X3_opens ⟨q.cl, _, q.rr 4 (by decide), _, rfl, q.kk 4 (by decide), 1, rfl, by decide, (by rw [q.ll 4 (by decide)]; decide), _, q.vv 4 (by decide), q.cl, t_price_c (by decide) q hs ⟨q.kk 4 (by decide), 1, rfl, by decide, (by rw [q.ll 4 (by decide)]; decide), fun h9 e9 => ?_⟩⟩)
  have q1 := q.pa 4 (show 1 < tL 4 by decide) (V 4 1 - pPrice (V 4) s)
  have x1 : xMod (tS m A) h h9 := by subst e9; exact xMod.rf.ta (fun _ z => z) 4 (by decide) _ _
  rw [← e9] at q1
  refine ⟨q1.cl, _, q1.rr 4 (by decide), _, rfl, q1.kk 4 (by decide), 7, rfl, by decide, (by rw [q1.ll 4 (by decide)]; decide), _, q1.vv 4 (by decide), q1.cl, t_price_c (by decide) q1 hs ⟨q1.kk 4 (by decide), 7, rfl, by decide, (by rw [q1.ll 4 (by decide)]; decide), fun h18 e18 => ?_⟩⟩
  have q2 := q1.pa 4 (show 7 < tL 4 by decide) (tU V 4 1 (V 4 1 - pPrice (V 4) s) 4 7 + pPrice (tU V 4 1 (V 4 1 - pPrice (V 4) s) 4) s)
  have x2 : xMod (tS m A) h h18 := by subst e18; exact x1.ta (fun _ z => z) 4 (by decide) _ _
  rw [← e18] at q2
  refine ⟨q2.cl, t_setsSite_c (by decide) q2 s 5 (by omega) fun h3 q3 x3 => ⟨q3.cl, t_hamletsOf_c (by decide) q3 ?_ (hQ h3 q3 (x2.tr x3))⟩⟩
  exact pW_tU (pW_tU (pW_tU p (by decide) (by decide)) (by decide) (by decide)) (by omega) (by omega)
theorem t_shuts_c {F : Int32 → xH → Nat → Prop} (hd : 6 < d) (q : isTw h m A V) (p : pW (V 4)) (hs : s < 6) (hQ : ∀ h', isTw h' m A (tShuts V s) → xMod (tS m A) h h' → F (nI (bCard (pMask (tShuts V s 4)))) h' k) : xCall G d k mX3_shuts [xr (some m), xi (nI s)] h (xkI F T) := by
  refine xCall_of (d' := 6) hd (Nat.zero_le k) (vc_X3_shuts ⟨q.cl, _, q.rr 4 (by decide), _, rfl, q.kk 4 (by decide), 4, rfl, by decide, (by rw [q.ll 4 (by decide)]; decide), _, q.vv 4 (by decide), q.cl, t_sI (by decide) q s 6 (by omega) ⟨q.kk 4 (by decide), 4, rfl, by decide, (by rw [q.ll 4 (by decide)]; decide), fun h9 e9 => ?_⟩⟩)
  have q1 := q.pa 4 (show 4 < tL 4 by decide) (V 4 4 + pS (V 4) s 6)
  have x1 : xMod (tS m A) h h9 := by subst e9; exact xMod.rf.ta (fun _ z => z) 4 (by decide) _ _
  rw [← e9] at q1
  refine ⟨q1.cl, t_setsSite_c (by decide) q1 s 6 (by omega) fun h2 q2 x2 => ⟨q2.cl, t_setsSite_c (by decide) q2 s 5 (by omega) fun h3 q3 x3 => ⟨q3.cl, t_openOnes_c (by decide) q3 ?_ fun hl => t_sizeOf_c (by decide) hl (hQ h3 q3 ((x1.tr x2).tr x3))⟩⟩⟩
  exact pW_tU (pW_tU (pW_tU p (by decide) (by decide)) (by omega) (by omega)) (by omega) (by omega)
theorem t_pumps_c {F : Int32 → xH → Nat → Prop} (hd : 6 < d) (q : isTw h m A V) (hs : s < 6) (hQ : ∀ h', isTw h' m A (tPumps V s) → xMod (tS m A) h h' → F (pGives (tPumps V s 4) s) h' k) : xCall G d k mX3_pumps [xr (some m), xi (nI s)] h (xkI F T) := by
  refine xCall_of (d' := 6) hd (Nat.zero_le k) (vc_X3_pumps ⟨q.cl, _, q.rr 4 (by decide), _, rfl, q.kk 4 (by decide), 4, rfl, by decide, (by rw [q.ll 4 (by decide)]; decide), _, q.vv 4 (by decide), q.kk 4 (by decide), 4, rfl, by decide, (by rw [q.ll 4 (by decide)]; decide), fun h9 e9 => ?_⟩)
  have q1 := q.pa 4 (show 4 < tL 4 by decide) (V 4 4 - 1)
  have x1 : xMod (tS m A) h h9 := by subst e9; exact xMod.rf.ta (fun _ z => z) 4 (by decide) _ _
  rw [← e9] at q1
  exact ⟨q1.cl, t_setsSite_c (by decide) q1 s 6 (by omega) fun h2 q2 x2 => ⟨q2.cl, t_gives_c (by decide) q2 hs (hQ h2 q2 (x1.tr x2))⟩⟩
theorem t_moves_c {F : Int32 → xH → Nat → Prop} (hd : 6 < d) (q : isTw h m A V) (ha : a < 6) (hb : b < 6) (hQ : ∀ h', isTw h' m A (tMoves V a b) → xMod (tS m A) h h' → F (pToll (tMoves V a b 4) a b) h' k) : xCall G d k mX3_moves [xr (some m), xi (nI a), xi (nI b)] h (xkI F T) := by
  refine xCall_of (d' := 6) hd (Nat.zero_le k) (vc_X3_moves ⟨q.cl, _, q.rr 4 (by decide), _, rfl, q.kk 4 (by decide), 1, rfl, by decide, (by rw [q.ll 4 (by decide)]; decide), _, q.vv 4 (by decide), q.cl, t_toll_c (by decide) q ha hb ⟨q.kk 4 (by decide), 1, rfl, by decide, (by rw [q.ll 4 (by decide)]; decide), fun h9 e9 => ?_⟩⟩)
  have q1 := q.pa 4 (show 1 < tL 4 by decide) (V 4 1 - pToll (V 4) a b)
  have x1 : xMod (tS m A) h h9 := by subst e9; exact xMod.rf.ta (fun _ z => z) 4 (by decide) _ _
  rw [← e9] at q1
  refine ⟨q1.cl, _, q1.rr 4 (by decide), _, rfl, q1.kk 4 (by decide), 8, rfl, by decide, (by rw [q1.ll 4 (by decide)]; decide), _, q1.vv 4 (by decide), q1.cl, t_toll_c (by decide) q1 ha hb ⟨q1.kk 4 (by decide), 8, rfl, by decide, (by rw [q1.ll 4 (by decide)]; decide), fun h18 e18 => ?_⟩⟩
  have q2 := q1.pa 4 (show 8 < tL 4 by decide) (tU V 4 1 (V 4 1 - pToll (V 4) a b) 4 8 + pToll (tU V 4 1 (V 4 1 - pToll (V 4) a b) 4) a b)
  have x2 : xMod (tS m A) h h18 := by subst e18; exact x1.ta (fun _ z => z) 4 (by decide) _ _
  rw [← e18] at q2
  exact ⟨q2.cl, t_setsSite_c (by decide) q2 a 6 (by omega) fun h3 q3 x3 => ⟨q3.cl, t_setsSite_c (by decide) q3 b 6 (by omega) fun h4 q4 x4 => ⟨q4.cl, t_toll_c (by decide) q4 ha hb (hQ h4 q4 ((x2.tr x3).tr x4))⟩⟩⟩
end XTD

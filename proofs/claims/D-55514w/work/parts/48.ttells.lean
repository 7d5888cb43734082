/-! the twin: telling -/
def tZ (V : Nat → Nat → Int32) (p : Nat) : Nat → Nat → Nat → Int32
  | 0 => V
  | k + 1 => tU (tZ V p k) 4 (p + k) 0
def tTellsH (V : Nat → Nat → Int32) (x y z : Int32) : Nat → Nat → Int32 :=
  let p := 13 + 6 * nH (V 4)
  let V2 := tU (tU (tU (tZ V p 6) 4 p x) 4 (p + 1) y) 4 (p + 2) z
  tU V2 4 2 (V2 4 2 + 1)
section XTT
variable {G : xG} {d k : Nat} {h h' : xH} {T : Nat → xH → Nat → Prop} {S : List Nat} {m : Nat} {A : Nat → Nat} {V : Nat → Nat → Int32} {a b c s i j mm n f : Nat} {x y z w : Int32}
theorem t_tellsH_l {K : Nat} {Q : xR → xH → Prop} {h0 : xH} {a : Nat} (ha : a < 8) (en : nH (V 4) = a) (hQ : ∀ h', isTw h' m A (tTellsH V x y z) → xMod (tS m A) h0 h' → Q (.inl (some (xi (tTellsH V x y z 4 2 - 1)))) h') :
    ∀ j i h, i + j = 6 → isTw h m A (tZ V (13 + 6 * a) i) → xMod (tS m A) h0 h → xWp G mX3_tellsHamlet 1 K Q k 17 [some (xr (some m)), some (xi x), some (xi y), some (xi z), some (xi (nI (13 + 6 * a))), some (xi (nI i))] [] h := by
  intro j
  induction j with
  | zero =>
    intro i h hi q x0
    have e : i = 6 := by omega
    subst e
    refine vc_X3_tellsHamlet_17 ⟨fun _ => ⟨q.cl, _, q.rr 4 (by decide), _, rfl, q.kk 4 (by decide), 13 + 6 * a, nI_add _ 0, by omega, by rw [q.ll 4 (by decide)]; show _ < 112; omega, fun h8 e8 => ?_⟩, fun z => absurd (nI_le (a := 6) (by omega) (by omega)) z⟩
    have q1 := q.pa 4 (show 13 + 6 * a < tL 4 from (by show _ < 112; omega)) x
    have x1 : xMod (tS m A) h0 h8 := by subst e8; exact x0.ta (fun _ z => z) 4 (by decide) _ _
    rw [← e8] at q1
    refine ⟨q1.cl, _, q1.rr 4 (by decide), _, rfl, q1.kk 4 (by decide), 13 + 6 * a + 1, nI_1 _, by omega, by rw [q1.ll 4 (by decide)]; show _ < 112; omega, fun h12 e12 => ?_⟩
    have q2 := q1.pa 4 (show 13 + 6 * a + 1 < tL 4 from (by show _ < 112; omega)) y
    have x2 : xMod (tS m A) h0 h12 := by subst e12; exact x1.ta (fun _ z => z) 4 (by decide) _ _
    rw [← e12] at q2
    refine ⟨q2.cl, _, q2.rr 4 (by decide), _, rfl, q2.kk 4 (by decide), 13 + 6 * a + 2, nI_add _ 2, by omega, by rw [q2.ll 4 (by decide)]; show _ < 112; omega, fun h16 e16 => ?_⟩
    have q3 := q2.pa 4 (show 13 + 6 * a + 2 < tL 4 from (by show _ < 112; omega)) z
    have x3 : xMod (tS m A) h0 h16 := by subst e16; exact x2.ta (fun _ z => z) 4 (by decide) _ _
    rw [← e16] at q3
    refine ⟨q3.cl, _, q3.rr 4 (by decide), _, rfl, q3.kk 4 (by decide), 2, rfl, by decide, (by rw [q3.ll 4 (by decide)]; decide), _, q3.vv 4 (by decide), q3.kk 4 (by decide), 2, rfl, by decide, (by rw [q3.ll 4 (by decide)]; decide), fun h22 e22 => ?_⟩
    have q4 := q3.pa 4 (show 2 < tL 4 by decide) (tU (tU (tU (tZ V (13 + 6 * a) 6) 4 (13 + 6 * a) x) 4 (13 + 6 * a + 1) y) 4 (13 + 6 * a + 2) z 4 2 + 1)
    have x4 : xMod (tS m A) h0 h22 := by subst e22; exact x3.ta (fun _ z => z) 4 (by decide) _ _
    rw [← e22] at q4
    subst en
    exact ⟨q4.cl, _, q4.rr 4 (by decide), _, rfl, q4.kk 4 (by decide), 2, rfl, by decide, (by rw [q4.ll 4 (by decide)]; decide), _, q4.vv 4 (by decide), hQ h22 q4 x4⟩
  | succ j ih =>
    intro i h hi q x0
    refine vc_X3_tellsHamlet_17 ⟨fun z => absurd ((nI_leI (a := 6) (by omega) (by omega)).mp z) (by omega), fun _ => ⟨q.cl, _, q.rr 4 (by decide), _, rfl, q.kk 4 (by decide), 13 + 6 * a + i, nI_add _ _, by omega, by rw [q.ll 4 (by decide)]; show _ < 112; omega, fun h30 e30 => ?_⟩⟩
    subst e30
    rw [nI_1]
    exact ih (i + 1) _ (by omega) (q.pa 4 (show 13 + 6 * a + i < tL 4 from (by show _ < 112; omega)) 0) (x0.ta (fun _ z => z) 4 (by decide) _ _)
theorem t_tellsHamlet_c {F : Int32 → xH → Nat → Prop} (hd : 1 < d) (q : isTw h m A V) (p : pW (V 4)) (h8 : nH (V 4) < 8) (hQ : ∀ h', isTw h' m A (tTellsH V x y z) → xMod (tS m A) h h' → F (tTellsH V x y z 4 2 - 1) h' k) : xCall G d k mX3_tellsHamlet [xr (some m), xi x, xi y, xi z] h (xkI F T) := by
  refine xCall_of (d' := 1) hd (Nat.zero_le k) (vc_X3_tellsHamlet ⟨q.cl, _, q.rr 4 (by decide), _, rfl, q.kk 4 (by decide), 2, rfl, by decide, (by rw [q.ll 4 (by decide)]; decide), _, (q.vv 4 (by decide)).trans (congrArg xi p.1), ?_⟩)
  have e : ((13 : Int32) + ((6 : Int32) * nI (nH (V 4)))) = nI (13 + 6 * nH (V 4)) := by rw [← nI_add, ← nI_mul]; rfl
  rw [e]
  exact t_tellsH_l h8 rfl hQ 6 0 h (by omega) q xMod.rf
def tTellsS (V : Nat → Nat → Int32) (x y z w : Int32) : Nat → Nat → Int32 :=
  let p := 61 + 8 * nS (V 4)
  tU (tU (tU (tU (tU (tZ (tU V 4 3 (V 4 3 + 1)) p 8) 4 (p + 0) x) 4 (p + 1) y) 4 (p + 2) z) 4 (p + 3) z) 4 (p + 4) w
theorem t_tellsS_l {K : Nat} {Q : xR → xH → Prop} {h0 : xH} {s : Nat} (hs : s < 6) (hQ : ∀ h', isTw h' m A (tU (tU (tU (tU (tU (tZ V (61 + 8 * s) 8) 4 (61 + 8 * s + 0) x) 4 (61 + 8 * s + 1) y) 4 (61 + 8 * s + 2) z) 4 (61 + 8 * s + 3) z) 4 (61 + 8 * s + 4) w) → xMod (tS m A) h0 h' → Q (.inl (some (xi (nI s)))) h') :
    ∀ j i h, i + j = 8 → isTw h m A (tZ V (61 + 8 * s) i) → xMod (tS m A) h0 h → xWp G mX3_tellsSite 2 K Q k 21 [some (xr (some m)), some (xi x), some (xi y), some (xi z), some (xi w), some (xi (nI s)), some (xi (nI i))] [] h := by
  intro j
  induction j with
  | zero =>
    intro i h hi q x0
    have e : i = 8 := by omega
    subst e
    exact vc_X3_tellsSite_21 ⟨fun _ => ⟨q.cl, t_setsSite_c (by decide) q s 0 (by omega) fun h1 q1 x1 => ⟨q1.cl, t_setsSite_c (by decide) q1 s 1 (by omega) fun h2 q2 x2 => ⟨q2.cl, t_setsSite_c (by decide) q2 s 2 (by omega) fun h3 q3 x3 => ⟨q3.cl, t_setsSite_c (by decide) q3 s 3 (by omega) fun h4 q4 x4 => ⟨q4.cl, t_setsSite_c (by decide) q4 s 4 (by omega) fun h5 q5 x5 => hQ h5 q5 (((((x0.tr x1).tr x2).tr x3).tr x4).tr x5)⟩⟩⟩⟩⟩, fun z => absurd (nI_le (a := 8) (by omega) (by omega)) z⟩
  | succ j ih =>
    intro i h hi q x0
    refine vc_X3_tellsSite_21 ⟨fun z => absurd ((nI_leI (a := 8) (by omega) (by omega)).mp z) (by omega), fun _ => ⟨q.cl, t_setsSite_c (by decide) q s i (by omega) fun h1 q1 x1 => ?_⟩⟩
    rw [nI_1]
    exact ih (i + 1) _ (by omega) q1 (x0.tr x1)
theorem t_tellsSite_c {F : Int32 → xH → Nat → Prop} (hd : 2 < d) (q : isTw h m A V) (p : pW (V 4)) (h6 : nS (V 4) < 6) (hQ : ∀ h', isTw h' m A (tTellsS V x y z w) → xMod (tS m A) h h' → F (nI (nS (V 4))) h' k) : xCall G d k mX3_tellsSite [xr (some m), xi x, xi y, xi z, xi w] h (xkI F T) := by
  refine xCall_of (d' := 2) hd (Nat.zero_le k) (vc_X3_tellsSite ⟨q.cl, _, q.rr 4 (by decide), _, rfl, q.kk 4 (by decide), 3, rfl, by decide, (by rw [q.ll 4 (by decide)]; decide), _, (q.vv 4 (by decide)).trans (congrArg xi p.2.2.1), q.cl, _, q.rr 4 (by decide), _, rfl, q.kk 4 (by decide), 3, rfl, by decide, (by rw [q.ll 4 (by decide)]; decide), _, (q.vv 4 (by decide)).trans (congrArg xi p.2.2.1), q.kk 4 (by decide), 3, rfl, by decide, (by rw [q.ll 4 (by decide)]; decide), fun h10 e10 => ?_⟩)
  have q1 := q.pa 4 (show 3 < tL 4 by decide) (V 4 3 + 1)
  have x1 : xMod (tS m A) h h10 := by subst e10; exact xMod.rf.ta (fun _ z => z) 4 (by decide) _ _
  have e10' : h10 = xput h (A 4) 3 (xi (V 4 3 + 1)) := by rw [e10, p.2.2.1]
  rw [← e10'] at q1
  exact t_tellsS_l h6 hQ 8 0 h10 (by omega) q1 x1
end XTT

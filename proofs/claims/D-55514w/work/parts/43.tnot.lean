/-! the twin: refusals -/
def tN (V : Nat → Nat → Int32) (o : Option (Int32 × Int32)) : Nat → Nat → Int32 := match o with | none => V | some (r, e) => tU (tU V 2 0 r) 3 0 e
def pHamletAt (W : Nat → Int32) (x y : Int32) : Option Nat := (List.range' 0 (nH W)).find? fun a => decide (pH W a 0 = x ∧ pH W a 1 = y)
def pSiteAt (W : Nat → Int32) (x y : Int32) : Option Nat := (List.range' 0 (nS W)).find? fun a => decide (pS W a 0 = x ∧ pS W a 1 = y)
section XTR
variable {G : xG} {d k : Nat} {h h' : xH} {T : Nat → xH → Nat → Prop} {S : List Nat} {m : Nat} {A : Nat → Nat} {V : Nat → Nat → Int32} {a b c s i j mm : Nat} {x y : Int32}
theorem t_hamletAt_l {K : Nat} {Q : xR → xH → Prop} (q : isTw h m A V) (p : pW (V 4)) : ∀ j i, i + j = nH (V 4) → ((∀ t, ((List.range' i j).find? fun a => decide (pH (V 4) a 0 = x ∧ pH (V 4) a 1 = y)) = some t → t < 8) → Q (.inl (some (xi (oI ((List.range' i j).find? fun a => decide (pH (V 4) a 0 = x ∧ pH (V 4) a 1 = y)))))) h) → xWp G mX3_hamletAt 2 K Q k 2 [some (xr (some m)), some (xi x), some (xi y), some (xi (nI i))] [] h := by
  have p2 := p.2.1
  intro j
  induction j with
  | zero => exact fun i hi hQ => vc_X3_hamletAt_2 ⟨q.cl, _, q.rr 4 (by decide), _, rfl, q.kk 4 (by decide), 2, rfl, by decide, (by rw [q.ll 4 (by decide)]; decide), _, (q.vv 4 (by decide)).trans (congrArg xi p.1), fun _ => hQ (fun t e => by cases e), fun z => absurd (nI_le (by omega) (by omega)) z⟩
  | succ j ih =>
    intro i hi hQ
    rw [List.range'_succ, List.find?_cons] at hQ
    refine vc_X3_hamletAt_2 ⟨q.cl, _, q.rr 4 (by decide), _, rfl, q.kk 4 (by decide), 2, rfl, by decide, (by rw [q.ll 4 (by decide)]; decide), _, (q.vv 4 (by decide)).trans (congrArg xi p.1), fun z => absurd ((nI_leI (by omega) (by omega)).mp z) (by omega), fun _ => ⟨q.cl, t_hI (by decide) q i 0 (by omega) ⟨fun z => ?_, fun z => ⟨q.cl, t_hI (by decide) q i 1 (by omega) ⟨fun w => ?_, fun w => ?_⟩⟩⟩⟩⟩
    · rw [decide_eq_false (fun e => z e.1)] at hQ; rw [nI_1]; exact ih (i + 1) (by omega) hQ
    · rw [decide_eq_false (fun e => w e.2)] at hQ; rw [nI_1]; exact ih (i + 1) (by omega) hQ
    · rw [decide_eq_true ⟨z, w⟩] at hQ; exact hQ (fun t e => by cases e; omega)
theorem t_hamletAt_c {F : Int32 → xH → Nat → Prop} (hd : 2 < d) (q : isTw h m A V) (p : pW (V 4)) (hQ : (∀ t, pHamletAt (V 4) x y = some t → t < 8) → F (oI (pHamletAt (V 4) x y)) h k) : xCall G d k mX3_hamletAt [xr (some m), xi x, xi y] h (xkI F T) :=
  xCall_of (d' := 2) hd (Nat.zero_le k) (vc_X3_hamletAt (t_hamletAt_l q p (nH (V 4)) 0 (by omega) hQ))
theorem t_siteAt_l {K : Nat} {Q : xR → xH → Prop} (q : isTw h m A V) (p : pW (V 4)) : ∀ j i, i + j = nS (V 4) → ((∀ t, ((List.range' i j).find? fun a => decide (pS (V 4) a 0 = x ∧ pS (V 4) a 1 = y)) = some t → t < 6) → Q (.inl (some (xi (oI ((List.range' i j).find? fun a => decide (pS (V 4) a 0 = x ∧ pS (V 4) a 1 = y)))))) h) → xWp G mX3_siteAt 2 K Q k 2 [some (xr (some m)), some (xi x), some (xi y), some (xi (nI i))] [] h := by
  have p4 := p.2.2.2
  intro j
  induction j with
  | zero => exact fun i hi hQ => vc_X3_siteAt_2 ⟨q.cl, _, q.rr 4 (by decide), _, rfl, q.kk 4 (by decide), 3, rfl, by decide, (by rw [q.ll 4 (by decide)]; decide), _, (q.vv 4 (by decide)).trans (congrArg xi p.2.2.1), fun _ => hQ (fun t e => by cases e), fun z => absurd (nI_le (by omega) (by omega)) z⟩
  | succ j ih =>
    intro i hi hQ
    rw [List.range'_succ, List.find?_cons] at hQ
    refine vc_X3_siteAt_2 ⟨q.cl, _, q.rr 4 (by decide), _, rfl, q.kk 4 (by decide), 3, rfl, by decide, (by rw [q.ll 4 (by decide)]; decide), _, (q.vv 4 (by decide)).trans (congrArg xi p.2.2.1), fun z => absurd ((nI_leI (by omega) (by omega)).mp z) (by omega), fun _ => ⟨q.cl, t_sI (by decide) q i 0 (by omega) ⟨fun z => ?_, fun z => ⟨q.cl, t_sI (by decide) q i 1 (by omega) ⟨fun w => ?_, fun w => ?_⟩⟩⟩⟩⟩
    · rw [decide_eq_false (fun e => z e.1)] at hQ; rw [nI_1]; exact ih (i + 1) (by omega) hQ
    · rw [decide_eq_false (fun e => w e.2)] at hQ; rw [nI_1]; exact ih (i + 1) (by omega) hQ
    · rw [decide_eq_true ⟨z, w⟩] at hQ; exact hQ (fun t e => by cases e; omega)
theorem t_siteAt_c {F : Int32 → xH → Nat → Prop} (hd : 2 < d) (q : isTw h m A V) (p : pW (V 4)) (hQ : (∀ t, pSiteAt (V 4) x y = some t → t < 6) → F (oI (pSiteAt (V 4) x y)) h k) : xCall G d k mX3_siteAt [xr (some m), xi x, xi y] h (xkI F T) :=
  xCall_of (d' := 2) hd (Nat.zero_le k) (vc_X3_siteAt (t_siteAt_l q p (nS (V 4)) 0 (by omega) hQ))
theorem t_reason_c {F : Int32 → xH → Nat → Prop} (hd : 2 < d) (q : isTw h m A V) (hQ : F (pReason V x y) h k) : xCall G d k mX3_reason [xr (some m), xi x, xi y] h (xkI F T) := by
  unfold pReason at hQ
  refine xCall_of (d' := 2) hd (Nat.zero_le k) (vc_X3_reason (t_isBetween_c (by decide) ⟨fun z => ?_, fun z => ?_⟩))
  · have hb := xb1.mp z
    obtain ⟨s, hs, rfl⟩ : ∃ s, s < 2 ∧ x = nI s := (pHas_iff (n := 2) (by decide)).mp hb
    rw [hb, if_pos rfl, nI_clamp (by omega)] at hQ
    refine ⟨q.cl, _, q.rr 0 (by decide), _, rfl, q.kk 0 (by decide), 0, rfl, by decide, (by rw [q.ll 0 (by decide)]; decide), _, q.vv 0 (by decide), fun y1 => ⟨q.cl, _, q.rr 0 (by decide), _, rfl, q.kk 0 (by decide), s, rfl, by omega, (by rw [q.ll 0 (by decide)]; exact hs), _, q.vv 0 (show s < 2 from hs), fun y2 => ⟨fun y3 => ⟨q.cl, _, q.rr 0 (by decide), _, rfl, q.kk 0 (by decide), s, rfl, by omega, (by rw [q.ll 0 (by decide)]; exact hs), _, q.vv 0 (show s < 2 from hs), ?_⟩, fun y3 => ⟨q.cl, _, q.rr 1 (by decide), _, rfl, q.kk 1 (by decide), s, rfl, by omega, (by rw [q.ll 1 (by decide)]; exact hs), _, q.vv 1 (show s < 2 from hs), ?_⟩⟩, fun y2 => ?_⟩, fun y1 => ?_⟩
    · rw [if_neg y1, if_neg y2, if_pos y3] at hQ; exact hQ
    · rw [if_neg y1, if_neg y2, if_neg y3] at hQ; exact hQ
    · rw [if_neg y1, if_pos y2] at hQ; exact hQ
    · rw [if_pos y1] at hQ; exact hQ
  · rw [xb0.mp z, if_neg Bool.false_ne_true] at hQ; exact hQ
theorem t_setsSite_c {F : xH → Nat → Prop} (hd : 1 < d) (q : isTw h m A V) (s c : Nat) (hi : 61 + 8 * s + c < 112) (hQ : ∀ h', isTw h' m A (tU V 4 (61 + 8 * s + c) x) → xMod (tS m A) h h' → F h' k) : xCall G d k mX3_setsSite [xr (some m), xi (nI s), xi (nI c), xi x] h (xkV F T) := by
  refine xCall_of (d' := 1) hd (Nat.zero_le k) (vc_X3_setsSite ⟨q.cl, _, q.rr 4 (by decide), _, rfl, q.kk 4 (by decide), 61 + 8 * s + c, t_ixS s c, by omega, by rw [q.ll 4 (by decide)]; exact hi, fun h4 e4 => ?_⟩)
  subst e4
  exact hQ _ (q.pa 4 (show _ < tL 4 from hi) x) (xMod.rf.ta (fun _ z => z) 4 (by decide) _ _)
end XTR

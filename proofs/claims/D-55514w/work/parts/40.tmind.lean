/-! the twin: rows that are copied -/
def tCp (V : Nat → Nat → Int32) (f p g r k : Nat) : Nat → Nat → Int32 := fun x i => if x = f ∧ p ≤ i ∧ i < p + k then V g (r + (i - p)) else V x i
theorem tCp_0 {V : Nat → Nat → Int32} {f p g r : Nat} : tCp V f p g r 0 = V := by
  funext x i
  unfold tCp
  rw [if_neg (by omega)]
theorem tCp_s {V : Nat → Nat → Int32} {f p g r k : Nat} : tU (tCp V f p g r k) f (p + k) (V g (r + k)) = tCp V f p g r (k + 1) := by
  funext x i
  unfold tU tCp
  by_cases h1 : x = f ∧ i = p + k
  · obtain ⟨rfl, rfl⟩ := h1
    rw [if_pos ⟨rfl, rfl⟩, if_pos ⟨rfl, by omega, by omega⟩]
    congr 1
    omega
  · rw [if_neg h1]
    by_cases h2 : x = f ∧ p ≤ i ∧ i < p + k
    · rw [if_pos h2, if_pos ⟨h2.1, h2.2.1, by omega⟩]
    · rw [if_neg h2, if_neg (fun h3 => ?_)]
      by_cases h4 : i = p + k
      · exact h1 ⟨h3.1, h4⟩
      · exact h2 ⟨h3.1, h3.2.1, by omega⟩
theorem tCp_g {V : Nat → Nat → Int32} {f p g r k x : Nat} (h : x ≠ f) : tCp V f p g r k x = V x := by
  funext i
  unfold tCp
  rw [if_neg (fun z => h z.1)]
section XTM
variable {G : xG} {d k : Nat} {h h' : xH} {T : Nat → xH → Nat → Prop} {S : List Nat} {m : Nat} {A : Nat → Nat} {V : Nat → Nat → Int32} {a b c s i j mm : Nat} {x y : Int32}
theorem t_thinks_l {K : Nat} {Q : xR → xH → Prop} {h0 : xH} (hQ : ∀ h', isTw h' m A (tCp V 7 0 4 0 112) → xMod (tS m A) h0 h' → Q (.inl none) h') :
    ∀ j i h, i + j = 112 → isTw h m A (tCp V 7 0 4 0 i) → xMod (tS m A) h0 h → xWp G mX3_thinks 1 K Q k 2 [some (xr (some m)), some (xi (nI i))] [] h := by
  intro j
  induction j with
  | zero =>
    intro i h hi q x
    have e : i = 112 := by omega
    subst e
    exact vc_X3_thinks_2 ⟨fun _ => hQ h q x, fun z => absurd (nI_le (a := 112) (by omega) (by omega)) z⟩
  | succ j ih =>
    intro i h hi q x
    refine vc_X3_thinks_2 ⟨fun z => absurd ((nI_leI (a := 112) (by omega) (by omega)).mp z) (by omega), fun _ => ⟨q.cl, _, q.rr 7 (by decide), q.cl, _, q.rr 4 (by decide), _, rfl, q.kk 4 (by decide), i, rfl, by omega, by rw [q.ll 4 (by decide)]; show i < 112; omega, _, q.vv 4 (show i < 112 by omega), _, rfl, q.kk 7 (by decide), i, rfl, by omega, by rw [q.ll 7 (by decide)]; show i < 112; omega, fun h8 e8 => ?_⟩⟩
    subst e8
    rw [nI_1]
    refine ih (i + 1) _ (by omega) ?_ (x.ta (fun _ z => z) 7 (by decide) _ _)
    have := q.pa 7 (show i < tL 7 from (by show i < 112; omega)) (tCp V 7 0 4 0 i 4 i)
    rw [tCp_g (show 4 ≠ 7 by decide)] at this ⊢
    have e := tCp_s (V := V) (f := 7) (p := 0) (g := 4) (r := 0) (k := i)
    rw [Nat.zero_add] at e
    rw [e] at this
    exact this
theorem t_thinks_c {F : xH → Nat → Prop} (hd : 1 < d) (q : isTw h m A V) (hQ : ∀ h', isTw h' m A (tCp V 7 0 4 0 112) → xMod (tS m A) h h' → F h' k) : xCall G d k mX3_thinks [xr (some m)] h (xkV F T) :=
  xCall_of (d' := 1) hd (Nat.zero_le k) (vc_X3_thinks (t_thinks_l hQ 112 0 h (by omega) (by rw [tCp_0]; exact q) xMod.rf))
theorem t_forgets_l {K : Nat} {Q : xR → xH → Prop} {h0 : xH} (hQ : ∀ h', isTw h' m A (tCp V 4 0 7 0 112) → xMod (tS m A) h0 h' → Q (.inl none) h') :
    ∀ j i h, i + j = 112 → isTw h m A (tCp V 4 0 7 0 i) → xMod (tS m A) h0 h → xWp G mX3_forgets 1 K Q k 2 [some (xr (some m)), some (xi (nI i))] [] h := by
  intro j
  induction j with
  | zero =>
    intro i h hi q x
    have e : i = 112 := by omega
    subst e
    exact vc_X3_forgets_2 ⟨fun _ => hQ h q x, fun z => absurd (nI_le (a := 112) (by omega) (by omega)) z⟩
  | succ j ih =>
    intro i h hi q x
    refine vc_X3_forgets_2 ⟨fun z => absurd ((nI_leI (a := 112) (by omega) (by omega)).mp z) (by omega), fun _ => ⟨q.cl, _, q.rr 4 (by decide), q.cl, _, q.rr 7 (by decide), _, rfl, q.kk 7 (by decide), i, rfl, by omega, by rw [q.ll 7 (by decide)]; show i < 112; omega, _, q.vv 7 (show i < 112 by omega), _, rfl, q.kk 4 (by decide), i, rfl, by omega, by rw [q.ll 4 (by decide)]; show i < 112; omega, fun h8 e8 => ?_⟩⟩
    subst e8
    rw [nI_1]
    refine ih (i + 1) _ (by omega) ?_ (x.ta (fun _ z => z) 4 (by decide) _ _)
    have := q.pa 4 (show i < tL 4 from (by show i < 112; omega)) (tCp V 4 0 7 0 i 7 i)
    rw [tCp_g (show 7 ≠ 4 by decide)] at this ⊢
    have e := tCp_s (V := V) (f := 4) (p := 0) (g := 7) (r := 0) (k := i)
    rw [Nat.zero_add] at e
    rw [e] at this
    exact this
theorem t_forgets_c {F : xH → Nat → Prop} (hd : 1 < d) (q : isTw h m A V) (hQ : ∀ h', isTw h' m A (tCp V 4 0 7 0 112) → xMod (tS m A) h h' → F h' k) : xCall G d k mX3_forgets [xr (some m)] h (xkV F T) :=
  xCall_of (d' := 1) hd (Nat.zero_le k) (vc_X3_forgets (t_forgets_l hQ 112 0 h (by omega) (by rw [tCp_0]; exact q) xMod.rf))
theorem t_keepsAt_c {F : xH → Nat → Prop} {c : Nat} (hd : 1 < d) (q : isTw h m A V) (hc : c < 2) (hQ : ∀ h', isTw h' m A (tU (tU V 0 c x) 1 c y) → xMod (tS m A) h h' → F h' k) : xCall G d k mX3_keepsAt [xr (some m), xi (nI c), xi x, xi y] h (xkV F T) := by
  refine xCall_of (d' := 1) hd (Nat.zero_le k) (vc_X3_keepsAt ⟨q.cl, _, q.rr 0 (by decide), _, rfl, q.kk 0 (by decide), c, rfl, by omega, by rw [q.ll 0 (by decide)]; exact hc, fun h4 e4 => ?_⟩)
  have q4 := q.pa 0 (show c < tL 0 from hc) x
  have x4 : xMod (tS m A) h (xput h (A 0) c (xi x)) := xMod.rf.ta (fun _ z => z) 0 (by decide) c _
  subst e4
  refine ⟨q4.cl, _, q4.rr 1 (by decide), _, rfl, q4.kk 1 (by decide), c, rfl, by omega, by rw [q4.ll 1 (by decide)]; exact hc, fun h8 e8 => ?_⟩
  subst e8
  exact hQ _ (q4.pa 1 (show c < tL 1 from hc) y) (x4.ta (fun _ z => z) 1 (by decide) c _)
theorem t_isNot_c {F : Int32 → xH → Nat → Prop} (hd : 1 < d) (q : isTw h m A V) (hQ : ∀ h', isTw h' m A (tU (tU V 2 0 x) 3 0 y) → xMod (tS m A) h h' → F (-5) h' k) : xCall G d k mX3_isNot [xr (some m), xi x, xi y] h (xkI F T) := by
  refine xCall_of (d' := 1) hd (Nat.zero_le k) (vc_X3_isNot ⟨q.cl, fun h1 e1 => ?_⟩)
  have q1 := q.pf 2 rfl x
  have x1 : xMod (tS m A) h (xput h m 2 (xi x)) := xMod.rf.tf (fun _ z => z) 2 _
  subst e1
  refine ⟨q1.cl, fun h2 e2 => ?_⟩
  subst e2
  exact hQ _ (q1.pf 3 rfl y) (x1.tf (fun _ z => z) 3 _)
theorem t_refuses_c {F : Int32 → xH → Nat → Prop} (hd : 2 < d) (q : isTw h m A V) (hQ : ∀ h', isTw h' m A (if x = -5 then tU (tU (tU (tU V 0 0 (V 2 0)) 1 0 (V 3 0)) 0 1 0) 1 1 0 else V) → xMod (tS m A) h h' → F x h' k) : xCall G d k mX3_refuses [xr (some m), xi x] h (xkI F T) := by
  refine xCall_of (d' := 2) hd (Nat.zero_le k) (vc_X3_refuses ⟨fun z => ⟨q.cl, _, q.ff 2 rfl, q.cl, _, q.ff 3 rfl, q.cl, t_keepsAt_c (c := 0) (by decide) q (by decide) fun h' q' x' => ⟨q'.cl, t_keepsAt_c (c := 1) (by decide) q' (by decide) fun h2 q2 x2 => ?_⟩⟩, fun z => ?_⟩)
  · rw [if_pos z] at hQ
    exact hQ h2 q2 (x'.tr x2)
  · rw [if_neg z] at hQ
    exact hQ h q xMod.rf
end XTM

/-! the twin: what is kept, undone, saved, restored -/
def pReason (V : Nat → Nat → Int32) (x y : Int32) : Int32 := if pIn x 0 1 then (if V 0 0 = 0 then -3 else if V 0 x.toNatClampNeg = 0 then -6 else if y = 0 then V 0 x.toNatClampNeg else V 1 x.toNatClampNeg) else -2
section XTU
variable {G : xG} {d k : Nat} {h h' : xH} {T : Nat → xH → Nat → Prop} {S : List Nat} {m : Nat} {A : Nat → Nat} {V : Nat → Nat → Int32} {a b c s i j mm : Nat} {x y : Int32}
theorem t_save_l {K : Nat} {Q : xR → xH → Prop} {h0 : xH} (hQ : ∀ h', isTw h' m A (tU (tCp V 6 0 4 0 112) 10 0 1) → xMod (tS m A) h0 h' → Q (.inl (some (xi (V 4 0)))) h') :
    ∀ j i h, i + j = 112 → isTw h m A (tCp V 6 0 4 0 i) → xMod (tS m A) h0 h → xWp G mX3_save 1 K Q k 2 [some (xr (some m)), some (xi (nI i))] [] h := by
  intro j
  induction j with
  | zero =>
    intro i h hi q x
    have e : i = 112 := by omega
    subst e
    refine vc_X3_save_2 ⟨fun _ => ⟨q.cl, fun h1 e1 => ?_⟩, fun z => absurd (nI_le (a := 112) (by omega) (by omega)) z⟩
    have q1 := q.pf 10 rfl 1
    subst e1
    refine ⟨q1.cl, _, q1.rr 4 (by decide), _, rfl, q1.kk 4 (by decide), 0, rfl, by decide, (by rw [q1.ll 4 (by decide)]; decide), _, q1.vv 4 (by decide), ?_⟩
    rw [tU_ne (show 4 ≠ 10 by decide), tCp_g (show 4 ≠ 6 by decide)]
    exact hQ _ q1 (x.tf (fun _ z => z) 10 _)
  | succ j ih =>
    intro i h hi q x
    refine vc_X3_save_2 ⟨fun z => absurd ((nI_leI (a := 112) (by omega) (by omega)).mp z) (by omega), fun _ => ⟨q.cl, _, q.rr 6 (by decide), q.cl, _, q.rr 4 (by decide), _, rfl, q.kk 4 (by decide), i, rfl, by omega, by rw [q.ll 4 (by decide)]; show i < 112; omega, _, q.vv 4 (show i < 112 by omega), _, rfl, q.kk 6 (by decide), i, rfl, by omega, by rw [q.ll 6 (by decide)]; show i < 112; omega, fun h8 e8 => ?_⟩⟩
    subst e8
    rw [nI_1]
    refine ih (i + 1) _ (by omega) ?_ (x.ta (fun _ z => z) 6 (by decide) _ _)
    have := q.pa 6 (show i < tL 6 from (by show i < 112; omega)) (tCp V 6 0 4 0 i 4 i)
    rw [tCp_g (show 4 ≠ 6 by decide)] at this ⊢
    have e := tCp_s (V := V) (f := 6) (p := 0) (g := 4) (r := 0) (k := i)
    rw [Nat.zero_add] at e
    rw [e] at this
    exact this
theorem t_save_c {F : Int32 → xH → Nat → Prop} (hd : 1 < d) (q : isTw h m A V) (hQ : ∀ h', isTw h' m A (tU (tCp V 6 0 4 0 112) 10 0 1) → xMod (tS m A) h h' → F (V 4 0) h' k) : xCall G d k mX3_save [xr (some m)] h (xkI F T) :=
  xCall_of (d' := 1) hd (Nat.zero_le k) (vc_X3_save (t_save_l hQ 112 0 h (by omega) (by rw [tCp_0]; exact q) xMod.rf))
theorem t_restore_l {K : Nat} {Q : xR → xH → Prop} {h0 : xH} (hQ : ∀ h', isTw h' m A (tU (tU (tCp V 4 0 6 0 112) 8 0 0) 9 0 0) → xMod (tS m A) h0 h' → Q (.inl (some (xi (V 6 0)))) h') :
    ∀ j i h, i + j = 112 → isTw h m A (tCp V 4 0 6 0 i) → xMod (tS m A) h0 h → xWp G mX3_restore 1 K Q k 12 [some (xr (some m)), some (xi (nI i))] [] h := by
  intro j
  induction j with
  | zero =>
    intro i h hi q x
    have e : i = 112 := by omega
    subst e
    refine vc_X3_restore_12 ⟨fun _ => ⟨q.cl, fun h1 e1 => ?_⟩, fun z => absurd (nI_le (a := 112) (by omega) (by omega)) z⟩
    have q1 := q.pf 8 rfl 0
    have x1 := x.tf (fun _ z => z) 8 (xi 0)
    subst e1
    refine ⟨q1.cl, fun h2 e2 => ?_⟩
    have q2 := q1.pf 9 rfl 0
    have x2 := x1.tf (fun _ z => z) 9 (xi 0)
    subst e2
    refine ⟨q2.cl, _, q2.rr 4 (by decide), _, rfl, q2.kk 4 (by decide), 0, rfl, by decide, (by rw [q2.ll 4 (by decide)]; decide), _, q2.vv 4 (by decide), ?_⟩
    rw [tU_ne (show 4 ≠ 9 by decide), tU_ne (show 4 ≠ 8 by decide)]
    exact hQ _ q2 x2
  | succ j ih =>
    intro i h hi q x
    refine vc_X3_restore_12 ⟨fun z => absurd ((nI_leI (a := 112) (by omega) (by omega)).mp z) (by omega), fun _ => ⟨q.cl, _, q.rr 4 (by decide), q.cl, _, q.rr 6 (by decide), _, rfl, q.kk 6 (by decide), i, rfl, by omega, by rw [q.ll 6 (by decide)]; show i < 112; omega, _, q.vv 6 (show i < 112 by omega), _, rfl, q.kk 4 (by decide), i, rfl, by omega, by rw [q.ll 4 (by decide)]; show i < 112; omega, fun h8 e8 => ?_⟩⟩
    subst e8
    rw [nI_1]
    refine ih (i + 1) _ (by omega) ?_ (x.ta (fun _ z => z) 4 (by decide) _ _)
    have := q.pa 4 (show i < tL 4 from (by show i < 112; omega)) (tCp V 4 0 6 0 i 6 i)
    rw [tCp_g (show 6 ≠ 4 by decide)] at this ⊢
    have e := tCp_s (V := V) (f := 4) (p := 0) (g := 6) (r := 0) (k := i)
    rw [Nat.zero_add] at e
    rw [e] at this
    exact this
theorem t_restore_c {F : Int32 → xH → Nat → Prop} (hd : 1 < d) (q : isTw h m A V) (h0 : V 10 0 = 0 → F (-3) h k) (hQ : V 10 0 ≠ 0 → ∀ h', isTw h' m A (tU (tU (tCp V 4 0 6 0 112) 8 0 0) 9 0 0) → xMod (tS m A) h h' → F (V 6 0) h' k) : xCall G d k mX3_restore [xr (some m)] h (xkI F T) :=
  xCall_of (d' := 1) hd (Nat.zero_le k) (vc_X3_restore ⟨q.cl, _, q.ff 10 rfl, fun z => t_restore_l (hQ z) 112 0 h (by omega) (by rw [tCp_0]; exact q) xMod.rf, fun z => h0 z⟩)
theorem t_undo_l {K : Nat} {Q : xR → xH → Prop} {h0 : xH} {c : Nat} (hc : c < 8) (hQ : ∀ h', isTw h' m A (tCp V 4 0 5 (112 * c) 112) → xMod (tS m A) h0 h' → Q (.inl (some (xi (V 8 0)))) h') :
    ∀ j i h, i + j = 112 → isTw h m A (tCp V 4 0 5 (112 * c) i) → xMod (tS m A) h0 h → xWp G mX3_undo 1 K Q k 35 [some (xr (some m)), some (xi (nI c)), some (xi (nI i))] [] h := by
  intro j
  induction j with
  | zero =>
    intro i h hi q x
    have e : i = 112 := by omega
    subst e
    refine vc_X3_undo_35 ⟨fun _ => ⟨q.cl, _, (q.ff 8 rfl).trans (by rw [tCp_g (show 8 ≠ 4 by decide)]), hQ h q x⟩, fun z => absurd (nI_le (a := 112) (by omega) (by omega)) z⟩
  | succ j ih =>
    intro i h hi q x
    have ei : (((112 : Int32) * nI c) + nI i) = nI (112 * c + i) := by rw [← nI_add, ← nI_mul]; rfl
    refine vc_X3_undo_35 ⟨fun z => absurd ((nI_leI (a := 112) (by omega) (by omega)).mp z) (by omega), fun _ => ⟨q.cl, _, q.rr 4 (by decide), q.cl, _, q.rr 5 (by decide), _, rfl, q.kk 5 (by decide), 112 * c + i, ei, by omega, by rw [q.ll 5 (by decide)]; show _ < 896; omega, _, q.vv 5 (show _ < 896 by omega), _, rfl, q.kk 4 (by decide), i, rfl, by omega, by rw [q.ll 4 (by decide)]; show i < 112; omega, fun h8 e8 => ?_⟩⟩
    subst e8
    rw [nI_1]
    refine ih (i + 1) _ (by omega) ?_ (x.ta (fun _ z => z) 4 (by decide) _ _)
    have := q.pa 4 (show i < tL 4 from (by show i < 112; omega)) (tCp V 4 0 5 (112 * c) i 5 (112 * c + i))
    rw [tCp_g (show 5 ≠ 4 by decide)] at this ⊢
    have e := tCp_s (V := V) (f := 4) (p := 0) (g := 5) (r := 112 * c) (k := i)
    rw [Nat.zero_add] at e
    rw [e] at this
    exact this
theorem r8 {a : Nat} (h : a < 17) : (nI a - nI a / (8 : Int32) * (8 : Int32)) = nI (a % 8) :=
  (by decide +kernel : ∀ a : Fin 17, (nI a.1 - nI a.1 / (8 : Int32) * (8 : Int32)) = nI (a.1 % 8)) ⟨a, h⟩
theorem t_undo_c {F : Int32 → xH → Nat → Prop} {n f : Nat} (hd : 1 < d) (q : isTw h m A V) (e8 : V 8 0 = nI n) (e9 : V 9 0 = nI f) (hn : n ≤ 8) (hf : f < 8) (h0 : n = 0 → F (-3) h k)
    (hQ : ∀ n', n = n' + 1 → ∀ h', isTw h' m A (tCp (tU V 8 0 (nI n')) 4 0 5 (112 * ((f + n') % 8)) 112) → xMod (tS m A) h h' → F (nI n') h' k) : xCall G d k mX3_undo [xr (some m)] h (xkI F T) := by
  refine xCall_of (d' := 1) hd (Nat.zero_le k) (vc_X3_undo ⟨q.cl, _, (q.ff 8 rfl).trans (congrArg xi e8), fun z => ⟨q.cl, _, (q.ff 8 rfl).trans (congrArg xi e8), q.cl, fun h3 e3 => ?_⟩, fun z => h0 ((nI_eq (by omega) (by decide)).mp z)⟩)
  obtain ⟨n', rfl⟩ : ∃ n', n = n' + 1 := by
    cases n with
    | zero => exact absurd rfl z
    | succ n' => exact ⟨n', rfl⟩
  rw [nI_pred] at e3
  have q3 := q.pf 8 rfl (nI n')
  have x3 : xMod (tS m A) h (xput h m 8 (xi (nI n'))) := xMod.rf.tf (fun _ z => z) 8 _
  subst e3
  refine ⟨q3.cl, _, (q3.ff 9 rfl).trans (congrArg xi ((congrFun (tU_ne (show 9 ≠ 8 by decide)) 0).trans e9)), q3.cl, _, (q3.ff 8 rfl).trans (congrArg xi tU_eq), ?_⟩
  rw [nI_add, r8 (by omega)]
  refine t_undo_l (V := tU V 8 0 (nI n')) (Nat.mod_lt _ (by decide)) (h0 := h) ?_ 112 0 _ (by omega) (by rw [tCp_0]; exact q3) x3
  intro h' q' x'
  rw [tU_eq]
  exact hQ n' rfl h' q' x'
end XTU

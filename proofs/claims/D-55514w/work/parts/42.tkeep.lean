/-! the twin: what is remembered -/
def tKeepV (V : Nat → Nat → Int32) (n f : Nat) : Nat → Nat → Int32 :=
  if n = 8 then tU (tCp (tU (tU V 9 0 (nI ((f + 1) % 8))) 8 0 (nI 7)) 5 (112 * (((f + 1) % 8 + 7) % 8)) 7 0 112) 8 0 (nI 8)
  else tU (tCp V 5 (112 * ((f + n) % 8)) 7 0 112) 8 0 (nI (n + 1))
section XTK
variable {G : xG} {d k : Nat} {h h' : xH} {T : Nat → xH → Nat → Prop} {S : List Nat} {m : Nat} {A : Nat → Nat} {V : Nat → Nat → Int32} {a b c s i j mm : Nat} {x y : Int32}
theorem t_keep_l {K : Nat} {Q : xR → xH → Prop} {h0 : xH} {c n : Nat} (hc : c < 8) (e8 : V 8 0 = nI n) (hQ : ∀ h', isTw h' m A (tU (tCp V 5 (112 * c) 7 0 112) 8 0 (nI (n + 1))) → xMod (tS m A) h0 h' → Q (.inl none) h') :
    ∀ j i h, i + j = 112 → isTw h m A (tCp V 5 (112 * c) 7 0 i) → xMod (tS m A) h0 h → xWp G mX3_keepsMind 1 K Q k 47 [some (xr (some m)), some (xi (nI c)), some (xi (nI i))] [] h := by
  intro j
  induction j with
  | zero =>
    intro i h hi q x
    have e : i = 112 := by omega
    subst e
    refine vc_X3_keepsMind_47 ⟨fun _ => ⟨q.cl, _, (q.ff 8 rfl).trans (congrArg xi ((congrFun (tCp_g (show 8 ≠ 5 by decide)) 0).trans e8)), q.cl, fun h11 e11 => ?_⟩, fun z => absurd (nI_le (a := 112) (by omega) (by omega)) z⟩
    rw [nI_1] at e11
    subst e11
    exact hQ _ (q.pf 8 rfl _) (x.tf (fun _ z => z) 8 _)
  | succ j ih =>
    intro i h hi q x
    have ei : (((112 : Int32) * nI c) + nI i) = nI (112 * c + i) := by rw [← nI_add, ← nI_mul]; rfl
    refine vc_X3_keepsMind_47 ⟨fun z => absurd ((nI_leI (a := 112) (by omega) (by omega)).mp z) (by omega), fun _ => ⟨q.cl, _, q.rr 5 (by decide), q.cl, _, q.rr 7 (by decide), _, rfl, q.kk 7 (by decide), i, rfl, by omega, by rw [q.ll 7 (by decide)]; show i < 112; omega, _, q.vv 7 (show i < 112 by omega), _, rfl, q.kk 5 (by decide), 112 * c + i, ei, by omega, by rw [q.ll 5 (by decide)]; show _ < 896; omega, fun h8 e8 => ?_⟩⟩
    subst e8
    rw [nI_1]
    refine ih (i + 1) _ (by omega) ?_ (x.ta (fun _ z => z) 5 (by decide) _ _)
    have := q.pa 5 (show 112 * c + i < tL 5 from (by show _ < 896; omega)) (tCp V 5 (112 * c) 7 0 i 7 i)
    rw [tCp_g (show 7 ≠ 5 by decide)] at this ⊢
    have e := tCp_s (V := V) (f := 5) (p := 112 * c) (g := 7) (r := 0) (k := i)
    rw [Nat.zero_add] at e
    rw [e] at this
    exact this
theorem t_keepsMind_c {F : xH → Nat → Prop} {n f : Nat} (hd : 1 < d) (q : isTw h m A V) (e8 : V 8 0 = nI n) (e9 : V 9 0 = nI f) (hn : n ≤ 8) (hf : f < 8)
    (hQ : ∀ h', isTw h' m A (tKeepV V n f) → xMod (tS m A) h h' → F h' k) : xCall G d k mX3_keepsMind [xr (some m)] h (xkV F T) := by
  unfold tKeepV at hQ
  refine xCall_of (d' := 1) hd (Nat.zero_le k) (vc_X3_keepsMind ⟨q.cl, _, (q.ff 8 rfl).trans (congrArg xi e8), fun z => ⟨q.cl, _, (q.ff 9 rfl).trans (congrArg xi e9), q.cl, _, (q.ff 8 rfl).trans (congrArg xi e8), ?_⟩, fun z => ⟨q.cl, _, (q.ff 9 rfl).trans (congrArg xi e9), q.cl, fun h5 e5 => ?_⟩⟩)
  · have h8 : ¬ n = 8 := fun e => z (by rw [e]; rfl)
    rw [if_neg h8] at hQ
    rw [nI_add, r8 (by omega)]
    exact t_keep_l (Nat.mod_lt _ (by decide)) e8 hQ 112 0 h (by omega) (by rw [tCp_0]; exact q) xMod.rf
  · have h8 : n = 8 := (nI_eq (by omega) (by decide)).mp z
    subst h8
    rw [if_pos rfl] at hQ
    rw [nI_1, r8 (by omega)] at e5
    have q5 := q.pf 9 rfl (nI ((f + 1) % 8))
    have x5 : xMod (tS m A) h (xput h m 9 (xi (nI ((f + 1) % 8)))) := xMod.rf.tf (fun _ z => z) 9 _
    subst e5
    refine ⟨q5.cl, _, (q5.ff 8 rfl).trans (congrArg xi ((congrFun (tU_ne (show 8 ≠ 9 by decide)) 0).trans e8)), q5.cl, fun h7 e7 => ?_⟩
    have q7 := q5.pf 8 rfl (nI 7)
    have x7 := x5.tf (fun _ z => z) 8 (xi (nI 7))
    have e7' : h7 = xput (xput h m 9 (xi (nI ((f + 1) % 8)))) m 8 (xi (nI 7)) := e7.trans (by rw [show (nI 8 - 1 : Int32) = nI 7 from by decide])
    subst e7'
    refine ⟨q7.cl, _, (q7.ff 9 rfl).trans (congrArg xi ((congrFun (tU_ne (show 9 ≠ 8 by decide)) 0).trans tU_eq)), q7.cl, _, (q7.ff 8 rfl).trans (congrArg xi tU_eq), ?_⟩
    have hf1 : (f + 1) % 8 < 8 := Nat.mod_lt _ (by decide)
    rw [nI_add, r8 (by omega)]
    exact t_keep_l (Nat.mod_lt _ (by decide)) tU_eq hQ 112 0 _ (by omega) (by rw [tCp_0]; exact q7) x7
def tRemV (V : Nat → Nat → Int32) (n f : Nat) : Nat → Nat → Int32 := tKeepV (tCp V 7 0 4 0 112) n f
theorem t_remembers_c {F : xH → Nat → Prop} {n f : Nat} (hd : 2 < d) (q : isTw h m A V) (e8 : V 8 0 = nI n) (e9 : V 9 0 = nI f) (hn : n ≤ 8) (hf : f < 8)
    (hQ : ∀ h', isTw h' m A (tRemV V n f) → xMod (tS m A) h h' → F h' k) : xCall G d k mX3_remembers [xr (some m)] h (xkV F T) := by
  refine xCall_of (d' := 2) hd (Nat.zero_le k) (vc_X3_remembers ⟨q.cl, t_thinks_c (by decide) q fun h1 q1 x1 => ⟨q1.cl, t_keepsMind_c (n := n) (f := f) (by decide) q1 ?_ ?_ hn hf fun h2 q2 x2 => hQ h2 q2 (x1.tr x2)⟩⟩)
  · rw [tCp_g (show 8 ≠ 7 by decide)]; exact e8
  · rw [tCp_g (show 9 ≠ 7 by decide)]; exact e9
theorem tKeepV_4 {n f : Nat} : tKeepV V n f 4 = V 4 := by
  unfold tKeepV
  split
  · rw [tU_ne (by decide), tCp_g (by decide), tU_ne (by decide), tU_ne (by decide)]
  · rw [tU_ne (by decide), tCp_g (by decide)]
theorem tRemV_4 {n f : Nat} : tRemV V n f 4 = V 4 := by
  unfold tRemV
  rw [tKeepV_4, tCp_g (by decide)]
end XTK

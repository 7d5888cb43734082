/-! the twin: days -/
def tThirsts (V : Nat → Nat → Int32) (a : Nat) (v : Int32) : Nat → Nat → Int32 :=
  let V1 := tU V 4 (13 + 6 * a + 3) (V 4 (13 + 6 * a + 3) + v)
  tU V1 4 5 (V1 4 5 + v)
def tSinks (V : Nat → Nat → Int32) (s : Nat) (down : Bool) : Nat → Nat → Int32 :=
  if down then (if 40 ≤ pS (V 4) s 3 then V else tU V 4 (61 + 8 * s + 3) (pS (V 4) s 3 + 1))
  else (if pS (V 4) s 3 ≤ pS (V 4) s 2 then V else tU V 4 (61 + 8 * s + 3) (pS (V 4) s 3 - 1))
section XTY
variable {G : xG} {d k : Nat} {h h' : xH} {T : Nat → xH → Nat → Prop} {S : List Nat} {m : Nat} {A : Nat → Nat} {V : Nat → Nat → Int32} {a b c s i j mm n f : Nat} {x y z w : Int32}
theorem t_thirsts_c {F : xH → Nat → Prop} (hd : 1 < d) (q : isTw h m A V) (ha : a < 8) (hQ : ∀ h', isTw h' m A (tThirsts V a x) → xMod (tS m A) h h' → F h' k) : xCall G d k mX3_thirsts [xr (some m), xi (nI a), xi x] h (xkV F T) := by
  have l3 : 13 + 6 * a + 3 < 112 := by omega
  refine xCall_of (d' := 1) hd (Nat.zero_le k) (vc_X3_thirsts ⟨q.cl, _, q.rr 4 (by decide), _, rfl, q.kk 4 (by decide), 13 + 6 * a + 3, t_ixH a 3, by omega, by rw [q.ll 4 (by decide)]; exact l3, _, q.vv 4 (show 13 + 6 * a + 3 < tL 4 from l3), q.kk 4 (by decide), 13 + 6 * a + 3, t_ixH a 3, by omega, by rw [q.ll 4 (by decide)]; exact l3, fun h6 e6 => ?_⟩)
  have q1 := q.pa 4 (show 13 + 6 * a + 3 < tL 4 from l3) (V 4 (13 + 6 * a + 3) + x)
  have x1 : xMod (tS m A) h h6 := by subst e6; exact xMod.rf.ta (fun _ z => z) 4 (by decide) _ _
  rw [← e6] at q1
  refine ⟨q1.cl, _, q1.rr 4 (by decide), _, rfl, q1.kk 4 (by decide), 5, rfl, by decide, (by rw [q1.ll 4 (by decide)]; decide), _, q1.vv 4 (by decide), q1.kk 4 (by decide), 5, rfl, by decide, (by rw [q1.ll 4 (by decide)]; decide), fun h12 e12 => ?_⟩
  have q2 := q1.pa 4 (show 5 < tL 4 by decide) (tU V 4 (13 + 6 * a + 3) (V 4 (13 + 6 * a + 3) + x) 4 5 + x)
  have x2 : xMod (tS m A) h h12 := by subst e12; exact x1.ta (fun _ z => z) 4 (by decide) _ _
  rw [← e12] at q2
  exact hQ h12 q2 x2
theorem t_sinks_c {F : xH → Nat → Prop} {t : Bool} (hd : 2 < d) (q : isTw h m A V) (hs : s < 6) (hQ : ∀ h', isTw h' m A (tSinks V s t) → xMod (tS m A) h h' → F h' k) : xCall G d k mX3_sinks [xr (some m), xi (nI s), xi (xb t)] h (xkV F T) := by
  unfold tSinks at hQ
  refine xCall_of (d' := 2) hd (Nat.zero_le k) (vc_X3_sinks ⟨q.cl, t_sI (by decide) q s 3 (by omega) ⟨fun u => ⟨fun v => absurd u v, fun _ => ⟨q.cl, t_sI (by decide) q s 2 (by omega) ⟨fun w => ?_, fun w => ⟨q.cl, t_setsSite_c (by decide) q s 3 (by omega) ?_⟩⟩⟩⟩, fun u => ⟨fun w => ⟨fun _ => ?_, fun v => absurd v u⟩, fun w => ⟨q.cl, t_setsSite_c (by decide) q s 3 (by omega) fun h1 q1 x1 => ⟨fun _ => ?_, fun v => absurd v u⟩⟩⟩⟩⟩)
  · rw [xb0.mp u, if_neg Bool.false_ne_true, if_pos w] at hQ; exact hQ h q xMod.rf
  · rw [xb0.mp u, if_neg Bool.false_ne_true, if_neg w] at hQ; exact hQ
  · rw [xb1.mp u, if_pos rfl, if_pos w] at hQ; exact hQ h q xMod.rf
  · rw [xb1.mp u, if_pos rfl, if_neg w] at hQ; exact hQ h1 q1 x1
end XTY

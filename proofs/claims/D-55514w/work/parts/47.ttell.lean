/-! the twin: hamlets and sites that are told -/
def pPlace (x y : Int32) : Bool := pIn x 0 30 && pIn y 0 30
def pNotHamlet (W : Nat → Int32) (x y z : Int32) : Int32 × Option (Int32 × Int32) :=
  if pPlace x y then (if pIn z 1 20 then (if nH W = 8 then (-5, some (1, 8)) else match pHamletAt W x y with | none => (0, none) | some a => (-5, some (2, nI a))) else (-2, none)) else (-2, none)
def pNotSite (W : Nat → Int32) (x y z w : Int32) : Int32 × Option (Int32 × Int32) :=
  if pPlace x y then (if pIn z 1 40 then (if pIn w 0 99 then (if nS W = 6 then (-5, some (1, 6)) else match pSiteAt W x y with | none => (0, none) | some a => (-5, some (2, nI a))) else (-2, none)) else (-2, none)) else (-2, none)
section XTT
variable {G : xG} {d k : Nat} {h h' : xH} {T : Nat → xH → Nat → Prop} {S : List Nat} {m : Nat} {A : Nat → Nat} {V : Nat → Nat → Int32} {a b c s i j mm n f : Nat} {x y z w : Int32}
theorem t_isPlace_c {F : Int32 → xH → Nat → Prop} (hd : 2 < d) (hQ : F (xb (pPlace x y)) h k) : xCall G d k mX3_isPlace [xi x, xi y] h (xkI F T) := by
  unfold pPlace at hQ
  refine xCall_of (d' := 2) hd (Nat.zero_le k) (vc_X3_isPlace (t_isBetween_c (by decide) ⟨fun u => ?_, fun u => t_isBetween_c (by decide) ⟨fun v => ?_, fun v => ?_⟩⟩))
  · rw [xb0.mp u] at hQ; exact hQ
  · rw [xb1.mp u, xb0.mp v] at hQ; exact hQ
  · rw [xb1.mp u, xb1.mp v] at hQ; exact hQ
theorem t_notHamlet_c {F : Int32 → xH → Nat → Prop} (hd : 3 < d) (q : isTw h m A V) (p : pW (V 4)) (hQ : ∀ h', isTw h' m A (tN V (pNotHamlet (V 4) x y z).2) → xMod (tS m A) h h' → F (pNotHamlet (V 4) x y z).1 h' k) : xCall G d k mX3_notHamlet [xr (some m), xi x, xi y, xi z] h (xkI F T) := by
  have p2 := p.2.1
  unfold pNotHamlet at hQ
  refine xCall_of (d' := 3) hd (Nat.zero_le k) (vc_X3_notHamlet (t_isPlace_c (by decide) ⟨fun u => ?_, fun u => t_isBetween_c (by decide) ⟨fun v => ⟨q.cl, _, q.rr 4 (by decide), _, rfl, q.kk 4 (by decide), 2, rfl, by decide, (by rw [q.ll 4 (by decide)]; decide), _, (q.vv 4 (by decide)).trans (congrArg xi p.1), fun e => ⟨q.cl, t_hamletAt_c (by decide) q p fun hl => ?_⟩, fun e => ⟨q.cl, t_isNot_c (by decide) q ?_⟩⟩, fun v => ?_⟩⟩))
  · rw [xb0.mp u, if_neg Bool.false_ne_true] at hQ; exact hQ h q xMod.rf
  · have h8 : ¬ nH (V 4) = 8 := fun w => e (by rw [w]; rfl)
    rw [xb1.mp u, xb1.mp v, if_pos rfl, if_pos rfl, if_neg h8] at hQ
    cases ea : pHamletAt (V 4) x y with
    | none =>
      rw [ea] at hQ
      exact ⟨fun _ => hQ h q xMod.rf, fun w => absurd (by decide) w⟩
    | some a =>
      have ha := hl a ea
      rw [ea] at hQ
      refine ⟨fun w => absurd w (nI_pos (by omega)), fun _ => ⟨q.cl, t_hamletAt_c (by decide) q p fun _ => ⟨q.cl, ?_⟩⟩⟩
      rw [ea]
      exact t_isNot_c (by decide) q hQ
  · have h8 : nH (V 4) = 8 := (nI_eq (by omega) (by decide)).mp e
    rw [xb1.mp u, xb1.mp v, if_pos rfl, if_pos rfl, if_pos h8] at hQ
    exact hQ
  · rw [xb1.mp u, xb0.mp v, if_pos rfl, if_neg Bool.false_ne_true] at hQ; exact hQ h q xMod.rf
theorem t_notSite_c {F : Int32 → xH → Nat → Prop} (hd : 3 < d) (q : isTw h m A V) (p : pW (V 4)) (hQ : ∀ h', isTw h' m A (tN V (pNotSite (V 4) x y z w).2) → xMod (tS m A) h h' → F (pNotSite (V 4) x y z w).1 h' k) : xCall G d k mX3_notSite [xr (some m), xi x, xi y, xi z, xi w] h (xkI F T) := by
  have p4 := p.2.2.2
  unfold pNotSite at hQ
  refine xCall_of (d' := 3) hd (Nat.zero_le k) (vc_X3_notSite (t_isPlace_c (by decide) ⟨fun u => ?_, fun u => t_isBetween_c (by decide) ⟨fun v => ?_, fun v => t_isBetween_c (by decide) ⟨fun t => ⟨q.cl, _, q.rr 4 (by decide), _, rfl, q.kk 4 (by decide), 3, rfl, by decide, (by rw [q.ll 4 (by decide)]; decide), _, (q.vv 4 (by decide)).trans (congrArg xi p.2.2.1), fun e => ⟨q.cl, t_siteAt_c (by decide) q p fun hl => ?_⟩, fun e => ⟨q.cl, t_isNot_c (by decide) q ?_⟩⟩, fun t => ?_⟩⟩⟩))
  · rw [xb0.mp u, if_neg Bool.false_ne_true] at hQ; exact hQ h q xMod.rf
  · rw [xb1.mp u, xb0.mp v, if_pos rfl, if_neg Bool.false_ne_true] at hQ; exact hQ h q xMod.rf
  · have h8 : ¬ nS (V 4) = 6 := fun w => e (by rw [w]; rfl)
    rw [xb1.mp u, xb1.mp v, xb1.mp t, if_pos rfl, if_pos rfl, if_pos rfl, if_neg h8] at hQ
    cases ea : pSiteAt (V 4) x y with
    | none =>
      rw [ea] at hQ
      exact ⟨fun _ => hQ h q xMod.rf, fun w => absurd (by decide) w⟩
    | some a =>
      have ha := hl a ea
      rw [ea] at hQ
      refine ⟨fun w => absurd w (nI_pos (by omega)), fun _ => ⟨q.cl, t_siteAt_c (by decide) q p fun _ => ⟨q.cl, ?_⟩⟩⟩
      rw [ea]
      exact t_isNot_c (by decide) q hQ
  · have h8 : nS (V 4) = 6 := (nI_eq (by omega) (by decide)).mp e
    rw [xb1.mp u, xb1.mp v, xb1.mp t, if_pos rfl, if_pos rfl, if_pos rfl, if_pos h8] at hQ
    exact hQ
  · rw [xb1.mp u, xb1.mp v, xb0.mp t, if_pos rfl, if_pos rfl, if_neg Bool.false_ne_true] at hQ; exact hQ h q xMod.rf
end XTT

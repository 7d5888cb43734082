/-! reason, fault, append -/
section XRS
variable {G : xG} {d k : Nat} {h h' h0 : xH} {T : Nat → xH → Nat → Prop} {S : List Nat} {x p N N0 i j c a b e r ka mm w m ll n al most dq da ip f dd kd t : Nat} {es hs ss hs' ss' ps ps' cs : List Nat} {W W' g X' Y' u : Nat → Int32} {nd y z v v0 x' y' z' w' mc : Int32} {s s' : xSt} {o : Option xSt} {bs bs' : List xSt} {ro : Option xRf} {rf : xRf} {Z : xZ} {Y : xM} {bo : Bool}
/-- what the class says of a refusal -/
def cReason (o : Option xRf) (y : Int32) (bo : Bool) : Int32 := if pIn y 0 1 then (match o with
  | none => -3
  | some r => if y = 0 then (if bo then r.2.1 else r.1) else match r.2.2 with
    | none => -6
    | some none => -6
    | some (some q) => if bo then q.2 else q.1) else -2
theorem xreason_c {F : Int32 → xH → Nat → Prop} (hd : 3 < d) (q : isX G h x dq da ip Z) (hQ : F (cReason Z.2.2.2.1 y bo) h k) : xCall G d k mX0_reason [xr (some x), xi y, xi (xb bo)] h (xkI F T) := by
  have q4 := q.2.2.2.2.1
  unfold cReason at hQ
  refine xCall_of (d' := 3) hd (Nat.zero_le k) (vcs_X0_reason (in_c (by decide) ⟨fun z => ?_, fun z => ?_⟩))
  · rw [if_pos (by have := z; cases hb : pIn y 0 1 with | true => rfl | false => rw [hb] at this; exact absurd rfl this)] at hQ
    cases hZ : Z.2.2.2.1 with
    | none =>
      rw [hZ] at hQ
      exact ⟨q.1, none, q4.1 hZ, fun a e => (by cases e), fun _ => hQ⟩
    | some rf =>
      rw [hZ] at hQ
      obtain ⟨e, e1, ce, r1, r2, r3, r4⟩ := q4.2 rf hZ
      refine ⟨q.1, some e, e1, fun a ea => ?_, fun z => (by cases z)⟩
      cases ea
      have hne : ce ≠ some e := by
        cases hc : rf.2.2 with
        | none => rw [r2 hc]; intro z; cases z
        | some c1 =>
          cases c1 with
          | none =>
            obtain ⟨a, ea, ca⟩ := r3 hc
            rw [ea]
            intro z
            rw [Option.some.inj z, r1.1] at ca
            cases ca
          | some yz =>
            obtain ⟨a, ea, ra⟩ := r4 yz.1 yz.2 hc
            rw [ea]
            intro z
            have e5 := ra.2.2.2
            rw [Option.some.inj z, r1.2.2.2, ea] at e5
            cases e5
      refine ⟨fun y0 => ⟨q.1, _, e1, e, rfl, by decide, r1.1, ce, r1.2.2.2, hne, ?_⟩, fun y0 => ⟨q.1, _, e1, Or.inr (Or.inl ⟨e, rfl, r1.1, fun z => absurd z (by decide), fun _ => ⟨fun b eb => (by cases eb; rw [r1.1]; decide), fun hb => ⟨r1.1, _, r1.2.1, ?_⟩, fun hb => ⟨r1.1, _, r1.2.2.1, ?_⟩⟩⟩)⟩⟩
      · simp only at hQ
        rw [if_neg y0] at hQ
        cases hc : rf.2.2 with
        | none =>
          rw [hc] at hQ
          exact Or.inl ⟨r2 hc, fun _ => hQ, fun z => absurd rfl z⟩
        | some c1 =>
          rw [hc] at hQ
          cases c1 with
          | none =>
            obtain ⟨a, ea, ca⟩ := r3 hc
            exact Or.inr (Or.inr ⟨a, ea, ca, fun _ => hQ, fun z => absurd rfl z⟩)
          | some yz =>
            obtain ⟨a, ea, ra⟩ := r4 yz.1 yz.2 hc
            refine Or.inr (Or.inl ⟨a, ea, ra.1, fun z => absurd z (by decide), fun _ => ⟨fun b eb => (by cases eb; rw [ra.1]; decide), fun hb => ⟨ra.1, _, ra.2.1, ?_⟩, fun hb => ⟨ra.1, _, ra.2.2.1, ?_⟩⟩⟩)
            · simp only at hQ; rw [if_neg (by rw [xb0.mp hb]; exact Bool.false_ne_true)] at hQ; exact hQ
            · simp only at hQ; rw [if_pos (xb1.mp hb)] at hQ; exact hQ
      · simp only at hQ; rw [if_pos y0, if_neg (by rw [xb0.mp hb]; exact Bool.false_ne_true)] at hQ; exact hQ
      · simp only at hQ; rw [if_pos y0, if_pos (xb1.mp hb)] at hQ; exact hQ
  · rw [if_neg (by rw [xb0.mp z]; exact Bool.false_ne_true)] at hQ
    exact hQ
end XRS

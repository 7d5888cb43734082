/-! orders: by thirst, by strain -/
def cThi (W : Nat → Int32) (i j : Nat) : Int32 := if pH W i 3 = pH W j 3 then (if pH W i 2 = pH W j 2 then nI i - nI j else pH W j 2 - pH W i 2) else pH W j 3 - pH W i 3
section XOR
variable {G : xG} {d k : Nat} {h h' h0 : xH} {T : Nat → xH → Nat → Prop} {S : List Nat} {x p N i j c a b : Nat} {W : Nat → Int32}
theorem thi_c {F : Int32 → xH → Nat → Prop} (hd : 2 < d) (hx : xcls h x = 38) (qa : isHm h a i W) (qb : isHm h b j W) (hQ : F (cThi W i j) h k) : xCall G d k mX25_compare [xr (some x), xr (some a), xr (some b)] h (xkI F T) := by
  unfold cThi at hQ
  have a3 := qa.2.2 3 (by decide)
  have b3 := qb.2.2 3 (by decide)
  have a2 := qa.2.2 2 (by decide)
  have b2 := qb.2.2 2 (by decide)
  refine xCall_of (d' := 2) hd (Nat.zero_le k) (vc_X25_compare ⟨fun b' e' => by cases e'; exact qa.cs.2.1, fun b' e' => by cases e'; exact qb.cs.2.1, hx, xCall_of (d' := 1) (by decide) (Nat.zero_le _) (vc_X25_compare_2 ⟨a, rfl, qa.1, _, a3, b, rfl, qb.1, _, b3, fun z => ⟨qa.1, _, a2, qb.1, _, b2, fun z2 => ⟨qa.1, _, qa.2.1, qb.1, _, qb.2.1, ?_⟩, fun z2 => ⟨qb.1, _, b2, qa.1, _, a2, ?_⟩⟩, fun z => ⟨qb.1, _, b3, qa.1, _, a3, ?_⟩⟩)⟩)
  · rw [if_pos z, if_pos z2] at hQ; exact hQ
  · rw [if_pos z, if_neg z2] at hQ; exact hQ
  · rw [if_neg z] at hQ; exact hQ
end XOR

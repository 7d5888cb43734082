/-! Integer.getChars: digits -/
theorem g_neg (m : Nat) : -(nI m) = iI (-(m : Int)) := (Int32.ofInt_neg (m : Int)).symm
theorem g_nn (m : Nat) : -(iI (-(m : Int))) = nI m := by
  rw [← iI_n]
  show -(Int32.ofInt _) = _
  rw [← Int32.ofInt_neg, Int.neg_neg]
  rfl
theorem g_div {m : Nat} (h : m < 2147483648) : iI (-(m : Int)) / (100 : Int32) = iI (-((m / 100 : Nat) : Int)) := by
  apply Int32.toInt_inj.mp
  rw [Int32.toInt_div, iI_toInt (by omega) (by omega), iI_toInt (by omega) (by omega)]
  rw [show (100 : Int32).toInt = (100 : Int) from rfl, Int.neg_tdiv, Int.tdiv_eq_ediv_of_nonneg (by omega)]
  rw [show ((m / 100 : Nat) : Int) = (m : Int) / 100 from rfl]
  exact Int.bmod_eq_of_le (by omega) (by omega)
theorem g_rem {m : Nat} (h : m < 2147483648) : iI (-(m : Int)) / (100 : Int32) * (100 : Int32) - iI (-(m : Int)) = nI (m % 100) := by
  rw [g_div h, show (100 : Int32) = iI 100 from rfl, iI_mul, iI_sub, ← iI_n]
  congr 1
  omega
def gDig (G : xG) (h : xH) : Prop := ∃ a1 a2, G.2.1 18 = xr (some a1) ∧ G.2.1 19 = xr (some a2) ∧ xcls h a1 = 1000 ∧ xcls h a2 = 1000 ∧ xlen h a1 = 100 ∧ xlen h a2 = 100 ∧ a1 < xlo h ∧ a2 < xlo h ∧ (∀ t, t < 100 → xval h a1 t = xi (nI (48 + t % 10))) ∧ ∀ t, t < 100 → xval h a2 t = xi (nI (48 + t / 10))
section XDG
variable {G : xG} {d k : Nat} {h h' h0 : xH} {T : Nat → xH → Nat → Prop} {S : List Nat} {x p i j c a b e r w m n o v cap P L : Nat} {cs ds : List Nat} {y z : Int32}
theorem gDig.md (q : gDig G h) (m : xMod S h h') (h1 : ∀ x, x ∈ S → xlo h ≤ x) : gDig G h' := by
  obtain ⟨a1, a2, q1, q2, q3, q4, q5, q6, q7, q8, q9, q10⟩ := q
  have n1 : a1 ∉ S := fun z => by have := h1 a1 z; omega
  have n2 : a2 ∉ S := fun z => by have := h1 a2 z; omega
  exact ⟨a1, a2, q1, q2, m.cl' q3 (by decide), m.cl' q4 (by decide), (m.ln (by rw [q3]; decide)).trans q5, (m.ln (by rw [q4]; decide)).trans q6, by rw [m.1]; exact q7, by rw [m.1]; exact q8, fun t ht => m.vl' q3 (by decide) n1 (q9 t ht), fun t ht => m.vl' q4 (by decide) n2 (q10 t ht)⟩
/-- digits of n, the lowest ahead of the place 'top' -/
theorem getChars_l {K : Nat} {Q : xR → xH → Prop} {top : Nat} (htop : top < 1000) (hQ : ∀ h', xMod [v] h0 h' → (∀ p, P ≤ p → p < top → xval h' v p = xi (nI (48 + n / 10 ^ (top - 1 - p) % 10))) → (∀ p, ¬ (P ≤ p ∧ p < top) → xval h' v p = xval h0 v p) → Q (.inl (some (xi (nI P)))) h') :
    ∀ r e h, n / 10 ^ e < 100 ^ (r + 1) → P < top → e < top - P → (e ≤ 0 ∨ 1 ≤ n / 10 ^ e) → n < 10 ^ (top - P) → (top - P = 1 ∨ 10 ^ (top - P - 1) ≤ n) → gDig G h → xcls h v = 1000 → xlo h ≤ v → top ≤ xlen h v → xMod [v] h0 h →
      (∀ p, top - e ≤ p → p < top → xval h v p = xi (nI (48 + n / 10 ^ (top - 1 - p) % 10))) → (∀ p, ¬ (top - e ≤ p ∧ p < top) → xval h v p = xval h0 v p) → n < 2147483648 →
      xWp G mJ29_getChars 1 K Q k 22 [some (xi (iI (-((n / 10 ^ e : Nat) : Int)))), none, some (xr (some v)), none, none, some (xi (nI (top - e))), some (xi (0 : Int32))] [] h := by
  intro r
  sorry
end XDG

/-! Integer.getChars: digits -/
theorem g_neg (m : Nat) : -(nI m) = iI (-(m : Int)) := (Int32.ofInt_neg (m : Int)).symm
theorem g_nn (m : Nat) : -(iI (-(m : Int))) = nI m := by
  rw [← iI_n]
  show -(Int32.ofInt _) = _
  rw [← Int32.ofInt_neg, Int.neg_neg]
  rfl
theorem g_div {m : Nat} (h : m < 2147483648) : iI (-(m : Int)) / (100 : Int32) = iI (-((m / 100 : Nat) : Int)) := by
  apply Int32.toInt_inj.mp
  rw [Int32.toInt_div, iI_toInt (by omega) (by omega), iI_toInt (by omega) (by omega)]
  rw [show (100 : Int32).toInt = (100 : Int) from rfl, Int.neg_tdiv, Int.tdiv_eq_ediv_of_nonneg (by omega)]
  rw [show ((m / 100 : Nat) : Int) = (m : Int) / 100 from rfl]
  exact Int.bmod_eq_of_le (by omega) (by omega)
theorem g_rem {m : Nat} (h : m < 2147483648) : iI (-(m : Int)) / (100 : Int32) * (100 : Int32) - iI (-(m : Int)) = nI (m % 100) := by
  rw [g_div h, show (100 : Int32) = iI 100 from rfl, iI_mul, iI_sub, ← iI_n]
  congr 1
  omega
def gDig (G : xG) (h : xH) : Prop := ∃ a1 a2, G.2.1 18 = xr (some a1) ∧ G.2.1 19 = xr (some a2) ∧ xcls h a1 = 1000 ∧ xcls h a2 = 1000 ∧ xlen h a1 = 100 ∧ xlen h a2 = 100 ∧ a1 < xlo h ∧ a2 < xlo h ∧ (∀ t, t < 100 → xval h a1 t = xi (nI (48 + t % 10))) ∧ ∀ t, t < 100 → xval h a2 t = xi (nI (48 + t / 10))
section XDG
variable {G : xG} {d k : Nat} {h h' h0 : xH} {T : Nat → xH → Nat → Prop} {S : List Nat} {x p i j c a b e r w m n o v cap P L : Nat} {cs ds : List Nat} {y z : Int32}
theorem gDig.md (q : gDig G h) (m : xMod S h h') (h1 : ∀ x, x ∈ S → xlo h ≤ x) : gDig G h' := by
  obtain ⟨a1, a2, q1, q2, q3, q4, q5, q6, q7, q8, q9, q10⟩ := q
  have n1 : a1 ∉ S := fun z => by have := h1 a1 z; omega
  have n2 : a2 ∉ S := fun z => by have := h1 a2 z; omega
  exact ⟨a1, a2, q1, q2, m.cl' q3 (by decide), m.cl' q4 (by decide), (m.ln (by rw [q3]; decide)).trans q5, (m.ln (by rw [q4]; decide)).trans q6, by rw [m.1]; exact q7, by rw [m.1]; exact q8, fun t ht => m.vl' q3 (by decide) n1 (q9 t ht), fun t ht => m.vl' q4 (by decide) n2 (q10 t ht)⟩
theorem g_pm {t : Nat} (h : 1 ≤ t) : nI t + (-1 : Int32) = nI (t - 1) := by
  rw [← iI_n, ← iI_n, show (-1 : Int32) = iI (-1) from rfl, iI_add]
  congr 1
  omega
theorem g_lt {m : Nat} (h : m < 2147483648) : (-100 : Int32) < iI (-(m : Int)) ↔ m < 100 := by
  rw [show (-100 : Int32) = iI (-100) from rfl, iI_lt (by decide) (by decide) (by omega) (by omega)]
  omega
theorem g_le {m : Nat} (h : m < 2147483648) : (-9 : Int32) ≤ iI (-(m : Int)) ↔ m ≤ 9 := by
  rw [show (-9 : Int32) = iI (-9) from rfl, iI_le (by decide) (by decide) (by omega) (by omega)]
  omega
/-- where the digits end -/
theorem g_e1 {n e L : Nat} (he : e < L) (hL : L = 1 ∨ 10 ^ (L - 1) ≤ n) (hM : n / 10 ^ e ≤ 9) : L = e + 1 := by
  have h10 : n < 10 ^ (e + 1) := by
    have := (Nat.div_lt_iff_lt_mul (Nat.pow_pos (by decide : 0 < 10))).mp (show n / 10 ^ e < 10 by omega)
    rw [Nat.pow_succ, Nat.mul_comm]
    exact this
  rcases hL with z | z
  · omega
  · have := (Nat.pow_lt_pow_iff_right (by decide : 1 < 10)).mp (Nat.lt_of_le_of_lt z h10)
    omega
theorem g_e2 {n e L : Nat} (hl : n < 10 ^ L) (hL : L = 1 ∨ 10 ^ (L - 1) ≤ n) (h9 : ¬ n / 10 ^ e ≤ 9) (hM : n / 10 ^ e < 100) : L = e + 2 := by
  have h10 : n < 10 ^ (e + 2) := by
    have := (Nat.div_lt_iff_lt_mul (Nat.pow_pos (by decide : 0 < 10))).mp hM
    rw [Nat.pow_add, Nat.mul_comm]
    exact this
  have h11 : 10 ^ (e + 1) ≤ n := by
    have := (Nat.le_div_iff_mul_le (Nat.pow_pos (by decide : 0 < 10) (n := e))).mp (show 10 ≤ n / 10 ^ e by omega)
    rw [Nat.pow_succ, Nat.mul_comm]
    exact this
  have a1 := (Nat.pow_lt_pow_iff_right (by decide : 1 < 10)).mp (Nat.lt_of_le_of_lt h11 hl)
  rcases hL with z | z
  · omega
  · have := (Nat.pow_lt_pow_iff_right (by decide : 1 < 10)).mp (Nat.lt_of_le_of_lt z h10)
    omega
theorem g_e3 {n e L : Nat} (hl : n < 10 ^ L) (hM : ¬ n / 10 ^ e < 100) : e + 2 < L := by
  have h11 : 10 ^ (e + 2) ≤ n := by
    have := (Nat.le_div_iff_mul_le (Nat.pow_pos (by decide : 0 < 10) (n := e))).mp (show 100 ≤ n / 10 ^ e by omega)
    rw [Nat.pow_add, Nat.mul_comm]
    exact this
  exact (Nat.pow_lt_pow_iff_right (by decide : 1 < 10)).mp (Nat.lt_of_le_of_lt h11 hl)
theorem g_d1 (n e : Nat) : n / 10 ^ (e + 1) = n / 10 ^ e / 10 := by rw [Nat.div_div_eq_div_mul, Nat.pow_succ]
theorem g_d2 (n e : Nat) : n / 10 ^ (e + 2) = n / 10 ^ e / 100 := by rw [Nat.div_div_eq_div_mul, Nat.pow_add]
theorem g_ch {c : Nat} (h : c < 128) {x : Int32} (e : narrow .byte (.int (nI c)) = .int x) : x = nI c := by
  rw [(sb_fit h).2.1] at e
  cases e
  rfl
/-- digits of n, the lowest ahead of the place 'top' -/
theorem getChars_f {K : Nat} {Q : xR → xH → Prop} {top : Nat} (htop : top < 1000) (hn : n < 2147483648) (hP : P < top) (hl : n < 10 ^ (top - P)) (hL : top - P = 1 ∨ 10 ^ (top - P - 1) ≤ n)
    (hQ : ∀ h', xMod [v] h0 h' → (∀ p, P ≤ p → p < top → xval h' v p = xi (nI (48 + n / 10 ^ (top - 1 - p) % 10))) → (∀ p, ¬ (P ≤ p ∧ p < top) → xval h' v p = xval h0 v p) → Q (.inl (some (xi (nI P)))) h') :
    ∀ e h, n / 10 ^ e < 100 → e < top - P → gDig G h → xcls h v = 1000 → xlo h ≤ v → top ≤ xlen h v → xMod [v] h0 h →
      (∀ p, top - e ≤ p → p < top → xval h v p = xi (nI (48 + n / 10 ^ (top - 1 - p) % 10))) → (∀ p, ¬ (top - e ≤ p ∧ p < top) → xval h v p = xval h0 v p) →
      xWp G mJ29_getChars 1 K Q k 22 [some (xi (iI (-((n / 10 ^ e : Nat) : Int)))), none, some (xr (some v)), none, none, some (xi (nI (top - e))), some (xi (0 : Int32))] [] h := by
  intro e h hM he gd hc hlo hlen m iv ov
  have hMn : n / 10 ^ e < 2147483648 := by omega
  obtain ⟨a1, a2, q1, q2, q3, q4, q5, q6, q7, q8, q9, q10⟩ := id gd
  have n1 : ¬ a1 = v := by omega
  have n2 : ¬ a2 = v := by omega
  have d1 := g_d1 n e
  refine vc_J29_getChars_22 ⟨fun _ => ⟨_, q1, a1, rfl, q3, n / 10 ^ e, g_nn _, hMn, by omega, _, q9 _ hM, v, rfl, hc, hlo, top - e - 1, g_pm (by omega), by omega, by omega, fun n8 h8 h7 e7 => ?_⟩, fun z => absurd ((g_lt hMn).mpr hM) z⟩
  have h8' := g_ch (by omega) h8
  subst h8'
  have m7 : xMod [v] h0 h7 := e7 ▸ m.put (Or.inl (by simp))
  have v7 : ∀ p, xval h7 v p = if p = top - e - 1 then xi (nI (48 + n / 10 ^ e % 10)) else xval h v p := fun p => by
    rw [e7, xval_put]
    by_cases hp : p = top - e - 1
    · rw [if_pos ⟨rfl, hp⟩, if_pos hp]
    · rw [if_neg (fun z => hp z.2), if_neg hp]
  refine ⟨fun z => ⟨fun _ => ?_, fun z => absurd rfl z⟩, fun z => ?_⟩
  · have h9 := (g_le hMn).mp z
    have hL1 := g_e1 he hL h9
    rw [g_pm (by omega), show top - e - 1 = P by omega]
    refine hQ h7 m7 (fun p p1 p2 => ?_) (fun p hp => ?_)
    · rw [v7]
      by_cases hp : p = top - e - 1
      · rw [if_pos hp, show top - 1 - p = e by omega]
      · rw [if_neg hp]; exact iv p (by omega) p2
    · rw [v7, if_neg (by omega)]; exact ov p (by omega)
  · have h9 : ¬ n / 10 ^ e ≤ 9 := fun y => z ((g_le hMn).mpr y)
    have hL2 := g_e2 hl hL h9 hM
    have w2 : ∀ t, xval h7 a2 t = xval h a2 t := fun t => by rw [e7, xval_put, if_neg (fun z => n2 z.1)]
    refine ⟨_, q2, a2, rfl, by rw [e7]; exact q4, n / 10 ^ e, g_nn _, hMn, by rw [e7]; show n / 10 ^ e < xlen h a2; omega, _, (w2 _).trans (q10 _ hM), by rw [e7]; exact hc, by rw [e7]; exact hlo, top - e - 2, by rw [g_pm (by omega), g_pm (by omega)]; rfl, by omega, by rw [e7]; show top - e - 2 < xlen h v; omega, fun n18 h18 h17 e17 => ⟨fun _ => ?_, fun z => absurd rfl z⟩⟩
    have h18' := g_ch (by omega) h18
    subst h18'
    have m17 : xMod [v] h0 h17 := e17 ▸ m7.put (Or.inl (by simp))
    have v17 : ∀ p, xval h17 v p = if p = top - e - 2 then xi (nI (48 + n / 10 ^ e / 10)) else xval h7 v p := fun p => by
      rw [e17, xval_put]
      by_cases hp : p = top - e - 2
      · rw [if_pos ⟨rfl, hp⟩, if_pos hp]
      · rw [if_neg (fun z => hp z.2), if_neg hp]
    rw [g_pm (by omega), g_pm (by omega), show top - e - 1 - 1 = P by omega]
    refine hQ h17 m17 (fun p p1 p2 => ?_) (fun p hp => ?_)
    · rw [v17]
      by_cases hp : p = top - e - 2
      · rw [if_pos hp, show top - 1 - p = e + 1 by omega, d1]
        congr 2
        omega
      · rw [if_neg hp, v7]
        by_cases hp : p = top - e - 1
        · rw [if_pos hp, show top - 1 - p = e by omega]
        · rw [if_neg hp]; exact iv p (by omega) p2
    · rw [v17, if_neg (by omega), v7, if_neg (by omega)]; exact ov p (by omega)
theorem getChars_l {K : Nat} {Q : xR → xH → Prop} {top : Nat} (htop : top < 1000) (hn : n < 2147483648) (hP : P < top) (hl : n < 10 ^ (top - P)) (hL : top - P = 1 ∨ 10 ^ (top - P - 1) ≤ n)
    (hQ : ∀ h', xMod [v] h0 h' → (∀ p, P ≤ p → p < top → xval h' v p = xi (nI (48 + n / 10 ^ (top - 1 - p) % 10))) → (∀ p, ¬ (P ≤ p ∧ p < top) → xval h' v p = xval h0 v p) → Q (.inl (some (xi (nI P)))) h') :
    ∀ r e h, n / 10 ^ e < 100 ^ (r + 1) → e < top - P → gDig G h → xcls h v = 1000 → xlo h ≤ v → top ≤ xlen h v → xMod [v] h0 h →
      (∀ p, top - e ≤ p → p < top → xval h v p = xi (nI (48 + n / 10 ^ (top - 1 - p) % 10))) → (∀ p, ¬ (top - e ≤ p ∧ p < top) → xval h v p = xval h0 v p) →
      xWp G mJ29_getChars 1 K Q k 22 [some (xi (iI (-((n / 10 ^ e : Nat) : Int)))), none, some (xr (some v)), none, none, some (xi (nI (top - e))), some (xi (0 : Int32))] [] h := by
  intro r
  induction r with
  | zero => exact fun e h hM => getChars_f htop hn hP hl hL hQ e h (by simpa using hM)
  | succ r ih =>
    intro e h hM he gd hc hlo hlen m iv ov
    by_cases hM2 : n / 10 ^ e < 100
    · exact getChars_f htop hn hP hl hL hQ e h hM2 he gd hc hlo hlen m iv ov
    have hMn : n / 10 ^ e < 2147483648 := Nat.lt_of_le_of_lt (Nat.div_le_self _ _) hn
    obtain ⟨a1, a2, q1, q2, q3, q4, q5, q6, q7, q8, q9, q10⟩ := id gd
    have n1 : ¬ a1 = v := by omega
    have n2 : ¬ a2 = v := by omega
    have d1 := g_d1 n e
    have d2 := g_d2 n e
    have he3 := g_e3 hl hM2
    have hr : n / 10 ^ e % 100 < 100 := Nat.mod_lt _ (by decide)
    refine vc_J29_getChars_22 ⟨fun z => absurd ((g_lt hMn).mp z) hM2, fun _ => ⟨_, q1, a1, rfl, q3, n / 10 ^ e % 100, g_rem hMn, by omega, by omega, _, q9 _ hr, v, rfl, hc, hlo, top - e - 1, g_pm (by omega), by omega, by omega, fun n29 h29 h28 e28 => ?_⟩⟩
    have h29' := g_ch (by omega) h29
    subst h29'
    have m28 : xMod [v] h0 h28 := e28 ▸ m.put (Or.inl (by simp))
    have w2 : ∀ t, xval h28 a2 t = xval h a2 t := fun t => by rw [e28, xval_put, if_neg (fun z => n2 z.1)]
    refine ⟨_, q2, a2, rfl, by rw [e28]; exact q4, n / 10 ^ e % 100, g_rem hMn, by omega, by rw [e28]; show n / 10 ^ e % 100 < xlen h a2; omega, _, (w2 _).trans (q10 _ hr), by rw [e28]; exact hc, by rw [e28]; exact hlo, top - e - 2, by rw [g_pm (by omega), g_pm (by omega)]; rfl, by omega, by rw [e28]; show top - e - 2 < xlen h v; omega, fun n36 h36 h35 e35 => ?_⟩
    have h36' := g_ch (by omega) h36
    subst h36'
    have m35 : xMod [v] h0 h35 := e35 ▸ m28.put (Or.inl (by simp))
    have m35' : xMod [v] h h35 := e35 ▸ e28 ▸ (xMod.rf.put (Or.inl (by simp))).put (Or.inl (by simp))
    have v35 : ∀ p, xval h35 v p = if p = top - e - 2 then xi (nI (48 + n / 10 ^ e % 100 / 10)) else if p = top - e - 1 then xi (nI (48 + n / 10 ^ e % 100 % 10)) else xval h v p := fun p => by
      rw [e35, xval_put]
      by_cases hp : p = top - e - 2
      · rw [if_pos ⟨rfl, hp⟩, if_pos hp]
      · rw [if_neg (fun z => hp z.2), if_neg hp, e28, xval_put]
        by_cases hp : p = top - e - 1
        · rw [if_pos ⟨rfl, hp⟩, if_pos hp]
        · rw [if_neg (fun z => hp z.2), if_neg hp]
    have := ih (e + 2) h35 (by rw [d2]; rw [Nat.pow_succ] at hM; exact (Nat.div_lt_iff_lt_mul (by decide)).mpr hM) (by omega) (gd.md m35' (fun x hx => by rw [List.mem_singleton.mp hx]; exact hlo)) (m35'.cl' hc (by decide)) (by rw [m35'.1]; exact hlo) (by rw [m35'.ln (by rw [hc]; decide)]; exact hlen) m35 (fun p p1 p2 => ?_) (fun p hp => ?_)
    · rw [g_div hMn, ← d2, g_pm (by omega), g_pm (by omega)]
      exact this
    · rw [v35]
      by_cases hp : p = top - e - 2
      · rw [if_pos hp, show top - 1 - p = e + 1 by omega, d1]
        congr 2
        omega
      · rw [if_neg hp]
        by_cases hp : p = top - e - 1
        · rw [if_pos hp, show top - 1 - p = e by omega]
          congr 2
          omega
        · rw [if_neg hp]; exact iv p (by omega) p2
    · rw [v35, if_neg (by omega), if_neg (by omega)]; exact ov p (by omega)
end XDG

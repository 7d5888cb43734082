/-! StringBuilder: a number more -/
theorem pLnF_sp (v : Nat) : ∀ r j, (j = 0 ∨ 10 ^ j ≤ v) → v < 10 ^ (r + j + 1) → 1 ≤ pLnF v r j ∧ v < 10 ^ pLnF v r j ∧ (pLnF v r j = 1 ∨ 10 ^ (pLnF v r j - 1) ≤ v)
  | 0, j, h1, h2 => by
    unfold pLnF
    rw [Nat.zero_add] at h2
    exact ⟨by omega, h2, h1.imp (fun z => by omega) (fun z => by rw [Nat.add_sub_cancel]; exact z)⟩
  | r + 1, j, h1, h2 => by
    unfold pLnF
    by_cases c : v / 10 < 10 ^ j
    · rw [if_pos c]
      refine ⟨by omega, ?_, h1.imp (fun z => by omega) (fun z => by rw [Nat.add_sub_cancel]; exact z)⟩
      have := (Nat.div_lt_iff_lt_mul (by decide : 0 < 10)).mp c
      rw [Nat.pow_succ]
      exact this
    · rw [if_neg c]
      refine pLnF_sp v r (j + 1) (Or.inr ?_) (by rw [show r + (j + 1) + 1 = r + 1 + j + 1 by omega]; exact h2)
      have := (Nat.le_div_iff_mul_le (by decide : 0 < 10)).mp (show 10 ^ j ≤ v / 10 by omega)
      rw [Nat.pow_succ]
      exact this
theorem pDg_sp {v : Nat} (h : v < 1000000) : 1 ≤ (pDg v).length ∧ v < 10 ^ (pDg v).length ∧ ((pDg v).length = 1 ∨ 10 ^ ((pDg v).length - 1) ≤ v) := by
  unfold pDg
  rw [pDj_len]
  exact pLnF_sp v 5 0 (Or.inl rfl) h
theorem pDj_get (v : Nat) : ∀ j t, t < j → (pDj v j)[t]? = some (48 + v / 10 ^ (j - 1 - t) % 10)
  | 0, t, h => by omega
  | j + 1, t, h => by
    unfold pDj
    match t with
    | 0 => rfl
    | t + 1 =>
      rw [List.getElem?_cons_succ, pDj_get v j t (by omega), show j + 1 - 1 - (t + 1) = j - 1 - t by omega]
theorem pDg_get {v t : Nat} (h : t < (pDg v).length) : (pDg v)[t]? = some (48 + v / 10 ^ ((pDg v).length - 1 - t) % 10) := by
  have e : (pDg v).length = pLnF v 5 0 := by unfold pDg; exact pDj_len _ _
  rw [e] at h ⊢
  exact pDj_get v _ t h
section XSE
variable {G : xG} {d k : Nat} {h h' h0 : xH} {T : Nat → xH → Nat → Prop} {S : List Nat} {x p i j c a b e r w m n o v cap P L : Nat} {cs ds : List Nat} {y z : Int32}
theorem stringSize_l {K : Nat} {Q : xR → xH → Prop} (hn : n < 1000000) (hL6 : L ≤ 6) (hl : n < 10 ^ L) (hL : L = 1 ∨ 10 ^ (L - 1) ≤ n) (hQ : Q (.inl (some (xi (nI L)))) h) :
    ∀ j i, i + j = L → 1 ≤ i → xWp G mJ29_stringSize d K Q k 16 [some (xi (iI (-(n : Int)))), some (xi 0), some (xi (iI (-((10 ^ i : Nat) : Int)))), some (xi (nI i))] [] h := by
  intro j
  induction j with
  | zero =>
    intro i hi h1
    have hi' : i = L := by omega
    subst hi'
    have hp : 10 ^ i ≤ 1000000 := Nat.le_trans (Nat.pow_le_pow_right (by decide) hL6) (by decide)
    refine vc_J29_stringSize_16 ⟨fun z => ?_, fun _ => ⟨fun z => ?_, fun _ => ?_⟩⟩
    · exact absurd ((nI_lei (a := 10) (by decide) (by omega)).mp z) (by omega)
    · rw [iI_le (by omega) (by omega) (by omega) (by omega)] at z
      omega
    · rw [show nI i + 0 = nI i by rw [← iI_n, show (0 : Int32) = iI 0 from rfl, iI_add, Int.add_zero]]
      exact hQ
  | succ j ih =>
    intro i hi h1
    have hp : 10 ^ i ≤ 1000000 := Nat.le_trans (Nat.pow_le_pow_right (by decide) (by omega : i ≤ 6)) (by decide)
    have hp0 : 0 < 10 ^ i := Nat.pow_pos (by decide)
    have hge : 10 ^ i ≤ n := by
      rcases hL with z | z
      · omega
      · exact Nat.le_trans (Nat.pow_le_pow_right (by decide) (by omega)) z
    refine vc_J29_stringSize_16 ⟨fun z => ?_, fun _ => ⟨fun _ => ?_, fun z => ?_⟩⟩
    · exact absurd ((nI_lei (a := 10) (by decide) (by omega)).mp z) (by omega)
    · have := ih (i + 1) (by omega) (by omega)
      rw [show (10 : Int32) = iI 10 from rfl, iI_mul, ← nI_succ, show (10 : Int) * -((10 ^ i : Nat) : Int) = -((10 ^ (i + 1) : Nat) : Int) by rw [Nat.pow_succ]; omega]
      exact this
    · exact absurd ((iI_le (by omega) (by omega) (by omega) (by omega)).mpr (by omega)) z
theorem stringSize_c {F : Int32 → xH → Nat → Prop} (hd : 1 < d) (hn : n < 1000000) (hQ : F (nI (pDg n).length) h k) : xCall G d k mJ29_stringSize [xi (nI n)] h (xkI F T) := by
  obtain ⟨s1, s2, s3⟩ := pDg_sp hn
  refine xCall_of (d' := 1) hd (Nat.zero_le k) (vc_J29_stringSize ⟨fun z => absurd z (nI_pos (by omega)), fun _ => ?_⟩)
  rw [g_neg]
  exact stringSize_l (L := (pDg n).length) hn (pDg_len n) s2 s3 hQ ((pDg n).length - 1) 1 (by omega) (by decide)
theorem getChars_c {F : Int32 → xH → Nat → Prop} (hd : 1 < d) (hn : n < 1000000) (gd : gDig G h) (hc : xcls h v = 1000) (hlo : xlo h ≤ v) (hlen : P + (pDg n).length ≤ xlen h v) (hP : P < 900)
    (hQ : ∀ h', xMod [v] h h' → (∀ t, t < (pDg n).length → xval h' v (P + t) = xi (nI (48 + n / 10 ^ ((pDg n).length - 1 - t) % 10))) → (∀ p, ¬ (P ≤ p ∧ p < P + (pDg n).length) → xval h' v p = xval h v p) → F (nI P) h' k) : xCall G d k mJ29_getChars [xi (nI n), xi (nI (P + (pDg n).length)), xr (some v)] h (xkI F T) := by
  obtain ⟨s1, s2, s3⟩ := pDg_sp hn
  have hl6 := pDg_len n
  refine xCall_of (d' := 1) hd (Nat.zero_le k) (vc_J29_getChars ⟨fun _ => ⟨fun z => absurd rfl z, fun _ => ?_⟩, fun z => absurd (nI_pos' (by omega)) z⟩)
  rw [g_neg]
  have := getChars_l (G := G) (k := 0) (h0 := h) (n := n) (v := v) (P := P) (top := P + (pDg n).length) (Q := fun r h' => xkI F T r h' (k - 0)) (K := 0) (by omega) (by omega) (by omega) (by rw [Nat.add_sub_cancel_left]; exact s2) (by rw [Nat.add_sub_cancel_left]; exact s3) (fun h' m1 v1 v2 => hQ h' m1 (fun t ht => by
    rw [v1 (P + t) (by omega) (by omega)]
    congr 6
    omega) v2) 2 0 h (by rw [Nat.pow_zero, Nat.div_one]; exact hn) (by omega) gd hc hlo hlen xMod.rf (fun p p1 p2 => by omega) (fun p _ => rfl)
  rw [Nat.pow_zero, Nat.div_one] at this
  exact this
end XSE

/-! the twin: what a command asks and does, as functions of the row -/
def pOpens (W : Nat → Int32) (s : Nat) : Nat → Int32 :=
  let W1 := uW W 1 (W 1 - pPrice W s)
  let W2 := uW W1 7 (W1 7 + pPrice W1 s)
  uW W2 (61 + 8 * s + 5) 1
def pShuts (W : Nat → Int32) (s : Nat) : Nat → Int32 := uW (uW (uW W 4 (W 4 + pS W s 6)) (61 + 8 * s + 6) 0) (61 + 8 * s + 5) 0
def pPumps (W : Nat → Int32) (s : Nat) : Nat → Int32 := uW (uW W 4 (W 4 - 1)) (61 + 8 * s + 6) 1
def pUnpumps (W : Nat → Int32) (s : Nat) : Nat → Int32 :=
  let W1 := uW W (61 + 8 * s + 6) 0
  uW W1 4 (W1 4 + 1)
def pMoves (W : Nat → Int32) (a b : Nat) : Nat → Int32 :=
  let W1 := uW W 1 (W 1 - pToll W a b)
  let W2 := uW W1 8 (W1 8 + pToll W1 a b)
  uW (uW W2 (61 + 8 * a + 6) 0) (61 + 8 * b + 6) 1
def pZ (W : Nat → Int32) (p : Nat) : Nat → Nat → Int32
  | 0 => W
  | k + 1 => uW (pZ W p k) (p + k) 0
def pTellsH (W : Nat → Int32) (x y z : Int32) : Nat → Int32 :=
  let p := 13 + 6 * nH W
  let W2 := uW (uW (uW (pZ W p 6) p x) (p + 1) y) (p + 2) z
  uW W2 2 (W2 2 + 1)
def pTellsS (W : Nat → Int32) (x y z w : Int32) : Nat → Int32 :=
  let p := 61 + 8 * nS W
  uW (uW (uW (uW (uW (pZ (uW W 3 (W 3 + 1)) p 8) (p + 0) x) (p + 1) y) (p + 2) z) (p + 3) z) (p + 4) w
section XTD
variable {V : Nat → Nat → Int32} {W : Nat → Int32} {s a b : Nat} {x y z w : Int32}
theorem tOpens_W : tOpens V s = tW V (pOpens (V 4) s) := by
  unfold tOpens pOpens
  simp only [tU_W, tW_4, tW_tW]
theorem tShuts_W : tShuts V s = tW V (pShuts (V 4) s) := by
  unfold tShuts pShuts
  simp only [tU_W, tW_4, tW_tW]
theorem tPumps_W : tPumps V s = tW V (pPumps (V 4) s) := by
  unfold tPumps pPumps
  simp only [tU_W, tW_4, tW_tW]
theorem tUnpumps_W : tUnpumps V s = tW V (pUnpumps (V 4) s) := by
  unfold tUnpumps pUnpumps
  simp only [tU_W, tW_4, tW_tW]
theorem tMoves_W : tMoves V a b = tW V (pMoves (V 4) a b) := by
  unfold tMoves pMoves
  simp only [tU_W, tW_4, tW_tW]
theorem tZ_W {p : Nat} : ∀ k, tZ V p k = tW V (pZ (V 4) p k)
  | 0 => tW_id.symm
  | k + 1 => by
    unfold tZ pZ
    rw [tZ_W k]
    simp only [tU_W, tW_4, tW_tW]
theorem tTellsH_W : tTellsH V x y z = tW V (pTellsH (V 4) x y z) := by
  unfold tTellsH pTellsH
  simp only [tZ_W, tU_W, tW_4, tW_tW]
theorem tTellsS_W : tTellsS V x y z w = tW V (pTellsS (V 4) x y z w) := by
  unfold tTellsS pTellsS
  simp only [tZ_W, tU_W, tW_4, tW_tW]
end XTD
def cNot (W : Nat → Int32) (t : Nat) (x y z w : Int32) : Int32 × Option (Int32 × Int32) := match t with
  | 0 => pNotHamlet W x y z
  | 1 => pNotSite W x y z w
  | 2 => pNotOpen W x
  | 3 => pNotShut W x
  | 4 => pNotPump W x
  | 5 => pNotMove W x y
  | _ => (if pIn x 1 30 then 0 else -2, none)
def cDo (W : Nat → Int32) (t : Nat) (x y z w : Int32) : Nat → Int32 := match t with
  | 0 => pTellsH W x y z
  | 1 => pTellsS W x y z w
  | 2 => pOpens W x.toNatClampNeg
  | 3 => pShuts W x.toNatClampNeg
  | 4 => pPumps W x.toNatClampNeg
  | 5 => pMoves W x.toNatClampNeg y.toNatClampNeg
  | _ => pDays x.toNatClampNeg W
def uNot (W : Nat → Int32) (u : rU) : Int32 × Option (Int32 × Int32) := cNot W u.2.2 (nI (u.2.1 0)) (nI (u.2.1 1)) (nI (u.2.1 2)) (nI (u.2.1 3))
def uDo (W : Nat → Int32) (u : rU) : Nat → Int32 := cDo W u.2.2 (nI (u.2.1 0)) (nI (u.2.1 1)) (nI (u.2.1 2)) (nI (u.2.1 3))
def rRun (cs : List Nat) : Nat → (Nat → Int32) → rU → Nat → (Int32 × Option (Int32 × Int32)) × (Nat → Int32) × rU × Nat
  | 0, W, u, c => ((0, none), W, u, c)
  | n + 1, W, u, c => if (uNot W (rCmd cs u).2).1 = 0 then (if (rC cs 59 (rCmd cs u).2).1 then rRun cs n (uDo W (rCmd cs u).2) (rC cs 59 (rCmd cs u).2).2 (c + 1) else ((0, none), uDo W (rCmd cs u).2, (rCmd cs u).2, c + 1)) else (uNot W (rCmd cs u).2, W, (rCmd cs u).2, c)
theorem five_ne : ¬ (-5 : Int32) = 0 := by decide
theorem one_ne : ¬ (-1 : Int32) = 0 := by decide
theorem two_ne : ¬ (-2 : Int32) = 0 := by decide
section XTN
variable {W : Nat → Int32} {x y : Int32}
theorem pNotOpen_0 (p : pW W) (e : (pNotOpen W x).1 = 0) : (∃ s, s < nS W ∧ x = nI s) ∧ pNotOpen W x = (0, none) := by
  have p4 := p.2.2.2
  unfold pNotOpen at e ⊢
  by_cases hb : pHas (nS W) x = true
  · refine ⟨(pHas_iff (by omega)).mp hb, ?_⟩
    rw [if_pos hb] at e ⊢
    split at e
    · exact absurd e five_ne
    · rename_i u1
      rw [if_neg u1]
      split at e
      · rename_i u2
        rw [if_pos u2]
      · exact absurd e five_ne
  · rw [if_neg hb] at e; exact absurd e one_ne
theorem pNotShut_0 (p : pW W) (e : (pNotShut W x).1 = 0) : (∃ s, s < nS W ∧ x = nI s) ∧ pNotShut W x = (0, none) := by
  have p4 := p.2.2.2
  unfold pNotShut at e ⊢
  by_cases hb : pHas (nS W) x = true
  · refine ⟨(pHas_iff (by omega)).mp hb, ?_⟩
    rw [if_pos hb] at e ⊢
    split at e
    · rename_i u1; rw [if_pos u1]
    · exact absurd e five_ne
  · rw [if_neg hb] at e; exact absurd e one_ne
theorem pNotPump_0 (p : pW W) (e : (pNotPump W x).1 = 0) : (∃ s, s < nS W ∧ x = nI s) ∧ pNotPump W x = (0, none) := by
  have p4 := p.2.2.2
  unfold pNotPump at e ⊢
  by_cases hb : pHas (nS W) x = true
  · refine ⟨(pHas_iff (by omega)).mp hb, ?_⟩
    rw [if_pos hb] at e ⊢
    split at e
    · rename_i u1
      rw [if_pos u1]
      split at e
      · exact absurd e five_ne
      · rename_i u2
        rw [if_neg u2]
        split at e
        · exact absurd e five_ne
        · rename_i u3; rw [if_neg u3]
    · exact absurd e five_ne
  · rw [if_neg hb] at e; exact absurd e one_ne
theorem pNotMove_0 (p : pW W) (e : (pNotMove W x y).1 = 0) : (∃ s, s < nS W ∧ x = nI s) ∧ (∃ s, s < nS W ∧ y = nI s) ∧ pNotMove W x y = (0, none) := by
  have p4 := p.2.2.2
  unfold pNotMove at e ⊢
  by_cases hb : pHas (nS W) x = true
  · by_cases hb2 : pHas (nS W) y = true
    · refine ⟨(pHas_iff (by omega)).mp hb, (pHas_iff (by omega)).mp hb2, ?_⟩
      rw [if_pos hb, if_pos hb2] at e ⊢
      repeat' (split at e)
      all_goals first | exact absurd e five_ne | skip
      rename_i u1 u2 u3 u4 u5 u6
      rw [if_neg u1, if_pos u2, if_pos u3, if_pos u4, if_neg u5, if_pos u6]
    · rw [if_pos hb, if_neg hb2] at e; exact absurd e one_ne
  · rw [if_neg hb] at e; exact absurd e one_ne
end XTN
section XTU
variable {G : xG} {d k : Nat} {h h' h0 : xH} {T : Nat → xH → Nat → Prop} {S : List Nat} {m : Nat} {A : Nat → Nat} {V V0 : Nat → Nat → Int32} {W : Nat → Int32} {a b c s i j mm n f v : Nat} {x y z w ix : Int32} {cs : List Nat} {u : rU}
theorem pV_18 {k : Nat} : pV V u 18 k = nI (u.2.1 k) := by unfold pV; rw [if_neg (by decide), if_pos rfl]
theorem pV_4 : pV V u 4 = V 4 := pV_ne (by decide) (by decide) (by decide)
theorem t_nr {P : Int32 → Prop} (q : isTw h m A (pV V u)) (i : Nat) (e : ix = nI i) (hi : i < 4) (K : P (nI (u.2.1 i))) :
    xcls h m = 6 ∧ ∃ o1 : Option Nat, xval h m 18 = xr o1 ∧ ∃ a2, o1 = some a2 ∧ xcls h a2 = 1003 ∧ ∃ i3 : Nat, ix = nI i3 ∧ i3 < 2147483648 ∧ i3 < xlen h a2 ∧ ∃ n4 : Int32, xval h a2 i3 = xi n4 ∧ P n4 :=
  ⟨q.cl, _, q.rr 18 (by decide), _, rfl, q.kk 18 (by decide), i, e, by omega, by rw [q.ll 18 (by decide)]; exact hi, _, (q.vv 18 (show i < tL 18 from hi)).trans (congrArg xi pV_18), K⟩
theorem t_notNow_c {F : Int32 → xH → Nat → Prop} (hd : 7 < d) (q : isTw h m A (pV V u)) (p : pW (V 4)) (hs : u.2.2 ≤ 6) (hQ : ∀ h', isTw h' m A (tN (pV V u) (uNot (V 4) u).2) → xMod (tS m A) h h' → F (uNot (V 4) u).1 h' k) : xCall G d k mX3_notNow [xr (some m)] h (xkI F T) := by
  unfold uNot at hQ
  have p' : pW (pV V u 4) := by rw [pV_4]; exact p
  have ev : pV V u 19 0 = nI u.2.2 := rfl
  refine xCall_of (d' := 7) hd (Nat.zero_le k) (vc_X3_notNow (t_nr q 0 rfl (by decide) ⟨q.cl, _, (q.ff 19 rfl).trans (congrArg xi ev), fun z => ?_, fun z => ?_, fun z => ?_, fun z => ?_, fun z => ?_, fun z => ?_, fun z => ?_⟩))
  · rw [(nI_eq (b := 0) (by omega) (by decide)).mp z] at hQ
    exact t_nr q 1 rfl (by decide) (t_nr q 2 rfl (by decide) ⟨q.cl, t_notHamlet_c (by decide) q p' (by rw [pV_4]; exact hQ)⟩)
  · rw [(nI_eq (b := 1) (by omega) (by decide)).mp z] at hQ
    exact t_nr q 1 rfl (by decide) (t_nr q 2 rfl (by decide) (t_nr q 3 rfl (by decide) ⟨q.cl, t_notSite_c (by decide) q p' (by rw [pV_4]; exact hQ)⟩))
  · rw [(nI_eq (b := 2) (by omega) (by decide)).mp z] at hQ
    exact ⟨q.cl, t_notOpen_c (by decide) q p' (by rw [pV_4]; exact hQ)⟩
  · rw [(nI_eq (b := 3) (by omega) (by decide)).mp z] at hQ
    exact ⟨q.cl, t_notShut_c (by decide) q p' (by rw [pV_4]; exact hQ)⟩
  · rw [(nI_eq (b := 4) (by omega) (by decide)).mp z] at hQ
    exact ⟨q.cl, t_notPump_c (by decide) q p' (by rw [pV_4]; exact hQ)⟩
  · rw [(nI_eq (b := 5) (by omega) (by decide)).mp z] at hQ
    exact t_nr q 1 rfl (by decide) ⟨q.cl, t_notMove_c (by decide) q p' (by rw [pV_4]; exact hQ)⟩
  · have e6 : u.2.2 = 6 := by
      rw [nI_toInt (by omega)] at z
      omega
    rw [e6] at hQ
    refine t_isBetween_c (by decide) ⟨fun w => ?_, fun w => ?_⟩
    · have hb : pIn (nI (u.2.1 0)) 1 30 = false := xb0.mp w
      have h1 := hQ h q xMod.rf
      unfold cNot at h1
      simp only at h1
      rw [hb, if_neg Bool.false_ne_true] at h1
      exact h1
    · have hb : pIn (nI (u.2.1 0)) 1 30 = true := xb1.mp w
      have h1 := hQ h q xMod.rf
      unfold cNot at h1
      simp only at h1
      rw [hb, if_pos rfl] at h1
      exact h1
theorem t_doesNow_c {F : Int32 → xH → Nat → Prop} (hd : 8 < d) (q : isTw h m A (pV V u)) (p : pW (V 4)) (hs : u.2.2 ≤ 6) (h0 : (uNot (V 4) u).1 = 0) (hQ : ∀ h' r, isTw h' m A (tW (pV V u) (uDo (V 4) u)) → xMod (tS m A) h h' → F r h' k) : xCall G d k mX3_doesNow [xr (some m)] h (xkI F T) := by
  unfold uNot at h0
  unfold uDo at hQ
  have p' : pW (pV V u 4) := by rw [pV_4]; exact p
  have p4 := p.2.2.2
  have ev : pV V u 19 0 = nI u.2.2 := rfl
  have go : ∀ W', (∀ h' r, isTw h' m A (tW (pV V u) W') → xMod (tS m A) h h' → F r h' k) → ∀ (V' : Nat → Nat → Int32) h' r, V' = tW (pV V u) W' → isTw h' m A V' → xMod (tS m A) h h' → F r h' k := fun W' hQ' V' h' r e q' x' => hQ' h' r (e ▸ q') x'
  refine xCall_of (d' := 8) hd (Nat.zero_le k) (vc_X3_doesNow (t_nr q 0 rfl (by decide) ⟨q.cl, _, (q.ff 19 rfl).trans (congrArg xi ev), fun z => ?_, fun z => ?_, fun z => ?_, fun z => ?_, fun z => ?_, fun z => ?_, fun z => ?_⟩))
  · rw [(nI_eq (b := 0) (by omega) (by decide)).mp z] at hQ h0
    have hl := (pNotHamlet_0 h0 p).2
    exact t_nr q 1 rfl (by decide) (t_nr q 2 rfl (by decide) ⟨q.cl, t_tellsHamlet_c (by decide) q p' (by rw [pV_4]; exact hl) fun h' q' x' => go _ hQ _ h' _ (by rw [tTellsH_W, pV_4]; rfl) q' x'⟩)
  · rw [(nI_eq (b := 1) (by omega) (by decide)).mp z] at hQ h0
    have hl := (pNotSite_0 h0 p).2
    exact t_nr q 1 rfl (by decide) (t_nr q 2 rfl (by decide) (t_nr q 3 rfl (by decide) ⟨q.cl, t_tellsSite_c (by decide) q p' (by rw [pV_4]; exact hl) fun h' q' x' => go _ hQ _ h' _ (by rw [tTellsS_W, pV_4]; rfl) q' x'⟩))
  · rw [(nI_eq (b := 2) (by omega) (by decide)).mp z] at hQ h0
    obtain ⟨⟨s, hs, e⟩, -⟩ := pNotOpen_0 p h0
    rw [e] at hQ ⊢
    exact ⟨q.cl, t_opens_c (by decide) q p' (by omega) fun h' q' x' => go _ hQ _ h' _ (by rw [tOpens_W, pV_4]; unfold cDo; rw [nI_clamp (by omega)]; rfl) q' x'⟩
  · rw [(nI_eq (b := 3) (by omega) (by decide)).mp z] at hQ h0
    obtain ⟨⟨s, hs, e⟩, -⟩ := pNotShut_0 p h0
    rw [e] at hQ ⊢
    exact ⟨q.cl, t_shuts_c (by decide) q p' (by omega) fun h' q' x' => go _ hQ _ h' _ (by rw [tShuts_W, pV_4]; unfold cDo; rw [nI_clamp (by omega)]; rfl) q' x'⟩
  · rw [(nI_eq (b := 4) (by omega) (by decide)).mp z] at hQ h0
    obtain ⟨⟨s, hs, e⟩, -⟩ := pNotPump_0 p h0
    rw [e] at hQ ⊢
    exact ⟨q.cl, t_pumps_c (by decide) q (by omega) fun h' q' x' => go _ hQ _ h' _ (by rw [tPumps_W, pV_4]; unfold cDo; rw [nI_clamp (by omega)]; rfl) q' x'⟩
  · rw [(nI_eq (b := 5) (by omega) (by decide)).mp z] at hQ h0
    obtain ⟨⟨s, hs, e⟩, ⟨t, ht, e2⟩, -⟩ := pNotMove_0 p h0
    rw [e, e2] at hQ
    refine t_nr q 1 rfl (by decide) ⟨q.cl, ?_⟩
    rw [e, e2]
    exact t_moves_c (by decide) q (by omega) (by omega) fun h' q' x' => go _ hQ _ h' _ (by rw [tMoves_W, pV_4]; unfold cDo; rw [nI_clamp (by omega), nI_clamp (by omega)]; rfl) q' x'
  · have e6 : u.2.2 = 6 := by
      rw [nI_toInt (by omega)] at z
      omega
    rw [e6] at hQ h0
    have hb : pIn (nI (u.2.1 0)) 1 30 = true := by
      unfold cNot at h0
      simp only at h0
      by_cases hb : pIn (nI (u.2.1 0)) 1 30 = true
      · exact hb
      · rw [if_neg hb] at h0; exact absurd h0 two_ne
    obtain ⟨j, hj, -, e⟩ := pIn_1 hb
    rw [e] at hQ ⊢
    have q0 : isTw h m A (tW (pV V u) (V 4)) := by
      have : tW (pV V u) (V 4) = pV V u := by rw [← pV_4 (V := V) (u := u)]; exact tW_id
      rw [this]; exact q
    exact ⟨q.cl, t_passes_c (by decide) q0 p hj fun h' q' x' => go _ hQ _ h' _ (by unfold cDo; rw [nI_clamp (by omega)]; rfl) q' x'⟩
theorem rC_2 {c : Nat} : (rC cs c u).2.2 = u.2 := by unfold rC; split <;> rfl
theorem rD_s {c : Nat} : (rD cs c u).2.2.2 = u.2.2 := by
  unfold rD
  split
  · split <;> rfl
  · rfl
theorem rA_s {p : Nat × Nat} : (rA cs p u).2.2.2 = u.2.2 := by
  unfold rA
  split
  · rw [rC_2]
  · exact rD_s
  · unfold rN
    split
    · split
      · exact rD_s.trans rD_s
      · exact rD_s
    · rfl
theorem rS_s : ∀ (l : List (Nat × Nat)) (u : rU), (rS cs l u).2.2.2 = u.2.2
  | [], _ => rfl
  | p :: l, u => by
    unfold rS
    split
    · exact (rS_s l _).trans rA_s
    · exact rA_s
theorem rCmd_s : (rCmd cs u).2.2.2 ≤ 6 := by
  unfold rCmd rEs rPe rHam rSit rShu rOpe rPum rPas rMov
  repeat' split
  all_goals rw [rS_s]; (first | exact (by decide : 0 ≤ 6) | exact (by decide : 1 ≤ 6) | exact (by decide : 2 ≤ 6) | exact (by decide : 3 ≤ 6) | exact (by decide : 4 ≤ 6) | exact (by decide : 5 ≤ 6) | exact (by decide : 6 ≤ 6))
theorem pZ_lo {p j : Nat} (h : j < p) : ∀ k, pZ W p k j = W j
  | 0 => rfl
  | k + 1 => by unfold pZ; rw [uW_ne (by omega), pZ_lo h k]
theorem pTellsH_23 : pTellsH W x y z 2 = W 2 + 1 ∧ pTellsH W x y z 3 = W 3 := by
  unfold pTellsH
  refine ⟨?_, ?_⟩
  · rw [uW_eq, uW_ne (by omega), uW_ne (by omega), uW_ne (by omega), pZ_lo (by omega)]
  · rw [uW_ne (by decide), uW_ne (by omega), uW_ne (by omega), uW_ne (by omega), pZ_lo (by omega)]
theorem pTellsS_23 : pTellsS W x y z w 2 = W 2 ∧ pTellsS W x y z w 3 = W 3 + 1 := by
  unfold pTellsS
  refine ⟨?_, ?_⟩
  · rw [uW_ne (by omega), uW_ne (by omega), uW_ne (by omega), uW_ne (by omega), uW_ne (by omega), pZ_lo (by omega), uW_ne (by decide)]
  · rw [uW_ne (by omega), uW_ne (by omega), uW_ne (by omega), uW_ne (by omega), uW_ne (by omega), pZ_lo (by omega), uW_eq]
theorem pTellsH_p (p : pW W) (h8 : nH W < 8) : pW (pTellsH W x y z) ∧ nH (pTellsH W x y z) = nH W + 1 ∧ nS (pTellsH W x y z) = nS W := by
  obtain ⟨e2, e3⟩ := pTellsH_23 (W := W) (x := x) (y := y) (z := z)
  have e4 : pTellsH W x y z 2 = nI (nH W + 1) := by rw [e2, p.1]; exact nI_1 _
  have e5 : nH (pTellsH W x y z) = nH W + 1 := by unfold nH at e4 ⊢; rw [e4, nI_clamp (by have := p.2.1; unfold nH at this; omega)]
  have e6 : nS (pTellsH W x y z) = nS W := by unfold nS; rw [e3]
  exact ⟨⟨by rw [e5]; exact e4, by omega, by rw [e6, e3]; exact p.2.2.1, by rw [e6]; exact p.2.2.2⟩, e5, e6⟩
theorem pTellsS_p (p : pW W) (h6 : nS W < 6) : pW (pTellsS W x y z w) ∧ nS (pTellsS W x y z w) = nS W + 1 ∧ nH (pTellsS W x y z w) = nH W := by
  obtain ⟨e2, e3⟩ := pTellsS_23 (W := W) (x := x) (y := y) (z := z) (w := w)
  have e4 : pTellsS W x y z w 3 = nI (nS W + 1) := by rw [e3, p.2.2.1]; exact nI_1 _
  have e5 : nS (pTellsS W x y z w) = nS W + 1 := by unfold nS at e4 ⊢; rw [e4, nI_clamp (by have := p.2.2.2; unfold nS at this; omega)]
  have e6 : nH (pTellsS W x y z w) = nH W := by unfold nH; rw [e2]
  exact ⟨⟨by rw [e6, e2]; exact p.1, by rw [e6]; exact p.2.1, by rw [e5]; exact e4, by omega⟩, e5, e6⟩
theorem pOpens_e : e23 W (pOpens W s) := ((e23.rf.u (by decide) (by decide)).u (by decide) (by decide)).u (by omega) (by omega)
theorem pShuts_e : e23 W (pShuts W s) := ((e23.rf.u (by decide) (by decide)).u (by omega) (by omega)).u (by omega) (by omega)
theorem pPumps_e : e23 W (pPumps W s) := (e23.rf.u (by decide) (by decide)).u (by omega) (by omega)
theorem pUnpumps_e : e23 W (pUnpumps W s) := (e23.rf.u (by omega) (by omega)).u (by decide) (by decide)
theorem pMoves_e : e23 W (pMoves W a b) := (((e23.rf.u (by decide) (by decide)).u (by decide) (by decide)).u (by omega) (by omega)).u (by omega) (by omega)
theorem cDo_p {t : Nat} (p : pW W) (h0 : (cNot W t x y z w).1 = 0) : pW (cDo W t x y z w) := by
  unfold cNot cDo at *
  split <;> simp only at h0
  · exact (pTellsH_p p (pNotHamlet_0 h0 p).2).1
  · exact (pTellsS_p p (pNotSite_0 h0 p).2).1
  · exact pOpens_e.p p
  · exact pShuts_e.p p
  · exact pPumps_e.p p
  · exact pMoves_e.p p
  · exact (pDays_e _ _).p p
theorem tIn.cg {V' : Nat → Nat → Int32} (t : tIn V cs) (e1 : V' 14 = V 14) (e2 : V' 15 = V 15) : tIn V' cs := by
  obtain ⟨t1, t2, t3⟩ := t
  exact ⟨by rw [e2]; exact t1, t2, fun i c hi => by rw [e1]; exact t3 i c hi⟩
theorem t_notAll_l {K : Nat} {Q : xR → xH → Prop} (t : tIn V cs) (h0 : xH) : ∀ n h W u c, cs.length + 1 ≤ n + u.1 → u.1 ≤ cs.length → pW W → isTw h m A (pV (tU (tW V W) 20 0 (nI c)) u) → xMod (tS m A) h0 h →
    (∀ h', isTw h' m A (tN (pV (tU (tW V (rRun cs n W u c).2.1) 20 0 (nI (rRun cs n W u c).2.2.2)) (rRun cs n W u c).2.2.1) (rRun cs n W u c).1.2) → xMod (tS m A) h0 h' → Q (.inl (some (xi (rRun cs n W u c).1.1))) h') → xWp G mX3_notAll 9 K Q k 12 [some (xr (some m)), some (xi 1), none] [] h := by
  intro n
  induction n with
  | zero => intro h W u c h1 h2; omega
  | succ n ih =>
    intro h W u c h1 hu p q x hQ
    have t' : tIn (tU (tW V W) 20 0 (nI c)) cs := t.cg (by rw [tU_ne (by decide), tW_ne (by decide)]) (by rw [tU_ne (by decide), tW_ne (by decide)])
    have e4 : tU (tW V W) 20 0 (nI c) 4 = W := by rw [tU_ne (by decide), tW_4]
    have p' : pW (tU (tW V W) 20 0 (nI c) 4) := by rw [e4]; exact p
    have hm := rCmd_mono (cs := cs) (u := u)
    have hl := rCmd_le (cs := cs) (u := u) hu
    unfold rRun at hQ
    refine vc_X3_notAll_12 ⟨fun z => absurd z (by decide), fun _ => ⟨q.cl, t_readsCommand_c (by decide) q t' hu fun h2 q2 x2 => ⟨q2.cl, t_notNow_c (by decide) q2 p' rCmd_s fun h3 q3 x3 => ?_⟩⟩⟩
    rw [e4] at q3 ⊢
    refine ⟨fun z => ⟨q3.cl, ?_⟩, fun z => ?_⟩
    · rw [if_pos z] at hQ
      have e0 : (uNot W (rCmd cs u).2).2 = none := by
        unfold uNot cNot at z ⊢
        split <;> rename_i e <;> simp only [e] at z
        · exact congrArg Prod.snd (pNotHamlet_0 z p).1
        · exact congrArg Prod.snd (pNotSite_0 z p).1
        · exact congrArg Prod.snd (pNotOpen_0 p z).2
        · exact congrArg Prod.snd (pNotShut_0 p z).2
        · exact congrArg Prod.snd (pNotPump_0 p z).2
        · exact congrArg Prod.snd (pNotMove_0 p z).2.2
        · rfl
      rw [e0] at q3
      refine t_doesNow_c (by decide) q3 p' rCmd_s (by rw [e4]; exact z) fun h4 r q4 x4 => ?_
      rw [e4] at q4
      refine ⟨q4.cl, _, q4.ff 20 rfl, q4.cl, fun h5 e5 => ?_⟩
      have q5 := q4.pf 20 rfl (nI (c + 1))
      have e6 : h5 = xput h4 m 20 (xi (nI (c + 1))) := e5.trans (by rw [← nI_1]; rfl)
      have x5 : xMod (tS m A) h0 h5 := e6 ▸ (x.tr (x2.tr (x3.tr x4))).tf (fun _ z => z) 20 _
      rw [← e6] at q5
      have e7 : tU (tW (pV (tU (tW V W) 20 0 (nI c)) (rCmd cs u).2) (uDo W (rCmd cs u).2)) 20 0 (nI (c + 1)) = pV (tU (tW V (uDo W (rCmd cs u).2)) 20 0 (nI (c + 1))) (rCmd cs u).2 := by
        funext g i
        unfold tU tW pV
        by_cases h1 : g = 20
        · subst h1
          by_cases h2 : i = 0
          · subst h2; rfl
          · simp [h2]
        · by_cases h2 : g = 4
          · subst h2; simp
          · simp [h1, h2]
      rw [e7] at q5
      have t5 : tIn (tU (tW V (uDo W (rCmd cs u).2)) 20 0 (nI (c + 1))) cs := t.cg (by rw [tU_ne (by decide), tW_ne (by decide)]) (by rw [tU_ne (by decide), tW_ne (by decide)])
      refine ⟨q5.cl, t_reads_c (c := 59) (by decide) (by decide) q5 t5 hl fun h6 q6 x6 => ?_⟩
      cases e8 : (rC cs 59 (rCmd cs u).2).1 with
      | true =>
        rw [if_pos e8] at hQ
        obtain ⟨e9, e10⟩ := rC_t e8
        exact ih h6 _ _ (c + 1) (by rw [e9]; show cs.length + 1 ≤ n + ((rCmd cs u).2.1 + 1); omega) (by rw [e9]; exact e10) (cDo_p p z) q6 (x5.tr x6) hQ
      | false =>
        rw [if_neg (by rw [e8]; exact Bool.false_ne_true)] at hQ
        rw [rC_f e8] at q6
        exact vc_X3_notAll_12 ⟨fun _ => hQ h6 q6 (x5.tr x6), fun w => absurd rfl w⟩
    · rw [if_neg z] at hQ
      exact hQ h3 q3 (x.tr (x2.tr x3))
theorem t_notAll_c {F : Int32 → xH → Nat → Prop} (hd : 9 < d) (q : isTw h m A (pV V u)) (p : pW (V 4)) (t : tIn V cs)
    (hQ : ∀ h', isTw h' m A (tN (pV (tU (tW V (rRun cs (cs.length + 1) (V 4) (0, u.2) 0).2.1) 20 0 (nI (rRun cs (cs.length + 1) (V 4) (0, u.2) 0).2.2.2)) (rRun cs (cs.length + 1) (V 4) (0, u.2) 0).2.2.1) (rRun cs (cs.length + 1) (V 4) (0, u.2) 0).1.2) → xMod (tS m A) h h' → F (rRun cs (cs.length + 1) (V 4) (0, u.2) 0).1.1 h' k) : xCall G d k mX3_notAll [xr (some m)] h (xkI F T) := by
  refine xCall_of (d' := 9) hd (Nat.zero_le k) (vc_X3_notAll ⟨q.cl, fun h1 e1 => ?_⟩)
  have q1 := q.pf 20 rfl 0
  rw [← e1] at q1
  have e3 : tU (pV V u) 20 0 0 = pV (tU (tW V (V 4)) 20 0 (nI 0)) u := by
    rw [tW_id]
    funext g i
    unfold tU pV
    by_cases h1 : g = 20
    · subst h1
      by_cases h2 : i = 0
      · subst h2; rfl
      · simp [h2]
    · simp [h1]
  rw [e3] at q1
  refine ⟨q1.cl, fun h2 e2 => ?_⟩
  have q2 := t_at q1 0
  have e4 : h2 = xput h1 m 16 (xi (nI 0)) := e2
  rw [← e4] at q2
  exact t_notAll_l t h _ h2 (V 4) (0, u.2) 0 (by show _ ≤ cs.length + 1 + 0; omega) (Nat.zero_le _) p q2 (e4 ▸ (e1 ▸ xMod.rf.tf (fun _ z => z) 20 _).tf (fun _ z => z) 16 _) hQ
end XTU

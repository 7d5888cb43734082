/-! the twin: greedy, swap, saves, orders -/
def pThirstier (W : Nat → Int32) (a b : Nat) : Bool := if pH W a 3 = pH W b 3 then (if pH W a 2 = pH W b 2 then decide (¬ b ≤ a) else decide (¬ pH W a 2 ≤ pH W b 2)) else decide (¬ pH W a 3 ≤ pH W b 3)
def pRankF (W : Nat → Int32) (b : Nat) (n a : Nat) : Nat := if pThirstier W a b then n + 1 else n
def pRank (W : Nat → Int32) (b : Nat) : Nat := (List.range' 0 (nH W)).foldl (pRankF W b) 0
def pThirsty (W : Nat → Int32) (x : Int32) : Option Nat := (List.range' 0 (nH W)).find? fun b => decide (nI (pRank W b) = x)
def pSpare (W : Nat → Int32) (s : Nat) : Int32 := pGives W s - pAsked W (nI s)
def pStrainier (W : Nat → Int32) (a b : Nat) : Bool := pOpen W a && (if pSpare W a < pSpare W b then true else if pSpare W a = pSpare W b then decide (¬ b ≤ a) else false)
def pSrankF (W : Nat → Int32) (b : Nat) (n a : Nat) : Nat := if pStrainier W a b then n + 1 else n
def pSrank (W : Nat → Int32) (b : Nat) : Nat := (List.range' 0 (nS W)).foldl (pSrankF W b) 0
def pStrained (W : Nat → Int32) (x : Int32) : Option Nat := (List.range' 0 (nS W)).find? fun b => pOpen W b && decide (nI (pSrank W b) = x)
section XTG
variable {G : xG} {d k : Nat} {h h' : xH} {T : Nat → xH → Nat → Prop} {S : List Nat} {m : Nat} {A : Nat → Nat} {V : Nat → Nat → Int32} {a b c s i j mm : Nat} {x : Int32}
theorem t_greedy_l {K : Nat} {Q : xR → xH → Prop} (q : isTw h m A V) (p : pW (V 4)) : ∀ j mm, pSet (V 4) mm → bFree (nS (V 4)) mm ≤ j → Q (.inl (some (xi (if pPlan (V 4) (pGreedyN (V 4) j mm) then nI (pGreedyN (V 4) j mm) else -6)))) h → xWp G mX3_greedy 6 K Q k 4 [some (xr (some m)), some (xi (nI mm)), some (xi (1 : Int32)), none] [] h := by
  have p4 := p.2.2.2
  intro j
  induction j with
  | zero =>
    intro mm hm hf hQ
    have hm' := pSet_lt p hm
    have fin : xWp G mX3_greedy 6 K Q k 4 [some (xr (some m)), some (xi (nI mm)), some (xi (0 : Int32)), none] [] h := by
      refine vc_X3_greedy_4 ⟨fun _ => ⟨q.cl, t_isPlan_c (by decide) q p hm' ⟨fun z => ?_, fun z => ?_⟩⟩, fun z => absurd rfl z⟩
      · unfold pGreedyN at hQ; rw [xb0.mp z, if_neg Bool.false_ne_true] at hQ; exact hQ
      · unfold pGreedyN at hQ; rw [xb1.mp z, if_pos rfl] at hQ; exact hQ
    refine vc_X3_greedy_4 ⟨fun z => absurd z (by decide), fun _ => ⟨q.cl, t_next_c (by decide) q p hm fun hl => ?_⟩⟩
    have hf' := pNext_free (W := V 4) (mm := mm) (nS (V 4)) 0 none (fun t e => by cases e)
    have hno : pNext (V 4) mm = none := by
      cases e : pNext (V 4) mm with
      | none => rfl
      | some t => exact absurd (b_free p4 hm (hl t e) (hf' t e)) (by omega)
    rw [hno]
    refine ⟨fun _ => ⟨fun _ => ?_, fun z => absurd rfl z⟩, fun z => absurd (by decide) z⟩
    rw [or_0]
    exact fin
  | succ j ih =>
    intro mm hm hf hQ
    have hm' := pSet_lt p hm
    have fin : Q (.inl (some (xi (if pPlan (V 4) mm then nI mm else -6)))) h → xWp G mX3_greedy 6 K Q k 4 [some (xr (some m)), some (xi (nI mm)), some (xi (0 : Int32)), none] [] h := by
      intro hQ
      refine vc_X3_greedy_4 ⟨fun _ => ⟨q.cl, t_isPlan_c (by decide) q p hm' ⟨fun z => ?_, fun z => ?_⟩⟩, fun z => absurd rfl z⟩
      · rw [xb0.mp z, if_neg Bool.false_ne_true] at hQ; exact hQ
      · rw [xb1.mp z, if_pos rfl] at hQ; exact hQ
    refine vc_X3_greedy_4 ⟨fun z => absurd z (by decide), fun _ => ⟨q.cl, t_next_c (by decide) q p hm fun hl => ?_⟩⟩
    have hf' := pNext_free (W := V 4) (mm := mm) (nS (V 4)) 0 none (fun t e => by cases e)
    unfold pGreedyN at hQ
    cases e : pNext (V 4) mm with
    | none =>
      rw [e] at hQ
      refine ⟨fun _ => ⟨fun _ => ?_, fun z => absurd rfl z⟩, fun z => absurd (by decide) z⟩
      rw [or_0]
      exact fin hQ
    | some t =>
      rw [e] at hQ
      simp only at hQ
      have ht := hl t e
      have hfr := b_free p4 hm ht (hf' t e)
      obtain ⟨o1, o2⟩ := b_orlt p4 hm ht
      have eo : (nI mm ||| ((1 : Int32) <<< (nI t &&& 31))) = nI (mm ||| 1 <<< t) := (b_or hm' (by omega)).1
      have on : pGoes (V 4) mm t = true → xWp G mX3_greedy 6 K Q k 4 [some (xr (some m)), some (xi (nI mm ||| ((1 : Int32) <<< (nI t &&& 31)))), some (xi (1 : Int32)), none] [] h := by
        intro hg
        rw [eo]
        rw [hg, if_pos rfl] at hQ
        exact ih _ o1 (by omega) hQ
      have off : pGoes (V 4) mm t = false → xWp G mX3_greedy 6 K Q k 4 [some (xr (some m)), some (xi (nI mm ||| (0 : Int32))), some (xi (0 : Int32)), none] [] h := by
        intro hg
        rw [or_0]
        rw [hg, if_neg Bool.false_ne_true] at hQ
        exact fin hQ
      refine ⟨fun z => absurd z (nI_pos (by omega)), fun _ => ⟨q.cl, t_isPlan_c (by decide) q p hm' ⟨fun z => ⟨fun y => absurd y (by decide), fun _ => ?_⟩, fun z => ⟨q.cl, ?_⟩⟩⟩⟩
      · exact on (by unfold pGoes; rw [xb0.mp z]; rfl)
      · have hp := xb1.mp z
        show xCall _ _ _ _ [_, xi (nI mm ||| ((1 : Int32) <<< (nI t &&& 31)))] _ _
        rw [eo]
        refine t_costOf_c (by decide) q p o1 (pPlan_of o2) ⟨q.cl, t_costOf_c (by decide) q p hm hp ⟨fun y => ⟨fun _ => ?_, fun w => absurd rfl w⟩, fun y => ⟨fun w => absurd w (by decide), fun _ => ?_⟩⟩⟩
        · exact off (by unfold pGoes; rw [hp, decide_eq_false (fun w => w y)]; rfl)
        · exact on (by unfold pGoes; rw [hp, decide_eq_true y]; rfl)
theorem t_greedy_c {F : Int32 → xH → Nat → Prop} (hd : 6 < d) (q : isTw h m A V) (p : pW (V 4)) (hQ : F (pGreedyA (V 4)) h k) : xCall G d k mX3_greedy [xr (some m)] h (xkI F T) :=
  xCall_of (d' := 6) hd (Nat.zero_le k) (vc_X3_greedy (t_greedy_l q p 6 0 (Nat.two_pow_pos _) ((by decide : ∀ n : Fin 7, bFree n.1 0 ≤ 6) ⟨nS (V 4), by have := p.2.2.2; omega⟩) hQ))
theorem t_swap_2 {K : Nat} {Q : xR → xH → Prop} {out : Nat} (q : isTw h m A V) (p : pW (V 4)) (hm : pSet (V 4) mm) (ho : out < nS (V 4))
    (go : ∀ st : Int32 × Int32, xWp G mX3_swap 5 K Q k 30 [some (xr (some m)), some (xi (nI mm)), some (xi st.1), some (xi st.2), some (xi (nI (out + 1))), none, none] [] h ∨ True)
    (g : Int32 × Int32 → Prop) (hg : ∀ st, g st → xWp G mX3_swap 5 K Q k 30 [some (xr (some m)), some (xi (nI mm)), some (xi st.1), some (xi st.2), some (xi (nI (out + 1))), none, none] [] h) :
    ∀ j i (st : Int32 × Int32), i + j = nS (V 4) → g ((List.range' i j).foldl (pSwapF (V 4) mm out) st) → xWp G mX3_swap 5 K Q k 44 [some (xr (some m)), some (xi (nI mm)), some (xi st.1), some (xi st.2), some (xi (nI out)), some (xi (nI i)), none] [] h := by
  have p4 := p.2.2.2
  have hm' := pSet_lt p hm
  intro j
  induction j with
  | zero => exact fun i st hi hQ => vc_X3_swap_44 ⟨q.cl, _, q.rr 4 (by decide), _, rfl, q.kk 4 (by decide), 3, rfl, by decide, (by rw [q.ll 4 (by decide)]; decide), _, (q.vv 4 (by decide)).trans (congrArg xi p.2.2.1), fun _ => by rw [nI_1]; exact hg _ hQ, fun z => absurd (nI_le (by omega) (by omega)) z⟩
  | succ j ih =>
    intro i st hi hQ
    rw [List.range'_succ, List.foldl_cons] at hQ
    have go : ∀ st', pSwapF (V 4) mm out st i = st' → xWp G mX3_swap 5 K Q k 44 [some (xr (some m)), some (xi (nI mm)), some (xi st'.1), some (xi st'.2), some (xi (nI out)), some (xi (nI (i + 1))), none] [] h := by
      intro st' e
      subst e
      exact ih (i + 1) _ (by omega) hQ
    refine vc_X3_swap_44 ⟨q.cl, _, q.rr 4 (by decide), _, rfl, q.kk 4 (by decide), 3, rfl, by decide, (by rw [q.ll 4 (by decide)]; decide), _, (q.vv 4 (by decide)).trans (congrArg xi p.2.2.1), fun z => absurd ((nI_leI (by omega) (by omega)).mp z) (by omega), fun _ => t_has_c (by decide) hm' (by omega) ⟨fun z => ?_, fun z => t_has_c (by decide) hm' (by omega) ⟨fun y => ?_, fun y => ?_⟩⟩⟩
    · rw [nI_1]
      exact go st (by unfold pSwapF; rw [xb0.mp z]; rfl)
    · intro n21 e21
      rw [b_off hm' (by omega) (by omega)] at e21
      subst e21
      have o1 := b_offlt p4 hm ho
      obtain ⟨o2, o3⟩ := b_orlt p4 o1 (show i < nS (V 4) by omega)
      refine ⟨q.cl, t_costOf_c (by decide) q p o2 (pPlan_of o3) ⟨fun w => ?_, fun w => ?_⟩⟩
      · rw [nI_1]
        exact go (10 * nI out + nI i, pCost (V 4) (bOff mm out ||| 1 <<< i)) (by unfold pSwapF; rw [xb1.mp z, xb0.mp y]; simp only [Bool.not_false, Bool.and_self, ↓reduceIte]; rw [if_pos w])
      · rw [nI_1]
        exact go st (by unfold pSwapF; rw [xb1.mp z, xb0.mp y]; simp only [Bool.not_false, Bool.and_self, ↓reduceIte]; rw [if_neg w])
    · rw [nI_1]
      exact go st (by unfold pSwapF; rw [xb1.mp z, xb1.mp y]; rfl)
theorem t_swap_1 {K : Nat} {Q : xR → xH → Prop} (q : isTw h m A V) (p : pW (V 4)) (hm : pSet (V 4) mm) :
    ∀ j i (st : Int32 × Int32), i + j = nS (V 4) → Q (.inl (some (xi ((List.range' i j).foldl (pSwapG (V 4) mm) st).1))) h → xWp G mX3_swap 5 K Q k 30 [some (xr (some m)), some (xi (nI mm)), some (xi st.1), some (xi st.2), some (xi (nI i)), none, none] [] h := by
  have p4 := p.2.2.2
  intro j
  induction j with
  | zero => exact fun i st hi hQ => vc_X3_swap_30 ⟨q.cl, _, q.rr 4 (by decide), _, rfl, q.kk 4 (by decide), 3, rfl, by decide, (by rw [q.ll 4 (by decide)]; decide), _, (q.vv 4 (by decide)).trans (congrArg xi p.2.2.1), fun _ => hQ, fun z => absurd (nI_le (by omega) (by omega)) z⟩
  | succ j ih =>
    intro i st hi hQ
    rw [List.range'_succ, List.foldl_cons] at hQ
    refine vc_X3_swap_30 ⟨q.cl, _, q.rr 4 (by decide), _, rfl, q.kk 4 (by decide), 3, rfl, by decide, (by rw [q.ll 4 (by decide)]; decide), _, (q.vv 4 (by decide)).trans (congrArg xi p.2.2.1), fun z => absurd ((nI_leI (by omega) (by omega)).mp z) (by omega), fun _ => ?_⟩
    exact t_swap_2 q p hm (by omega) (fun _ => Or.inr trivial) (fun st' => Q (.inl (some (xi ((List.range' (i + 1) j).foldl (pSwapG (V 4) mm) st').1))) h) (fun st' hq => ih (i + 1) st' (by omega) hq) (nS (V 4)) 0 st (by omega) hQ
theorem t_swap_c {F : Int32 → xH → Nat → Prop} (hd : 5 < d) (q : isTw h m A V) (p : pW (V 4)) (hQ : F (pSwapA (V 4) x) h k) : xCall G d k mX3_swap [xr (some m), xi x] h (xkI F T) := by
  have h64 := (b_pow p.2.2.2).2
  unfold pSwapA at hQ
  refine xCall_of (d' := 5) hd (Nat.zero_le k) (vc_X3_swap ⟨q.cl, t_isSet_c (by decide) q p ⟨fun z => ?_, fun z => ?_⟩⟩)
  · have hb := xb1.mp z
    obtain ⟨s, hs, rfl⟩ := (pHas_iff (by omega)).mp hb
    rw [hb, if_pos rfl, nI_clamp (by omega)] at hQ
    refine ⟨fun y => ⟨q.cl, ?_⟩, fun y => ?_⟩
    · have h0 : s ≠ 0 := fun e => y (by rw [e]; rfl)
      rw [if_neg h0] at hQ
      exact t_costOf_c (by decide) q p hs (pPlan_of h0) (t_swap_1 q p hs (nS (V 4)) 0 (-6, pCost (V 4) s) (by omega) hQ)
    · rw [if_pos ((nI_eq (by omega) (by decide)).mp y)] at hQ
      exact hQ
  · rw [xb0.mp z, if_neg Bool.false_ne_true] at hQ
    exact hQ
theorem t_saves_c {F : Int32 → xH → Nat → Prop} (hd : 5 < d) (q : isTw h m A V) (p : pW (V 4)) (hQ : F (pSavesA (V 4) x) h k) : xCall G d k mX3_saves [xr (some m), xi x] h (xkI F T) := by
  have p4 := p.2.2.2
  unfold pSavesA at hQ
  refine xCall_of (d' := 5) hd (Nat.zero_le k) (vc_X3_saves ⟨q.cl, t_isSite_c (by decide) q p ⟨fun z => ?_, fun z => ⟨q.cl, ?_⟩⟩⟩)
  · rw [xb0.mp z, if_neg Bool.false_ne_true] at hQ; exact hQ
  · have hb := xb1.mp z
    obtain ⟨s, hs, rfl⟩ := (pHas_iff (by omega)).mp hb
    rw [hb, if_pos rfl, nI_clamp (by omega)] at hQ
    refine t_isWell_c (by decide) q (by omega) ⟨fun y => ?_, fun y => ⟨q.cl, t_openOnes_c (by decide) q p fun hl => ⟨fun w => ⟨q.cl, t_openOnes_c (by decide) q p fun _ => ⟨q.cl, ?_⟩⟩, fun w => ?_⟩⟩⟩
    · rw [xb1.mp y, if_pos rfl] at hQ; exact hQ
    · have h0 : pMask (V 4) ≠ 0 := fun e => w (by rw [e]; rfl)
      rw [xb0.mp y, if_neg Bool.false_ne_true, if_neg h0] at hQ
      obtain ⟨o1, o2⟩ := b_orlt p4 (pMask_ok p) hs
      refine t_costOf_c (by decide) q p (pMask_ok p) (pPlan_of h0) ⟨q.cl, t_openOnes_c (by decide) q p fun _ => ⟨q.cl, ?_⟩⟩
      show xCall _ _ _ _ [_, xi (nI (pMask (V 4)) ||| ((1 : Int32) <<< (nI s &&& 31)))] _ _
      rw [(b_or hl (by omega)).1]
      exact t_costOf_c (by decide) q p o1 (pPlan_of o2) hQ
    · have h0 : pMask (V 4) = 0 := (nI_eq (by omega) (by decide)).mp w
      rw [xb0.mp y, if_neg Bool.false_ne_true, if_pos h0] at hQ
      exact hQ
end XTG

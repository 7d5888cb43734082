/-! the twin's looks, as functions of its row -/
def pH (W : Nat → Int32) (i c : Nat) : Int32 := W (13 + 6 * i + c)
def pS (W : Nat → Int32) (s c : Nat) : Int32 := W (61 + 8 * s + c)
def nH (W : Nat → Int32) : Nat := (W 2).toNatClampNeg
def nS (W : Nat → Int32) : Nat := (W 3).toNatClampNeg
def pW (W : Nat → Int32) : Prop := W 2 = nI (nH W) ∧ nH W ≤ 8 ∧ W 3 = nI (nS W) ∧ nS W ≤ 6
def pAway (a b : Int32) : Int32 := if b ≤ a then a - b else b - a
def pFar (W : Nat → Int32) (a s : Nat) : Int32 := pAway (pH W a 0) (pS W s 0) + pAway (pH W a 1) (pS W s 1)
def pOpen (W : Nat → Int32) (s : Nat) : Bool := decide (pS W s 5 = 1)
def pPump (W : Nat → Int32) (s : Nat) : Bool := decide (pS W s 6 = 1)
def pPrice (W : Nat → Int32) (s : Nat) : Int32 := pS W s 4 + pS W s 3 / 4
def pCut (x : Int32) : Int32 := if 0 ≤ x then x else 0
def pGives (W : Nat → Int32) (s : Nat) : Int32 := pCut (if pPump W s then 40 - pS W s 3 else 10 - pS W s 3 / 4)
def pMaskF (W : Nat → Int32) (m s : Nat) : Nat := if pOpen W s then m ||| 1 <<< s else m
def pMask (W : Nat → Int32) : Nat := (List.range' 0 (nS W)).foldl (pMaskF W) 0
def oI (o : Option Nat) : Int32 := match o with | none => -1 | some s => nI s
def pNearF (W : Nat → Int32) (a mm : Nat) (b : Option Nat) (s : Nat) : Option Nat := if mm.testBit s then (match b with | none => some s | some t => if pFar W a t ≤ pFar W a s then some t else some s) else b
def pNear (W : Nat → Int32) (a mm : Nat) : Option Nat := (List.range' 0 (nS W)).foldl (pNearF W a mm) none
def pWell (W : Nat → Int32) (a : Nat) : Option Nat := pNear W a (pMask W)
def pManyF (W : Nat → Int32) (s : Int32) (n : Nat) (a : Nat) : Nat := if oI (pWell W a) = s then n + 1 else n
def pMany (W : Nat → Int32) (s : Int32) : Nat := (List.range' 0 (nH W)).foldl (pManyF W s) 0
def pAskedF (W : Nat → Int32) (s : Int32) (n : Int32) (a : Nat) : Int32 := if oI (pWell W a) = s then n + pH W a 2 else n
def pAsked (W : Nat → Int32) (s : Int32) : Int32 := (List.range' 0 (nH W)).foldl (pAskedF W s) 0
def pPeople (W : Nat → Int32) : Int32 := (List.range' 0 (nH W)).foldl (fun n a => n + pH W a 2) 0
theorem xb0 {c : Bool} : xb c = 0 ↔ c = false := by cases c <;> decide
theorem xb1 {c : Bool} : ¬ xb c = 0 ↔ c = true := by cases c <;> decide
theorem b_or {m s : Nat} (hm : m < 64) (hs : s < 6) : (nI m ||| ((1 : Int32) <<< (nI s &&& 31))) = nI (m ||| 1 <<< s) ∧ m ||| 1 <<< s < 64 :=
  (by decide +kernel : ∀ (a : Fin 64) (b : Fin 6), (nI a.1 ||| ((1 : Int32) <<< (nI b.1 &&& 31))) = nI (a.1 ||| 1 <<< b.1) ∧ a.1 ||| 1 <<< b.1 < 64) ⟨m, hm⟩ ⟨s, hs⟩
theorem b_has {m s : Nat} (hm : m < 64) (hs : s < 6) : (((nI m >>> (nI s &&& 31)) &&& (1 : Int32)) = (1 : Int32) ↔ m.testBit s = true) :=
  (by decide +kernel : ∀ (a : Fin 64) (b : Fin 6), (((nI a.1 >>> (nI b.1 &&& 31)) &&& (1 : Int32)) = (1 : Int32) ↔ a.1.testBit b.1 = true)) ⟨m, hm⟩ ⟨s, hs⟩
theorem or_0 (x : Int32) : x ||| (0 : Int32) = x := Int32.or_zero
theorem pMaskF_lt {W : Nat → Int32} {m s : Nat} (hm : m < 64) (hs : s < 6) : pMaskF W m s < 64 := by
  unfold pMaskF
  split
  · exact (b_or hm hs).2
  · exact hm
section XTL
variable {G : xG} {d k : Nat} {h h' : xH} {T : Nat → xH → Nat → Prop} {S : List Nat} {m : Nat} {A : Nat → Nat} {V : Nat → Nat → Int32} {a b c s i j mm : Nat}
theorem t_hI {F : Int32 → xH → Nat → Prop} (hd : 1 < d) (q : isTw h m A V) (a c : Nat) (hi : 13 + 6 * a + c < 112) (hQ : F (pH (V 4) a c) h k) : xCall G d k mX3_hamletIs [xr (some m), xi (nI a), xi (nI c)] h (xkI F T) := t_hamletIs_c hd q hi hQ
theorem t_sI {F : Int32 → xH → Nat → Prop} (hd : 1 < d) (q : isTw h m A V) (a c : Nat) (hi : 61 + 8 * a + c < 112) (hQ : F (pS (V 4) a c) h k) : xCall G d k mX3_siteIs [xr (some m), xi (nI a), xi (nI c)] h (xkI F T) := t_siteIs_c hd q hi hQ
theorem t_away_c {F : Int32 → xH → Nat → Prop} {x y : Int32} (hd : 1 < d) (hQ : F (pAway x y) h k) : xCall G d k mX3_away [xi x, xi y] h (xkI F T) := by
  unfold pAway at hQ
  refine xCall_of (d' := 1) hd (Nat.zero_le k) (vc_X3_away ⟨fun z => ?_, fun z => ?_⟩)
  · rw [if_pos z] at hQ; exact hQ
  · rw [if_neg z] at hQ; exact hQ
theorem t_far_c {F : Int32 → xH → Nat → Prop} (hd : 2 < d) (q : isTw h m A V) (ha : a < 8) (hs : s < 6) (hQ : F (pFar (V 4) a s) h k) : xCall G d k mX3_far [xr (some m), xi (nI a), xi (nI s)] h (xkI F T) :=
  xCall_of (d' := 2) hd (Nat.zero_le k) (vc_X3_far ⟨q.cl, t_hI (by decide) q a 0 (by omega) ⟨q.cl, t_sI (by decide) q s 0 (by omega) (t_away_c (by decide) ⟨q.cl, t_hI (by decide) q a 1 (by omega) ⟨q.cl, t_sI (by decide) q s 1 (by omega) (t_away_c (by decide) hQ)⟩⟩)⟩⟩)
theorem t_has_c {F : Int32 → xH → Nat → Prop} (hd : 1 < d) (hm : mm < 64) (hs : s < 6) (hQ : F (xb (mm.testBit s)) h k) : xCall G d k mX3_has [xi (nI mm), xi (nI s)] h (xkI F T) := by
  refine xCall_of (d' := 1) hd (Nat.zero_le k) (vc_X3_has ⟨fun z => ?_, fun z => ?_⟩)
  · have : mm.testBit s = false := Bool.eq_false_iff.mpr fun y => z ((b_has hm hs).mpr y)
    rw [this] at hQ; exact hQ
  · rw [(b_has hm hs).mp z] at hQ; exact hQ
theorem t_isWell_c {F : Int32 → xH → Nat → Prop} (hd : 2 < d) (q : isTw h m A V) (hs : s < 6) (hQ : F (xb (pOpen (V 4) s)) h k) : xCall G d k mX3_isWell [xr (some m), xi (nI s)] h (xkI F T) := by
  unfold pOpen at hQ
  refine xCall_of (d' := 2) hd (Nat.zero_le k) (vc_X3_isWell ⟨q.cl, t_sI (by decide) q s 5 (by omega) ⟨fun z => ?_, fun z => ?_⟩⟩)
  · rw [decide_eq_false z] at hQ; exact hQ
  · rw [decide_eq_true z] at hQ; exact hQ
theorem t_hasPump_c {F : Int32 → xH → Nat → Prop} (hd : 2 < d) (q : isTw h m A V) (hs : s < 6) (hQ : F (xb (pPump (V 4) s)) h k) : xCall G d k mX3_hasPump [xr (some m), xi (nI s)] h (xkI F T) := by
  unfold pPump at hQ
  refine xCall_of (d' := 2) hd (Nat.zero_le k) (vc_X3_hasPump ⟨q.cl, t_sI (by decide) q s 6 (by omega) ⟨fun z => ?_, fun z => ?_⟩⟩)
  · rw [decide_eq_false z] at hQ; exact hQ
  · rw [decide_eq_true z] at hQ; exact hQ
theorem t_price_c {F : Int32 → xH → Nat → Prop} (hd : 2 < d) (q : isTw h m A V) (hs : s < 6) (hQ : F (pPrice (V 4) s) h k) : xCall G d k mX3_price [xr (some m), xi (nI s)] h (xkI F T) :=
  xCall_of (d' := 2) hd (Nat.zero_le k) (vc_X3_price ⟨q.cl, t_sI (by decide) q s 4 (by omega) ⟨q.cl, t_sI (by decide) q s 3 (by omega) hQ⟩⟩)
theorem t_gives_c {F : Int32 → xH → Nat → Prop} (hd : 3 < d) (q : isTw h m A V) (hs : s < 6) (hQ : F (pGives (V 4) s) h k) : xCall G d k mX3_gives [xr (some m), xi (nI s)] h (xkI F T) := by
  unfold pGives pCut at hQ
  refine xCall_of (d' := 3) hd (Nat.zero_le k) (vc_X3_gives ⟨q.cl, t_hasPump_c (by decide) q hs ⟨fun z => ⟨q.cl, t_sI (by decide) q s 3 (by omega) ?_⟩, fun z => ⟨q.cl, t_sI (by decide) q s 3 (by omega) ?_⟩⟩⟩)
  · rw [xb0.mp z] at hQ
    exact ⟨fun y => by rw [if_neg Bool.false_ne_true, if_pos y] at hQ; exact hQ, fun y => by rw [if_neg Bool.false_ne_true, if_neg y] at hQ; exact hQ⟩
  · rw [xb1.mp z] at hQ
    exact ⟨fun y => by rw [if_pos rfl, if_pos y] at hQ; exact hQ, fun y => by rw [if_pos rfl, if_neg y] at hQ; exact hQ⟩
theorem t_openOnes_l {K : Nat} {Q : xR → xH → Prop} (q : isTw h m A V) (p : pW (V 4)) : ∀ j i mm, i + j = nS (V 4) → mm < 64 → ((List.range' i j).foldl (pMaskF (V 4)) mm < 64 → Q (.inl (some (xi (nI ((List.range' i j).foldl (pMaskF (V 4)) mm))))) h) → xWp G mX3_openOnes 3 K Q k 4 [some (xr (some m)), some (xi (nI mm)), some (xi (nI i))] [] h := by
  have p4 := p.2.2.2
  intro j
  induction j with
  | zero => exact fun i mm hi hm hQ => vc_X3_openOnes_4 ⟨q.cl, _, q.rr 4 (by decide), _, rfl, q.kk 4 (by decide), 3, rfl, by decide, (by rw [q.ll 4 (by decide)]; decide), _, (q.vv 4 (by decide)).trans (congrArg xi p.2.2.1), fun _ => hQ hm, fun z => absurd (nI_le (by omega) (by omega)) z⟩
  | succ j ih =>
    intro i mm hi hm hQ
    have hl := pMaskF_lt (W := V 4) (s := i) hm (by omega)
    refine vc_X3_openOnes_4 ⟨q.cl, _, q.rr 4 (by decide), _, rfl, q.kk 4 (by decide), 3, rfl, by decide, (by rw [q.ll 4 (by decide)]; decide), _, (q.vv 4 (by decide)).trans (congrArg xi p.2.2.1), fun z => absurd ((nI_leI (by omega) (by omega)).mp z) (by omega), fun _ => ⟨q.cl, t_isWell_c (by decide) q (by omega) ⟨fun z => ?_, fun z => ?_⟩⟩⟩
    · rw [nI_1, or_0]
      have e : pMaskF (V 4) mm i = mm := by unfold pMaskF; rw [xb0.mp z]; rfl
      rw [List.range'_succ, List.foldl_cons, e] at hQ
      exact ih (i + 1) mm (by omega) hm hQ
    · rw [nI_1, (b_or hm (by omega)).1]
      have e : pMaskF (V 4) mm i = mm ||| 1 <<< i := by unfold pMaskF; rw [xb1.mp z]; rfl
      rw [List.range'_succ, List.foldl_cons, e] at hQ
      exact ih (i + 1) _ (by omega) (e ▸ hl) hQ
theorem t_openOnes_c {F : Int32 → xH → Nat → Prop} (hd : 3 < d) (q : isTw h m A V) (p : pW (V 4)) (hQ : pMask (V 4) < 64 → F (nI (pMask (V 4))) h k) : xCall G d k mX3_openOnes [xr (some m)] h (xkI F T) :=
  xCall_of (d' := 3) hd (Nat.zero_le k) (vc_X3_openOnes (t_openOnes_l q p (nS (V 4)) 0 0 (by omega) (by decide) hQ))
theorem pNearF_lt {W : Nat → Int32} {o : Option Nat} (ho : ∀ t, o = some t → t < 6) (hi : i < 6) : ∀ t, pNearF W a mm o i = some t → t < 6 := by
  intro t ht
  unfold pNearF at ht
  by_cases hb : mm.testBit i
  · rw [if_pos hb] at ht
    rcases o with _ | u
    · cases ht; exact hi
    · simp only at ht
      by_cases hc : pFar W a u ≤ pFar W a i
      · rw [if_pos hc] at ht; exact ho t ht
      · rw [if_neg hc] at ht; cases ht; exact hi
  · rw [if_neg hb] at ht; exact ho t ht
theorem t_nearest_l {K : Nat} {Q : xR → xH → Prop} (q : isTw h m A V) (p : pW (V 4)) (ha : a < 8) (hm : mm < 64) : ∀ j i o, i + j = nS (V 4) → (∀ t, o = some t → t < 6) → ((∀ t, (List.range' i j).foldl (pNearF (V 4) a mm) o = some t → t < 6) → Q (.inl (some (xi (oI ((List.range' i j).foldl (pNearF (V 4) a mm) o))))) h) → xWp G mX3_nearest 3 K Q k 5 [some (xr (some m)), some (xi (nI a)), some (xi (nI mm)), some (xi (oI o)), some (xi (nI i))] [] h := by
  have p4 := p.2.2.2
  intro j
  induction j with
  | zero => exact fun i o hi ho hQ => vc_X3_nearest_5 ⟨q.cl, _, q.rr 4 (by decide), _, rfl, q.kk 4 (by decide), 3, rfl, by decide, (by rw [q.ll 4 (by decide)]; decide), _, (q.vv 4 (by decide)).trans (congrArg xi p.2.2.1), fun _ => hQ ho, fun z => absurd (nI_le (by omega) (by omega)) z⟩
  | succ j ih =>
    intro i o hi ho hQ
    have hl := pNearF_lt (W := V 4) (a := a) (mm := mm) ho (show i < 6 by omega)
    rw [List.range'_succ, List.foldl_cons] at hQ
    have go : ∀ o', pNearF (V 4) a mm o i = o' → xWp G mX3_nearest 3 K Q k 5 [some (xr (some m)), some (xi (nI a)), some (xi (nI mm)), some (xi (oI o')), some (xi (nI (i + 1)))] [] h := by
      intro o' e
      subst e
      exact ih (i + 1) _ (by omega) hl hQ
    refine vc_X3_nearest_5 ⟨q.cl, _, q.rr 4 (by decide), _, rfl, q.kk 4 (by decide), 3, rfl, by decide, (by rw [q.ll 4 (by decide)]; decide), _, (q.vv 4 (by decide)).trans (congrArg xi p.2.2.1), fun z => absurd ((nI_leI (by omega) (by omega)).mp z) (by omega), fun _ => t_has_c (by decide) hm (by omega) ⟨fun z => ?_, fun z => ?_⟩⟩
    · rw [nI_1]
      exact go o (by unfold pNearF; rw [xb0.mp z]; rfl)
    · have hb := xb1.mp z
      rw [nI_1]
      rcases o with _ | u
      · exact ⟨fun _ => go (some i) (by unfold pNearF; rw [hb]; rfl), fun y => absurd (by decide) y⟩
      · have hu := ho u rfl
        refine ⟨fun y => absurd y (nI_pos (by omega)), fun _ => ⟨q.cl, t_far_c (by decide) q ha (by omega) ⟨q.cl, t_far_c (by decide) q ha hu ⟨fun y => ?_, fun y => ?_⟩⟩⟩⟩
        · exact go (some u) (by unfold pNearF; rw [hb]; simp only [↓reduceIte]; rw [if_pos y])
        · exact go (some i) (by unfold pNearF; rw [hb]; simp only [↓reduceIte]; rw [if_neg y])
theorem t_nearest_c {F : Int32 → xH → Nat → Prop} (hd : 3 < d) (q : isTw h m A V) (p : pW (V 4)) (ha : a < 8) (hm : mm < 64) (hQ : (∀ t, pNear (V 4) a mm = some t → t < 6) → F (oI (pNear (V 4) a mm)) h k) : xCall G d k mX3_nearest [xr (some m), xi (nI a), xi (nI mm)] h (xkI F T) :=
  xCall_of (d' := 3) hd (Nat.zero_le k) (vc_X3_nearest (t_nearest_l q p ha hm (nS (V 4)) 0 none (by omega) (fun t e => by cases e) hQ))
theorem t_well_c {F : Int32 → xH → Nat → Prop} (hd : 4 < d) (q : isTw h m A V) (p : pW (V 4)) (ha : a < 8) (hQ : (∀ t, pWell (V 4) a = some t → t < 6) → F (oI (pWell (V 4) a)) h k) : xCall G d k mX3_well [xr (some m), xi (nI a)] h (xkI F T) :=
  xCall_of (d' := 4) hd (Nat.zero_le k) (vc_X3_well ⟨q.cl, t_openOnes_c (by decide) q p fun hm => ⟨q.cl, t_nearest_c (by decide) q p ha hm hQ⟩⟩)
end XTL

/-! the twin: its line -/
theorem nI_sub {a b : Nat} (h : b ≤ a) : nI a - nI b = nI (a - b) := by
  rw [← iI_n, ← iI_n, ← iI_n, iI_sub, Int.ofNat_sub h]
theorem nI_div {a b : Nat} (ha : a < 2147483648) (h0 : 0 < b) (hb : b < 2147483648) : nI a / nI b = nI (a / b) := by
  rw [← iI_n, ← iI_n, ← iI_n, iI_div (by omega) (by omega) (by omega) (by omega)]
  exact congrArg iI (Int.natCast_ediv a b).symm
theorem nI_m10 {a : Nat} (ha : a < 2147483648) : nI a - nI a / (10 : Int32) * (10 : Int32) = nI (a % 10) := by
  rw [show (10 : Int32) = nI 10 from rfl, nI_div ha (by decide) (by decide), nI_mul, nI_sub (by omega)]
  exact congrArg nI (by omega)
def pDj (v : Nat) : Nat → List Nat
  | 0 => []
  | j + 1 => (48 + v / 10 ^ j % 10) :: pDj v j
def pLnF (v : Nat) : Nat → Nat → Nat
  | 0, j => j + 1
  | r + 1, j => if v / 10 < 10 ^ j then j + 1 else pLnF v r (j + 1)
def pDg (v : Nat) : List Nat := pDj v (pLnF v 5 0)
theorem pDj_len (v j : Nat) : (pDj v j).length = j := by
  induction j with
  | zero => rfl
  | succ j ih => rw [pDj, List.length_cons, ih]
theorem pLnF_le (v : Nat) : ∀ r j, pLnF v r j ≤ r + j + 1
  | 0, j => by show j + 1 ≤ _; omega
  | r + 1, j => by
    have := pLnF_le v r (j + 1)
    unfold pLnF
    split <;> omega
theorem pDg_len (v : Nat) : (pDg v).length ≤ 6 := by
  have := pLnF_le v 5 0
  unfold pDg
  rw [pDj_len]
  omega
theorem pDg_1 {v : Nat} (h : v < 10) : (pDg v).length = 1 := by
  unfold pDg
  rw [pDj_len]
  unfold pLnF
  rw [if_pos (by show v / 10 < 1; omega)]
theorem t_chr {c : Nat} (h : c < 128) : ((nI c).toUInt32 % 65536).toInt32 = nI c ∧ narrow .char (.int (nI c)) = .int (nI c) :=
  (by decide +kernel : ∀ c : Fin 128, ((nI c.1).toUInt32 % 65536).toInt32 = nI c.1 ∧ narrow .char (.int (nI c.1)) = .int (nI c.1)) ⟨c, h⟩
def tLn (V : Nat → Nat → Int32) (cs : List Nat) : Prop := V 13 0 = nI cs.length ∧ cs.length ≤ 40 ∧ ∀ i c, cs[i]? = some c → V 12 i = nI c
def tO (V V' : Nat → Nat → Int32) : Prop := ∀ g, g ≠ 12 → g ≠ 13 → V' g = V g
theorem tO.rf {V : Nat → Nat → Int32} : tO V V := fun _ _ _ => rfl
theorem tO.tr {V V' V'' : Nat → Nat → Int32} (a : tO V V') (b : tO V' V'') : tO V V'' := fun g h1 h2 => (b g h1 h2).trans (a g h1 h2)
theorem tO.w {V V' : Nat → Nat → Int32} (a : tO V V') : V' 4 = V 4 := a 4 (by decide) (by decide)
def pN (x : Int32) : Prop := ∃ v, v < 1000000 ∧ x = nI v
def pTx (x : Int32) : List Nat := pDg x.toNatClampNeg
theorem pTx_n {v : Nat} (h : v < 1000000) : pTx (nI v) = pDg v := by unfold pTx; rw [nI_clamp (by omega)]
theorem pTx_len (x : Int32) : (pTx x).length ≤ 6 := pDg_len _
def pPl (x y : Int32) : List Nat := 64 :: pTx x ++ 44 :: pTx y ++ [32]
theorem pPl_len (x y : Int32) : (pPl x y).length ≤ 15 := by
  have h1 := pTx_len x
  have h2 := pTx_len y
  unfold pPl
  simp only [List.length_cons, List.length_append, List.length_nil]
  omega
section XTO
variable {G : xG} {d k : Nat} {h h' h0 : xH} {T : Nat → xH → Nat → Prop} {S : List Nat} {m : Nat} {A : Nat → Nat} {V V0 : Nat → Nat → Int32} {W : Nat → Int32} {a b c s i j mm n f v : Nat} {x y z w ix : Int32} {cs : List Nat}
theorem t_puts_c {F : xH → Nat → Prop} (hd : 1 < d) (hc : c < 128) (q : isTw h m A V) (l : tLn V cs) (hl : cs.length < 40) (hx : x = nI c)
    (hQ : ∀ h' V', isTw h' m A V' → tLn V' (cs ++ [c]) → tO V V' → xMod (tS m A) h h' → F h' k) : xCall G d k mX3_puts [xr (some m), xi x] h (xkV F T) := by
  subst hx
  obtain ⟨l1, l2, l3⟩ := l
  refine xCall_of (d' := 1) hd (Nat.zero_le k) (vc_X3_puts ⟨q.cl, _, q.rr 12 (by decide), q.cl, _, (q.ff 13 rfl).trans (congrArg xi l1), _, rfl, q.kk 12 (by decide), cs.length, rfl, by omega, (by rw [q.ll 12 (by decide)]; exact hl), fun n6 e6 h5 e5 => ?_⟩)
  have e7 : n6 = nI c := by
    rw [(t_chr hc).1, (t_chr hc).2] at e6
    exact (Value.int.inj e6).symm
  subst e7
  have q5 := q.pa 12 (show cs.length < tL 12 from hl) (nI c)
  have x5 : xMod (tS m A) h h5 := e5 ▸ xMod.rf.ta (fun _ z => z) 12 (by decide) _ _
  rw [← e5] at q5
  refine ⟨q5.cl, _, q5.ff 13 rfl, q5.cl, fun h8 e8 => ?_⟩
  have q8 := q5.pf 13 rfl (tU V 12 cs.length (nI c) 13 0 + 1)
  have x8 : xMod (tS m A) h h8 := e8 ▸ x5.tf (fun _ z => z) 13 _
  rw [← e8] at q8
  refine hQ h8 _ q8 ⟨?_, by simp; omega, fun i c' hi => ?_⟩ (fun g h1 h2 => (tU_ne h2).trans (tU_ne h1)) x8
  · rw [tU_eq, congrFun (tU_ne (show 13 ≠ 12 by decide)) 0, l1, nI_1, List.length_append]
    rfl
  · rw [congrFun (tU_ne (show 12 ≠ 13 by decide)) i]
    unfold tU
    by_cases hlt : i < cs.length
    · rw [List.getElem?_append_left hlt] at hi
      rw [if_neg (fun z => by omega)]
      exact l3 i c' hi
    · rw [List.getElem?_append_right (by omega)] at hi
      have h0 : i - cs.length < 1 := (List.getElem?_eq_some_iff.mp hi).1
      have h1 : i = cs.length := by omega
      subst h1
      simp at hi
      subst hi
      rw [if_pos ⟨rfl, rfl⟩]
theorem t_putsNumber_20 {K : Nat} {Q : xR → xH → Prop} (hv : v < 1000000) : ∀ j h V cs, j ≤ 6 → isTw h m A V → tLn V cs → cs.length + j ≤ 40 → tO V0 V → xMod (tS m A) h0 h →
    (∀ h' V', isTw h' m A V' → tLn V' (cs ++ pDj v j) → tO V0 V' → xMod (tS m A) h0 h' → Q (.inl none) h') →
    xWp G mX3_putsNumber 2 K Q k 20 [some (xr (some m)), some (xi (nI v)), none, some (xi (nI (10 ^ j / 10)))] [] h := by
  intro j
  induction j with
  | zero =>
    intro h V cs hj q l hl o x hQ
    exact vc_X3_putsNumber_20 ⟨fun _ => hQ h V q (by rw [pDj, List.append_nil]; exact l) o x, fun z => absurd (by decide) z⟩
  | succ j ih =>
    intro h V cs hj q l hl o x hQ
    have h10 : 10 ^ (j + 1) / 10 = 10 ^ j := by rw [Nat.pow_succ]; omega
    have hp : 0 < 10 ^ j := Nat.pow_pos (by decide)
    have hle : 10 ^ j ≤ 100000 := Nat.pow_le_pow_right (by decide) (show j ≤ 5 by omega)
    rw [h10]
    have hdg : v / 10 ^ j ≤ v := Nat.div_le_self _ _
    refine vc_X3_putsNumber_20 ⟨fun z => absurd z (nI_nle hp (by omega)), fun _ => ⟨nI_ne0 hp (by omega), q.cl, t_puts_c (c := 48 + v / 10 ^ j % 10) (by decide) (by omega) q l (by omega) ?_ fun h1 V1 q1 l1 o1 x1 => ?_⟩⟩
    · rw [nI_div (by omega) hp (by omega), nI_m10 (by omega), show (48 : Int32) = nI 48 from rfl, nI_add]
    · rw [show (10 : Int32) = nI 10 from rfl, nI_div (by omega) (by decide) (by decide)]
      refine ih h1 V1 _ (by omega) q1 l1 (by simp; omega) (o.tr o1) (x.tr x1) fun h2 V2 q2 l2 o2 x2 => hQ h2 V2 q2 ?_ o2 x2
      rw [pDj]
      rw [List.append_assoc] at l2
      exact l2
theorem t_putsNumber_2 {K : Nat} {Q : xR → xH → Prop} (hv : v < 1000000) (q : isTw h m A V) (l : tLn V cs) (hl : cs.length + 6 ≤ 40) : ∀ r j, j + r = 5 → 
    (∀ h' V', isTw h' m A V' → tLn V' (cs ++ pDj v (pLnF v r j)) → tO V V' → xMod (tS m A) h h' → Q (.inl none) h') →
    xWp G mX3_putsNumber 2 K Q k 2 [some (xr (some m)), some (xi (nI v)), some (xi (nI (10 ^ j))), none] [] h := by
  have h9 : nI v / 10 = nI (v / 10) := nI_div (b := 10) (by omega) (by decide) (by decide)
  have go : ∀ j, j ≤ 5 → (∀ h' V', isTw h' m A V' → tLn V' (cs ++ pDj v (j + 1)) → tO V V' → xMod (tS m A) h h' → Q (.inl none) h') → xWp G mX3_putsNumber 2 K Q k 20 [some (xr (some m)), some (xi (nI v)), none, some (xi (nI (10 ^ j)))] [] h := by
    intro j hj hQ
    have := t_putsNumber_20 (G := G) (K := K) (k := k) hv (j + 1) h V cs (by omega) q l (by omega) tO.rf xMod.rf hQ
    rw [show 10 ^ (j + 1) / 10 = 10 ^ j by rw [Nat.pow_succ]; omega] at this
    exact this
  intro r
  induction r with
  | zero =>
    intro j hj hQ
    have e : j = 5 := by omega
    subst e
    exact vc_X3_putsNumber_2 ⟨fun _ => go 5 (by decide) hQ, fun z => absurd (by rw [h9]; exact nI_lt (show v / 10 < 10 ^ 5 by omega) (by decide)) z⟩
  | succ r ih =>
    intro j hj hQ
    have hle : 10 ^ j ≤ 10000 := Nat.pow_le_pow_right (by decide) (show j ≤ 4 by omega)
    unfold pLnF at hQ
    refine vc_X3_putsNumber_2 ⟨fun z => ?_, fun z => ?_⟩
    · rw [h9, nI_ltI (by omega) (by omega)] at z
      rw [if_pos z] at hQ
      exact go j (by omega) hQ
    · rw [h9, nI_ltI (by omega) (by omega)] at z
      rw [if_neg z] at hQ
      rw [show (10 : Int32) = nI 10 from rfl, nI_mul, ← Nat.pow_succ]
      exact ih (j + 1) (by omega) hQ
theorem t_putsNumber_c {F : xH → Nat → Prop} (hd : 2 < d) (hx : pN x) (q : isTw h m A V) (l : tLn V cs) (hl : cs.length + 6 ≤ 40)
    (hQ : ∀ h' V', isTw h' m A V' → tLn V' (cs ++ pTx x) → tO V V' → xMod (tS m A) h h' → F h' k) : xCall G d k mX3_putsNumber [xr (some m), xi x] h (xkV F T) := by
  obtain ⟨v, hv, rfl⟩ := hx
  rw [pTx_n hv] at hQ
  exact xCall_of (d' := 2) hd (Nat.zero_le k) (vc_X3_putsNumber (t_putsNumber_2 hv q l hl 5 0 rfl hQ))
theorem t_putsPlace_c {F : xH → Nat → Prop} (hd : 3 < d) (hx : pN x) (hy : pN y) (q : isTw h m A V) (l : tLn V cs) (hl : cs.length + 15 ≤ 40)
    (hQ : ∀ h' V', isTw h' m A V' → tLn V' (cs ++ pPl x y) → tO V V' → xMod (tS m A) h h' → F h' k) : xCall G d k mX3_putsPlace [xr (some m), xi x, xi y] h (xkV F T) := by
  have lx := pTx_len x
  have ly := pTx_len y
  refine xCall_of (d' := 3) hd (Nat.zero_le k) (vc_X3_putsPlace ⟨q.cl, t_puts_c (c := 64) (by decide) (by decide) q l (by omega) rfl fun h1 V1 q1 l1 o1 x1 => ⟨q1.cl, t_putsNumber_c (by decide) hx q1 l1 (by simp; omega) fun h2 V2 q2 l2 o2 x2 => ⟨q2.cl, t_puts_c (c := 44) (by decide) (by decide) q2 l2 (by simp; omega) rfl fun h3 V3 q3 l3 o3 x3 => ⟨q3.cl, t_putsNumber_c (by decide) hy q3 l3 (by simp; omega) fun h4 V4 q4 l4 o4 x4 => ⟨q4.cl, t_puts_c (c := 32) (by decide) (by decide) q4 l4 (by simp; omega) rfl fun h5 V5 q5 l5 o5 x5 => hQ h5 V5 q5 ?_ (o1.tr (o2.tr (o3.tr (o4.tr o5)))) (x1.tr (x2.tr (x3.tr (x4.tr x5))))⟩⟩⟩⟩⟩)
  have e : cs ++ [64] ++ pTx x ++ [44] ++ pTx y ++ [32] = cs ++ pPl x y := by
    unfold pPl
    simp only [List.append_assoc, List.cons_append, List.nil_append]
  rw [← e]
  exact l5
/-- the well's line -/
def pLineS (W : Nat → Int32) (s : Nat) : List Nat := pDg s ++ pPl (pS W s 0) (pS W s 1) ++ pTx (pS W s 3) ++ (if pOpen W s then [111] else [45]) ++ (if pPump W s then [112] else []) ++ (pDrinks W (nI s)).map (97 + ·)
theorem t_write_l {K : Nat} {Q : xR → xH → Prop} (hs : s < 6) : ∀ j i h V cs, i + j = nH (V0 4) → isTw h m A V → pW (V0 4) → tLn V cs → cs.length + j ≤ 40 → tO V0 V → xMod (tS m A) h0 h →
    (∀ h' V', isTw h' m A V' → tLn V' (cs ++ ((List.range' i j).filter fun a => decide (oI (pWell (V0 4) a) = nI s)).map (97 + ·)) → tO V0 V' → xMod (tS m A) h0 h' → Q (.inl (some (xi (V' 13 0)))) h') →
    xWp G mX3_write 6 K Q k 81 [some (xr (some m)), some (xi (nI s)), some (xi (nI i))] [] h := by
  intro j
  induction j with
  | zero =>
    intro i h V cs hi q p l hl o x hQ
    have p' : pW (V 4) := by rw [o.w]; exact p
    have p2 := p.2.1
    refine vc_X3_write_81 ⟨q.cl, _, q.rr 4 (by decide), _, rfl, q.kk 4 (by decide), 2, rfl, by decide, (by rw [q.ll 4 (by decide)]; decide), _, (q.vv 4 (by decide)).trans (congrArg xi p'.1), fun _ => ⟨q.cl, _, q.ff 13 rfl, hQ h V q ?_ o x⟩, fun z => absurd (nI_le (by rw [o.w]; omega) (by omega)) z⟩
    rw [List.range'_zero, List.filter_nil, List.map_nil, List.append_nil]
    exact l
  | succ j ih =>
    intro i h V cs hi q p l hl o x hQ
    have p' : pW (V 4) := by rw [o.w]; exact p
    have p2 := p.2.1
    have hn : nH (V 4) = nH (V0 4) := by rw [o.w]
    refine vc_X3_write_81 ⟨q.cl, _, q.rr 4 (by decide), _, rfl, q.kk 4 (by decide), 2, rfl, by decide, (by rw [q.ll 4 (by decide)]; decide), _, (q.vv 4 (by decide)).trans (congrArg xi p'.1), fun z => absurd ((nI_leI (by omega) (by omega)).mp z) (by omega), fun _ => ⟨q.cl, t_well_c (by decide) q p' (by omega) fun hw => ⟨fun u => ?_, fun u => ⟨q.cl, t_puts_c (c := 97 + i) (by decide) (by omega) q l (by omega) (by rw [show (97 : Int32) = nI 97 from rfl, nI_add]) fun h1 V1 q1 l1 o1 x1 => ?_⟩⟩⟩⟩
    · rw [nI_1]
      rw [o.w] at u
      refine ih (i + 1) h V cs (by omega) q p l (by omega) o x ?_
      rw [List.range'_succ, List.filter_cons, if_neg (by rw [decide_eq_true_iff]; exact u)] at hQ
      exact hQ
    · rw [nI_1]
      rw [o.w] at u
      refine ih (i + 1) h1 V1 _ (by omega) q1 p l1 (by simp; omega) (o.tr o1) (x.tr x1) ?_
      rw [List.range'_succ, List.filter_cons, if_pos (by rw [decide_eq_true_iff]; exact u), List.map_cons] at hQ
      rw [List.append_assoc]
      exact hQ
theorem t_write_c {F : Int32 → xH → Nat → Prop} (hd : 6 < d) (q : isTw h m A V) (p : pW (V 4)) (hn : ∀ s, s < nS (V 4) → pN (pS (V 4) s 0) ∧ pN (pS (V 4) s 1) ∧ pN (pS (V 4) s 3))
    (h0 : pHas (nS (V 4)) x = false → F (-1) h k)
    (hQ : ∀ s, s < nS (V 4) → x = nI s → ∀ h' V', isTw h' m A V' → tLn V' (pLineS (V 4) s) → tO V V' → xMod (tS m A) h h' → F (nI (pLineS (V 4) s).length) h' k) : xCall G d k mX3_write [xr (some m), xi x] h (xkI F T) := by
  have p4 := p.2.2.2
  have p2 := p.2.1
  refine xCall_of (d' := 6) hd (Nat.zero_le k) (vc_X3_write ⟨q.cl, t_isSite_c (by decide) q p ⟨fun z => ⟨q.cl, fun h4 e4 => ?_⟩, fun z => h0 (xb0.mp z)⟩⟩)
  obtain ⟨s, hs, rfl⟩ := (pHas_iff (by omega)).mp (xb1.mp z)
  obtain ⟨n0, n1, n3⟩ := hn s hs
  have q4 := q.pf 13 rfl 0
  have x4 : xMod (tS m A) h h4 := e4 ▸ xMod.rf.tf (fun _ z => z) 13 _
  rw [← e4] at q4
  have l4 : tLn (tU V 13 0 0) [] := ⟨tU_eq, by decide, fun i c hi => by simp at hi⟩
  have o4 : tO V (tU V 13 0 0) := fun g h1 h2 => tU_ne h2
  have hds : (pDg s).length = 1 := pDg_1 (by omega)
  have hpl := pPl_len (pS (V 4) s 0) (pS (V 4) s 1)
  have ht := pTx_len (pS (V 4) s 3)
  refine ⟨q4.cl, t_putsNumber_c (by decide) ⟨s, by omega, rfl⟩ q4 l4 (by simp) fun h5 V5 q5 l5 o5 x5 => ⟨q5.cl, t_sI (by decide) q5 s 0 (by omega) ⟨q5.cl, t_sI (by decide) q5 s 1 (by omega) ⟨q5.cl, ?_⟩⟩⟩⟩
  rw [pTx_n (by omega), List.nil_append] at l5
  replace o5 := o4.tr o5
  replace x5 := x4.tr x5
  rw [o5.w]
  refine t_putsPlace_c (by decide) n0 n1 q5 l5 (by omega) fun h6 V6 q6 l6 o6 x6 => ⟨q6.cl, t_sI (by decide) q6 s 3 (by omega) ⟨q6.cl, ?_⟩⟩
  replace o6 := o5.tr o6
  replace x6 := x5.tr x6
  rw [o6.w]
  refine t_putsNumber_c (by decide) n3 q6 l6 (by rw [List.length_append]; omega) fun h7 V7 q7 l7 o7 x7 => ⟨q7.cl, t_isWell_c (by decide) q7 (by omega) ?_⟩
  replace o7 := o6.tr o7
  replace x7 := x6.tr x7
  rw [o7.w]
  have len7 : (pDg s ++ pPl (pS (V 4) s 0) (pS (V 4) s 1) ++ pTx (pS (V 4) s 3)).length ≤ 22 := by rw [List.length_append, List.length_append]; omega
  have tail : ∀ h9 V9 kk, isTw h9 m A V9 → tLn V9 (pDg s ++ pPl (pS (V 4) s 0) (pS (V 4) s 1) ++ pTx (pS (V 4) s 3) ++ (if pOpen (V 4) s then [111] else [45]) ++ (if pPump (V 4) s then [112] else [])) → tO V V9 → xMod (tS m A) h h9 → xWp G mX3_write 6 0 (fun r h' => xkI F T r h' (k - 0)) kk 81 [some (xr (some m)), some (xi (nI s)), some (xi (0 : Int32))] [] h9 := by
    intro h9 V9 kk q9 l9 o9 x9
    refine t_write_l (V0 := V) (h0 := h) (by omega) (nH (V 4)) 0 h9 V9 _ (by omega) q9 p l9 ?_ o9 x9 fun h' V' q' l' o' x' => ?_
    · have a1 : (if pOpen (V 4) s = true then [111] else [45] : List Nat).length = 1 := by split <;> rfl
      have a2 : (if pPump (V 4) s = true then [112] else [] : List Nat).length ≤ 1 := by split <;> simp
      rw [List.length_append, List.length_append]
      omega
    · show F (V' 13 0) h' k
      rw [l'.1]
      exact hQ s hs rfl h' V' q' l' o' x'
  refine ⟨fun u => ⟨q7.cl, t_puts_c (c := 45) (by decide) (by decide) q7 l7 (by omega) rfl fun h8 V8 q8 l8 o8 x8 => ⟨q8.cl, t_hasPump_c (by decide) q8 (by omega) ?_⟩⟩, fun u => ⟨q7.cl, t_puts_c (c := 111) (by decide) (by decide) q7 l7 (by omega) rfl fun h8 V8 q8 l8 o8 x8 => ⟨q8.cl, t_hasPump_c (by decide) q8 (by omega) ?_⟩⟩⟩
  · replace o8 := o7.tr o8
    replace x8 := x7.tr x8
    rw [o8.w]
    have e1 : (if pOpen (V 4) s = true then [111] else [45] : List Nat) = [45] := by rw [xb0.mp u]; rfl
    refine ⟨fun v => tail h8 V8 _ q8 ?_ o8 x8, fun v => ⟨q8.cl, t_puts_c (c := 112) (by decide) (by decide) q8 l8 (by rw [List.length_append, List.length_singleton]; omega) rfl fun h9 V9 q9 l9 o9 x9 => tail h9 V9 _ q9 ?_ (o8.tr o9) (x8.tr x9)⟩⟩
    · rw [e1, xb0.mp v]
      simp only [Bool.false_eq_true, ↓reduceIte, List.append_nil]
      exact l8
    · rw [e1, xb1.mp v]
      exact l9
  · replace o8 := o7.tr o8
    replace x8 := x7.tr x8
    rw [o8.w]
    have e1 : (if pOpen (V 4) s = true then [111] else [45] : List Nat) = [111] := by rw [xb1.mp u]; rfl
    refine ⟨fun v => tail h8 V8 _ q8 ?_ o8 x8, fun v => ⟨q8.cl, t_puts_c (c := 112) (by decide) (by decide) q8 l8 (by rw [List.length_append, List.length_singleton]; omega) rfl fun h9 V9 q9 l9 o9 x9 => tail h9 V9 _ q9 ?_ (o8.tr o9) (x8.tr x9)⟩⟩
    · rw [e1, xb0.mp v]
      simp only [Bool.false_eq_true, ↓reduceIte, List.append_nil]
      exact l8
    · rw [e1, xb1.mp v]
      exact l9
/-- the hamlet's line -/
def pLineH (W : Nat → Int32) (a : Nat) : List Nat := [97 + a] ++ pPl (pH W a 0) (pH W a 1) ++ pTx (pH W a 2) ++ (match pWell W a with | none => [] | some s => 62 :: pDg s) ++ (if pH W a 3 ≤ 0 then [] else 33 :: pTx (pH W a 3))
theorem t_writeH_t {Q : xR → xH → Prop} (q : isTw h m A V) (l : tLn V cs) (hl : cs.length ≤ 32) (ha : a < 8) (hn : pN (pH (V 4) a 3)) (x0 : xMod (tS m A) h0 h) (o : tO V0 V) (hd : 2 < d)
    (hQ : ∀ h' V', isTw h' m A V' → tLn V' (cs ++ (if pH (V 4) a 3 ≤ 0 then [] else 33 :: pTx (pH (V 4) a 3))) → tO V0 V' → xMod (tS m A) h0 h' → Q (.inl (some (xi (V' 13 0)))) h') :
    xCall G d k mX3_hamletIs [xr (some m), xi (nI a), xi (3 : Int32)] h (xkI (fun n25 h23 k24 => ((n25 ≤ 0 → xcls h23 m = 6 ∧ ∃ n26 : Int32, xval h23 m 13 = xi n26 ∧ Q (.inl (some (xi n26))) h23) ∧ (¬ n25 ≤ 0 → xcls h23 m = 6 ∧ xCall G d k24 mX3_puts [xr (some m), xi (33 : Int32)] h23 (xkV (fun h27 k28 => xcls h27 m = 6 ∧ xCall G d k28 mX3_hamletIs [xr (some m), xi (nI a), xi (3 : Int32)] h27 (xkI (fun n31 h29 k30 => xcls h29 m = 6 ∧ xCall G d k30 mX3_putsNumber [xr (some m), xi n31] h29 (xkV (fun h32 k33 => xcls h32 m = 6 ∧ ∃ n34 : Int32, xval h32 m 13 = xi n34 ∧ Q (.inl (some (xi n34))) h32) (fun q h _ => Q (.inr q) h))) (fun q h _ => Q (.inr q) h))) (fun q h _ => Q (.inr q) h))))) (fun q h _ => Q (.inr q) h)) := by
  refine t_hI (by omega) q a 3 (by omega) ⟨fun u => ⟨q.cl, _, q.ff 13 rfl, hQ h V q ?_ o x0⟩, fun u => ⟨q.cl, t_puts_c (c := 33) (by omega) (by decide) q l (by omega) rfl fun h1 V1 q1 l1 o1 x1 => ⟨q1.cl, t_hI (by omega) q1 a 3 (by omega) ⟨q1.cl, ?_⟩⟩⟩⟩
  · rw [if_pos u, List.append_nil]; exact l
  · rw [o1.w]
    refine t_putsNumber_c (by omega) hn q1 l1 (by simp; omega) fun h2 V2 q2 l2 o2 x2 => ⟨q2.cl, _, q2.ff 13 rfl, hQ h2 V2 q2 ?_ (o.tr (o1.tr o2)) (x0.tr (x1.tr x2))⟩
    rw [if_neg u]
    rw [List.append_assoc] at l2
    exact l2
theorem t_writeHamlet_c {F : Int32 → xH → Nat → Prop} (hd : 6 < d) (q : isTw h m A V) (p : pW (V 4)) (hn : ∀ a, a < nH (V 4) → pN (pH (V 4) a 0) ∧ pN (pH (V 4) a 1) ∧ pN (pH (V 4) a 2) ∧ pN (pH (V 4) a 3))
    (h0 : pHas (nH (V 4)) x = false → F (-1) h k)
    (hQ : ∀ a, a < nH (V 4) → x = nI a → ∀ h' V', isTw h' m A V' → tLn V' (pLineH (V 4) a) → tO V V' → xMod (tS m A) h h' → F (nI (pLineH (V 4) a).length) h' k) : xCall G d k mX3_writeHamlet [xr (some m), xi x] h (xkI F T) := by
  have p4 := p.2.2.2
  have p2 := p.2.1
  refine xCall_of (d' := 6) hd (Nat.zero_le k) (vc_X3_writeHamlet ⟨q.cl, t_isHamlet_c (by decide) q p ⟨fun z => ⟨q.cl, fun h4 e4 => ?_⟩, fun z => h0 (xb0.mp z)⟩⟩)
  obtain ⟨a, ha, rfl⟩ := (pHas_iff (by omega)).mp (xb1.mp z)
  obtain ⟨n0, n1, n2, n3⟩ := hn a ha
  have q4 := q.pf 13 rfl 0
  have x4 : xMod (tS m A) h h4 := e4 ▸ xMod.rf.tf (fun _ z => z) 13 _
  rw [← e4] at q4
  have l4 : tLn (tU V 13 0 0) [] := ⟨tU_eq, by decide, fun i c hi => by simp at hi⟩
  have o4 : tO V (tU V 13 0 0) := fun g h1 h2 => tU_ne h2
  have hpl := pPl_len (pH (V 4) a 0) (pH (V 4) a 1)
  have ht := pTx_len (pH (V 4) a 2)
  refine ⟨q4.cl, t_puts_c (c := 97 + a) (by decide) (by omega) q4 l4 (by decide) (by rw [show (97 : Int32) = nI 97 from rfl, nI_add]) fun h5 V5 q5 l5 o5 x5 => ⟨q5.cl, t_hI (by decide) q5 a 0 (by omega) ⟨q5.cl, t_hI (by decide) q5 a 1 (by omega) ⟨q5.cl, ?_⟩⟩⟩⟩
  rw [List.nil_append] at l5
  replace o5 := o4.tr o5
  replace x5 := x4.tr x5
  rw [o5.w]
  refine t_putsPlace_c (by decide) n0 n1 q5 l5 (by simp) fun h6 V6 q6 l6 o6 x6 => ⟨q6.cl, t_hI (by decide) q6 a 2 (by omega) ⟨q6.cl, ?_⟩⟩
  replace o6 := o5.tr o6
  replace x6 := x5.tr x6
  rw [o6.w]
  refine t_putsNumber_c (by decide) n2 q6 l6 (by rw [List.length_append, List.length_singleton]; omega) fun h7 V7 q7 l7 o7 x7 => ⟨q7.cl, t_well_c (by decide) q7 (by rw [(o6.tr o7).w]; exact p) (by omega) fun hw => ?_⟩
  replace o7 := o6.tr o7
  replace x7 := x6.tr x7
  rw [o7.w] at hw ⊢
  have len7 : ([97 + a] ++ pPl (pH (V 4) a 0) (pH (V 4) a 1) ++ pTx (pH (V 4) a 2)).length ≤ 22 := by rw [List.length_append, List.length_append, List.length_singleton]; omega
  cases ho : pWell (V 4) a with
  | none =>
    refine ⟨fun _ => ⟨q7.cl, t_writeH_t (Q := fun r h' => xkI F T r h' (k - 0)) (a := a) (d := 6) q7 l7 (by omega) (by omega) (by rw [o7.w]; exact n3) x7 o7 (by decide) fun h' V' q' l' o' x' => ?_⟩, fun u => absurd (by decide) u⟩
    show F (V' 13 0) h' k
    rw [l'.1]
    have e : pLineH (V 4) a = [97 + a] ++ pPl (pH (V 4) a 0) (pH (V 4) a 1) ++ pTx (pH (V 4) a 2) ++ (if pH (V 4) a 3 ≤ 0 then [] else 33 :: pTx (pH (V 4) a 3)) := by
      unfold pLineH
      rw [ho]
      simp only [List.append_nil]
    rw [o7.w, ← e] at l' ⊢
    exact hQ a ha rfl h' V' q' l' o' x'
  | some s =>
    have hs := hw s ho
    refine ⟨fun u => absurd u (nI_pos (show s < 2147483648 by omega)), fun _ => ⟨q7.cl, t_puts_c (c := 62) (by decide) (by decide) q7 l7 (by omega) rfl fun h8 V8 q8 l8 o8 x8 => ⟨q8.cl, t_well_c (by decide) q8 (by rw [(o7.tr o8).w]; exact p) (by omega) fun hw8 => ⟨q8.cl, ?_⟩⟩⟩⟩
    replace o8 := o7.tr o8
    replace x8 := x7.tr x8
    rw [o8.w, ho]
    have hds : (pDg s).length = 1 := pDg_1 (by omega)
    refine t_putsNumber_c (by decide) ⟨s, by omega, rfl⟩ q8 l8 (by rw [List.length_append, List.length_singleton]; omega) fun h9 V9 q9 l9 o9 x9 => ⟨q9.cl, ?_⟩
    replace o9 := o8.tr o9
    replace x9 := x8.tr x9
    change tLn V9 (_ ++ pTx (nI s)) at l9
    rw [pTx_n (v := s) (by omega)] at l9
    refine t_writeH_t (Q := fun r h' => xkI F T r h' (k - 0)) (a := a) (d := 6) q9 l9 ?_ (by omega) (by rw [o9.w]; exact n3) x9 o9 (by decide) fun h' V' q' l' o' x' => ?_
    · rw [List.length_append, List.length_append, List.length_singleton]; omega
    show F (V' 13 0) h' k
    rw [l'.1]
    have e : pLineH (V 4) a = [97 + a] ++ pPl (pH (V 4) a 0) (pH (V 4) a 1) ++ pTx (pH (V 4) a 2) ++ [62] ++ pDg s ++ (if pH (V 4) a 3 ≤ 0 then [] else 33 :: pTx (pH (V 4) a 3)) := by
      unfold pLineH
      rw [ho]
      simp only [List.append_assoc, List.cons_append, List.nil_append]
    rw [o9.w, ← e] at l' ⊢
    exact hQ a ha rfl h' V' q' l' o' x'
theorem t_written_c {F : Int32 → xH → Nat → Prop} (hd : 2 < d) (q : isTw h m A V) (l : tLn V cs) (hQ : F (if pHas cs.length x then nI (cs.getD x.toNatClampNeg 0) else -1) h k) : xCall G d k mX3_written [xr (some m), xi x] h (xkI F T) := by
  obtain ⟨l1, l2, l3⟩ := l
  refine xCall_of (d' := 2) hd (Nat.zero_le k) (vc_X3_written ⟨q.cl, _, (q.ff 13 rfl).trans (congrArg xi l1), t_isBetween_c (by decide) ⟨fun z => ?_, fun z => ?_⟩⟩)
  · have hb : pHas cs.length x = false := xb0.mp z
    rw [hb, if_neg Bool.false_ne_true] at hQ
    exact hQ
  · have hb : pHas cs.length x = true := xb1.mp z
    obtain ⟨i, hi, rfl⟩ := (pHas_iff (by omega)).mp hb
    rw [if_pos hb, nI_clamp (by omega)] at hQ
    have hc : cs[i]? = some (cs.getD i 0) := by rw [List.getD_eq_getElem?_getD, List.getElem?_eq_getElem hi]; rfl
    exact ⟨q.cl, _, q.rr 12 (by decide), _, rfl, q.kk 12 (by decide), i, rfl, by omega, by rw [q.ll 12 (by decide)]; show i < 40; omega, _, (q.vv 12 (show i < 40 by omega)).trans (congrArg xi (l3 i _ hc)), hQ⟩
end XTO

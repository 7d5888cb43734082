/-! the twin: a day, as a function of its row -/
def uW (W : Nat → Int32) (i : Nat) (v : Int32) : Nat → Int32 := fun j => if j = i then v else W j
def tW (V : Nat → Nat → Int32) (W : Nat → Int32) : Nat → Nat → Int32 := fun g j => if g = 4 then W j else V g j
theorem tW_4 {V : Nat → Nat → Int32} {W : Nat → Int32} : tW V W 4 = W := by
  funext j
  unfold tW
  rw [if_pos rfl]
theorem tW_ne {V : Nat → Nat → Int32} {W : Nat → Int32} {g : Nat} (h : g ≠ 4) : tW V W g = V g := by
  funext j
  unfold tW
  rw [if_neg h]
theorem tW_tW {V : Nat → Nat → Int32} {W W' : Nat → Int32} : tW (tW V W) W' = tW V W' := by
  funext g j
  unfold tW
  by_cases h : g = 4
  · rw [if_pos h, if_pos h]
  · rw [if_neg h, if_neg h, if_neg h]
theorem tW_id {V : Nat → Nat → Int32} : tW V (V 4) = V := by
  funext g j
  unfold tW
  by_cases h : g = 4
  · rw [if_pos h, h]
  · rw [if_neg h]
theorem tU_W {V : Nat → Nat → Int32} {i : Nat} {v : Int32} : tU V 4 i v = tW V (uW (V 4) i v) := by
  funext g j
  unfold tU tW uW
  by_cases h : g = 4
  · subst h
    by_cases h2 : j = i
    · rw [if_pos ⟨rfl, h2⟩, if_pos rfl, if_pos h2]
    · rw [if_neg (fun z => h2 z.2), if_pos rfl, if_neg h2]
  · rw [if_neg (fun z => h z.1), if_neg h]
theorem uW_eq {W : Nat → Int32} {i : Nat} {v : Int32} : uW W i v i = v := if_pos rfl
theorem uW_ne {W : Nat → Int32} {i j : Nat} {v : Int32} (h : j ≠ i) : uW W i v j = W j := if_neg h
def pThirsts (W : Nat → Int32) (a : Nat) (v : Int32) : Nat → Int32 :=
  let W1 := uW W (13 + 6 * a + 3) (W (13 + 6 * a + 3) + v)
  uW W1 5 (W1 5 + v)
theorem tThirsts_W {V : Nat → Nat → Int32} {a : Nat} {v : Int32} : tThirsts V a v = tW V (pThirsts (V 4) a v) := by
  unfold tThirsts pThirsts
  simp only [tU_W, tW_4, tW_tW]
def pSinks (W : Nat → Int32) (s : Nat) (down : Bool) : Nat → Int32 :=
  if down then (if 40 ≤ pS W s 3 then W else uW W (61 + 8 * s + 3) (pS W s 3 + 1))
  else (if pS W s 3 ≤ pS W s 2 then W else uW W (61 + 8 * s + 3) (pS W s 3 - 1))
theorem tSinks_W {V : Nat → Nat → Int32} {s : Nat} {t : Bool} : tSinks V s t = tW V (pSinks (V 4) s t) := by
  unfold tSinks pSinks
  cases t
  · simp only [Bool.false_eq_true, ↓reduceIte]
    split
    · exact tW_id.symm
    · exact tU_W
  · simp only [↓reduceIte]
    split
    · exact tW_id.symm
    · exact tU_W
def pPayC (W : Nat → Int32) (a : Nat) (c t : Int32) : Nat → Int32 :=
  let W2 := uW W 1 (W 1 - c)
  let W3 := uW W2 9 (W2 9 + c)
  let W4 := uW W3 (13 + 6 * a + 5) (W3 (13 + 6 * a + 5) + c)
  let W5 := uW W4 10 (W4 10 + t)
  uW W5 1 (W5 1 + t)
def pPayL (W : Nat → Int32) : Nat → Int32 := if (999 : Int32) < W 1 then uW (uW W 11 (W 11 + (W 1 - 999))) 1 999 else W
def pPay (W : Nat → Int32) (a : Nat) (y t : Int32) : Nat → Int32 := pPayL (pPayC W a (if y ≤ W 1 then y else W 1) t)
def pGot (W : Nat → Int32) (a : Nat) (v : Int32) : Nat → Int32 :=
  let W0 := uW W (13 + 6 * a + 4) (W (13 + 6 * a + 4) + v)
  pThirsts W0 a (pH W0 a 2 - v)
def pGets (W : Nat → Int32) (a s : Nat) (v : Int32) : Nat → Int32 := pPay (pGot W a v) a (v * pFar (pGot W a v) a s / 10) (v / 4)
def pPails (W : Nat → Int32) (a : Nat) (l : Int32) : Int32 := if l ≤ pH W a 2 then l else pH W a 2
def pGiveF (s : Nat) (st : (Nat → Int32) × Int32 × Int32) (a : Nat) : (Nat → Int32) × Int32 × Int32 :=
  if oI (pWell st.1 a) = nI s then (pGets st.1 a s (pPails st.1 a st.2.1), st.2.1 - pPails st.1 a st.2.1, st.2.2 + pPails st.1 a st.2.1) else st
def pGiveA (W : Nat → Int32) (s : Nat) : (Nat → Int32) × Int32 × Int32 := (List.range' 0 (nH W)).foldl (pGiveF s) (W, pGives W s, 0)
def pGave (W : Nat → Int32) (s : Nat) (v : Int32) : Nat → Int32 :=
  let W1 := uW W 6 (W 6 + v)
  uW W1 (61 + 8 * s + 7) (pS W1 s 7 + v)
def pWellGives (W : Nat → Int32) (s : Nat) : Nat → Int32 :=
  pSinks (pGave (pGiveA W s).1 s (pGiveA W s).2.2) s (decide (¬ (pGiveA W s).2.2 < 20))
def pDayH (W : Nat → Int32) (a : Nat) : Nat → Int32 := match pWell W a with | none => pThirsts W a (pH W a 2) | some _ => W
def pDayS (W : Nat → Int32) (s : Nat) : Nat → Int32 := if pOpen W s then pWellGives W s else pSinks W s false
def pDayHs (W : Nat → Int32) : Nat → Int32 := (List.range' 0 (nH W)).foldl pDayH W
def pDaySs (W : Nat → Int32) : Nat → Int32 := (List.range' 0 (nS W)).foldl pDayS W
def pDay (W : Nat → Int32) : Nat → Int32 := uW (pDaySs (pDayHs W)) 0 (pDaySs (pDayHs W) 0 + 1)
def pDays : Nat → (Nat → Int32) → (Nat → Int32)
  | 0, W => W
  | n + 1, W => pDays n (pDay W)
/-! the numbers of hamlets and of sites stay -/
def e23 (W W' : Nat → Int32) : Prop := W' 2 = W 2 ∧ W' 3 = W 3
theorem e23.rf {W : Nat → Int32} : e23 W W := ⟨rfl, rfl⟩
theorem e23.tr {W W' W'' : Nat → Int32} (a : e23 W W') (b : e23 W' W'') : e23 W W'' := ⟨b.1.trans a.1, b.2.trans a.2⟩
theorem e23.u {W W' : Nat → Int32} {i : Nat} {v : Int32} (a : e23 W W') (h2 : 2 ≠ i) (h3 : 3 ≠ i) : e23 W (uW W' i v) := ⟨(uW_ne h2).trans a.1, (uW_ne h3).trans a.2⟩
theorem e23.h {W W' : Nat → Int32} (a : e23 W W') : nH W' = nH W := by unfold nH; rw [a.1]
theorem e23.s {W W' : Nat → Int32} (a : e23 W W') : nS W' = nS W := by unfold nS; rw [a.2]
theorem e23.p {W W' : Nat → Int32} (a : e23 W W') (p : pW W) : pW W' := by unfold pW; rw [a.h, a.s, a.1, a.2]; exact p
theorem pThirsts_e {W : Nat → Int32} {a : Nat} {v : Int32} : e23 W (pThirsts W a v) := (e23.rf.u (by omega) (by omega)).u (by decide) (by decide)
theorem pSinks_e {W : Nat → Int32} {s : Nat} {t : Bool} : e23 W (pSinks W s t) := by
  unfold pSinks
  split <;> split <;> first | exact e23.rf | exact e23.rf.u (by omega) (by omega)
theorem pPayC_e {W : Nat → Int32} {a : Nat} {c t : Int32} : e23 W (pPayC W a c t) := ((((e23.rf.u (by decide) (by decide)).u (by decide) (by decide)).u (by omega) (by omega)).u (by decide) (by decide)).u (by decide) (by decide)
theorem pPayL_e {W : Nat → Int32} : e23 W (pPayL W) := by
  unfold pPayL
  split
  · exact (e23.rf.u (by decide) (by decide)).u (by decide) (by decide)
  · exact e23.rf
theorem pPay_e {W : Nat → Int32} {a : Nat} {y t : Int32} : e23 W (pPay W a y t) := pPayC_e.tr pPayL_e
theorem pGets_e {W : Nat → Int32} {a s : Nat} {v : Int32} : e23 W (pGets W a s v) := ((e23.rf.u (by omega) (by omega)).tr pThirsts_e).tr pPay_e
theorem pGiveF_e {s a : Nat} {st : (Nat → Int32) × Int32 × Int32} : e23 st.1 (pGiveF s st a).1 := by
  unfold pGiveF
  split
  · exact pGets_e
  · exact e23.rf
theorem pGiveL_e {s : Nat} : ∀ (l : List Nat) (st : (Nat → Int32) × Int32 × Int32), e23 st.1 (l.foldl (pGiveF s) st).1
  | [], _ => e23.rf
  | _ :: l, _ => pGiveF_e.tr (pGiveL_e l _)
theorem pWellGives_e {W : Nat → Int32} {s : Nat} : e23 W (pWellGives W s) := (((pGiveL_e _ (W, pGives W s, 0)).u (by decide) (by decide)).u (by omega) (by omega)).tr pSinks_e
theorem pDayH_e {W : Nat → Int32} {a : Nat} : e23 W (pDayH W a) := by
  unfold pDayH
  split
  · exact pThirsts_e
  · exact e23.rf
theorem pDayS_e {W : Nat → Int32} {a : Nat} : e23 W (pDayS W a) := by
  unfold pDayS
  split
  · exact pWellGives_e
  · exact pSinks_e
theorem pFold_e {f : (Nat → Int32) → Nat → (Nat → Int32)} (hf : ∀ W a, e23 W (f W a)) : ∀ (l : List Nat) (W : Nat → Int32), e23 W (l.foldl f W)
  | [], _ => e23.rf
  | a :: l, W => (hf W a).tr (pFold_e hf l _)
theorem pDayHs_e {W : Nat → Int32} : e23 W (pDayHs W) := pFold_e (fun _ _ => pDayH_e) _ _
theorem pDaySs_e {W : Nat → Int32} : e23 W (pDaySs W) := pFold_e (fun _ _ => pDayS_e) _ _
theorem pDay_e {W : Nat → Int32} : e23 W (pDay W) := (pDayHs_e.tr pDaySs_e).u (by decide) (by decide)
theorem pDays_e : ∀ (n : Nat) (W : Nat → Int32), e23 W (pDays n W)
  | 0, _ => e23.rf
  | n + 1, _ => pDay_e.tr (pDays_e n _)
/-! the walk -/
section XTZ
theorem tCp_at {V : Nat → Nat → Int32} {f p g r k i : Nat} (h1 : p ≤ i) (h2 : i < p + k) : tCp V f p g r k f i = V g (r + (i - p)) := if_pos ⟨rfl, h1, h2⟩
variable {G : xG} {d k : Nat} {h h' h0 : xH} {T : Nat → xH → Nat → Prop} {S : List Nat} {m : Nat} {A : Nat → Nat} {V : Nat → Nat → Int32} {W : Nat → Int32} {a b c s i j mm n f : Nat} {x y z w ix : Int32}
theorem tw_rd {P : Int32 → Prop} (q : isTw h m A (tW V W)) (i : Nat) (e : ix = nI i) (hi : i < 112) (K : P (W i)) :
    xcls h m = 6 ∧ ∃ o1 : Option Nat, xval h m 4 = xr o1 ∧ ∃ a2, o1 = some a2 ∧ xcls h a2 = 1003 ∧ ∃ i3 : Nat, ix = nI i3 ∧ i3 < 2147483648 ∧ i3 < xlen h a2 ∧ ∃ n4 : Int32, xval h a2 i3 = xi n4 ∧ P n4 := by
  refine ⟨q.cl, _, q.rr 4 (by decide), _, rfl, q.kk 4 (by decide), i, e, by omega, by rw [q.ll 4 (by decide)]; exact hi, _, q.vv 4 (show i < tL 4 from hi), ?_⟩
  rw [tW_4]
  exact K
theorem tw_up {P : xH → Prop} (g : Int32 → Int32) (q : isTw h m A (tW V W)) (x : xMod (tS m A) h0 h) (i : Nat) (e : ix = nI i) (hi : i < 112) (K : ∀ h', isTw h' m A (tW V (uW W i (g (W i)))) → xMod (tS m A) h0 h' → P h') :
    xcls h m = 6 ∧ ∃ o1 : Option Nat, xval h m 4 = xr o1 ∧ ∃ a2, o1 = some a2 ∧ xcls h a2 = 1003 ∧ ∃ i3 : Nat, ix = nI i3 ∧ i3 < 2147483648 ∧ i3 < xlen h a2 ∧ ∃ n4 : Int32, xval h a2 i3 = xi n4 ∧ xcls h a2 = 1003 ∧ ∃ i5 : Nat, ix = nI i5 ∧ i5 < 2147483648 ∧ i5 < xlen h a2 ∧ ∀ h6 : xH, h6 = xput h a2 i5 (xi (g n4)) → P h6 := by
  refine ⟨q.cl, _, q.rr 4 (by decide), _, rfl, q.kk 4 (by decide), i, e, by omega, by rw [q.ll 4 (by decide)]; exact hi, _, q.vv 4 (show i < tL 4 from hi), q.kk 4 (by decide), i, e, by omega, by rw [q.ll 4 (by decide)]; exact hi, fun h6 e6 => ?_⟩
  have q1 := q.pa 4 (show i < tL 4 from hi) (g (tW V W 4 i))
  rw [← e6, tU_W, tW_4, tW_tW] at q1
  exact K h6 q1 (e6 ▸ x.ta (fun _ z => z) 4 (by decide) _ _)
theorem t_thirsts_w {F : xH → Nat → Prop} (hd : 1 < d) (q : isTw h m A (tW V W)) (ha : a < 8) (hQ : ∀ h', isTw h' m A (tW V (pThirsts W a x)) → xMod (tS m A) h h' → F h' k) : xCall G d k mX3_thirsts [xr (some m), xi (nI a), xi x] h (xkV F T) :=
  t_thirsts_c hd q ha fun h' q' x' => hQ h' (by rw [tThirsts_W, tW_4, tW_tW] at q'; exact q') x'
theorem t_sinks_w {F : xH → Nat → Prop} {t : Bool} (hd : 2 < d) (q : isTw h m A (tW V W)) (hs : s < 6) (hQ : ∀ h', isTw h' m A (tW V (pSinks W s t)) → xMod (tS m A) h h' → F h' k) : xCall G d k mX3_sinks [xr (some m), xi (nI s), xi (xb t)] h (xkV F T) :=
  t_sinks_c hd q hs fun h' q' x' => hQ h' (by rw [tSinks_W, tW_4, tW_tW] at q'; exact q') x'
theorem t_hI_w {F : Int32 → xH → Nat → Prop} (hd : 1 < d) (q : isTw h m A (tW V W)) (a c : Nat) (hi : 13 + 6 * a + c < 112) (hQ : F (pH W a c) h k) : xCall G d k mX3_hamletIs [xr (some m), xi (nI a), xi (nI c)] h (xkI F T) := t_hI hd q a c hi (by rw [tW_4]; exact hQ)
theorem t_sI_w {F : Int32 → xH → Nat → Prop} (hd : 1 < d) (q : isTw h m A (tW V W)) (a c : Nat) (hi : 61 + 8 * a + c < 112) (hQ : F (pS W a c) h k) : xCall G d k mX3_siteIs [xr (some m), xi (nI a), xi (nI c)] h (xkI F T) := t_sI hd q a c hi (by rw [tW_4]; exact hQ)
theorem t_setsSite_w {F : xH → Nat → Prop} (hd : 1 < d) (q : isTw h m A (tW V W)) (s c : Nat) (hi : 61 + 8 * s + c < 112) (hQ : ∀ h', isTw h' m A (tW V (uW W (61 + 8 * s + c) x)) → xMod (tS m A) h h' → F h' k) : xCall G d k mX3_setsSite [xr (some m), xi (nI s), xi (nI c), xi x] h (xkV F T) :=
  t_setsSite_c hd q s c hi fun h' q' x' => hQ h' (by rw [tU_W, tW_4, tW_tW] at q'; exact q') x'
theorem tw_up2 {P : xH → Prop} (g g' : Int32 → Int32) (q : isTw h m A (tW V W)) (x : xMod (tS m A) h0 h) (K : ∀ h', isTw h' m A (tW V (uW (uW W 11 (g (W 11))) 1 y)) → xMod (tS m A) h0 h' → P h') (hg : g = fun z => z + g' (W 1)) :
    xcls h m = 6 ∧ ∃ o1 : Option Nat, xval h m 4 = xr o1 ∧ ∃ a2, o1 = some a2 ∧ xcls h a2 = 1003 ∧ ∃ i3 : Nat, (11 : Int32) = nI i3 ∧ i3 < 2147483648 ∧ i3 < xlen h a2 ∧ ∃ n4 : Int32, xval h a2 i3 = xi n4 ∧
      xcls h m = 6 ∧ ∃ o5 : Option Nat, xval h m 4 = xr o5 ∧ ∃ a6, o5 = some a6 ∧ xcls h a6 = 1003 ∧ ∃ i7 : Nat, (1 : Int32) = nI i7 ∧ i7 < 2147483648 ∧ i7 < xlen h a6 ∧ ∃ n8 : Int32, xval h a6 i7 = xi n8 ∧
      xcls h a2 = 1003 ∧ ∃ i5 : Nat, (11 : Int32) = nI i5 ∧ i5 < 2147483648 ∧ i5 < xlen h a2 ∧ ∀ h6 : xH, h6 = xput h a2 i5 (xi (n4 + g' n8)) → xcls h6 m = 6 ∧ ∃ o63 : Option Nat, xval h6 m 4 = xr o63 ∧ ∃ a64, o63 = some a64 ∧ xcls h6 a64 = 1003 ∧ ∃ i65 : Nat, (1 : Int32) = nI i65 ∧ i65 < 2147483648 ∧ i65 < xlen h6 a64 ∧ ∀ h66 : xH, h66 = xput h6 a64 i65 (xi y) → P h66 := by
  subst hg
  refine ⟨q.cl, _, q.rr 4 (by decide), _, rfl, q.kk 4 (by decide), 11, rfl, by decide, (by rw [q.ll 4 (by decide)]; decide), _, q.vv 4 (show 11 < tL 4 by decide), q.cl, _, q.rr 4 (by decide), _, rfl, q.kk 4 (by decide), 1, rfl, by decide, (by rw [q.ll 4 (by decide)]; decide), _, q.vv 4 (show 1 < tL 4 by decide), q.kk 4 (by decide), 11, rfl, by decide, (by rw [q.ll 4 (by decide)]; decide), fun h6 e6 => ?_⟩
  have q1 := q.pa 4 (show 11 < tL 4 by decide) (tW V W 4 11 + g' (tW V W 4 1))
  have x1 : xMod (tS m A) h0 h6 := e6 ▸ x.ta (fun _ z => z) 4 (by decide) _ _
  rw [← e6, tU_W, tW_4, tW_tW] at q1
  refine ⟨q1.cl, _, q1.rr 4 (by decide), _, rfl, q1.kk 4 (by decide), 1, rfl, by decide, (by rw [q1.ll 4 (by decide)]; decide), fun h7 e7 => ?_⟩
  have q2 := q1.pa 4 (show 1 < tL 4 by decide) y
  rw [← e7, tU_W, tW_4, tW_tW] at q2
  exact K h7 q2 (e7 ▸ x1.ta (fun _ z => z) 4 (by decide) _ _)
theorem t_gets_c {F : xH → Nat → Prop} (hd : 3 < d) (q : isTw h m A (tW V W)) (ha : a < 8) (hs : s < 6) (hQ : ∀ h', isTw h' m A (tW V (pGets W a s x)) → xMod (tS m A) h h' → F h' k) : xCall G d k mX3_gets [xr (some m), xi (nI a), xi (nI s), xi x] h (xkV F T) := by
  unfold pGets pPay at hQ
  refine xCall_of (d' := 3) hd (Nat.zero_le k) (vc_X3_gets (tw_up (fun z => z + x) q xMod.rf (13 + 6 * a + 4) (t_ixH a 4) (by omega) fun h1 q1 x1 => ⟨q1.cl, t_hI_w (by decide) q1 a 2 (by omega) ⟨q1.cl, t_thirsts_w (by decide) q1 ha fun h2 q2 x2 => ⟨q2.cl, t_far_c (by decide) q2 ha hs (tw_rd q2 1 rfl (by decide) ?_)⟩⟩⟩))
  replace x2 := x1.tr x2
  rw [tW_4]
  rw [show pThirsts (uW W (13 + 6 * a + 4) (W (13 + 6 * a + 4) + x)) a (pH (uW W (13 + 6 * a + 4) (W (13 + 6 * a + 4) + x)) a 2 - x) = pGot W a x from rfl] at q2 ⊢
  generalize pGot W a x = W1 at *
  generalize x * pFar W1 a s / 10 = y at *
  by_cases u : y ≤ W1 1
  · rw [if_pos u] at hQ
    refine ⟨fun _ => tw_up (fun z => z - y) q2 x2 1 rfl (by decide) fun h3 q3 x3 => tw_up (fun z => z + y) q3 x3 9 rfl (by decide) fun h4 q4 x4 => tw_up (fun z => z + y) q4 x4 (13 + 6 * a + 5) (t_ixH a 5) (by omega) fun h5 q5 x5 => tw_up (fun z => z + x / 4) q5 x5 10 rfl (by decide) fun h6 q6 x6 => tw_up (fun z => z + x / 4) q6 x6 1 rfl (by decide) fun h7 q7 x7 => ?_, fun z => absurd u z⟩
    change isTw h7 m A (tW V (pPayC W1 a y (x / 4))) at q7
    generalize pPayC W1 a y (x / 4) = W6 at *
    unfold pPayL at hQ
    refine tw_rd q7 1 rfl (by decide) ⟨fun v => ?_, fun v => ?_⟩
    · rw [if_pos v] at hQ
      exact tw_up2 (fun z => z + (W6 1 - 999)) (fun z => z - 999) q7 x7 hQ rfl
    · rw [if_neg v] at hQ
      exact hQ h7 q7 x7
  · rw [if_neg u] at hQ
    refine ⟨fun z => absurd z u, fun _ => tw_rd q2 1 rfl (by decide) (tw_up (fun z => z - W1 1) q2 x2 1 rfl (by decide) fun h3 q3 x3 => tw_up (fun z => z + W1 1) q3 x3 9 rfl (by decide) fun h4 q4 x4 => tw_up (fun z => z + W1 1) q4 x4 (13 + 6 * a + 5) (t_ixH a 5) (by omega) fun h5 q5 x5 => tw_up (fun z => z + x / 4) q5 x5 10 rfl (by decide) fun h6 q6 x6 => tw_up (fun z => z + x / 4) q6 x6 1 rfl (by decide) fun h7 q7 x7 => ?_)⟩
    change isTw h7 m A (tW V (pPayC W1 a (W1 1) (x / 4))) at q7
    generalize pPayC W1 a (W1 1) (x / 4) = W6 at *
    unfold pPayL at hQ
    refine tw_rd q7 1 rfl (by decide) ⟨fun v => ?_, fun v => ?_⟩
    · rw [if_pos v] at hQ
      exact tw_up2 (fun z => z + (W6 1 - 999)) (fun z => z - 999) q7 x7 hQ rfl
    · rw [if_neg v] at hQ
      exact hQ h7 q7 x7
theorem t_wellGives_l {K : Nat} {Q : xR → xH → Prop} (hs : s < 6) (h0 : xH) : ∀ j i (st : (Nat → Int32) × Int32 × Int32) h, isTw h m A (tW V st.1) → pW st.1 → xMod (tS m A) h0 h → i + j = nH st.1 →
    (∀ h', isTw h' m A (tW V ((fun r : (Nat → Int32) × Int32 × Int32 => pSinks (pGave r.1 s r.2.2) s (decide (¬ r.2.2 < 20))) ((List.range' i j).foldl (pGiveF s) st))) → xMod (tS m A) h0 h' → Q (.inl none) h') →
    xWp G mX3_wellGives 5 K Q k 11 [some (xr (some m)), some (xi (nI s)), some (xi st.2.1), some (xi st.2.2), some (xi (nI i)), none] [] h := by
  intro j
  induction j with
  | zero =>
    intro i st h q p x hi hQ
    have p2 := p.2.1
    refine vc_X3_wellGives_11 (tw_rd q 2 rfl (by decide) ⟨fun _ => tw_up (fun z => z + st.2.2) q x 6 rfl (by decide) fun h1 q1 x1 => ⟨q1.cl, t_sI_w (by decide) q1 s 7 (by omega) ⟨q1.cl, t_setsSite_w (by decide) q1 s 7 (by omega) fun h2 q2 x2 => ⟨fun u => ⟨q2.cl, ?_⟩, fun u => ⟨q2.cl, ?_⟩⟩⟩⟩, fun z => absurd (by rw [p.1]; exact nI_le (by omega) (by omega)) z⟩)
    · refine t_sinks_w (t := false) (by decide) q2 hs fun h3 q3 x3 => hQ h3 ?_ ((x1.tr x2).tr x3)
      show isTw h3 m A (tW V (pSinks (pGave st.1 s st.2.2) s (decide (¬ st.2.2 < 20))))
      rw [decide_eq_false (not_not_intro u)]
      exact q3
    · refine t_sinks_w (t := true) (by decide) q2 hs fun h3 q3 x3 => hQ h3 ?_ ((x1.tr x2).tr x3)
      show isTw h3 m A (tW V (pSinks (pGave st.1 s st.2.2) s (decide (¬ st.2.2 < 20))))
      rw [decide_eq_true u]
      exact q3
  | succ j ih =>
    intro i st h q p x hi hQ
    have p2 := p.2.1
    rw [List.range'_succ, List.foldl_cons] at hQ
    have he := pGiveF_e (s := s) (a := i) (st := st)
    refine vc_X3_wellGives_11 (tw_rd q 2 rfl (by decide) ⟨fun z => absurd ((nI_leI (by omega) (by omega)).mp (p.1 ▸ z)) (by omega), fun _ => ⟨q.cl, t_well_c (by decide) q (by rw [tW_4]; exact p) (by omega) fun hl => ?_⟩⟩)
    rw [tW_4]
    refine ⟨fun u => ⟨q.cl, t_hI_w (by decide) q i 2 (by omega) ⟨fun v => ⟨q.cl, t_gets_c (by decide) q (by omega) hs fun h1 q1 x1 => ?_⟩, fun v => ⟨q.cl, t_hI_w (by decide) q i 2 (by omega) ⟨q.cl, t_gets_c (by decide) q (by omega) hs fun h1 q1 x1 => ?_⟩⟩⟩⟩, fun u => ?_⟩
    · rw [nI_1]
      have e : pGiveF s st i = (pGets st.1 i s st.2.1, st.2.1 - st.2.1, st.2.2 + st.2.1) := by
        unfold pGiveF pPails
        rw [if_pos u, if_pos v]
      rw [e] at hQ he
      exact ih (i + 1) (pGets st.1 i s st.2.1, st.2.1 - st.2.1, st.2.2 + st.2.1) h1 q1 (he.p p) (x.tr x1) (by rw [he.h]; omega) hQ
    · rw [nI_1]
      have e : pGiveF s st i = (pGets st.1 i s (pH st.1 i 2), st.2.1 - pH st.1 i 2, st.2.2 + pH st.1 i 2) := by
        unfold pGiveF pPails
        rw [if_pos u, if_neg v]
      rw [e] at hQ he
      exact ih (i + 1) (pGets st.1 i s (pH st.1 i 2), st.2.1 - pH st.1 i 2, st.2.2 + pH st.1 i 2) h1 q1 (he.p p) (x.tr x1) (by rw [he.h]; omega) hQ
    · rw [nI_1]
      have e : pGiveF s st i = st := by
        unfold pGiveF
        rw [if_neg u]
      rw [e] at hQ
      exact ih (i + 1) st h q p x (by omega) hQ
theorem t_wellGives_c {F : xH → Nat → Prop} (hd : 5 < d) (q : isTw h m A (tW V W)) (p : pW W) (hs : s < 6) (hQ : ∀ h', isTw h' m A (tW V (pWellGives W s)) → xMod (tS m A) h h' → F h' k) : xCall G d k mX3_wellGives [xr (some m), xi (nI s)] h (xkV F T) := by
  refine xCall_of (d' := 5) hd (Nat.zero_le k) (vc_X3_wellGives ⟨q.cl, t_gives_c (by decide) q hs ?_⟩)
  rw [tW_4]
  exact t_wellGives_l hs h (nH W) 0 (W, pGives W s, 0) h q p xMod.rf (Nat.zero_add _) hQ
theorem t_dayEnds_2 {K : Nat} {Q : xR → xH → Prop} (h0 : xH) : ∀ j i W h, isTw h m A (tW V W) → pW W → xMod (tS m A) h0 h → i + j = nS W →
    (∀ h', isTw h' m A (tW V ((fun W' => uW W' 0 (W' 0 + 1)) ((List.range' i j).foldl pDayS W))) → xMod (tS m A) h0 h' → Q (.inl none) h') →
    xWp G mX3_dayEnds 6 K Q k 39 [some (xr (some m)), some (xi (nI i))] [] h := by
  intro j
  induction j with
  | zero =>
    intro i W h q p x hi hQ
    have p4 := p.2.2.2
    exact vc_X3_dayEnds_39 (tw_rd q 3 rfl (by decide) ⟨fun _ => tw_up (fun z => z + 1) q x 0 rfl (by decide) fun h1 q1 x1 => hQ h1 q1 x1, fun z => absurd (by rw [p.2.2.1]; exact nI_le (by omega) (by omega)) z⟩)
  | succ j ih =>
    intro i W h q p x hi hQ
    have p4 := p.2.2.2
    rw [List.range'_succ, List.foldl_cons] at hQ
    have he := pDayS_e (W := W) (a := i)
    have go : ∀ h' W', isTw h' m A (tW V W') → xMod (tS m A) h h' → pDayS W i = W' → xWp G mX3_dayEnds 6 K Q k 39 [some (xr (some m)), some (xi (nI (i + 1)))] [] h' := by
      intro h' W' q' x' e
      subst e
      exact ih (i + 1) _ h' q' (he.p p) (x.tr x') (by rw [he.s]; omega) hQ
    refine vc_X3_dayEnds_39 (tw_rd q 3 rfl (by decide) ⟨fun z => absurd ((nI_leI (by omega) (by omega)).mp (p.2.2.1 ▸ z)) (by omega), fun _ => ⟨q.cl, t_isWell_c (by decide) q (by omega) ?_⟩⟩)
    rw [tW_4]
    refine ⟨fun u => ⟨q.cl, t_sinks_w (t := false) (by decide) q (by omega) fun h1 q1 x1 => ?_⟩, fun u => ⟨q.cl, t_wellGives_c (by decide) q p (by omega) fun h1 q1 x1 => ?_⟩⟩
    · rw [nI_1]
      exact go h1 _ q1 x1 (by unfold pDayS; rw [xb0.mp u]; exact if_neg Bool.false_ne_true)
    · rw [nI_1]
      exact go h1 _ q1 x1 (by unfold pDayS; rw [xb1.mp u]; exact if_pos rfl)
theorem t_dayEnds_1 {K : Nat} {Q : xR → xH → Prop} (h0 : xH) : ∀ j i W h, isTw h m A (tW V W) → pW W → xMod (tS m A) h0 h → i + j = nH W →
    (∀ h', isTw h' m A (tW V ((fun W' => uW (pDaySs W') 0 (pDaySs W' 0 + 1)) ((List.range' i j).foldl pDayH W))) → xMod (tS m A) h0 h' → Q (.inl none) h') →
    xWp G mX3_dayEnds 6 K Q k 2 [some (xr (some m)), some (xi (nI i))] [] h := by
  intro j
  induction j with
  | zero =>
    intro i W h q p x hi hQ
    have p2 := p.2.1
    exact vc_X3_dayEnds_2 (tw_rd q 2 rfl (by decide) ⟨fun _ => t_dayEnds_2 h0 (nS W) 0 W h q p x (Nat.zero_add _) hQ, fun z => absurd (by rw [p.1]; exact nI_le (by omega) (by omega)) z⟩)
  | succ j ih =>
    intro i W h q p x hi hQ
    have p2 := p.2.1
    rw [List.range'_succ, List.foldl_cons] at hQ
    have he := pDayH_e (W := W) (a := i)
    have go : ∀ h' W', isTw h' m A (tW V W') → xMod (tS m A) h h' → pDayH W i = W' → xWp G mX3_dayEnds 6 K Q k 2 [some (xr (some m)), some (xi (nI (i + 1)))] [] h' := by
      intro h' W' q' x' e
      subst e
      exact ih (i + 1) _ h' q' (he.p p) (x.tr x') (by rw [he.h]; omega) hQ
    refine vc_X3_dayEnds_2 (tw_rd q 2 rfl (by decide) ⟨fun z => absurd ((nI_leI (by omega) (by omega)).mp (p.1 ▸ z)) (by omega), fun _ => ⟨q.cl, t_well_c (by decide) q (by rw [tW_4]; exact p) (by omega) fun hl => ?_⟩⟩)
    rw [tW_4] at hl ⊢
    rw [nI_1]
    cases ho : pWell W i with
    | none =>
      refine ⟨fun u => absurd u (by decide), fun u => ⟨q.cl, t_hI_w (by decide) q i 2 (by omega) ⟨q.cl, t_thirsts_w (by decide) q (by omega) fun h1 q1 x1 => ?_⟩⟩⟩
      exact go h1 _ q1 x1 (by unfold pDayH; rw [ho])
    | some t =>
      have ht := hl t ho
      refine ⟨fun u => go h W q xMod.rf (by unfold pDayH; rw [ho]), fun u => absurd (nI_le (a := 0) (Nat.zero_le t) (by omega)) u⟩
theorem t_dayEnds_c {F : xH → Nat → Prop} (hd : 6 < d) (q : isTw h m A (tW V W)) (p : pW W) (hQ : ∀ h', isTw h' m A (tW V (pDay W)) → xMod (tS m A) h h' → F h' k) : xCall G d k mX3_dayEnds [xr (some m)] h (xkV F T) :=
  xCall_of (d' := 6) hd (Nat.zero_le k) (vc_X3_dayEnds (t_dayEnds_1 h (nH W) 0 W h q p xMod.rf (Nat.zero_add _) hQ))
theorem t_passes_l {K : Nat} {Q : xR → xH → Prop} (hn : n ≤ 30) (h0 : xH) : ∀ j i W h, isTw h m A (tW V W) → pW W → xMod (tS m A) h0 h → i + j = n →
    (∀ h', isTw h' m A (tW V (pDays j W)) → xMod (tS m A) h0 h' → Q (.inl (some (xi (pDays j W 5 - x)))) h') →
    xWp G mX3_passes 7 K Q k 9 [some (xr (some m)), some (xi (nI n)), some (xi x), some (xi (nI i))] [] h := by
  intro j
  induction j with
  | zero =>
    intro i W h q p x hi hQ
    exact vc_X3_passes_9 ⟨fun _ => tw_rd q 5 rfl (by decide) (hQ h q x), fun z => absurd (nI_le (by omega) (by omega)) z⟩
  | succ j ih =>
    intro i W h q p x hi hQ
    refine vc_X3_passes_9 ⟨fun z => absurd ((nI_leI (by omega) (by omega)).mp z) (by omega), fun _ => ⟨q.cl, t_dayEnds_c (by decide) q p fun h1 q1 x1 => ?_⟩⟩
    rw [nI_1]
    exact ih (i + 1) _ h1 q1 (pDay_e.p p) (x.tr x1) (by omega) hQ
theorem t_passes_c {F : Int32 → xH → Nat → Prop} (hd : 7 < d) (q : isTw h m A (tW V W)) (p : pW W) (hn : n ≤ 30) (hQ : ∀ h', isTw h' m A (tW V (pDays n W)) → xMod (tS m A) h h' → F (pDays n W 5 - W 5) h' k) : xCall G d k mX3_passes [xr (some m), xi (nI n)] h (xkI F T) :=
  xCall_of (d' := 7) hd (Nat.zero_le k) (vc_X3_passes (tw_rd q 5 rfl (by decide) (t_passes_l hn h n 0 W h q p xMod.rf (Nat.zero_add _) hQ)))
theorem pIn_n {hi : Nat} (hh : hi < 1000) : pIn x 0 (nI hi) = true ↔ ∃ n, n ≤ hi ∧ x = nI n := by
  have := pHas_iff (n := hi + 1) (x := x) (by omega)
  unfold pHas at this
  rw [show nI (hi + 1) - 1 = nI hi from by rw [← nI_1]; exact Int32.add_sub_cancel _ _] at this
  rw [this]
  exact ⟨fun ⟨s, h1, h2⟩ => ⟨s, by omega, h2⟩, fun ⟨s, h1, h2⟩ => ⟨s, by omega, h2⟩⟩
theorem pIn_1 (e : pIn x 1 30 = true) : ∃ n, n ≤ 30 ∧ 1 ≤ n ∧ x = nI n := by
  rw [pIn_iff] at e
  have h1 : (1 : Int) ≤ x.toInt := e.1
  have h2 : x.toInt ≤ (30 : Int) := e.2
  refine ⟨x.toInt.toNat, by omega, by omega, ?_⟩
  rw [← iI_n, Int.toNat_of_nonneg (by omega)]
  exact iI_of x
theorem t_pass_c {F : Int32 → xH → Nat → Prop} (hd : 8 < d) (q : isTw h m A V) (p : pW (V 4)) (e8 : V 8 0 = nI n) (e9 : V 9 0 = nI f) (hn : n ≤ 8) (hf : f < 8)
    (h0 : pIn x 1 30 = false → F (-2) h k)
    (hQ : ∀ j, x = nI j → 1 ≤ j → j ≤ 30 → ∀ h', isTw h' m A (tW (tRemV V n f) (pDays j (V 4))) → xMod (tS m A) h h' → F (pDays j (V 4) 5 - V 4 5) h' k) : xCall G d k mX3_pass [xr (some m), xi x] h (xkI F T) := by
  refine xCall_of (d' := 8) hd (Nat.zero_le k) (vc_X3_pass (t_isBetween_c (by decide) ⟨fun z => ⟨q.cl, t_remembers_c (by decide) q e8 e9 hn hf fun h1 q1 x1 => ⟨q1.cl, ?_⟩⟩, fun z => h0 (xb0.mp z)⟩))
  obtain ⟨j, hj, hj1, rfl⟩ := pIn_1 (xb1.mp z)
  have e : tRemV V n f = tW (tRemV V n f) (V 4) := by rw [← tRemV_4 (V := V) (n := n) (f := f)]; exact tW_id.symm
  rw [e] at q1
  refine t_passes_c (by decide) q1 p hj fun h2 q2 x2 => hQ j rfl hj1 hj h2 q2 (x1.tr x2)
theorem isTw.cg {V' : Nat → Nat → Int32} (q : isTw h m A V) (e : ∀ f i, (tL f = 0 → i = 0) → (tL f ≠ 0 → i < tL f) → V' f i = V f i) : isTw h m A V' := by
  obtain ⟨q1, q2, q3, q4⟩ := q
  refine ⟨q1, fun f z => by rw [e f 0 (fun _ => rfl) (fun y => absurd z y)]; exact q2 f z, fun f z => ?_, q4⟩
  obtain ⟨r1, r2, r3, r4⟩ := q3 f z
  exact ⟨r1, r2, r3, fun i hi => by rw [e f i (fun y => absurd y z) (fun _ => hi)]; exact r4 i hi⟩
theorem t_thirstIn_c {F : Int32 → xH → Nat → Prop} (hd : 8 < d) (q : isTw h m A V) (p : pW (V 4)) 
    (h0 : pIn x 0 30 = false → F (-2) h k)
    (hQ : ∀ j, x = nI j → j ≤ 30 → ∀ h', isTw h' m A (tCp V 7 0 4 0 112) → xMod (tS m A) h h' → F (pDays j (V 4) 5 - V 4 5) h' k) : xCall G d k mX3_thirstIn [xr (some m), xi x] h (xkI F T) := by
  refine xCall_of (d' := 8) hd (Nat.zero_le k) (vc_X3_thirstIn (t_isBetween_c (by decide) ⟨fun z => ⟨q.cl, t_thinks_c (by decide) q fun h1 q1 x1 => ⟨q1.cl, ?_⟩⟩, fun z => h0 (xb0.mp z)⟩))
  obtain ⟨j, hj, rfl⟩ := (pIn_n (hi := 30) (by decide)).mp (xb1.mp z)
  have e : tCp V 7 0 4 0 112 = tW (tCp V 7 0 4 0 112) (V 4) := by
    have := tCp_g (V := V) (f := 7) (p := 0) (g := 4) (r := 0) (k := 112) (show 4 ≠ 7 by decide)
    rw [← this]; exact tW_id.symm
  rw [e] at q1
  refine t_passes_c (by decide) q1 p hj fun h2 q2 x2 => ⟨q2.cl, t_forgets_c (by decide) q2 fun h3 q3 x3 => hQ j rfl hj h3 (q3.cg fun g i h8 h9 => ?_) ((x1.tr x2).tr x3)⟩
  by_cases h4 : g = 4
  · subst h4
    have h10 : i < 112 := h9 (by decide)
    rw [tCp_at (Nat.zero_le _) (show i < 0 + 112 by omega), tW_ne (by decide), tCp_at (Nat.zero_le _) (by omega), tCp_g (by decide)]
    congr 1
    omega
  · rw [tCp_g h4, tW_ne h4]
end XTZ

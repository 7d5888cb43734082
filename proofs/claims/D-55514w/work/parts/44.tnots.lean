/-! the twin: what refuses the sites' changes -/
def pNotOpen (W : Nat → Int32) (x : Int32) : Int32 × Option (Int32 × Int32) := if pHas (nS W) x then (if pOpen W x.toNatClampNeg then (-5, some (3, nI (pMany W x))) else if pPrice W x.toNatClampNeg ≤ W 1 then (0, none) else (-5, some (5, pPrice W x.toNatClampNeg - W 1))) else (-1, none)
def pNotShut (W : Nat → Int32) (x : Int32) : Int32 × Option (Int32 × Int32) := if pHas (nS W) x then (if pOpen W x.toNatClampNeg then (0, none) else (-5, some (4, pS W x.toNatClampNeg 4))) else (-1, none)
def pNotPump (W : Nat → Int32) (x : Int32) : Int32 × Option (Int32 × Int32) := if pHas (nS W) x then (if pOpen W x.toNatClampNeg then (if pPump W x.toNatClampNeg then (-5, some (6, W 4)) else if W 4 = 0 then (-5, some (8, 3)) else (0, none)) else (-5, some (4, pS W x.toNatClampNeg 4))) else (-1, none)
def pNotUnpump (W : Nat → Int32) (x : Int32) : Int32 × Option (Int32 × Int32) := if pHas (nS W) x then (if pOpen W x.toNatClampNeg then (if pPump W x.toNatClampNeg then (0, none) else (-5, some (7, x))) else (-5, some (4, pS W x.toNatClampNeg 4))) else (-1, none)
section XTQ
variable {G : xG} {d k : Nat} {h h' : xH} {T : Nat → xH → Nat → Prop} {S : List Nat} {m : Nat} {A : Nat → Nat} {V : Nat → Nat → Int32} {a b c s i j mm : Nat} {x y : Int32}
theorem t_notOpen_c {F : Int32 → xH → Nat → Prop} (hd : 6 < d) (q : isTw h m A V) (p : pW (V 4)) (hQ : ∀ h', isTw h' m A (tN V (pNotOpen (V 4) x).2) → xMod (tS m A) h h' → F (pNotOpen (V 4) x).1 h' k) : xCall G d k mX3_notOpen [xr (some m), xi x] h (xkI F T) := by
  have p4 := p.2.2.2
  unfold pNotOpen at hQ
  refine xCall_of (d' := 6) hd (Nat.zero_le k) (vc_X3_notOpen ⟨q.cl, t_isSite_c (by decide) q p ⟨fun z => ⟨q.cl, ?_⟩, fun z => ?_⟩⟩)
  · have hb := xb1.mp z
    obtain ⟨s, hs, rfl⟩ := (pHas_iff (by omega)).mp hb
    rw [hb, if_pos rfl, nI_clamp (by omega)] at hQ
    refine t_isWell_c (by decide) q (by omega) ⟨fun y => ⟨q.cl, _, q.rr 4 (by decide), _, rfl, q.kk 4 (by decide), 1, rfl, by decide, (by rw [q.ll 4 (by decide)]; decide), _, q.vv 4 (by decide), q.cl, t_price_c (by decide) q (by omega) ⟨fun w => ?_, fun w => ⟨q.cl, t_price_c (by decide) q (by omega) ⟨q.cl, _, q.rr 4 (by decide), _, rfl, q.kk 4 (by decide), 1, rfl, by decide, (by rw [q.ll 4 (by decide)]; decide), _, q.vv 4 (by decide), q.cl, t_isNot_c (by decide) q ?_⟩⟩⟩⟩, fun y => ⟨q.cl, t_hamletsOf_c (by decide) q p ⟨q.cl, t_isNot_c (by decide) q ?_⟩⟩⟩
    · rw [xb0.mp y, if_neg Bool.false_ne_true, if_pos w] at hQ; exact hQ h q xMod.rf
    · rw [xb0.mp y, if_neg Bool.false_ne_true, if_neg w] at hQ; exact hQ
    · rw [xb1.mp y, if_pos rfl] at hQ; exact hQ
  · rw [xb0.mp z, if_neg Bool.false_ne_true] at hQ; exact hQ h q xMod.rf
theorem t_notShut_c {F : Int32 → xH → Nat → Prop} (hd : 6 < d) (q : isTw h m A V) (p : pW (V 4)) (hQ : ∀ h', isTw h' m A (tN V (pNotShut (V 4) x).2) → xMod (tS m A) h h' → F (pNotShut (V 4) x).1 h' k) : xCall G d k mX3_notShut [xr (some m), xi x] h (xkI F T) := by
  have p4 := p.2.2.2
  unfold pNotShut at hQ
  refine xCall_of (d' := 6) hd (Nat.zero_le k) (vc_X3_notShut ⟨q.cl, t_isSite_c (by decide) q p ⟨fun z => ⟨q.cl, ?_⟩, fun z => ?_⟩⟩)
  · have hb := xb1.mp z
    obtain ⟨s, hs, rfl⟩ := (pHas_iff (by omega)).mp hb
    rw [hb, if_pos rfl, nI_clamp (by omega)] at hQ
    refine t_isWell_c (by decide) q (by omega) ⟨fun y => ⟨q.cl, t_sI (by decide) q s 4 (by omega) ⟨q.cl, t_isNot_c (by decide) q ?_⟩⟩, fun y => ?_⟩
    · rw [xb0.mp y, if_neg Bool.false_ne_true] at hQ; exact hQ
    · rw [xb1.mp y, if_pos rfl] at hQ; exact hQ h q xMod.rf
  · rw [xb0.mp z, if_neg Bool.false_ne_true] at hQ; exact hQ h q xMod.rf
theorem t_notPump_c {F : Int32 → xH → Nat → Prop} (hd : 6 < d) (q : isTw h m A V) (p : pW (V 4)) (hQ : ∀ h', isTw h' m A (tN V (pNotPump (V 4) x).2) → xMod (tS m A) h h' → F (pNotPump (V 4) x).1 h' k) : xCall G d k mX3_notPump [xr (some m), xi x] h (xkI F T) := by
  have p4 := p.2.2.2
  unfold pNotPump at hQ
  refine xCall_of (d' := 6) hd (Nat.zero_le k) (vc_X3_notPump ⟨q.cl, t_isSite_c (by decide) q p ⟨fun z => ⟨q.cl, ?_⟩, fun z => ?_⟩⟩)
  · have hb := xb1.mp z
    obtain ⟨s, hs, rfl⟩ := (pHas_iff (by omega)).mp hb
    rw [hb, if_pos rfl, nI_clamp (by omega)] at hQ
    refine t_isWell_c (by decide) q (by omega) ⟨fun y => ⟨q.cl, t_hasPump_c (by decide) q (by omega) ⟨fun w => ⟨q.cl, _, q.rr 4 (by decide), _, rfl, q.kk 4 (by decide), 4, rfl, by decide, (by rw [q.ll 4 (by decide)]; decide), _, q.vv 4 (by decide), fun u => ?_, fun u => ⟨q.cl, t_isNot_c (by decide) q ?_⟩⟩, fun w => ⟨q.cl, _, q.rr 4 (by decide), _, rfl, q.kk 4 (by decide), 4, rfl, by decide, (by rw [q.ll 4 (by decide)]; decide), _, q.vv 4 (by decide), q.cl, t_isNot_c (by decide) q ?_⟩⟩⟩, fun y => ⟨q.cl, t_sI (by decide) q s 4 (by omega) ⟨q.cl, t_isNot_c (by decide) q ?_⟩⟩⟩
    · rw [xb1.mp y, if_pos rfl, xb0.mp w, if_neg Bool.false_ne_true, if_neg u] at hQ; exact hQ h q xMod.rf
    · rw [xb1.mp y, if_pos rfl, xb0.mp w, if_neg Bool.false_ne_true, if_pos u] at hQ; exact hQ
    · rw [xb1.mp y, if_pos rfl, xb1.mp w, if_pos rfl] at hQ; exact hQ
    · rw [xb0.mp y, if_neg Bool.false_ne_true] at hQ; exact hQ
  · rw [xb0.mp z, if_neg Bool.false_ne_true] at hQ; exact hQ h q xMod.rf
theorem t_notUnpump_c {F : Int32 → xH → Nat → Prop} (hd : 6 < d) (q : isTw h m A V) (p : pW (V 4)) (hQ : ∀ h', isTw h' m A (tN V (pNotUnpump (V 4) x).2) → xMod (tS m A) h h' → F (pNotUnpump (V 4) x).1 h' k) : xCall G d k mX3_notUnpump [xr (some m), xi x] h (xkI F T) := by
  have p4 := p.2.2.2
  unfold pNotUnpump at hQ
  refine xCall_of (d' := 6) hd (Nat.zero_le k) (vc_X3_notUnpump ⟨q.cl, t_isSite_c (by decide) q p ⟨fun z => ⟨q.cl, ?_⟩, fun z => ?_⟩⟩)
  · have hb := xb1.mp z
    obtain ⟨s, hs, rfl⟩ := (pHas_iff (by omega)).mp hb
    rw [hb, if_pos rfl, nI_clamp (by omega)] at hQ
    refine t_isWell_c (by decide) q (by omega) ⟨fun y => ⟨q.cl, t_hasPump_c (by decide) q (by omega) ⟨fun w => ⟨q.cl, t_isNot_c (by decide) q ?_⟩, fun w => ?_⟩⟩, fun y => ⟨q.cl, t_sI (by decide) q s 4 (by omega) ⟨q.cl, t_isNot_c (by decide) q ?_⟩⟩⟩
    · rw [xb1.mp y, if_pos rfl, xb0.mp w, if_neg Bool.false_ne_true] at hQ; exact hQ
    · rw [xb1.mp y, if_pos rfl, xb1.mp w, if_pos rfl] at hQ; exact hQ h q xMod.rf
    · rw [xb0.mp y, if_neg Bool.false_ne_true] at hQ; exact hQ
  · rw [xb0.mp z, if_neg Bool.false_ne_true] at hQ; exact hQ h q xMod.rf
def pToll (W : Nat → Int32) (a b : Nat) : Int32 := (pAway (pS W a 0) (pS W b 0) + pAway (pS W a 1) (pS W b 1)) / 5
def pNotMove (W : Nat → Int32) (x y : Int32) : Int32 × Option (Int32 × Int32) :=
  if pHas (nS W) x then (if pHas (nS W) y then (if x = y then (-5, some (9, x))
    else if pOpen W x.toNatClampNeg then (if pOpen W y.toNatClampNeg then (if pPump W x.toNatClampNeg then (if pPump W y.toNatClampNeg then (-5, some (6, W 4))
      else if pToll W x.toNatClampNeg y.toNatClampNeg ≤ W 1 then (0, none) else (-5, some (5, pToll W x.toNatClampNeg y.toNatClampNeg - W 1)))
      else (-5, some (7, x))) else (-5, some (4, pS W y.toNatClampNeg 4))) else (-5, some (4, pS W x.toNatClampNeg 4))) else (-1, none)) else (-1, none)
theorem t_toll_c {F : Int32 → xH → Nat → Prop} (hd : 2 < d) (q : isTw h m A V) (ha : a < 6) (hb : b < 6) (hQ : F (pToll (V 4) a b) h k) : xCall G d k mX3_toll [xr (some m), xi (nI a), xi (nI b)] h (xkI F T) :=
  xCall_of (d' := 2) hd (Nat.zero_le k) (vc_X3_toll ⟨q.cl, t_sI (by decide) q a 0 (by omega) ⟨q.cl, t_sI (by decide) q b 0 (by omega) (t_away_c (by decide) ⟨q.cl, t_sI (by decide) q a 1 (by omega) ⟨q.cl, t_sI (by decide) q b 1 (by omega) (t_away_c (by decide) hQ)⟩⟩)⟩⟩)
theorem t_notMove_c {F : Int32 → xH → Nat → Prop} (hd : 6 < d) (q : isTw h m A V) (p : pW (V 4)) (hQ : ∀ h', isTw h' m A (tN V (pNotMove (V 4) x y).2) → xMod (tS m A) h h' → F (pNotMove (V 4) x y).1 h' k) : xCall G d k mX3_notMove [xr (some m), xi x, xi y] h (xkI F T) := by
  have p4 := p.2.2.2
  unfold pNotMove at hQ
  refine xCall_of (d' := 6) hd (Nat.zero_le k) (vc_X3_notMove ⟨q.cl, t_isSite_c (by decide) q p ⟨fun z => ?_, fun z => ⟨q.cl, t_isSite_c (by decide) q p ⟨fun z2 => ⟨fun e => ?_, fun e => ?_⟩, fun z2 => ?_⟩⟩⟩⟩)
  · rw [xb0.mp z, if_neg Bool.false_ne_true] at hQ; exact hQ h q xMod.rf
  · have hb := xb1.mp z
    have hb2 := xb1.mp z2
    obtain ⟨s, hs, rfl⟩ := (pHas_iff (by omega)).mp hb
    obtain ⟨t, ht, rfl⟩ := (pHas_iff (by omega)).mp hb2
    rw [hb, hb2, if_pos rfl, if_pos rfl, if_neg e, nI_clamp (by omega), nI_clamp (by omega)] at hQ
    refine ⟨q.cl, t_isWell_c (by decide) q (by omega) ⟨fun y1 => ⟨q.cl, t_isWell_c (by decide) q (by omega) ⟨fun y2 => ⟨q.cl, t_hasPump_c (by decide) q (by omega) ⟨fun y3 => ⟨q.cl, t_hasPump_c (by decide) q (by omega) ⟨fun y4 => ⟨q.cl, _, q.rr 4 (by decide), _, rfl, q.kk 4 (by decide), 1, rfl, by decide, (by rw [q.ll 4 (by decide)]; decide), _, q.vv 4 (by decide), q.cl, t_toll_c (by decide) q (by omega) (by omega) ⟨fun w => ?_, fun w => ⟨q.cl, t_toll_c (by decide) q (by omega) (by omega) ⟨q.cl, _, q.rr 4 (by decide), _, rfl, q.kk 4 (by decide), 1, rfl, by decide, (by rw [q.ll 4 (by decide)]; decide), _, q.vv 4 (by decide), q.cl, t_isNot_c (by decide) q ?_⟩⟩⟩⟩, fun y4 => ⟨q.cl, _, q.rr 4 (by decide), _, rfl, q.kk 4 (by decide), 4, rfl, by decide, (by rw [q.ll 4 (by decide)]; decide), _, q.vv 4 (by decide), q.cl, t_isNot_c (by decide) q ?_⟩⟩⟩, fun y3 => ⟨q.cl, t_isNot_c (by decide) q ?_⟩⟩⟩, fun y2 => ⟨q.cl, t_sI (by decide) q t 4 (by omega) ⟨q.cl, t_isNot_c (by decide) q ?_⟩⟩⟩⟩, fun y1 => ⟨q.cl, t_sI (by decide) q s 4 (by omega) ⟨q.cl, t_isNot_c (by decide) q ?_⟩⟩⟩⟩
    · rw [xb1.mp y1, if_pos rfl, xb1.mp y2, if_pos rfl, xb1.mp y3, if_pos rfl, xb0.mp y4, if_neg Bool.false_ne_true, if_pos w] at hQ; exact hQ h q xMod.rf
    · rw [xb1.mp y1, if_pos rfl, xb1.mp y2, if_pos rfl, xb1.mp y3, if_pos rfl, xb0.mp y4, if_neg Bool.false_ne_true, if_neg w] at hQ; exact hQ
    · rw [xb1.mp y1, if_pos rfl, xb1.mp y2, if_pos rfl, xb1.mp y3, if_pos rfl, xb1.mp y4, if_pos rfl] at hQ; exact hQ
    · rw [xb1.mp y1, if_pos rfl, xb1.mp y2, if_pos rfl, xb0.mp y3, if_neg Bool.false_ne_true] at hQ; exact hQ
    · rw [xb1.mp y1, if_pos rfl, xb0.mp y2, if_neg Bool.false_ne_true] at hQ; exact hQ
    · rw [xb0.mp y1, if_neg Bool.false_ne_true] at hQ; exact hQ
  · rw [xb1.mp z, if_pos rfl, xb1.mp z2, if_pos rfl, if_pos e] at hQ
    exact ⟨q.cl, t_isNot_c (by decide) q hQ⟩
  · rw [xb1.mp z, if_pos rfl, xb0.mp z2, if_neg Bool.false_ne_true] at hQ; exact hQ h q xMod.rf
end XTQ

/-! the twin: reading, sign by sign -/
abbrev rU : Type := Nat × (Nat → Nat) × Nat
def uK (f : Nat → Nat) (k v : Nat) : Nat → Nat := fun j => if j = k then v else f j
def rC (cs : List Nat) (c : Nat) (u : rU) : Bool × rU := if cs[u.1]? = some c then (true, (u.1 + 1, u.2)) else (false, u)
def rD (cs : List Nat) (k : Nat) (u : rU) : Bool × rU := match cs[u.1]? with
  | some c => if 48 ≤ c ∧ c ≤ 57 then (true, (u.1 + 1, uK u.2.1 k (c - 48), u.2.2)) else (false, u)
  | none => (false, u)
def rN (cs : List Nat) (k : Nat) (u : rU) : Bool × rU :=
  if (rD cs k u).1 then (if (rD cs k (rD cs k u).2).1 then (true, ((rD cs k (rD cs k u).2).2.1, uK (rD cs k (rD cs k u).2).2.2.1 k ((rD cs k (rD cs k u).2).2.2.1 k + 10 * (rD cs k u).2.2.1 k), (rD cs k (rD cs k u).2).2.2.2)) else (true, (rD cs k u).2)) else (false, u)
def rA (cs : List Nat) (a : Nat × Nat) (u : rU) : Bool × rU := match a.1 with
  | 0 => rC cs a.2 u
  | 1 => rD cs a.2 u
  | _ => rN cs a.2 u
def rS (cs : List Nat) : List (Nat × Nat) → rU → Bool × rU
  | [], u => (true, u)
  | a :: l, u => if (rA cs a u).1 then rS cs l (rA cs a u).2 else (false, (rA cs a u).2)
def rTo (u : rU) (s : Nat) : rU := (u.1, u.2.1, s)
def rPlaceA : List (Nat × Nat) := [(0, 32), (2, 0), (0, 44), (2, 1)]
def rHamA : List (Nat × Nat) := [(0, 97), (0, 109), (0, 108), (0, 101), (0, 116), (3, 0), (0, 32), (2, 2)]
def rPl (cs : List Nat) (u : rU) : Bool × rU := rS cs rPlaceA u
/-- hamlet .. behind its first letter -/
def rHam (cs : List Nat) (u : rU) : Bool × rU := rS cs [(0, 97), (0, 109), (0, 108), (0, 101), (0, 116), (0, 32), (2, 0), (0, 44), (2, 1), (0, 32), (2, 2)] u
def rSit (cs : List Nat) (u : rU) : Bool × rU := rS cs [(0, 116), (0, 101), (0, 32), (2, 0), (0, 44), (2, 1), (0, 32), (2, 2), (0, 32), (2, 3)] u
def rShu (cs : List Nat) (u : rU) : Bool × rU := rS cs [(0, 104), (0, 117), (0, 116), (0, 32), (1, 0)] u
def rOpe (cs : List Nat) (u : rU) : Bool × rU := rS cs [(0, 112), (0, 101), (0, 110), (0, 32), (1, 0)] u
def rPum (cs : List Nat) (u : rU) : Bool × rU := rS cs [(0, 109), (0, 112), (0, 32), (1, 0)] u
def rPas (cs : List Nat) (u : rU) : Bool × rU := rS cs [(0, 97), (0, 115), (0, 115), (0, 32), (2, 0)] u
def rMov (cs : List Nat) (u : rU) : Bool × rU := rS cs [(0, 109), (0, 111), (0, 118), (0, 101), (0, 32), (1, 0), (0, 32), (1, 1)] u
def rEs (cs : List Nat) (u : rU) : Bool × rU := if (rC cs 105 u).1 then rSit cs (rTo (rC cs 105 u).2 1) else rShu cs (rTo u 3)
def rPe (cs : List Nat) (u : rU) : Bool × rU := if (rC cs 117 u).1 then rPum cs (rTo (rC cs 117 u).2 4) else rPas cs (rTo u 6)
def rCmd (cs : List Nat) (u : rU) : Bool × rU :=
  if (rC cs 104 u).1 then rHam cs (rTo (rC cs 104 u).2 0)
  else if (rC cs 115 u).1 then rEs cs (rC cs 115 u).2
  else if (rC cs 111 u).1 then rOpe cs (rTo (rC cs 111 u).2 2)
  else if (rC cs 112 u).1 then rPe cs (rC cs 112 u).2
  else rMov cs (rTo u 5)
theorem rC_f {cs : List Nat} {c : Nat} {u : rU} (h : (rC cs c u).1 = false) : (rC cs c u).2 = u := by
  unfold rC at h ⊢
  split
  · rename_i e; rw [if_pos e] at h; cases h
  · rfl
theorem rD_f {cs : List Nat} {c : Nat} {u : rU} (h : (rD cs c u).1 = false) : (rD cs c u).2 = u := by
  unfold rD at h ⊢
  split
  · rename_i c' e
    rw [e] at h
    simp only at h
    split
    · rename_i e2; rw [if_pos e2] at h; cases h
    · rfl
  · rfl
theorem rS_cons {cs : List Nat} {a : Nat × Nat} {l : List (Nat × Nat)} {u : rU} : rS cs (a :: l) u = if (rA cs a u).1 then rS cs l (rA cs a u).2 else (false, (rA cs a u).2) := rfl
theorem rS_app {cs : List Nat} : ∀ (l1 l2 : List (Nat × Nat)) (u : rU), rS cs (l1 ++ l2) u = if (rS cs l1 u).1 then rS cs l2 (rS cs l1 u).2 else rS cs l1 u
  | [], l2, u => by simp [rS]
  | a :: l1, l2, u => by
    rw [List.cons_append, rS_cons, rS_cons]
    cases h : (rA cs a u).1
    · simp only [Bool.false_eq_true, ↓reduceIte]
    · simp only [↓reduceIte]
      exact rS_app l1 l2 _
theorem rC_le {cs : List Nat} {c : Nat} {u : rU} (h : u.1 ≤ cs.length) : (rC cs c u).2.1 ≤ cs.length := by
  unfold rC
  split
  · rename_i e
    exact (List.getElem?_eq_some_iff.mp e).1
  · exact h
theorem rD_le {cs : List Nat} {c : Nat} {u : rU} (h : u.1 ≤ cs.length) : (rD cs c u).2.1 ≤ cs.length := by
  unfold rD
  split
  · rename_i e
    split
    · exact (List.getElem?_eq_some_iff.mp e).1
    · exact h
  · exact h
theorem rN_le {cs : List Nat} {c : Nat} {u : rU} (h : u.1 ≤ cs.length) : (rN cs c u).2.1 ≤ cs.length := by
  have h1 := rD_le (c := c) h
  have h2 := rD_le (c := c) h1
  unfold rN
  split
  · split
    · exact h2
    · exact h1
  · exact h
theorem rA_le {cs : List Nat} {a : Nat × Nat} {u : rU} (h : u.1 ≤ cs.length) : (rA cs a u).2.1 ≤ cs.length := by
  unfold rA
  split
  · exact rC_le h
  · exact rD_le h
  · exact rN_le h
theorem rS_le {cs : List Nat} : ∀ (l : List (Nat × Nat)) (u : rU), u.1 ≤ cs.length → (rS cs l u).2.1 ≤ cs.length
  | [], _, h => h
  | a :: l, u, h => by
    unfold rS
    split
    · exact rS_le l _ (rA_le h)
    · exact rA_le h
theorem rCmd_le {cs : List Nat} {u : rU} (h : u.1 ≤ cs.length) : (rCmd cs u).2.1 ≤ cs.length := by
  unfold rCmd rEs rPe
  repeat' split
  all_goals first | exact rS_le _ _ (rC_le h) | exact rS_le _ _ (rC_le (rC_le h)) | exact rS_le _ _ h
def tIn (V : Nat → Nat → Int32) (cs : List Nat) : Prop := V 15 0 = nI cs.length ∧ cs.length ≤ 60 ∧ ∀ i c, cs[i]? = some c → V 14 i = nI c ∧ c < 128
def pV (V : Nat → Nat → Int32) (u : rU) : Nat → Nat → Int32 := fun g i => if g = 16 then nI u.1 else if g = 18 then nI (u.2.1 i) else if g = 19 then nI u.2.2 else V g i
theorem pV_ne {V : Nat → Nat → Int32} {u : rU} {g : Nat} (h1 : g ≠ 16) (h2 : g ≠ 18) (h3 : g ≠ 19) : pV V u g = V g := by
  funext i
  unfold pV
  rw [if_neg h1, if_neg h2, if_neg h3]
theorem pV_pV {V : Nat → Nat → Int32} {u u' : rU} : pV (pV V u) u' = pV V u' := by
  funext g i
  unfold pV
  split
  · rfl
  · split
    · rfl
    · split
      · rfl
      · rfl
def cN (o : Option Nat) : Int32 := match o with | none => -1 | some c => nI c
theorem cN_eq {o : Option Nat} {c : Nat} (ho : ∀ c, o = some c → c < 128) (hc : c < 128) : cN o = nI c ↔ o = some c := by
  rcases o with _ | b
  · refine ⟨fun z => ?_, fun z => by cases z⟩
    have : (-1 : Int) = (c : Int) := (congrArg Int32.toInt z).trans (nI_toInt (by omega))
    omega
  · have hb := ho b rfl
    refine ⟨fun z => ?_, fun z => by cases z; rfl⟩
    rw [(nI_eq (by omega) (by omega)).mp z]
theorem cN_dg {o : Option Nat} (ho : ∀ c, o = some c → c < 128) : pIn (cN o) 48 57 = true ↔ ∃ c, o = some c ∧ 48 ≤ c ∧ c ≤ 57 := by
  rw [pIn_iff]
  rcases o with _ | b
  · refine ⟨fun z => ?_, fun ⟨c, z, _⟩ => by cases z⟩
    have h1 : (48 : Int) ≤ -1 := z.1
    omega
  · have hb := ho b rfl
    have e : (cN (some b)).toInt = (b : Int) := nI_toInt (by omega)
    rw [e]
    refine ⟨fun z => ⟨b, rfl, ?_, ?_⟩, ?_⟩
    · have h1 : (48 : Int) ≤ b := z.1
      omega
    · have h1 : (b : Int) ≤ 57 := z.2
      omega
    · rintro ⟨c, e, h1, h2⟩
      cases e
      refine ⟨?_, ?_⟩
      · show (48 : Int) ≤ b
        omega
      · show (b : Int) ≤ 57
        omega
section XTR
variable {G : xG} {d k : Nat} {h h' h0 : xH} {T : Nat → xH → Nat → Prop} {S : List Nat} {m : Nat} {A : Nat → Nat} {V V0 : Nat → Nat → Int32} {W : Nat → Int32} {a b c s i j mm n f v : Nat} {x y z w ix : Int32} {cs : List Nat} {u : rU}
theorem tIn.ch (t : tIn V cs) : ∀ (i c : Nat), cs[i]? = some c → c < 128 := fun i c e => (t.2.2 i c e).2
theorem t_at (q : isTw h m A (pV V u)) (v : Nat) : isTw (xput h m 16 (xi (nI v))) m A (pV V (v, u.2)) := by
  refine (q.pf 16 rfl (nI v)).cg fun g i h8 h9 => ?_
  unfold tU pV
  by_cases h1 : g = 16
  · subst h1
    rw [if_pos rfl, if_pos ⟨rfl, h8 rfl⟩]
  · rw [if_neg h1, if_neg (c := g = 16 ∧ i = 0) (fun z => h1 z.1), if_neg h1]
theorem t_sort (q : isTw h m A (pV V u)) (v : Nat) : isTw (xput h m 19 (xi (nI v))) m A (pV V (rTo u v)) := by
  refine (q.pf 19 rfl (nI v)).cg fun g i h8 h9 => ?_
  unfold tU pV rTo
  by_cases h1 : g = 19
  · subst h1
    rw [if_neg (by decide), if_neg (by decide), if_pos rfl, if_pos ⟨rfl, h8 rfl⟩]
  · rw [if_neg (c := g = 19 ∧ i = 0) (fun z => h1 z.1), if_neg h1, if_neg h1]
theorem t_num (q : isTw h m A (pV V u)) {k : Nat} (hk : k < 4) (v : Nat) : isTw (xput h (A 18) k (xi (nI v))) m A (pV V (u.1, uK u.2.1 k v, u.2.2)) := by
  refine (q.pa 18 (show k < tL 18 from hk) (nI v)).cg fun g i h8 h9 => ?_
  unfold tU pV uK
  by_cases h1 : g = 18
  · subst h1
    rw [if_neg (by decide), if_pos rfl]
    by_cases h2 : i = k
    · subst h2
      rw [if_pos ⟨rfl, rfl⟩]
      simp only [↓reduceIte]
    · rw [if_neg (c := (18 : Nat) = 18 ∧ i = k) (fun z => h2 z.2), if_neg (by decide), if_pos rfl]
      simp only [h2, ↓reduceIte]
  · rw [if_neg (c := g = 18 ∧ i = k) (fun z => h1 z.1), if_neg h1, if_neg h1]
theorem t_next2_c {F : Int32 → xH → Nat → Prop} (hd : 1 < d) (q : isTw h m A (pV V u)) (t : tIn V cs) (hu : u.1 ≤ cs.length) (hQ : F (cN cs[u.1]?) h k) : xCall G d k mX3_next_2 [xr (some m)] h (xkI F T) := by
  obtain ⟨t1, t2, t3⟩ := t
  refine xCall_of (d' := 1) hd (Nat.zero_le k) (vc_X3_next_2 ⟨q.cl, _, q.ff 16 rfl, q.cl, _, (q.ff 15 rfl).trans (congrArg xi t1), fun z => ?_, fun z => ?_⟩)
  · have h1 : cs.length ≤ u.1 := (nI_leI (by omega) (by omega)).mp z
    rw [List.getElem?_eq_none h1] at hQ
    exact hQ
  · have h1 : u.1 < cs.length := Nat.lt_of_not_le fun y => z ((nI_leI (by omega) (by omega)).mpr y)
    rw [List.getElem?_eq_getElem h1] at hQ
    exact ⟨q.cl, _, q.rr 14 (by decide), q.cl, _, q.ff 16 rfl, _, rfl, q.kk 14 (by decide), u.1, rfl, by omega, by rw [q.ll 14 (by decide)]; show u.1 < 60; omega, _, (q.vv 14 (show u.1 < 60 by omega)).trans (congrArg xi (t3 u.1 _ (List.getElem?_eq_getElem h1)).1), hQ⟩
theorem t_reads_c {F : Int32 → xH → Nat → Prop} (hd : 2 < d) (hc : c < 128) (q : isTw h m A (pV V u)) (t : tIn V cs) (hu : u.1 ≤ cs.length)
    (hQ : ∀ h', isTw h' m A (pV V (rC cs c u).2) → xMod (tS m A) h h' → F (xb (rC cs c u).1) h' k) : xCall G d k mX3_reads [xr (some m), xi (nI c)] h (xkI F T) := by
  refine xCall_of (d' := 2) hd (Nat.zero_le k) (vc_X3_reads ⟨q.cl, t_next2_c (by decide) q t hu ⟨fun z => ?_, fun z => ?_⟩⟩)
  · have e := (cN_eq (fun c' e => t.ch u.1 c' e) hc).mp z
    have e2 : rC cs c u = (true, (u.1 + 1, u.2)) := by unfold rC; rw [if_pos e]
    rw [e2] at hQ
    refine ⟨q.cl, _, q.ff 16 rfl, q.cl, fun h5 e5 => ?_⟩
    have e6 : h5 = xput h m 16 (xi (nI (u.1 + 1))) := e5.trans (by rw [← nI_1]; rfl)
    subst e6
    exact hQ _ (t_at q (u.1 + 1)) (xMod.rf.tf (fun _ z => z) 16 _)
  · have e2 : rC cs c u = (false, u) := by unfold rC; rw [if_neg (fun e => z ((cN_eq (fun c' e => t.ch u.1 c' e) hc).mpr e))]
    rw [e2] at hQ
    exact hQ h q xMod.rf
theorem t_readsDigit_c {F : Int32 → xH → Nat → Prop} (hd : 2 < d) (hc : c < 4) (q : isTw h m A (pV V u)) (t : tIn V cs) (hu : u.1 ≤ cs.length)
    (hQ : ∀ h', isTw h' m A (pV V (rD cs c u).2) → xMod (tS m A) h h' → F (xb (rD cs c u).1) h' k) : xCall G d k mX3_readsDigit [xr (some m), xi (nI c)] h (xkI F T) := by
  refine xCall_of (d' := 2) hd (Nat.zero_le k) (vc_X3_readsDigit ⟨q.cl, t_next2_c (by decide) q t hu (t_isBetween_c (by decide) ⟨fun z => ?_, fun z => ?_⟩)⟩)
  · obtain ⟨c', e, h1, h2⟩ := (cN_dg (fun c' e => t.ch u.1 c' e)).mp (xb1.mp z)
    have e2 : rD cs c u = (true, (u.1 + 1, uK u.2.1 c (c' - 48), u.2.2)) := by unfold rD; rw [e]; simp only; rw [if_pos ⟨h1, h2⟩]
    rw [e2] at hQ
    refine ⟨q.cl, _, q.rr 18 (by decide), q.cl, t_next2_c (by decide) q t hu ⟨_, rfl, q.kk 18 (by decide), c, rfl, by omega, by rw [q.ll 18 (by decide)]; exact hc, fun h13 e13 => ?_⟩⟩
    have e14 : h13 = xput h (A 18) c (xi (nI (c' - 48))) := e13.trans (by rw [e]; show xput h (A 18) c (xi (nI c' - nI 48)) = _; rw [nI_sub h1])
    have q13 := t_num q hc (c' - 48)
    have x13 : xMod (tS m A) h h13 := e14 ▸ xMod.rf.ta (fun _ z => z) 18 (by decide) _ _
    rw [← e14] at q13
    refine ⟨q13.cl, _, q13.ff 16 rfl, q13.cl, fun h15 e15 => ?_⟩
    have e16 : h15 = xput h13 m 16 (xi (nI (u.1 + 1))) := e15.trans (by rw [← nI_1]; rfl)
    have q15 := t_at q13 (u.1 + 1)
    rw [← e16] at q15
    exact hQ h15 q15 (e16 ▸ x13.tf (fun _ z => z) 16 _)
  · have e2 : rD cs c u = (false, u) := by
      have hz := xb0.mp z
      have hn : ¬ ∃ c, cs[u.1]? = some c ∧ 48 ≤ c ∧ c ≤ 57 := fun y => by rw [(cN_dg (fun c' e => t.ch u.1 c' e)).mpr y] at hz; cases hz
      unfold rD
      split
      · rename_i c' e
        rw [if_neg (fun y => hn ⟨c', e, y.1, y.2⟩)]
      · rfl
    rw [e2] at hQ
    exact hQ h q xMod.rf
theorem t_readsNumber_c {F : Int32 → xH → Nat → Prop} (hd : 3 < d) (hc : c < 4) (q : isTw h m A (pV V u)) (t : tIn V cs) (hu : u.1 ≤ cs.length)
    (hQ : ∀ h', isTw h' m A (pV V (rN cs c u).2) → xMod (tS m A) h h' → F (xb (rN cs c u).1) h' k) : xCall G d k mX3_readsNumber [xr (some m), xi (nI c)] h (xkI F T) := by
  have hu1 := rD_le (c := c) hu
  have vf : ∀ u : rU, pV V u 18 c = nI (u.2.1 c) := fun u => by unfold pV; rw [if_neg (by decide), if_pos rfl]
  refine xCall_of (d' := 3) hd (Nat.zero_le k) (vc_X3_readsNumber ⟨q.cl, t_readsDigit_c (by decide) hc q t hu fun h1 q1 x1 => ⟨fun z => ?_, fun z => ?_⟩⟩)
  · have b1 := xb1.mp z
    refine ⟨q1.cl, _, q1.rr 18 (by decide), _, rfl, q1.kk 18 (by decide), c, rfl, by omega, by rw [q1.ll 18 (by decide)]; exact hc, _, (q1.vv 18 (show c < tL 18 from hc)).trans (congrArg xi (vf _)), q1.cl, t_readsDigit_c (by decide) hc q1 t hu1 fun h2 q2 x2 => ⟨fun y => ?_, fun y => ?_⟩⟩
    · have b2 := xb0.mp y
      have e : rN cs c u = (true, (rD cs c u).2) := by unfold rN; rw [if_pos b1, if_neg (by rw [b2]; exact Bool.false_ne_true)]
      rw [e] at hQ
      rw [rD_f b2] at q2
      exact hQ h2 q2 (x1.tr x2)
    · have b2 := xb1.mp y
      have e : rN cs c u = (true, ((rD cs c (rD cs c u).2).2.1, uK (rD cs c (rD cs c u).2).2.2.1 c ((rD cs c (rD cs c u).2).2.2.1 c + 10 * (rD cs c u).2.2.1 c), (rD cs c (rD cs c u).2).2.2.2)) := by unfold rN; rw [if_pos b1, if_pos b2]
      rw [e] at hQ
      refine ⟨q2.cl, _, q2.rr 18 (by decide), _, rfl, q2.kk 18 (by decide), c, rfl, by omega, by rw [q2.ll 18 (by decide)]; exact hc, _, (q2.vv 18 (show c < tL 18 from hc)).trans (congrArg xi (vf _)), q2.kk 18 (by decide), c, rfl, by omega, by rw [q2.ll 18 (by decide)]; exact hc, fun h16 e16 => ?_⟩
      have e17 : h16 = xput h2 (A 18) c (xi (nI ((rD cs c (rD cs c u).2).2.2.1 c + 10 * (rD cs c u).2.2.1 c))) := e16.trans (by rw [show (10 : Int32) = nI 10 from rfl, nI_mul, nI_add])
      have q16 := t_num q2 hc ((rD cs c (rD cs c u).2).2.2.1 c + 10 * (rD cs c u).2.2.1 c)
      rw [← e17] at q16
      exact hQ h16 q16 (x1.tr (x2.tr (e17 ▸ xMod.rf.ta (fun _ z => z) 18 (by decide) _ _)))
  · have b1 := xb0.mp z
    have e : rN cs c u = (false, u) := by unfold rN; rw [if_neg (by rw [b1]; exact Bool.false_ne_true)]
    rw [e] at hQ
    rw [rD_f b1] at q1
    exact hQ h1 q1 x1
/-! sequences -/
def rK (cs : List Nat) (m : Nat) (A : Nat → Nat) (V : Nat → Nat → Int32) (h0 : xH) (Q : xR → xH → Prop) (l : List (Nat × Nat)) (u : rU) : Prop :=
  ∀ h', isTw h' m A (pV V (rS cs l u).2) → xMod (tS m A) h0 h' → Q (.inl (some (xi (xb (rS cs l u).1)))) h'
theorem rK.ff {Q : xR → xH → Prop} {l : List (Nat × Nat)} {p : Nat × Nat} (hQ : rK cs m A V h0 Q (p :: l) u) (e : (rA cs p u).1 = false) (q : isTw h m A (pV V (rA cs p u).2)) (x : xMod (tS m A) h0 h) : Q (.inl (some (xi 0))) h := by
  unfold rK rS at hQ
  rw [if_neg (by rw [e]; exact Bool.false_ne_true)] at hQ
  exact hQ h q x
theorem rK.t {Q : xR → xH → Prop} {l : List (Nat × Nat)} {p : Nat × Nat} (hQ : rK cs m A V h0 Q (p :: l) u) (e : (rA cs p u).1 = true) : rK cs m A V h0 Q l (rA cs p u).2 := by
  unfold rK rS at hQ
  rw [if_pos e] at hQ
  exact hQ
theorem rK.nn {Q : xR → xH → Prop} (hQ : rK cs m A V h0 Q [] u) (q : isTw h m A (pV V u)) (x : xMod (tS m A) h0 h) : Q (.inl (some (xi 1))) h := hQ h q x
theorem t_sC {Q : xR → xH → Prop} {P : xH → Nat → Prop} {l : List (Nat × Nat)} (hd : 2 < d) (t : tIn V cs) (hu : u.1 ≤ cs.length) (c : Nat) (hc : c < 128) (q : isTw h m A (pV V u)) (x : xMod (tS m A) h0 h) (hQ : rK cs m A V h0 Q ((0, c) :: l) u)
    (K : ∀ h1 k1, isTw h1 m A (pV V (rC cs c u).2) → xMod (tS m A) h0 h1 → (rC cs c u).2.1 ≤ cs.length → rK cs m A V h0 Q l (rC cs c u).2 → P h1 k1) :
    xcls h m = 6 ∧ xCall G d k mX3_reads [xr (some m), xi (nI c)] h (xkI (fun n3 h1 k2 => ((n3 = 0 → Q (.inl (some (xi (0 : Int32)))) h1) ∧ (¬ n3 = 0 → P h1 k2))) (fun q h _ => Q (.inr q) h)) :=
  ⟨q.cl, t_reads_c hd hc q t hu fun h1 q1 x1 => ⟨fun z => hQ.ff (xb0.mp z) q1 (x.tr x1), fun z => K h1 _ q1 (x.tr x1) (rC_le hu) (hQ.t (xb1.mp z))⟩⟩
theorem t_sD {Q : xR → xH → Prop} {P : xH → Nat → Prop} {l : List (Nat × Nat)} (hd : 2 < d) (t : tIn V cs) (hu : u.1 ≤ cs.length) (c : Nat) (hc : c < 4) (q : isTw h m A (pV V u)) (x : xMod (tS m A) h0 h) (hQ : rK cs m A V h0 Q ((1, c) :: l) u)
    (K : ∀ h1 k1, isTw h1 m A (pV V (rD cs c u).2) → xMod (tS m A) h0 h1 → (rD cs c u).2.1 ≤ cs.length → rK cs m A V h0 Q l (rD cs c u).2 → P h1 k1) :
    xcls h m = 6 ∧ xCall G d k mX3_readsDigit [xr (some m), xi (nI c)] h (xkI (fun n3 h1 k2 => ((n3 = 0 → Q (.inl (some (xi (0 : Int32)))) h1) ∧ (¬ n3 = 0 → P h1 k2))) (fun q h _ => Q (.inr q) h)) :=
  ⟨q.cl, t_readsDigit_c hd hc q t hu fun h1 q1 x1 => ⟨fun z => hQ.ff (xb0.mp z) q1 (x.tr x1), fun z => K h1 _ q1 (x.tr x1) (rD_le hu) (hQ.t (xb1.mp z))⟩⟩
theorem t_sN {Q : xR → xH → Prop} {P : xH → Nat → Prop} {l : List (Nat × Nat)} (hd : 3 < d) (t : tIn V cs) (hu : u.1 ≤ cs.length) (c : Nat) (hc : c < 4) (q : isTw h m A (pV V u)) (x : xMod (tS m A) h0 h) (hQ : rK cs m A V h0 Q ((2, c) :: l) u)
    (K : ∀ h1 k1, isTw h1 m A (pV V (rN cs c u).2) → xMod (tS m A) h0 h1 → (rN cs c u).2.1 ≤ cs.length → rK cs m A V h0 Q l (rN cs c u).2 → P h1 k1) :
    xcls h m = 6 ∧ xCall G d k mX3_readsNumber [xr (some m), xi (nI c)] h (xkI (fun n3 h1 k2 => ((n3 = 0 → Q (.inl (some (xi (0 : Int32)))) h1) ∧ (¬ n3 = 0 → P h1 k2))) (fun q h _ => Q (.inr q) h)) :=
  ⟨q.cl, t_readsNumber_c hd hc q t hu fun h1 q1 x1 => ⟨fun z => hQ.ff (xb0.mp z) q1 (x.tr x1), fun z => K h1 _ q1 (x.tr x1) (rN_le hu) (hQ.t (xb1.mp z))⟩⟩
end XTR

/-! the province: its cells hold a row -/
def stF (j : Nat) : Nat := if j = 3 then 4 else if j = 4 then 3 else j
def pvF (j : Nat) : Nat := if j = 2 then 0 else if j = 3 then 1 else if j = 4 then 4 else j + 1
def isHm (h : xH) (a i : Nat) (W : Nat → Int32) : Prop := xcls h a = 13 ∧ xval h a 0 = xi (nI i) ∧ ∀ j, j < 6 → xval h a (j + 1) = xi (pH W i j)
def isSt (h : xH) (a s : Nat) (W : Nat → Int32) : Prop := xcls h a = 14 ∧ xval h a 0 = xi (nI s) ∧ ∀ j, j < 8 → xval h a (j + 1) = xi (pS W s (stF j))
def isRow (G : xG) (h : xH) (r : Nat) (es : List Nat) : Prop := ∃ (l : Nat) (mc : Int32), xcls h r = 3 ∧ xval h r 0 = xr (some l) ∧ isAL G h l es mc
/-- the province's rows; all its cells from N on -/
def isPb (G : xG) (h : xH) (N p : Nat) (hs ss : List Nat) : Prop := ∃ (rh lh ah rs ls as : Nat) (mh ms : Int32),
  (xcls h p = 2 ∧ xval h p 0 = xr (some rh) ∧ xval h p 1 = xr (some rs)) ∧
  (xcls h rh = 3 ∧ xval h rh 0 = xr (some lh) ∧ xval h rh 1 = xi (nI 8) ∧ isAL G h lh hs mh ∧ xval h lh 1 = xr (some ah)) ∧
  (xcls h rs = 3 ∧ xval h rs 0 = xr (some ls) ∧ xval h rs 1 = xi (nI 6) ∧ isAL G h ls ss ms ∧ xval h ls 1 = xr (some as)) ∧
  (lh ≠ ls ∧ (ah = as → xcls h ah ≠ 1006)) ∧ (N ≤ p ∧ N ≤ rh ∧ N ≤ rs ∧ N ≤ lh ∧ N ≤ ls ∧ (N ≤ ah ∨ xcls h ah ≠ 1006) ∧ (N ≤ as ∨ xcls h as ≠ 1006)) ∧
  (hs.length ≤ 8 ∧ ss.length ≤ 6 ∧ (∀ e, e ∈ hs → N ≤ e) ∧ (∀ e, e ∈ ss → N ≤ e))
def isPf (h : xH) (p : Nat) (W : Nat → Int32) (nd : Int32) : Prop := (∀ j, 2 ≤ j → j ≤ 10 → j ≠ 5 → xval h p j = xi (W (pvF j))) ∧ xval h p 5 = xi nd
def isPh (h : xH) (hs : List Nat) (W : Nat → Int32) : Prop := ∀ i a, hs[i]? = some a → isHm h a i W
def isPs (h : xH) (ss : List Nat) (W : Nat → Int32) : Prop := ∀ i a, ss[i]? = some a → isSt h a i W
def isPr (G : xG) (h : xH) (N p : Nat) (hs ss : List Nat) (W : Nat → Int32) (nd : Int32) : Prop := isPb G h N p hs ss ∧ isPf h p W nd ∧ isPh h hs W ∧ isPs h ss W ∧ W 2 = nI hs.length ∧ W 3 = nI ss.length
def pIc (c : Nat) : Prop := c ≠ 2 ∧ c ≠ 3 ∧ c ≠ 4 ∧ c ≠ 13 ∧ c ≠ 14 ∧ c ≠ 1006 ∧ c ≠ 1009
section XPR
variable {G : xG} {d k : Nat} {h h' : xH} {T : Nat → xH → Nat → Prop} {S : List Nat} {p N i j s c a b e r : Nat} {es hs ss : List Nat} {W W' : Nat → Int32} {nd x y z v : Int32}
/-! places in a row of numbers -/
theorem pH_uH {i' j' : Nat} (hj : j < 6) (hj' : j' < 6) : pH (uW W (13 + 6 * i + j) v) i' j' = if i' = i ∧ j' = j then v else pH W i' j' := by
  unfold pH uW
  by_cases h1 : i' = i ∧ j' = j
  · rw [if_pos h1, if_pos (by omega)]
  · rw [if_neg h1, if_neg (by omega)]
theorem pS_uS {i' j' : Nat} (hj : j < 8) (hj' : j' < 8) : pS (uW W (61 + 8 * i + j) v) i' j' = if i' = i ∧ j' = j then v else pS W i' j' := by
  unfold pS uW
  by_cases h1 : i' = i ∧ j' = j
  · rw [if_pos h1, if_pos (by omega)]
  · rw [if_neg h1, if_neg (by omega)]
theorem pH_uS {i' j' : Nat} (hi : i' < 8) (hj' : j' < 6) : pH (uW W (61 + 8 * i + j) v) i' j' = pH W i' j' := uW_ne (by omega)
theorem pS_uH {i' j' : Nat} (hi : i < 8) (hj : j < 6) : pS (uW W (13 + 6 * i + j) v) i' j' = pS W i' j' := uW_ne (by omega)
theorem pH_u0 {i' j' n : Nat} (hn : n < 13) : pH (uW W n v) i' j' = pH W i' j' := uW_ne (by omega)
theorem pS_u0 {i' j' n : Nat} (hn : n < 13) : pS (uW W n v) i' j' = pS W i' j' := uW_ne (by omega)
/-! what stays -/
theorem isHm.md (q : isHm h a i W) (m : xMod S h h') (h1 : a ∉ S) : isHm h' a i W := by
  obtain ⟨q1, q2, q3⟩ := q
  exact ⟨m.cl' q1 (by decide), m.vl' q1 (by decide) h1 q2, fun j hj => m.vl' q1 (by decide) h1 (q3 j hj)⟩
theorem isSt.md (q : isSt h a i W) (m : xMod S h h') (h1 : a ∉ S) : isSt h' a i W := by
  obtain ⟨q1, q2, q3⟩ := q
  exact ⟨m.cl' q1 (by decide), m.vl' q1 (by decide) h1 q2, fun j hj => m.vl' q1 (by decide) h1 (q3 j hj)⟩
theorem isPh.md (q : isPh h hs W) (m : xMod S h h') (h1 : ∀ x, x ∈ S → xcls h x ≠ 13) : isPh h' hs W := fun i a e => (q i a e).md m (fun z => h1 a z (q i a e).1)
theorem isPs.md (q : isPs h ss W) (m : xMod S h h') (h1 : ∀ x, x ∈ S → xcls h x ≠ 14) : isPs h' ss W := fun i a e => (q i a e).md m (fun z => h1 a z (q i a e).1)
theorem isPf.md (q : isPf h p W nd) (m : xMod S h h') (hp : xcls h p = 2) (h1 : p ∉ S) : isPf h' p W nd := ⟨fun j a b c => m.vl' hp (by decide) h1 (q.1 j a b c), m.vl' hp (by decide) h1 q.2⟩
theorem isAL.arr {al : Nat} {mc : Int32} (q : isAL G h al es mc) {a : Nat} (e : xval h al 1 = xr (some a)) : xcls h a = 1006 ∨ xcls h a = 1009 := by
  obtain ⟨-, -, -, -, arr, q5, q6, -⟩ := q
  have : arr = a := by
    have := q5.symm.trans e
    simpa using this
  subst this
  rcases q6 with ⟨z, -⟩ | ⟨z, -⟩
  · exact Or.inr z
  · exact Or.inl z
theorem isPb.md (q : isPb G h N p hs ss) (m : xMod S h h') (h1 : ∀ x, x ∈ S → xcls h x ≠ 2 ∧ xcls h x ≠ 3 ∧ xcls h x ≠ 4 ∧ xcls h x ≠ 1006 ∧ xcls h x ≠ 1009) : isPb G h' N p hs ss := by
  obtain ⟨rh, lh, ah, rs, ls, as, mh, ms, ⟨a1, a2, a3⟩, ⟨b1, b2, b3, b4, b5⟩, ⟨c1, c2, c3, c4, c5⟩, ⟨d1, d2⟩, ⟨e1, e2, e3, e4, e5, e6, e7⟩, f⟩ := q
  have np : p ∉ S := fun z => (h1 p z).1 a1
  have nrh : rh ∉ S := fun z => (h1 rh z).2.1 b1
  have nrs : rs ∉ S := fun z => (h1 rs z).2.1 c1
  have nlh : lh ∉ S := fun z => (h1 lh z).2.2.1 b4.1
  have nls : ls ∉ S := fun z => (h1 ls z).2.2.1 c4.1
  have kh : xcls h' ah = xcls h ah := m.cl (by rcases b4.arr b5 with z | z <;> rw [z] <;> decide)
  have ks : xcls h' as = xcls h as := m.cl (by rcases c4.arr c5 with z | z <;> rw [z] <;> decide)
  refine ⟨rh, lh, ah, rs, ls, as, mh, ms, ⟨m.cl' a1 (by decide), m.vl' a1 (by decide) np a2, m.vl' a1 (by decide) np a3⟩, ⟨m.cl' b1 (by decide), m.vl' b1 (by decide) nrh b2, m.vl' b1 (by decide) nrh b3, b4.md m nlh (fun x hx => ⟨(h1 x hx).2.2.2.1, (h1 x hx).2.2.2.2⟩), m.vl' b4.1 (by decide) nlh b5⟩, ⟨m.cl' c1 (by decide), m.vl' c1 (by decide) nrs c2, m.vl' c1 (by decide) nrs c3, c4.md m nls (fun x hx => ⟨(h1 x hx).2.2.2.1, (h1 x hx).2.2.2.2⟩), m.vl' c4.1 (by decide) nls c5⟩, ⟨d1, ?_⟩, ⟨e1, e2, e3, e4, e5, ?_, ?_⟩, f⟩
  · rw [kh]; exact d2
  · rw [kh]; exact e6
  · rw [ks]; exact e7
theorem isPr.md (q : isPr G h N p hs ss W nd) (m : xMod S h h') (h1 : ∀ x, x ∈ S → pIc (xcls h x)) : isPr G h' N p hs ss W nd := by
  obtain ⟨q1, q2, q3, q4, q5⟩ := q
  have hp : xcls h p = 2 := by
    obtain ⟨_, _, _, _, _, _, _, _, ⟨a1, -, -⟩, -⟩ := q1
    exact a1
  exact ⟨q1.md m (fun x hx => ⟨(h1 x hx).1, (h1 x hx).2.1, (h1 x hx).2.2.1, (h1 x hx).2.2.2.2.2.1, (h1 x hx).2.2.2.2.2.2⟩), q2.md m hp (fun z => (h1 p z).1 hp), q3.md m (fun x hx => (h1 x hx).2.2.2.1), q4.md m (fun x hx => (h1 x hx).2.2.2.2.1), q5⟩
theorem isPr.ex (q : isPr G h N p hs ss W nd) (m : xExt h h') : isPr G h' N p hs ss W nd := q.md m (fun x hx => by cases hx)
theorem isPb.cl (q : isPb G h N p hs ss) : xcls h p = 2 := by
  obtain ⟨_, _, _, _, _, _, _, _, ⟨a1, -, -⟩, -⟩ := q
  exact a1
theorem isPr.cl (q : isPr G h N p hs ss W nd) : xcls h p = 2 := q.1.cl
theorem isPr.lh (q : isPr G h N p hs ss W nd) : hs.length ≤ 8 := by
  obtain ⟨⟨_, _, _, _, _, _, _, _, -, -, -, -, -, f, -⟩, -⟩ := q
  exact f
theorem isPr.ls (q : isPr G h N p hs ss W nd) : ss.length ≤ 6 := by
  obtain ⟨⟨_, _, _, _, _, _, _, _, -, -, -, -, -, -, f, -⟩, -⟩ := q
  exact f
theorem isPr.nh (q : isPr G h N p hs ss W nd) : nH W = hs.length := by
  have := q.lh
  unfold nH
  rw [q.2.2.2.2.1, nI_clamp (by omega)]
theorem isPr.ns (q : isPr G h N p hs ss W nd) : nS W = ss.length := by
  have := q.ls
  unfold nS
  rw [q.2.2.2.2.2, nI_clamp (by omega)]
theorem isPr.pw (q : isPr G h N p hs ss W nd) : pW W := ⟨by rw [q.nh]; exact q.2.2.2.2.1, by rw [q.nh]; exact q.lh, by rw [q.ns]; exact q.2.2.2.2.2, by rw [q.ns]; exact q.ls⟩
theorem isPr.hm (q : isPr G h N p hs ss W nd) (hi : hs[i]? = some a) : isHm h a i W := q.2.2.1 i a hi
theorem isPr.st (q : isPr G h N p hs ss W nd) (hi : ss[i]? = some a) : isSt h a i W := q.2.2.2.1 i a hi
theorem isPr.hx (q : isPr G h N p hs ss W nd) (hi : i < nH W) : ∃ a, hs[i]? = some a := ⟨hs[i]'(by rw [q.nh] at hi; exact hi), List.getElem?_eq_getElem _⟩
theorem isPr.sx (q : isPr G h N p hs ss W nd) (hi : i < nS W) : ∃ a, ss[i]? = some a := ⟨ss[i]'(by rw [q.ns] at hi; exact hi), List.getElem?_eq_getElem _⟩
theorem isPr.hi (q : isPr G h N p hs ss W nd) (hi : hs[i]? = some a) : i < nH W := by rw [q.nh]; exact (List.getElem?_eq_some_iff.mp hi).1
theorem isPr.si (q : isPr G h N p hs ss W nd) (hi : ss[i]? = some a) : i < nS W := by rw [q.ns]; exact (List.getElem?_eq_some_iff.mp hi).1
/-- different numbers, different cells -/
theorem isPh.inj (q : isPh h hs W) (hl : hs.length ≤ 8) (h1 : hs[i]? = some a) (h2 : hs[j]? = some a) : i = j := by
  have a1 := (List.getElem?_eq_some_iff.mp h1).1
  have a2 := (List.getElem?_eq_some_iff.mp h2).1
  have := (q i a h1).2.1.symm.trans (q j a h2).2.1
  simp only [Sum.inl.injEq] at this
  exact (nI_eq (by omega) (by omega)).mp this
theorem isPs.inj (q : isPs h ss W) (hl : ss.length ≤ 6) (h1 : ss[i]? = some a) (h2 : ss[j]? = some a) : i = j := by
  have a1 := (List.getElem?_eq_some_iff.mp h1).1
  have a2 := (List.getElem?_eq_some_iff.mp h2).1
  have := (q i a h1).2.1.symm.trans (q j a h2).2.1
  simp only [Sum.inl.injEq] at this
  exact (nI_eq (by omega) (by omega)).mp this
/-! rows read -/
theorem pr_h {R : Nat → Prop} (q : isPr G h N p hs ss W nd) (K : ∀ r, isRow G h r hs → xcls h r = 3 → R r) : xcls h p = 2 ∧ ∃ o1 : Option Nat, xval h p 0 = xr o1 ∧ ∃ a2, o1 = some a2 ∧ xcls h a2 = 3 ∧ R a2 := by
  obtain ⟨⟨rh, lh, ah, rs, ls, as, mh, ms, ⟨a1, a2, a3⟩, ⟨b1, b2, b3, b4, b5⟩, -⟩, -⟩ := q
  exact ⟨a1, _, a2, _, rfl, b1, K rh ⟨lh, mh, b1, b2, b4⟩ b1⟩
theorem pr_s {R : Nat → Prop} (q : isPr G h N p hs ss W nd) (K : ∀ r, isRow G h r ss → xcls h r = 3 → R r) : xcls h p = 2 ∧ ∃ o1 : Option Nat, xval h p 1 = xr o1 ∧ ∃ a2, o1 = some a2 ∧ xcls h a2 = 3 ∧ R a2 := by
  obtain ⟨⟨rh, lh, ah, rs, ls, as, mh, ms, ⟨a1, a2, a3⟩, -, ⟨b1, b2, b3, b4, b5⟩, -⟩, -⟩ := q
  exact ⟨a1, _, a3, _, rfl, b1, K rs ⟨ls, ms, b1, b2, b4⟩ b1⟩
theorem pr_f {R : Int32 → Prop} (q : isPr G h N p hs ss W nd) (j : Nat) (h2 : 2 ≤ j) (h3 : j ≤ 10) (h5 : j ≠ 5) (K : R (W (pvF j))) : xcls h p = 2 ∧ ∃ n1 : Int32, xval h p j = xi n1 ∧ R n1 := ⟨q.cl, _, q.2.1.1 j h2 h3 h5, K⟩
theorem row_many_c {F : Int32 → xH → Nat → Prop} (hd : 2 < d) (q : isRow G h r es) (hQ : F (nI es.length) h k) : xCall G d k mX2_many [xr (some r)] h (xkI F T) := by
  obtain ⟨l, mc, a, b, e⟩ := q
  exact xCall_of (d' := 2) hd (Nat.zero_le k) (vc_X2_many ⟨a, _, b, _, rfl, e.1, al_size_c (by decide) e hQ⟩)
theorem in_c {F : Int32 → xH → Nat → Prop} {lo hi : Int32} (hd : 1 < d) (hQ : F (xb (pIn x lo hi)) h k) : xCall G d k mX0_in [xi x, xi lo, xi hi] h (xkI F T) := by
  unfold pIn at hQ
  refine xCall_of (d' := 1) hd (Nat.zero_le k) (vc_X0_in ⟨fun z => ?_, fun z => ⟨fun y => ?_, fun y => ?_⟩⟩)
  · rw [decide_eq_false (fun x => x.1 z)] at hQ; exact hQ
  · rw [decide_eq_false (fun x => x.2 y)] at hQ; exact hQ
  · rw [decide_eq_true ⟨z, y⟩] at hQ; exact hQ
theorem row_has_c {F : Int32 → xH → Nat → Prop} (hd : 2 < d) (q : isRow G h r es) (hQ : F (xb (pHas es.length x)) h k) : xCall G d k mX2_has [xr (some r), xi x] h (xkI F T) := by
  obtain ⟨l, mc, a, b, e⟩ := q
  exact xCall_of (d' := 2) hd (Nat.zero_le k) (vc_X2_has ⟨a, _, b, _, rfl, e.1, al_size_c (by decide) e (in_c (by decide) ⟨xb_01 _, hQ⟩)⟩)
theorem row_of_c {F : Option Nat → xH → Nat → Prop} (hd : 4 < d) (q : isRow G h r es) (hi : es[i]? = some e) (hc : xcls h e ∈ cst_HamletWells_Standing) (hQ : F (some e) h k) : xCall G d k mX2_of [xr (some r), xi (nI i)] h (xkR F T) := by
  obtain ⟨l, mc, a, b, q⟩ := q
  exact xCall_of (d' := 4) hd (Nat.zero_le k) (vc_X2_of ⟨a, _, b, _, rfl, q.1, al_get_c (by decide) q hi ⟨fun b e => by cases e; exact hc, hQ⟩⟩)
theorem row_iter_c {F : Option Nat → xH → Nat → Prop} (hd : 3 < d) (hk : 6 ≤ k) (q : isRow G h r es) (hQ : ∀ h' it, xExt h h' → xsz h ≤ it → isRI G h' it es 0 → F (some it) h' (k - 6)) : xCall G d k mX2_iterator [xr (some r)] h (xkR F T) := by
  obtain ⟨l, mc, a, b, q⟩ := q
  exact row_iter hd hk a b q hQ
theorem isRow.xc (q : isRow G h r es) : isXC G h r es := by
  obtain ⟨l, mc, a, b, q⟩ := q
  exact Or.inl ⟨l, mc, a, b, q⟩
theorem isHm.cs (q : isHm h a i W) : xcls h a ∈ cst_HamletWells_Standing ∧ xcls h a ∈ cst_HamletWells_Hamlet ∧ xcls h a ∈ cst_java_lang_Object := by rw [q.1]; decide
theorem isSt.cs (q : isSt h a i W) : xcls h a ∈ cst_HamletWells_Standing ∧ xcls h a ∈ cst_HamletWells_Site ∧ xcls h a ∈ cst_java_lang_Object := by rw [q.1]; decide
end XPR

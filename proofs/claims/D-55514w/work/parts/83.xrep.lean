/-! the class's own object -/
abbrev xSt := (Nat → Int32) × Int32
abbrev xRf := Int32 × Int32 × Option (Option (Int32 × Int32))
def isNa (h : xH) (da p : Nat) : Prop := xcls h p = 2 ∧ ∀ j, j < 2 → ∃ r l a, xval h p j = xr (some r) ∧ xcls h r = 3 ∧ xval h r 0 = xr (some l) ∧ xcls h l = 4 ∧ xval h l 1 = xr (some a) ∧ a ≠ da
def isFz (G : xG) (h : xH) (da p : Nat) (s : xSt) : Prop := (∃ hs ss, isPr G h 0 p hs ss s.1 s.2) ∧ isNa h da p
section XRP
variable {G : xG} {d k : Nat} {h h' h0 : xH} {T : Nat → xH → Nat → Prop} {S : List Nat} {x p N N0 i j c a b e r ka mm w m ll n o al most dq da ip f : Nat} {es hs ss hs' ss' ps ps' : List Nat} {W W' g X' Y' u : Nat → Int32} {nd y z v x' y' t mc : Int32} {s s' : xSt}
theorem isAL.md3 (q : isAL G h al es mc) (m : xMod S h h') (h1 : al ∉ S) (h2 : ∀ a, xval h al 1 = xr (some a) → a ∉ S) : isAL G h' al es mc := by
  obtain ⟨q1, q2, q3, q4, arr, q5, q6, q7⟩ := q
  have ha : xcls h arr ≠ 0 ∧ arr ∉ S := by
    refine ⟨?_, h2 arr q5⟩
    rcases q6 with ⟨z, -⟩ | ⟨z, -⟩ <;> rw [z] <;> decide
  refine ⟨m.cl' q1 (by decide), m.vl' q1 (by decide) h1 q2, m.vl' q1 (by decide) h1 q3, q4, arr, m.vl' q1 (by decide) h1 q5, ?_, fun i e hi => (m.vl ha.1 ha.2 i).trans (q7 i e hi)⟩
  rw [m.cl ha.1, m.ln ha.1]
  exact q6
theorem isPb.md2 (q : isPb G h N p hs ss) (nq : isNa h da p) (m : xMod S h h') (h1 : ∀ x, x ∈ S → (x = da ∧ xcls h x ≠ 2 ∧ xcls h x ≠ 3 ∧ xcls h x ≠ 4) ∨ pIc (xcls h x)) : isPb G h' N p hs ss := by
  obtain ⟨rh, lh, ah, rs, ls, as, mh, ms, ⟨a1, a2, a3⟩, ⟨b1, b2, b3, b4, b5⟩, ⟨c1, c2, c3, c4, c5⟩, ⟨d1, d2⟩, ⟨e1, e2, e3, e4, e5, e6, e7⟩, f⟩ := q
  have g : ∀ x, x ∈ S → xcls h x ≠ 2 ∧ xcls h x ≠ 3 ∧ xcls h x ≠ 4 := fun x hx => (h1 x hx).elim (fun y => y.2) (fun y => ⟨y.1, y.2.1, y.2.2.1⟩)
  have np : p ∉ S := fun z => (g p z).1 a1
  have nrh : rh ∉ S := fun z => (g rh z).2.1 b1
  have nrs : rs ∉ S := fun z => (g rs z).2.1 c1
  have nlh : lh ∉ S := fun z => (g lh z).2.2 b4.1
  have nls : ls ∉ S := fun z => (g ls z).2.2 c4.1
  have kh : xcls h' ah = xcls h ah := m.cl (by rcases b4.arr b5 with z | z <;> rw [z] <;> decide)
  have ks : xcls h' as = xcls h as := m.cl (by rcases c4.arr c5 with z | z <;> rw [z] <;> decide)
  have xr_inj : ∀ {a b : Nat}, xr (some a) = xr (some b) → a = b := fun z => by simpa using z
  have nah : ∀ a, xval h lh 1 = xr (some a) → a ∉ S := fun a ea hS => by
    obtain ⟨r, l, a', t1, -, t2, -, t3, t4⟩ := nq.2 0 (by decide)
    have r1 := xr_inj (t1.symm.trans a2)
    subst r1
    have l1 := xr_inj (t2.symm.trans b2)
    subst l1
    have e1 := xr_inj (t3.symm.trans ea)
    subst e1
    rcases h1 _ hS with z | z
    · exact t4 z.1
    · rcases b4.arr ea with y | y
      · exact z.2.2.2.2.2.1 y
      · exact z.2.2.2.2.2.2 y
  have nas : ∀ a, xval h ls 1 = xr (some a) → a ∉ S := fun a ea hS => by
    obtain ⟨r, l, a', t1, -, t2, -, t3, t4⟩ := nq.2 1 (by decide)
    have r1 := xr_inj (t1.symm.trans a3)
    subst r1
    have l1 := xr_inj (t2.symm.trans c2)
    subst l1
    have e1 := xr_inj (t3.symm.trans ea)
    subst e1
    rcases h1 _ hS with z | z
    · exact t4 z.1
    · rcases c4.arr ea with y | y
      · exact z.2.2.2.2.2.1 y
      · exact z.2.2.2.2.2.2 y
  refine ⟨rh, lh, ah, rs, ls, as, mh, ms, ⟨m.cl' a1 (by decide), m.vl' a1 (by decide) np a2, m.vl' a1 (by decide) np a3⟩, ⟨m.cl' b1 (by decide), m.vl' b1 (by decide) nrh b2, m.vl' b1 (by decide) nrh b3, b4.md3 m nlh nah, m.vl' b4.1 (by decide) nlh b5⟩, ⟨m.cl' c1 (by decide), m.vl' c1 (by decide) nrs c2, m.vl' c1 (by decide) nrs c3, c4.md3 m nls nas, m.vl' c4.1 (by decide) nls c5⟩, ⟨d1, ?_⟩, ⟨e1, e2, e3, e4, e5, ?_, ?_⟩, f⟩
  · rw [kh]; exact d2
  · rw [kh]; exact e6
  · rw [ks]; exact e7
theorem isNa.md (q : isNa h da p) (m : xMod S h h') (h1 : ∀ x, x ∈ S → xcls h x ≠ 2 ∧ xcls h x ≠ 3 ∧ xcls h x ≠ 4) : isNa h' da p :=
  ⟨m.cl' q.1 (by decide), fun j hj => by
    obtain ⟨r, l, a, t1, t2, t3, t4, t5, t6⟩ := q.2 j hj
    exact ⟨r, l, a, m.vl' q.1 (by decide) (fun z => (h1 p z).1 q.1) t1, m.cl' t2 (by decide), m.vl' t2 (by decide) (fun z => (h1 r z).2.1 t2) t3, m.cl' t4 (by decide), m.vl' t4 (by decide) (fun z => (h1 l z).2.2 t4) t5, t6⟩⟩
theorem isFz.md (q : isFz G h da p s) (m : xMod S h h') (h1 : ∀ x, x ∈ S → (x = da ∧ xcls h x ≠ 2 ∧ xcls h x ≠ 3 ∧ xcls h x ≠ 4 ∧ xcls h x ≠ 13 ∧ xcls h x ≠ 14) ∨ pIc (xcls h x)) : isFz G h' da p s := by
  obtain ⟨⟨hs, ss, q1, q2, q3, q4, q5⟩, nq⟩ := q
  have g : ∀ x, x ∈ S → xcls h x ≠ 2 ∧ xcls h x ≠ 3 ∧ xcls h x ≠ 4 ∧ xcls h x ≠ 13 ∧ xcls h x ≠ 14 := fun x hx => (h1 x hx).elim (fun y => y.2) (fun y => ⟨y.1, y.2.1, y.2.2.1, y.2.2.2.1, y.2.2.2.2.1⟩)
  have hp : xcls h p = 2 := nq.1
  exact ⟨⟨hs, ss, q1.md2 nq m (fun x hx => (h1 x hx).elim (fun y => Or.inl ⟨y.1, y.2.1, y.2.2.1, y.2.2.2.1⟩) Or.inr), q2.md m hp (fun z => (g p z).1 hp), q3.md m (fun x hx => (g x hx).2.2.2.1), q4.md m (fun x hx => (g x hx).2.2.2.2), q5⟩, nq.md m (fun x hx => ⟨(g x hx).1, (g x hx).2.1, (g x hx).2.2.1⟩)⟩
theorem isFz.ex (q : isFz G h da p s) (m : xExt h h') : isFz G h' da p s := q.md m (fun x hx => by cases hx)
theorem isPr.n0 (q : isPr G h N p hs ss W nd) : isPr G h 0 p hs ss W nd := by
  obtain ⟨⟨rh, lh, ah, rs, ls, as, mh, ms, a, b, c, d, -, f1, f2, -, -⟩, q⟩ := q
  exact ⟨⟨rh, lh, ah, rs, ls, as, mh, ms, a, b, c, d, ⟨Nat.zero_le _, Nat.zero_le _, Nat.zero_le _, Nat.zero_le _, Nat.zero_le _, Or.inl (Nat.zero_le _), Or.inl (Nat.zero_le _)⟩, f1, f2, fun _ _ => Nat.zero_le _, fun _ _ => Nat.zero_le _⟩, q⟩
theorem isPr.na (q : isPr G h N p hs ss W nd) (h9 : xcls h da ≠ 1009) (h6 : xcls h da = 1006 → da < N) : isNa h da p := by
  obtain ⟨⟨rh, lh, ah, rs, ls, as, mh, ms, ⟨a1, a2, a3⟩, ⟨b1, b2, b3, b4, b5⟩, ⟨c1, c2, c3, c4, c5⟩, -, ⟨-, -, -, -, -, e6, e7⟩, -⟩, -⟩ := q
  refine ⟨a1, fun j hj => ?_⟩
  match j, hj with
  | 0, _ =>
    refine ⟨rh, lh, ah, a2, b1, b2, b4.1, b5, fun z => ?_⟩
    subst z
    rcases b4.arr b5 with y | y
    · have := h6 y
      rcases e6 with z | z
      · omega
      · exact z y
    · exact h9 y
  | 1, _ =>
    refine ⟨rs, ls, as, a3, c1, c2, c4.1, c5, fun z => ?_⟩
    subst z
    rcases c4.arr c5 with y | y
    · have := h6 y
      rcases e7 with z | z
      · omega
      · exact z y
    · exact h9 y
theorem isPr.fz (q : isPr G h N p hs ss W nd) (h9 : xcls h da ≠ 1009) (h6 : xcls h da = 1006 → da < N) : isFz G h da p (W, nd) := ⟨⟨hs, ss, q.n0⟩, q.na h9 h6⟩
end XRP
/-- a refusal as it lies in the heap -/
def isRF (h : xH) (e : Nat) (r : xRf) : Prop := ∃ ce, isRf h e r.1 r.2.1 ce ∧ (r.2.2 = none → ce = none) ∧ (r.2.2 = some none → ∃ a, ce = some a ∧ xcls h a = 16) ∧ ∀ y z, r.2.2 = some (some (y, z)) → ∃ a, ce = some a ∧ isRf h a y z none
def isStr (h : xH) (st : Nat) (cs : List Nat) : Prop := xcls h st = 12 ∧ xval h st 1 = xi 0 ∧ ∃ bv, xval h st 0 = xr (some bv) ∧ xcls h bv = 1000 ∧ xlen h bv = cs.length ∧ ∀ i c, cs[i]? = some c → c < 128 ∧ xval h bv i = xi (nI c)
def isXn (G : xG) (h : xH) (x da : Nat) (s : xSt) : Prop := ∃ p, xval h x 0 = xr (some p) ∧ isFz G h da p s
def isXs (G : xG) (h : xH) (x da : Nat) (o : Option xSt) : Prop := (o = none → xval h x 1 = xr none) ∧ ∀ s, o = some s → ∃ p, xval h x 1 = xr (some p) ∧ isFz G h da p s
def isXb (G : xG) (h : xH) (x dq da : Nat) (bs : List xSt) : Prop := xval h x 2 = xr (some dq) ∧ ∃ ps, isAD h dq da ps ∧ ps.length = bs.length ∧ ps.length ≤ 8 ∧ ∀ (i p : Nat) (s : xSt), ps[i]? = some p → bs[i]? = some s → isFz G h da p s
def isXr (h : xH) (x : Nat) (o : Option xRf) : Prop := (o = none → xval h x 3 = xr none) ∧ ∀ r, o = some r → ∃ e, xval h x 3 = xr (some e) ∧ isRF h e r
def isXl (h : xH) (x : Nat) (cs : List Nat) : Prop := ∃ st, xval h x 4 = xr (some st) ∧ isStr h st cs
def isXp (h : xH) (x ip : Nat) (u : Nat → Int32) (f : Nat) (v : Int32) : Prop := xval h x 5 = xr (some ip) ∧ xcls h ip = 1001 ∧ xlen h ip = 60 ∧ (∀ i, i < f → xval h ip i = xi (u i)) ∧ xval h x 6 = xi (nI f) ∧ f ≤ 60 ∧ xval h x 7 = xi v
abbrev xZ := xSt × Option xSt × List xSt × Option xRf × List Nat × (Nat → Int32) × Nat × Int32
def isX (G : xG) (h : xH) (x dq da ip : Nat) (Z : xZ) : Prop := xcls h x = 1 ∧ isXn G h x da Z.1 ∧ isXs G h x da Z.2.1 ∧ isXb G h x dq da Z.2.2.1 ∧ isXr h x Z.2.2.2.1 ∧ isXl h x Z.2.2.2.2.1 ∧ isXp h x ip Z.2.2.2.2.2.1 Z.2.2.2.2.2.2.1 Z.2.2.2.2.2.2.2
section XRQ
variable {G : xG} {d k : Nat} {h h' h0 : xH} {T : Nat → xH → Nat → Prop} {S : List Nat} {x p N N0 i j c a b e r ka mm w m ll n al most dq da ip f : Nat} {es hs ss hs' ss' ps ps' cs : List Nat} {W W' g X' Y' u : Nat → Int32} {nd y z v x' y' t mc : Int32} {s s' : xSt} {o : Option xSt} {bs : List xSt} {ro : Option xRf} {rf : xRf} {Z : xZ}
theorem isRF.md (q : isRF h e rf) (m : xMod S h h') (h1 : ∀ x, x ∈ S → xcls h x ≠ 15) : isRF h' e rf := by
  obtain ⟨ce, q1, q2, q3, q4⟩ := q
  refine ⟨ce, q1.md m (fun z => h1 e z q1.1), q2, fun z => ?_, fun y z e => ?_⟩
  · obtain ⟨a, e1, e2⟩ := q3 z
    exact ⟨a, e1, m.cl' e2 (by decide)⟩
  · obtain ⟨a, e1, e2⟩ := q4 y z e
    exact ⟨a, e1, e2.md m (fun z => h1 a z e2.1)⟩
theorem isStr.md (q : isStr h a cs) (m : xMod S h h') (h1 : ∀ x, x ∈ S → xcls h x ≠ 12 ∧ xcls h x ≠ 1000) : isStr h' a cs := by
  obtain ⟨q1, q2, bv, q3, q4, q5, q6⟩ := q
  have n1 : a ∉ S := fun z => (h1 a z).1 q1
  have n2 : bv ∉ S := fun z => (h1 bv z).2 q4
  exact ⟨m.cl' q1 (by decide), m.vl' q1 (by decide) n1 q2, bv, m.vl' q1 (by decide) n1 q3, m.cl' q4 (by decide), (m.ln (by rw [q4]; decide)).trans q5, fun i c e => ⟨(q6 i c e).1, m.vl' q4 (by decide) n2 (q6 i c e).2⟩⟩
def okZ (h : xH) (da : Nat) (S : List Nat) : Prop := ∀ x, x ∈ S → (x = da ∧ xcls h x = 1006) ∨ xcls h x = 1 ∨ xcls h x = 5 ∨ xcls h x = 1001
theorem okZ.fz (q : okZ h da S) : ∀ x, x ∈ S → (x = da ∧ xcls h x ≠ 2 ∧ xcls h x ≠ 3 ∧ xcls h x ≠ 4 ∧ xcls h x ≠ 13 ∧ xcls h x ≠ 14) ∨ pIc (xcls h x) := fun x hx => by
  rcases q x hx with ⟨z, y⟩ | z | z | z
  · left; rw [y]; exact ⟨z, by decide⟩
  · right; rw [z]; unfold pIc; decide
  · right; rw [z]; unfold pIc; decide
  · right; rw [z]; unfold pIc; decide
theorem okZ.nc (q : okZ h da S) : ∀ x, x ∈ S → xcls h x ≠ 15 ∧ xcls h x ≠ 12 ∧ xcls h x ≠ 1000 := fun x hx => by
  rcases q x hx with ⟨z, y⟩ | y | y | y <;> rw [y] <;> decide
theorem isXn.md (q : isXn G h x da s) (e : xval h' x 0 = xval h x 0) (m : xMod S h h') (o : okZ h da S) : isXn G h' x da s := by
  obtain ⟨p, q1, q2⟩ := q
  exact ⟨p, e.trans q1, q2.md m o.fz⟩
theorem isXs.md (q : isXs G h x da o) (e : xval h' x 1 = xval h x 1) (m : xMod S h h') (ok : okZ h da S) : isXs G h' x da o :=
  ⟨fun z => e.trans (q.1 z), fun s hs => by
    obtain ⟨p, q1, q2⟩ := q.2 s hs
    exact ⟨p, e.trans q1, q2.md m ok.fz⟩⟩
theorem isXb.md (q : isXb G h x dq da bs) (e : xval h' x 2 = xval h x 2) (m : xMod S h h') (ok : okZ h da S) (n1 : dq ∉ S) (n2 : da ∉ S) : isXb G h' x dq da bs := by
  obtain ⟨q1, ps, q2, q3, q4, q5⟩ := q
  exact ⟨e.trans q1, ps, q2.md m n1 n2, q3, q4, fun i p s a b => (q5 i p s a b).md m ok.fz⟩
theorem isXr.md (q : isXr h x ro) (e : xval h' x 3 = xval h x 3) (m : xMod S h h') (ok : okZ h da S) : isXr h' x ro :=
  ⟨fun z => e.trans (q.1 z), fun s hs => by
    obtain ⟨p, q1, q2⟩ := q.2 s hs
    exact ⟨p, e.trans q1, q2.md m (fun x hx => (ok.nc x hx).1)⟩⟩
theorem isXl.md (q : isXl h x cs) (e : xval h' x 4 = xval h x 4) (m : xMod S h h') (ok : okZ h da S) : isXl h' x cs := by
  obtain ⟨p, q1, q2⟩ := q
  exact ⟨p, e.trans q1, q2.md m (fun x hx => (ok.nc x hx).2)⟩
theorem isXp.md (q : isXp h x ip u f v) (e5 : xval h' x 5 = xval h x 5) (e6 : xval h' x 6 = xval h x 6) (e7 : xval h' x 7 = xval h x 7) (m : xMod S h h') (n1 : ip ∉ S) : isXp h' x ip u f v := by
  obtain ⟨q1, q2, q3, q4, q5, q6, q7⟩ := q
  exact ⟨e5.trans q1, m.cl' q2 (by decide), (m.ln (by rw [q2]; decide)).trans q3, fun i hi => m.vl' q2 (by decide) n1 (q4 i hi), e6.trans q5, q6, e7.trans q7⟩
theorem isX.ex (q : isX G h x dq da ip Z) (m : xExt h h') : isX G h' x dq da ip Z := by
  obtain ⟨q1, q2, q3, q4, q5, q6, q7⟩ := q
  have e : ∀ j, xval h' x j = xval h x j := fun j => m.vl (by rw [q1]; decide) j
  have ok : okZ h da [] := fun x hx => by cases hx
  exact ⟨m.cl' q1 (by decide), q2.md (e 0) m ok, q3.md (e 1) m ok, q4.md (e 2) m ok (by simp) (by simp), q5.md (e 3) m ok, q6.md (e 4) m ok, q7.md (e 5) (e 6) (e 7) m (by simp)⟩
theorem isX.cl (q : isX G h x dq da ip Z) : xcls h x = 1 := q.1
theorem isX.nw (q : isX G h x dq da ip Z) : ∃ p hs ss, isNw G h x p hs ss Z.1.1 Z.1.2 := by
  obtain ⟨q1, ⟨p, q2, ⟨hs, ss, q3⟩, q4⟩, -⟩ := q
  exact ⟨p, hs, ss, q1, q2, q3⟩
end XRQ

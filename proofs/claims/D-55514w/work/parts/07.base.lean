/-! ===== the abstract world: values, a heap of cells by numbers, what it says of the machine's heap ===== -/
abbrev xV : Type := Int32 ⊕ (Option Nat ⊕ (Int64 ⊕ (UInt32 ⊕ UInt64)))
abbrev xi (n : Int32) : xV := Sum.inl n
abbrev xr (o : Option Nat) : xV := Sum.inr (Sum.inl o)
abbrev xj (n : Int64) : xV := Sum.inr (Sum.inr (Sum.inl n))
abbrev xf (n : UInt32) : xV := Sum.inr (Sum.inr (Sum.inr (Sum.inl n)))
abbrev xd (n : UInt64) : xV := Sum.inr (Sum.inr (Sum.inr (Sum.inr n)))
def toV (v : xV) : Value := match v with
  | .inl n => .int n
  | .inr (.inl o) => va_rf o
  | .inr (.inr (.inl n)) => .long n
  | .inr (.inr (.inr (.inl n))) => .float n
  | .inr (.inr (.inr (.inr n))) => .double n
def xcat (v : xV) : Nat := match v with
  | .inl _ => 1
  | .inr (.inl _) => 1
  | .inr (.inr (.inl _)) => 2
  | .inr (.inr (.inr (.inl _))) => 1
  | .inr (.inr (.inr (.inr _))) => 2
theorem toV_cat (v : xV) : (toV v).category = xcat v := by
  rcases v with n | (_ | a) | n | n | n <;> rfl
theorem xcat_12 (v : xV) : xcat v = 1 ∨ xcat v = 2 := by
  rcases v with n | a | n | n | n <;> simp [xcat]
def xdf (t : FieldType) : xV := match t with
  | .long => xj 0
  | .float => xf FP.fconst0
  | .double => xd FP.dconst0
  | .object _ => xr none
  | .array _ => xr none
  | _ => xi 0
theorem toV_xdf (t : FieldType) : toV (xdf t) = defaultValue t := by cases t <;> rfl
abbrev xH : Type := (Nat → Nat) × (Nat → Nat) × (Nat → Nat → xV) × Nat × Nat
def xlo (h : xH) : Nat := h.2.2.2.1
def xsz (h : xH) : Nat := h.2.2.2.1 + h.2.2.2.2
def xbo (c : Nat) : Bool := c == 12 || c == 1000 || c == 1008 || c == 1009
def xcls (h : xH) (a : Nat) : Nat := if xsz h ≤ a then 0 else if a < xlo h ∧ xbo (h.1 a) = false then 0 else h.1 a
def xlen (h : xH) (a : Nat) : Nat := h.2.1 a
def xval (h : xH) (a i : Nat) : xV := h.2.2.1 a i
def xput (h : xH) (a k : Nat) (v : xV) : xH := (h.1, h.2.1, fun b j => if b = a ∧ j = k then v else h.2.2.1 b j, h.2.2.2.1, h.2.2.2.2)
def xfil (h : xH) (a : Nat) (f : Nat → xV) : xH := (h.1, h.2.1, fun b j => if b = a then f j else h.2.2.1 b j, h.2.2.2.1, h.2.2.2.2)
def xnew (h : xH) (c n : Nat) (f : Nat → xV) : xH := (fun b => if b = xsz h then c else h.1 b, fun b => if b = xsz h then n else h.2.1 b, fun b j => if b = xsz h then f j else h.2.2.1 b j, h.2.2.2.1, h.2.2.2.2 + 1)
theorem xcls_lt {h : xH} {a c : Nat} (e : xcls h a = c) (hc : c ≠ 0) : a < xsz h := by
  unfold xcls at e
  by_cases hz : xsz h ≤ a
  · rw [if_pos hz] at e; exact absurd e.symm hc
  · omega
theorem xcls_lo {h : xH} {a c : Nat} (e : xcls h a = c) (hc : c ≠ 0) (hb : xbo c = false) : xlo h ≤ a := by
  have hl := xcls_lt e hc
  unfold xcls at e
  rw [if_neg (by omega)] at e
  by_cases hq : a < xlo h ∧ xbo (h.1 a) = false
  · rw [if_pos hq] at e; exact absurd e.symm hc
  · rw [if_neg hq] at e
    rw [e] at hq
    have : ¬ a < xlo h := fun z => hq ⟨z, hb⟩
    omega
theorem xlo_sz (h : xH) : xlo h ≤ xsz h := Nat.le_add_right _ _
theorem xlo_put (h : xH) (a k : Nat) (v : xV) : xlo (xput h a k v) = xlo h := rfl
theorem xlo_new (h : xH) (c n : Nat) (f : Nat → xV) : xlo (xnew h c n f) = xlo h := rfl
theorem xlo_fil (h : xH) (a : Nat) (f : Nat → xV) : xlo (xfil h a f) = xlo h := rfl
theorem xsz_put (h : xH) (a k : Nat) (v : xV) : xsz (xput h a k v) = xsz h := rfl
theorem xsz_fil (h : xH) (a : Nat) (f : Nat → xV) : xsz (xfil h a f) = xsz h := rfl
theorem xsz_new (h : xH) (c n : Nat) (f : Nat → xV) : xsz (xnew h c n f) = xsz h + 1 := rfl
theorem xcls_put (h : xH) (a k : Nat) (v : xV) (b : Nat) : xcls (xput h a k v) b = xcls h b := rfl
theorem xcls_fil (h : xH) (a : Nat) (f : Nat → xV) (b : Nat) : xcls (xfil h a f) b = xcls h b := rfl
theorem xlen_put (h : xH) (a k : Nat) (v : xV) (b : Nat) : xlen (xput h a k v) b = xlen h b := rfl
theorem xlen_fil (h : xH) (a : Nat) (f : Nat → xV) (b : Nat) : xlen (xfil h a f) b = xlen h b := rfl
theorem xval_put (h : xH) (a k : Nat) (v : xV) (b j : Nat) : xval (xput h a k v) b j = if b = a ∧ j = k then v else xval h b j := rfl
theorem xval_fil (h : xH) (a : Nat) (f : Nat → xV) (b j : Nat) : xval (xfil h a f) b j = if b = a then f j else xval h b j := rfl
theorem xval_new (h : xH) (c n : Nat) (f : Nat → xV) (b j : Nat) : xval (xnew h c n f) b j = if b = xsz h then f j else xval h b j := rfl
theorem xlen_new (h : xH) (c n : Nat) (f : Nat → xV) (b : Nat) : xlen (xnew h c n f) b = if b = xsz h then n else xlen h b := rfl
theorem xcls_new (h : xH) (c n : Nat) (f : Nat → xV) (b : Nat) : xcls (xnew h c n f) b = if b = xsz h then c else xcls h b := by
  unfold xcls
  rw [xsz_new, xlo_new]
  show (if xsz h + 1 ≤ b then 0 else if b < xlo h ∧ xbo (if b = xsz h then c else h.1 b) = false then 0 else (if b = xsz h then c else h.1 b)) = _
  have hl := xlo_sz h
  by_cases e : b = xsz h
  · subst e
    rw [if_neg (by omega), if_neg (fun q => absurd q.1 (by omega)), if_pos rfl, if_pos rfl]
  · simp only [if_neg e]
    by_cases h1 : xsz h ≤ b
    · rw [if_pos (by omega), if_pos h1]
    · rw [if_neg (by omega), if_neg h1]
/-- the arrays' element types, by number: an array's class number is 1000 + that (1008: the law's script, 1009: an empty array of the launch's) -/
def xty : List FieldType := [.byte, .char, .boolean, .int, .long, .short, .object "java/lang/Object", .object "java/lang/String", .int, .object "java/lang/Object"]
/-- an object's cell -/
def xOb (D : va_G) (h : xH) (a : Nat) (H : Heap) : Prop := ∀ (ci : Nat) (r : vw_C), xcls h a = ci + 1 → vwCl[ci]? = some r →
  ∃ cell : Cell, H[a]? = some cell ∧ cell.cls = D.1 ci ∧ cell.vm ≠ .unknown ∧ cell.vm.isStatics = false ∧ (xlo h ≤ a → cell.vm = .none ∧ cell.monitor = {}) ∧ ∀ k, k < r.2.2 → cell.slots[D.2 ci k]? = some (toV (xval h a k))
/-- an array's cell -/
def xAr (U : State) (h : xH) (a : Nat) (H : Heap) : Prop := ∀ (j : Nat) (ty : FieldType), xcls h a = 1000 + j → xty[j]? = some ty →
  ∃ cell : Cell, H[a]? = some cell ∧ ArrOfT U cell.cls ty ∧ va_RA U cell.cls ty ∧ U.isArrayOf cell ty ∧ cell.vm ≠ .unknown ∧ cell.slots.size = xlen h a ∧ (∀ i, i < xlen h a → cell.slots[i]? = some (toV (xval h a i))) ∧ (xlo h ≤ a → cell = arrV cell.cls (xlen h a) (fun i => toV (xval h a i)))
def xRel (D : va_G) (h : xH) (U : State) (H : Heap) : Prop := H.size = xsz h ∧ ∀ a : Nat, xOb D h a H ∧ xAr U h a H
theorem vwCl_1000 {ci : Nat} {r : vw_C} (h : vwCl[ci]? = some r) : ci < 999 := by
  have h1 := (List.getElem?_eq_some_iff.mp h).1
  rw [vwCl_len] at h1
  omega
theorem xAr.moved {u U : State} (hvm : u.vm.Alike U.vm) {h : xH} {a : Nat} {H : Heap} (k : xAr u h a H) : xAr U h a H := by
  intro j ty e1 e2
  obtain ⟨cell, q1, q2, q3, q4, q5⟩ := k j ty e1 e2
  exact ⟨cell, q1, arrOfT_moved hvm q2, q3.moved hvm, State.isArrayOf_alike hvm q4, q5⟩
theorem xRel.moved {D : va_G} {u U : State} (hvm : u.vm.Alike U.vm) {h : xH} {H : Heap} (k : xRel D h u H) : xRel D h U H := ⟨k.1, fun a => ⟨(k.2 a).1, (k.2 a).2.moved hvm⟩⟩
/-- a cell that stays, in both heaps -/
theorem xOb.keep {D : va_G} {h h' : xH} {a : Nat} {H H' : Heap} (k : xOb D h a H) (e1 : xcls h' a = xcls h a) (e2 : ∀ i, xval h' a i = xval h a i) (e3 : xlo h' = xlo h) (e4 : H'[a]? = H[a]?) : xOb D h' a H' := by
  intro ci r h1 h2
  obtain ⟨cell, q1, q2, q3, q4, q5, q6⟩ := k ci r (e1 ▸ h1) h2
  exact ⟨cell, e4.trans q1, q2, q3, q4, fun z => q5 (e3 ▸ z), fun i hi => by rw [e2]; exact q6 i hi⟩
theorem xAr.keep {U : State} {h h' : xH} {a : Nat} {H H' : Heap} (k : xAr U h a H) (e1 : xcls h' a = xcls h a) (e2 : ∀ i, xval h' a i = xval h a i) (e3 : xlo h' = xlo h) (e5 : xlen h' a = xlen h a) (e4 : H'[a]? = H[a]?) : xAr U h' a H' := by
  intro j ty h1 h2
  obtain ⟨cell, q1, q2, q3, q4, q5, q6, q7, q8⟩ := k j ty (e1 ▸ h1) h2
  refine ⟨cell, e4.trans q1, q2, q3, q4, q5, q6.trans e5.symm, fun i hi => by rw [e2]; exact q7 i (e5 ▸ hi), fun z => ?_⟩
  rw [e5]
  simp only [e2]
  exact q8 (e3 ▸ z)
/-- a field written -/
theorem xRel.put {D : va_G} {U : State} {h : xH} {H H' : Heap} {a ci kf : Nat} {r : vw_C} {v : xV} {cell : Cell} (k : xRel D h U H) (hc : vwCl[ci]? = some r) (hk : kf < r.2.2) (hcls : xcls h a = ci + 1) (hap : ∀ x y, x < r.2.2 → y < r.2.2 → x ≠ y → (D.2 ci) x ≠ (D.2 ci) y)
    (hcell : H[a]? = some cell) (e1 : H'[a]? = some (cell.setSlot (D.2 ci kf) (toV v))) (e2 : H'.size = H.size) (e3 : ∀ q : Nat, q ≠ a → H'[q]? = H[q]?) : xRel D (xput h a kf v) U H' := by
  refine ⟨e2.trans k.1, fun b => ?_⟩
  by_cases hb : b = a
  · subst hb
    refine ⟨fun ci' r' h1 h2 => ?_, fun j ty h1 h2 => ?_⟩
    · have hci : ci' = ci := by have := h1.symm.trans hcls; omega
      subst hci
      cases hc.symm.trans h2
      obtain ⟨cell', q1, q2, q3, q4, q5, q6⟩ := (k.2 b).1 ci' r hcls hc
      cases Option.some.inj (hcell.symm.trans q1)
      refine ⟨_, e1, q2, q3, q4, q5, fun j hj => ?_⟩
      have := t_set (V := fun j => toV (xval h b j)) q6 hap hk (toV v) j hj
      rw [this]
      show some (updV _ kf (toV v) j) = some (toV (xval (xput h b kf v) b j))
      rw [xval_put]
      unfold updV
      by_cases hj2 : j = kf
      · rw [if_pos hj2, if_pos ⟨rfl, hj2⟩]
      · rw [if_neg hj2, if_neg (fun q => hj2 q.2)]
    · have h3 : 1000 + j = ci + 1 := h1.symm.trans hcls
      have := vwCl_1000 hc
      omega
  · have hv : ∀ i, xval (xput h a kf v) b i = xval h b i := fun i => by rw [xval_put, if_neg (fun q => hb q.1)]
    exact ⟨(k.2 b).1.keep rfl hv rfl (e3 b hb), (k.2 b).2.keep rfl hv rfl rfl (e3 b hb)⟩
/-- an element written -/
theorem xRel.aput {D : va_G} {U : State} {h : xH} {H H' : Heap} {a j i : Nat} {ty : FieldType} {v : xV} {cell : Cell} (k : xRel D h U H) (hj : xty[j]? = some ty) (hcls : xcls h a = 1000 + j) (hlo : xlo h ≤ a) 
    (hcell : H[a]? = some cell) (e1 : H'[a]? = some (cell.setSlot i (toV v))) (e2 : H'.size = H.size) (e3 : ∀ q : Nat, q ≠ a → H'[q]? = H[q]?) : xRel D (xput h a i v) U H' := by
  refine ⟨e2.trans k.1, fun b => ?_⟩
  by_cases hb : b = a
  · subst hb
    refine ⟨fun ci' r' h1 h2 => ?_, fun j' ty' h1 h2 => ?_⟩
    · have h3 : 1000 + j = ci' + 1 := hcls.symm.trans h1
      have := vwCl_1000 h2
      omega
    · have hjj : j' = j := by have := h1.symm.trans hcls; omega
      subst hjj
      cases hj.symm.trans h2
      obtain ⟨cell', q1, q2, q3, q4, q5, q6, q7, q8⟩ := (k.2 b).2 j' ty hcls hj
      cases Option.some.inj (hcell.symm.trans q1)
      have q9 := q8 hlo
      have q10 : cell.setSlot i (toV v) = arrV cell.cls (xlen h b) (fun x => toV (xval (xput h b i v) b x)) := by
        rw [q9, arrV_store]
        show arrV _ _ _ = arrV cell.cls _ _
        congr 1
        funext x
        rw [xval_put]
        unfold updV
        by_cases hx : x = i
        · rw [if_pos hx, if_pos ⟨rfl, hx⟩]
        · rw [if_neg hx, if_neg (fun q => hx q.2)]
      refine ⟨_, e1, ?_⟩
      rw [q10]
      exact ⟨q2, q3, q2 _ _, (by intro q; cases q), arrV_size _ _ _, fun x hx => arrV_read _ _ hx, fun _ => rfl⟩
  · have hv : ∀ x, xval (xput h a i v) b x = xval h b x := fun x => by rw [xval_put, if_neg (fun q => hb q.1)]
    exact ⟨(k.2 b).1.keep rfl hv rfl (e3 b hb), (k.2 b).2.keep rfl hv rfl rfl (e3 b hb)⟩
/-- an array's contents written anew -/
theorem xRel.afil {D : va_G} {U : State} {h : xH} {H H' : Heap} {a j : Nat} {ty : FieldType} {f : Nat → xV} {cell : Cell} (k : xRel D h U H) (hj : xty[j]? = some ty) (hcls : xcls h a = 1000 + j)
    (hcell : H[a]? = some cell) (e1 : H'[a]? = some (arrV cell.cls (xlen h a) (fun i => toV (f i)))) (e2 : H'.size = H.size) (e3 : ∀ q : Nat, q ≠ a → H'[q]? = H[q]?) : xRel D (xfil h a f) U H' := by
  refine ⟨e2.trans k.1, fun b => ?_⟩
  by_cases hb : b = a
  · subst hb
    refine ⟨fun ci' r' h1 h2 => ?_, fun j' ty' h1 h2 => ?_⟩
    · have h3 : 1000 + j = ci' + 1 := hcls.symm.trans h1
      have := vwCl_1000 h2
      omega
    · have hjj : j' = j := by have := h1.symm.trans hcls; omega
      subst hjj
      cases hj.symm.trans h2
      obtain ⟨cell', q1, q2, q3, q4, q5, q6, q7, q8⟩ := (k.2 b).2 j' ty hcls hj
      cases Option.some.inj (hcell.symm.trans q1)
      have hf : (fun i => toV (xval (xfil h b f) b i)) = fun i => toV (f i) := by
        funext i
        rw [xval_fil, if_pos rfl]
      refine ⟨_, e1, q2, q3, q2 _ _, (by intro q; cases q), arrV_size _ _ _, fun x hx => ?_, fun _ => ?_⟩
      · have hx' : x < xlen h b := hx
        rw [arrV_read _ _ hx', xval_fil, if_pos rfl]
      · rw [hf]; rfl
  · have hv : ∀ x, xval (xfil h a f) b x = xval h b x := fun x => by rw [xval_fil, if_neg hb]
    exact ⟨(k.2 b).1.keep rfl hv rfl (e3 b hb), (k.2 b).2.keep rfl hv rfl rfl (e3 b hb)⟩
theorem xRel.none {D : va_G} {U : State} {h : xH} {H : Heap} (k : xRel D h U H) : xcls h (xsz h) = 0 := by
  unfold xcls
  rw [if_pos (Nat.le_refl _)]
/-- an object made -/
theorem xRel.newO {D : va_G} {U : State} {h : xH} {H H' : Heap} {ci : Nat} {r : vw_C} {f : Nat → xV} (k : xRel D h U H) (hc : vwCl[ci]? = some r) 
    (e1 : t_OB (xsz h) (D.1 ci) r.2.2 (D.2 ci) H' (fun i => toV (f i))) (em : ∀ cell : Cell, H'[xsz h]? = some cell → cell.monitor = {}) (e2 : H'.size = xsz h + 1) (e3 : ∀ q : Nat, q < xsz h → H'[q]? = H[q]?) : xRel D (xnew h (ci + 1) r.2.2 f) U H' := by
  refine ⟨e2, fun b => ?_⟩
  by_cases hb : b = xsz h
  · subst hb
    have hci : xcls (xnew h (ci + 1) r.2.2 f) (xsz h) = ci + 1 := by rw [xcls_new, if_pos rfl]
    refine ⟨fun ci' r' h1 h2 => ?_, fun j ty h1 h2 => ?_⟩
    · have hcc : ci' = ci := by have := h1.symm.trans hci; omega
      subst hcc
      cases hc.symm.trans h2
      obtain ⟨cell, q1, q2, q3, q4⟩ := e1
      exact ⟨cell, q1, q2, by rw [q3]; exact fun q => (by cases q), by rw [q3]; rfl, fun _ => ⟨q3, em _ q1⟩, fun i hi => by rw [q4 i hi, xval_new, if_pos rfl]⟩
    · have h3 : 1000 + j = ci + 1 := h1.symm.trans hci
      have := vwCl_1000 hc
      omega
  · have hv : ∀ i, xval (xnew h (ci + 1) r.2.2 f) b i = xval h b i := fun i => by rw [xval_new, if_neg hb]
    have hk : xcls (xnew h (ci + 1) r.2.2 f) b = xcls h b := by rw [xcls_new, if_neg hb]
    have hl : xlen (xnew h (ci + 1) r.2.2 f) b = xlen h b := by rw [xlen_new, if_neg hb]
    by_cases hlt : b < xsz h
    · exact ⟨(k.2 b).1.keep hk hv rfl (e3 b hlt), (k.2 b).2.keep hk hv rfl hl (e3 b hlt)⟩
    · have h0 : xcls h b = 0 := by unfold xcls; rw [if_pos (by omega)]
      exact ⟨fun ci' r' h1 _ => by rw [hk, h0] at h1; omega, fun j ty h1 _ => by rw [hk, h0] at h1; omega⟩
/-- an array made -/
theorem xRel.newA {D : va_G} {U : State} {h : xH} {H H' : Heap} {j n : Nat} {ty : FieldType} {cA : ClassId} {f : Nat → xV} (k : xRel D h U H) (hj : xty[j]? = some ty) (hA : ArrOfT U cA ty) (hR : va_RA U cA ty)
    (e1 : H'[xsz h]? = some (arrV cA n (fun i => toV (f i)))) (e2 : H'.size = xsz h + 1) (e3 : ∀ q : Nat, q < xsz h → H'[q]? = H[q]?) : xRel D (xnew h (1000 + j) n f) U H' := by
  refine ⟨e2, fun b => ?_⟩
  by_cases hb : b = xsz h
  · subst hb
    have hci : xcls (xnew h (1000 + j) n f) (xsz h) = 1000 + j := by rw [xcls_new, if_pos rfl]
    have hl : xlen (xnew h (1000 + j) n f) (xsz h) = n := by rw [xlen_new, if_pos rfl]
    have hv : (fun i => toV (xval (xnew h (1000 + j) n f) (xsz h) i)) = fun i => toV (f i) := by
      funext i
      rw [xval_new, if_pos rfl]
    refine ⟨fun ci' r' h1 h2 => ?_, fun j' ty' h1 h2 => ?_⟩
    · have h3 : 1000 + j = ci' + 1 := hci.symm.trans h1
      have := vwCl_1000 h2
      omega
    · have hjj : j' = j := by have := h1.symm.trans hci; omega
      subst hjj
      cases hj.symm.trans h2
      refine ⟨_, e1, hA, hR, hA _ _, (by intro q; cases q), ?_, fun x hx => ?_, fun _ => ?_⟩
      · rw [hl]; exact arrV_size _ _ _
      · rw [hl] at hx
        rw [arrV_read _ _ hx, xval_new, if_pos rfl]
      · rw [hl, hv]; rfl
  · have hv : ∀ i, xval (xnew h (1000 + j) n f) b i = xval h b i := fun i => by rw [xval_new, if_neg hb]
    have hk : xcls (xnew h (1000 + j) n f) b = xcls h b := by rw [xcls_new, if_neg hb]
    have hl : xlen (xnew h (1000 + j) n f) b = xlen h b := by rw [xlen_new, if_neg hb]
    by_cases hlt : b < xsz h
    · exact ⟨(k.2 b).1.keep hk hv rfl (e3 b hlt), (k.2 b).2.keep hk hv rfl hl (e3 b hlt)⟩
    · have h0 : xcls h b = 0 := by unfold xcls; rw [if_pos (by omega)]
      exact ⟨fun ci' r' h1 _ => by rw [hk, h0] at h1; omega, fun j' ty' h1 _ => by rw [hk, h0] at h1; omega⟩
/-! locals by place -/
def xas : Nat → List (Option xV) → List (Nat × Value)
  | _, [] => []
  | i, none :: L => xas (i + 1) L
  | i, some v :: L => (i, toV v) :: xas (i + 1) L
theorem xas_mem : ∀ (L : List (Option xV)) (i : Nat) (q : Nat × Value), q ∈ xas i L ↔ ∃ (j : Nat) (w : xV), L[j]? = some (some w) ∧ q = (i + j, toV w)
  | [], i, q => by simp [xas]
  | none :: L, i, q => by
    rw [xas, xas_mem L (i + 1) q]
    constructor
    · rintro ⟨j, w, h1, h2⟩
      exact ⟨j + 1, w, by simpa using h1, by rw [h2]; congr 1; omega⟩
    · rintro ⟨j, w, h1, h2⟩
      cases j with
      | zero => simp at h1
      | succ j => exact ⟨j, w, by simpa using h1, by rw [h2]; congr 1; omega⟩
  | some v :: L, i, q => by
    rw [xas, List.mem_cons, xas_mem L (i + 1) q]
    constructor
    · rintro (h | ⟨j, w, h1, h2⟩)
      · exact ⟨0, v, rfl, h⟩
      · exact ⟨j + 1, w, by simpa using h1, by rw [h2]; congr 1; omega⟩
    · rintro ⟨j, w, h1, h2⟩
      cases j with
      | zero =>
        simp at h1
        subst h1
        exact Or.inl h2
      | succ j => exact Or.inr ⟨j, w, by simpa using h1, by rw [h2]; congr 1; omega⟩
def xhas (ls : Array Slot) (n : Nat) (L : List (Option xV)) : Prop := lv_has ls n (xas 0 L)
theorem xhas.at {ls : Array Slot} {n i : Nat} {L : List (Option xV)} {v : xV} (h : xhas ls n L) (hi : L[i]? = some (some v)) : ls[i]? = some (.val (toV v)) :=
  h.2.2 (i, toV v) ((xas_mem L 0 _).mpr ⟨i, v, hi, by rw [Nat.zero_add]⟩)
theorem xhas.of {ls : Array Slot} {n : Nat} {L : List (Option xV)} (h1 : ls.size = n) (h2 : lv_wf ls) (h3 : ∀ (i : Nat) (v : xV), L[i]? = some (some v) → ls[i]? = some (.val (toV v))) : xhas ls n L := by
  refine ⟨h1, h2, fun q hq => ?_⟩
  obtain ⟨j, w, e1, e2⟩ := (xas_mem L 0 q).mp hq
  subst e2
  rw [Nat.zero_add]
  exact h3 j w e1
def xst (L : List (Option xV)) (i : Nat) (v : xV) : List (Option xV) :=
  let L1 := cond (Nat.beq (xcat v) 2) (L.set (i + 1) none) L
  let L2 := match i with
    | 0 => L1
    | j + 1 => match L1[j]? with
      | some (some w) => cond (Nat.beq (xcat w) 2) (L1.set j none) L1
      | _ => L1
  L2.set i (some v)
theorem xst_1 {L : List (Option xV)} {i j : Nat} {v w : xV} (h : (xst L i v)[j]? = some (some w)) : (j = i ∧ w = v) ∨ (j ≠ i ∧ L[j]? = some (some w) ∧ (j + 1 = i → xcat w ≠ 2) ∧ (xcat v = 2 → j ≠ i + 1)) := by
  have key : ∀ (M : List (Option xV)) (k x : Nat) (y : Option xV), (M.set k y)[x]? = some (some w) → (x = k ∧ y = some w) ∨ (x ≠ k ∧ M[x]? = some (some w)) := by
    intro M k x y hq
    by_cases e : k = x
    · subst e
      have hl : k < M.length := by
        have := (List.getElem?_eq_some_iff.mp hq).1
        simpa using this
      rw [List.getElem?_set_self hl] at hq
      exact Or.inl ⟨rfl, Option.some.inj hq⟩
    · rw [List.getElem?_set_ne e] at hq
      exact Or.inr ⟨fun q => e q.symm, hq⟩
  have k1 : ∀ x : Nat, (cond (Nat.beq (xcat v) 2) (L.set (i + 1) none) L)[x]? = some (some w) → L[x]? = some (some w) ∧ (xcat v = 2 → x ≠ i + 1) := by
    intro x hx
    cases c : Nat.beq (xcat v) 2 with
    | true =>
      rw [c] at hx
      rcases key _ _ _ _ hx with ⟨_, q⟩ | ⟨q1, q2⟩
      · cases q
      · exact ⟨q2, fun _ => q1⟩
    | false =>
      rw [c] at hx
      exact ⟨hx, fun q => by rw [q] at c; cases c⟩
  unfold xst at h
  simp only at h
  rcases key _ _ _ _ h with ⟨q1, q2⟩ | ⟨q1, q2⟩
  · exact Or.inl ⟨q1, (Option.some.inj q2).symm⟩
  · refine Or.inr ⟨q1, ?_⟩
    cases i with
    | zero =>
      obtain ⟨a, b⟩ := k1 _ q2
      exact ⟨a, fun z => by omega, b⟩
    | succ i0 =>
      simp only at q2
      split at q2
      · rename_i w0 hw0
        cases c : Nat.beq (xcat w0) 2 with
        | true =>
          rw [c] at q2
          rcases key _ _ _ _ q2 with ⟨_, z⟩ | ⟨z1, z2⟩
          · cases z
          · obtain ⟨a, b⟩ := k1 _ z2
            exact ⟨a, fun z => absurd (by omega) z1, b⟩
        | false =>
          rw [c] at q2
          obtain ⟨a, b⟩ := k1 _ q2
          refine ⟨a, fun z => ?_, b⟩
          have hj : j = i0 := by omega
          subst hj
          have q3 := Option.some.inj (Option.some.inj (q2.symm.trans hw0))
          subst q3
          intro z
          rw [z] at c
          cases c
      · rename_i hno
        obtain ⟨a, b⟩ := k1 _ q2
        refine ⟨a, fun z => ?_, b⟩
        have hj : j = i0 := by omega
        subst hj
        exact absurd q2 (hno w)
theorem xst_of1 {ls' : Array Slot} {n i : Nat} {L : List (Option xV)} {v : xV} (hc : xcat v = 1) (h : lv_has ls' n ((i, toV v) :: (xas 0 L).filter (fun q => !(q.1 == i) && !(q.1 + 1 == i && q.2.category == 2)))) : xhas ls' n (xst L i v) := by
  refine xhas.of h.1 h.2.1 fun j w hj => ?_
  rcases xst_1 hj with ⟨rfl, rfl⟩ | ⟨h1, h2, h3, -⟩
  · exact h.2.2 _ (List.mem_cons_self)
  · refine h.2.2 (j, toV w) (List.mem_cons_of_mem _ (List.mem_filter.mpr ⟨(xas_mem L 0 _).mpr ⟨j, w, h2, by rw [Nat.zero_add]⟩, ?_⟩))
    by_cases e : j + 1 = i
    · have := h3 e
      simp [h1, e, toV_cat, this]
    · simp [h1, e]
theorem xst_of2 {ls' : Array Slot} {n i : Nat} {L : List (Option xV)} {v : xV} (hc : xcat v = 2) (h : lv_has ls' n ((i, toV v) :: (xas 0 L).filter (fun q => !(q.1 == i) && (!(q.1 == i + 1) && !(q.1 + 1 == i && q.2.category == 2))))) : xhas ls' n (xst L i v) := by
  refine xhas.of h.1 h.2.1 fun j w hj => ?_
  rcases xst_1 hj with ⟨rfl, rfl⟩ | ⟨h1, h2, h3, h4⟩
  · exact h.2.2 _ (List.mem_cons_self)
  · refine h.2.2 (j, toV w) (List.mem_cons_of_mem _ (List.mem_filter.mpr ⟨(xas_mem L 0 _).mpr ⟨j, w, h2, by rw [Nat.zero_add]⟩, ?_⟩))
    have h5 := h4 hc
    by_cases e : j + 1 = i
    · have := h3 e
      simp [h1, h5, e, toV_cat, this]
    · simp [h1, h5, e]

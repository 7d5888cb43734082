/-! sums and the least of several, by what one is worth -/
theorem xMod.tn {S S' : List Nat} {h0 h h' : xH} (q : xMod S h0 h) (r : xMod S' h h') (hs : ∀ x, x ∈ S' → x ∈ S ∨ xsz h0 ≤ x) : xMod S h0 h' := by
  obtain ⟨q1, q2, q3⟩ := q
  obtain ⟨r1, r2, r3⟩ := r
  refine ⟨r1.trans q1, Nat.le_trans q2 r2, fun a ha => ?_⟩
  obtain ⟨a1, a2, a3⟩ := q3 a ha
  obtain ⟨b1, b2, b3⟩ := r3 a (Nat.lt_of_lt_of_le ha q2)
  exact ⟨b1.trans a1, b2.trans a2, fun hn i => (b3 (fun z => (hs a z).elim hn (fun y => absurd ha (by omega))) i).trans (a3 hn i)⟩
theorem xMod.t1 {S : List Nat} {h0 h h' : xH} {a : Nat} (q : xMod S h0 h) (r : xMod [a] h h') (ha : xsz h0 ≤ a) : xMod S h0 h' := q.tn r (fun x hx => Or.inr (by rw [List.mem_singleton.mp hx]; exact ha))
theorem xMod.tx {S : List Nat} {h0 h h' : xH} (q : xMod S h0 h) (r : xExt h h') : xMod S h0 h' := q.tn r (fun x hx => by cases hx)
def isWo (G : xG) (D k0 : Nat) (h : xH) (w : Nat) (es : List Nat) (f : Nat → Int32) : Prop := ∀ h', xExt h h' → ∀ (i e : Nat), es[i]? = some e → ∀ (F : Int32 → xH → Nat → Prop) (T : Nat → xH → Nat → Prop) (k : Nat), k0 ≤ k → (∀ h'', xExt h' h'' → F (f i) h'' (k - k0)) →
  ∃ Y : xM, (xcls h' w, Y) ∈ dsp_HamletWells_Worth_of ∧ xCall G D k Y [xr (some w), xr (some e)] h' (xkI F T)
def isAk (G : xG) (D k0 : Nat) (h : xH) (w : Nat) (es : List Nat) (g : Nat → Bool) : Prop := ∀ h', xExt h h' → ∀ (i e : Nat), es[i]? = some e → ∀ (F : Int32 → xH → Nat → Prop) (T : Nat → xH → Nat → Prop) (k : Nat), k0 ≤ k → (∀ h'', xExt h' h'' → F (xb (g i)) h'' (k - k0)) →
  ∃ Y : xM, (xcls h' w, Y) ∈ dsp_HamletWells_Asked_is ∧ xCall G D k Y [xr (some w), xr (some e)] h' (xkI F T)
def lstF (g : Nat → Bool) (f : Nat → Int32) (b : Option Nat) (i : Nat) : Option Nat := if g i then (match b with | none => some i | some t => if f t ≤ f i then some t else some i) else b
def oE (es : List Nat) (b : Option Nat) : Option Nat := b.bind fun i => es[i]?
theorem lstF_lt {g : Nat → Bool} {f : Nat → Int32} {b : Option Nat} {i n : Nat} (hb : ∀ t, b = some t → t < n) (hi : i < n) : ∀ t, lstF g f b i = some t → t < n := by
  intro t ht
  unfold lstF at ht
  split at ht
  · split at ht
    · cases ht; exact hi
    · split at ht
      · exact hb t ht
      · cases ht; exact hi
  · exact hb t ht
theorem lst_lt {g : Nat → Bool} {f : Nat → Int32} {n : Nat} : ∀ (j i : Nat) (b : Option Nat), i + j ≤ n → (∀ t, b = some t → t < n) → ∀ t, (List.range' i j).foldl (lstF g f) b = some t → t < n := by
  intro j
  induction j with
  | zero => exact fun i b _ hb => hb
  | succ j ih =>
    intro i b hi hb
    rw [List.range'_succ, List.foldl_cons]
    exact ih (i + 1) _ (by omega) (lstF_lt hb (by omega))
section XGN
variable {G : xG} {d k : Nat} {h h' h0 : xH} {T : Nat → xH → Nat → Prop} {S : List Nat} {it wo ak c D k0 ka kw : Nat} {es : List Nat} {f : Nat → Int32} {g : Nat → Bool}
theorem isWo.ex (q : isWo G D k0 h wo es f) (m : xExt h h') : isWo G D k0 h' wo es f := fun h'' m' => q h'' (m.tr m')
theorem isAk.ex (q : isAk G D k0 h ak es g) (m : xExt h h') : isAk G D k0 h' ak es g := fun h'' m' => q h'' (m.tr m')
theorem sum_l {K : Nat} {Q : xR → xH → Prop} (hD : 6 < D) (w : isWo G D k0 h0 wo es f) (hit : xsz h0 ≤ it) : ∀ j i n h kk, i + j = es.length → isXI G h it es i → xExt h0 h → j * k0 ≤ kk →
    (∀ h', xExt h0 h' → Q (.inl (some (xi ((List.range' i j).foldl (fun n a => n + f a) n)))) h') → xWp G mX0_sum D K Q kk 9 [none, some (xr (some wo)), some (xi n), some (xr (some it)), none] [] h := by
  intro j
  induction j with
  | zero =>
    intro i n h kk hi q x hk hQ
    exact vc_X0_sum_9 ⟨it, rfl, xi_has (by omega) q ⟨fun _ => hQ h x, fun z => absurd (xb1.mp z) (by rw [decide_eq_true_iff]; omega)⟩⟩
  | succ j ih =>
    intro i n h kk hi q x hk hQ
    rw [Nat.succ_mul] at hk
    obtain ⟨e, he⟩ : ∃ e, es[i]? = some e := ⟨es[i]'(by omega), List.getElem?_eq_getElem _⟩
    refine vc_X0_sum_9 ⟨it, rfl, xi_has (by omega) q ⟨fun z => absurd (xb0.mp z) (by rw [decide_eq_false_iff_not]; omega), fun _ => xi_next (by omega) q he fun h1 m1 q1 => ⟨wo, rfl, w h1 (x.t1 m1 hit) i e he _ _ _ (by omega) fun h2 m2 => ?_⟩⟩⟩
    refine ih (i + 1) _ h2 _ (by omega) (q1.ex m2) ((x.t1 m1 hit).tr m2) (by omega) ?_
    rw [List.range'_succ, List.foldl_cons] at hQ
    exact hQ
theorem sum_c {F : Int32 → xH → Nat → Prop} (hd : D < d) (hD : 6 < D) (hk : 6 + es.length * k0 ≤ k) (q : isXC G h c es) (w : isWo G D k0 h wo es f) (hQ : ∀ h', xExt h h' → F ((List.range' 0 es.length).foldl (fun n a => n + f a) 0) h' (k - (6 + es.length * k0))) : xCall G d k mX0_sum [xr (some c), xr (some wo)] h (xkI F T) :=
  xCall_of (d' := D) hd hk (vc_X0_sum ⟨c, rfl, xc_iter hD (by omega) q fun h1 it m1 hit q1 => sum_l hD w hit es.length 0 0 h1 _ (by omega) q1 m1 (by omega) hQ⟩)
theorem least_l {K : Nat} {Q : xR → xH → Prop} (hD : 6 < D) (w : isWo G D kw h0 wo es f) (wa : isAk G D ka h0 ak es g) (hit : xsz h0 ≤ it) : ∀ j i b h kk, i + j = es.length → (∀ t, b = some t → t < es.length) → isXI G h it es i → xExt h0 h → j * (ka + 2 * kw) ≤ kk →
    (∀ h', xExt h0 h' → Q (.inl (some (xr (oE es ((List.range' i j).foldl (lstF g f) b))))) h') → xWp G mX0_least D K Q kk 10 [none, some (xr (some ak)), some (xr (some wo)), some (xr (oE es b)), some (xr (some it)), none] [] h := by
  intro j
  induction j with
  | zero =>
    intro i b h kk hi hb q x hk hQ
    exact vc_X0_least_10 ⟨it, rfl, xi_has (by omega) q ⟨fun _ => hQ h x, fun z => absurd (xb1.mp z) (by rw [decide_eq_true_iff]; omega)⟩⟩
  | succ j ih =>
    intro i b h kk hi hb q x hk hQ
    rw [Nat.succ_mul] at hk
    obtain ⟨e, he⟩ : ∃ e, es[i]? = some e := ⟨es[i]'(by omega), List.getElem?_eq_getElem _⟩
    rw [List.range'_succ, List.foldl_cons] at hQ
    have go : ∀ h' kk' b', isXI G h' it es (i + 1) → xExt h0 h' → j * (ka + 2 * kw) ≤ kk' → lstF g f b i = b' → xWp G mX0_least D K Q kk' 10 [none, some (xr (some ak)), some (xr (some wo)), some (xr (oE es b')), some (xr (some it)), none] [] h' := by
      intro h' kk' b' q' x' hk' e'
      subst e'
      exact ih (i + 1) _ h' kk' (by omega) (lstF_lt hb (by omega)) q' x' hk' hQ
    refine vc_X0_least_10 ⟨it, rfl, xi_has (by omega) q ⟨fun z => absurd (xb0.mp z) (by rw [decide_eq_false_iff_not]; omega), fun _ => xi_next (by omega) q he fun h1 m1 q1 => ⟨ak, rfl, wa h1 (x.t1 m1 hit) i e he _ _ _ (by omega) fun h2 m2 => ?_⟩⟩⟩
    have x2 := (x.t1 m1 hit).tr m2
    have q2 := q1.ex m2
    refine ⟨fun z => ?_, fun z => ⟨fun a17 ha => ⟨wo, rfl, ?_⟩, fun ha => ?_⟩⟩
    · exact go h2 _ b q2 x2 (by omega) (by unfold lstF; rw [xb0.mp z]; rfl)
    · rcases b with _ | t
      · cases ha
      · have ht : es[t]? = some a17 := ha
        refine w h2 x2 i e he _ _ _ (by omega) fun h3 m3 => w h3 (x2.tr m3) t a17 ht _ _ _ (by omega) fun h4 m4 => ⟨fun y => ?_, fun y => ?_⟩
        · have := go h4 (kk - ka - kw - kw) (some t) ((q2.ex m3).ex m4) ((x2.tr m3).tr m4) (by omega) (by unfold lstF; rw [xb1.mp z]; simp only [↓reduceIte]; rw [if_pos y])
          have e9 : oE es (some t) = some a17 := ht
          rw [e9] at this
          exact this
        · have := go h4 (kk - ka - kw - kw) (some i) ((q2.ex m3).ex m4) ((x2.tr m3).tr m4) (by omega) (by unfold lstF; rw [xb1.mp z]; simp only [↓reduceIte]; rw [if_neg y])
          have e9 : oE es (some i) = some e := he
          rw [e9] at this
          exact this
    · rcases b with _ | t
      · have := go h2 (kk - ka) (some i) q2 x2 (by omega) (by unfold lstF; rw [xb1.mp z]; rfl)
        have e9 : oE es (some i) = some e := he
        rw [e9] at this
        exact this
      · have ht : es[t]? = none := ha
        have := hb t rfl
        rw [List.getElem?_eq_getElem this] at ht
        cases ht
theorem least_c {F : Option Nat → xH → Nat → Prop} (hd : D < d) (hD : 6 < D) (hk : 6 + es.length * (ka + 2 * kw) ≤ k) (q : isXC G h c es) (w : isWo G D kw h wo es f) (wa : isAk G D ka h ak es g) (hQ : ∀ h', xExt h h' → F (oE es ((List.range' 0 es.length).foldl (lstF g f) none)) h' (k - (6 + es.length * (ka + 2 * kw)))) : xCall G d k mX0_least [xr (some c), xr (some ak), xr (some wo)] h (xkR F T) :=
  xCall_of (d' := D) hd hk (vc_X0_least ⟨c, rfl, xc_iter hD (by omega) q fun h1 it m1 hit q1 => least_l hD w wa hit es.length 0 none h1 _ (by omega) (fun t e => by cases e) q1 m1 (by omega) hQ⟩)
end XGN

/-! the line: written; a line that is put -/
def lnX (Z : xZ) (cs : List Nat) : xZ := (Z.1, Z.2.1, Z.2.2.1, Z.2.2.2.1, cs, Z.2.2.2.2.2)
section XLN
variable {G : xG} {d k : Nat} {h h' h0 : xH} {T : Nat → xH → Nat → Prop} {S : List Nat} {x p N N0 i j c a b e r ka mm w m ll n al most dq da ip f dd kd t st : Nat} {es hs ss hs' ss' ps ps' cs : List Nat} {W W' g X' Y' u : Nat → Int32} {nd y z v v0 x' y' z' w' mc : Int32} {s s' : xSt} {o : Option xSt} {bs bs' : List xSt} {ro : Option xRf} {rf : xRf} {Z : xZ} {Y : xM} {bo : Bool}
theorem isX.lin (q : isX G h x dq da ip Z) (hs : isStr h st cs) : isX G (xput h x 4 (xr (some st))) x dq da ip (lnX Z cs) ∧ xMod [x, dq, da, ip] h (xput h x 4 (xr (some st))) := by
  obtain ⟨m', ok⟩ := q.own (j := 4) (w := xr (some st)) rfl
  obtain ⟨cdq, cda, cip, -, -, n1, n2, n3⟩ := q.dqda
  obtain ⟨q1, q2, q3, q4, q5, q6, q7⟩ := q
  have m : xMod [x] h (xput h x 4 (xr (some st))) := xMod.rf.put (Or.inl (by simp))
  have ev : ∀ j, j ≠ 4 → xval (xput h x 4 (xr (some st))) x j = xval h x j := fun j hj => by rw [xval_put, if_neg (fun z => hj z.2)]
  exact ⟨⟨m.cl' q1 (by decide), q2.md (ev 0 (by decide)) m ok, q3.md (ev 1 (by decide)) m ok, q4.md (ev 2 (by decide)) m ok (by simp [n1]) (by simp [n2]), q5.md (ev 3 (by decide)) m ok, ⟨st, by rw [xval_put, if_pos ⟨rfl, rfl⟩], hs.md m (fun y hy => by rw [List.mem_singleton.mp hy, q1]; decide)⟩, q7.md (ev 5 (by decide)) (ev 6 (by decide)) (ev 7 (by decide)) m (by simp [n3])⟩, m'⟩
theorem xwritten_c {F : Int32 → xH → Nat → Prop} (hd : 6 < d) (gt : gT G h) (q : isX G h x dq da ip Z) (hl : Z.2.2.2.2.1.length ≤ 40)
    (h0 : ¬ (∃ i, y = nI i ∧ i < Z.2.2.2.2.1.length) → F (-1) h k) (hQ : ∀ i c, y = nI i → Z.2.2.2.2.1[i]? = some c → F (nI c) h k) : xCall G d k mX0_written [xr (some x), xi y] h (xkI F T) := by
  obtain ⟨st, e1, e2⟩ := q.2.2.2.2.2.1
  refine xCall_of (d' := 6) hd (Nat.zero_le k) (vc_X0_written ⟨q.1, _, e1, st, rfl, e2.1, str_length_c (by decide) gt.1 e2 (by omega) (in_c (by decide) ⟨fun z => ?_, fun z => ?_⟩)⟩)
  · refine h0 fun ⟨i, ei, hi⟩ => ?_
    have hb := xb0.mp z
    have : pHas Z.2.2.2.2.1.length y = true := (pHas_iff (by omega)).mpr ⟨i, hi, ei⟩
    unfold pHas at this
    rw [this] at hb
    cases hb
  · have hb := xb1.mp z
    obtain ⟨i, hi, rfl⟩ := (pHas_iff (n := Z.2.2.2.2.1.length) (by omega)).mp hb
    exact ⟨q.1, _, e1, st, rfl, e2.1, str_charAt_c (by decide) gt.1 gt.2.1 e2 (by omega) (List.getElem?_eq_getElem hi) (hQ i _ rfl (List.getElem?_eq_getElem hi))⟩
theorem letter_c {F : Int32 → xH → Nat → Prop} (hd : 1 < d) (q : isHm h a i W) (hi : i < 8) (hQ : F (nI (97 + i)) h k) : xCall G d k mX0_letter [xr (some a)] h (xkI F T) := by
  have e : ((97 : Int32) + nI i) = nI (97 + i) := by rw [show (97 : Int32) = nI 97 from rfl, ← iI_n, ← iI_n, ← iI_n, iI_add]; rfl
  obtain ⟨c1, c2⟩ := t_chr (c := 97 + i) (by omega)
  exact xCall_of (d' := 1) hd (Nat.zero_le k) (vc_X0_letter ⟨a, rfl, q.1, _, q.2.1, by rw [e, c1]; exact ⟨c2, hQ⟩⟩)
end XLN

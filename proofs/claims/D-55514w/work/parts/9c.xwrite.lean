/-! write: the letters of those who drink -/
section XWL
variable {G : xG} {d k : Nat} {h h' h0 : xH} {T : Nat → xH → Nat → Prop} {S : List Nat} {x p N N0 i j c a b e r ka mm w m ll n al most dq da ip f dd kd t st it s : Nat} {es hs ss hs' ss' ps ps' cs acc : List Nat} {W W' g X' Y' u : Nat → Int32} {nd y z v v0 x' y' z' w' mc : Int32} {o : Option xSt} {bs bs' : List xSt} {ro : Option xRf} {rf : xRf} {Z : xZ} {Y : xM} {bo : Bool}
theorem isB.mo (q : isB h0 h b cs) (m : xMod S h h') (h1 : ∀ x, x ∈ S → xsz h0 ≤ x ∧ xcls h x ≠ 11 ∧ xcls h x ≠ 1000) : isB h0 h' b cs := by
  obtain ⟨q1, q2, v, cap, q3, q4, q5⟩ := q
  exact ⟨q1.tn m (fun x hx => Or.inr (h1 x hx).1), q2, v, cap, q3, q4.md m (fun z => (h1 b z).2.1 q4.1) (fun z => (h1 v z).2.2 q4.2.2.2.2.1), q5⟩
theorem B_char2_c {F : Option Nat → xH → Nat → Prop} (hd : 6 < d) (hk : 35 ≤ k) (gt : gT G h0) (q : isB h0 h b cs) (hc : c < 128) (hn : cs.length < 34) (hQ : ∀ h' S, isB h0 h' b (cs ++ [c]) → xMod S h h' → (∀ x, x ∈ S → xcls h x = 11 ∨ xcls h x = 1000) → F (some b) h' (k - 35)) : xCall G d k mJ12_append_3 [xr (some b), xi (nI c)] h (xkR F T) := by
  obtain ⟨q1, q2, v, cap, q3, q4, q5⟩ := q
  refine sb_char_c hd hk gt.1 q4 q5 hc hn (gt.ex q1).2.2.2 fun h' v' cap' m hv' s' hc' => ?_
  have hb : isB h0 h' b (cs ++ [c]) := by
    refine ⟨q1.tn m (fun x hx => ?_), q2, v', cap', ?_, s', hc'⟩
    · rcases List.mem_cons.mp hx with e | e
      · rw [e]; exact Or.inr q2
      · rw [List.mem_singleton.mp e]; exact Or.inr q3
    · rcases hv' with z | z
      · rw [z]; exact q3
      · exact Nat.le_trans q1.2.1 z
  refine hQ h' [b, v] hb m (fun x hx => ?_)
  rcases List.mem_cons.mp hx with e | e
  · rw [e]; exact Or.inl q4.1
  · rw [List.mem_singleton.mp e]; exact Or.inr q4.2.2.2.2.1
theorem xwrite_l {K : Nat} {Q : xR → xH → Prop} (gt : gT G h0) (q : isX G h0 x dq da ip Z) (pr : isPr G h0 0 p hs ss Z.1.1 Z.1.2) {L : List Nat} (hL : ∀ t, t ∈ L → t < hs.length) (hl8 : hs.length ≤ 8)
    (hQ : ∀ h', xMod [x, dq, da, ip] h0 h' → isX G h' x dq da ip (lnX Z (cs ++ L.map (97 + ·))) → Q (.inl (some (xi (nI (cs ++ L.map (97 + ·)).length)))) h') :
    ∀ j i h kk ns mc, i + j = L.length → isB h0 h b (cs ++ (L.take i).map (97 + ·)) → isLN h ll ns (dE hs L) mc → isLI h it ll ns i mc → xsz h0 ≤ it → cs.length + L.length ≤ 34 → 35 * j + 40 ≤ kk →
      xWp G mX0_write 15 K Q kk 104 [some (xr (some x)), none, none, some (xr (some b)), some (xr (some it)), none] [] h := by
  intro j
  induction j with
  | zero =>
    intro i h kk ns mc hij qb ql qi hit hlen hk
    have hi : i = L.length := by omega
    refine vc_X0_write_104 ⟨it, rfl, _, by rw [qi.1]; exact dsp_Iterator_hasNext_22, li_hasNext_c (by decide) ql qi (by rw [dE_len]; omega) ⟨fun _ => ⟨b, rfl, qb.cl, B_toString_c (by decide) (by omega) gt qb fun h99 a x99 s99 => ?_⟩, fun z => absurd (xb1.mp z) (by rw [dE_len, hi]; simp)⟩⟩
    have q99 := q.ex x99
    refine ⟨q99.1, fun h102 e102 => ?_⟩
    subst e102
    obtain ⟨q1, m1⟩ := q99.lin s99
    obtain ⟨st, e1, e2⟩ := q1.2.2.2.2.2.1
    have eL : cs ++ (L.take i).map (97 + ·) = cs ++ L.map (97 + ·) := by rw [hi, List.take_length]
    refine ⟨q1.1, _, e1, st, rfl, e2.1, str_length_c (by decide) gt.1 e2 ?_ ?_⟩
    · show (cs ++ (L.take i).map (97 + ·)).length < 1000
      rw [eL]; simp; omega
    · show Q (.inl (some (xi (nI (cs ++ (L.take i).map (97 + ·)).length)))) _
      rw [eL]
      rw [eL] at q1
      exact hQ _ ((xMod.of x99).tr m1) q1
  | succ j ih =>
    intro i h kk ns mc hij qb ql qi hit hlen hk
    have hi : i < L.length := by omega
    have hi2 : i < (dE hs L).length := by rw [dE_len]; exact hi
    have et := List.getElem?_eq_getElem hi
    have ee := List.getElem?_eq_getElem hi2
    have ha := dE_at ee hL et
    refine vc_X0_write_104 ⟨it, rfl, _, by rw [qi.1]; exact dsp_Iterator_hasNext_22, li_hasNext_c (by decide) ql qi (by omega) ⟨fun z => absurd (xb0.mp z) (by simp; exact hi2), fun _ => ⟨_, by rw [qi.1]; exact dsp_Iterator_next_22, li_next_c (by decide) ql qi ee fun h8 m8 qi8 => ?_⟩⟩⟩
    have qb8 : isB h0 h8 b (cs ++ (L.take i).map (97 + ·)) := qb.mo m8 (fun y hy => by rw [List.mem_singleton.mp hy, qi.1]; exact ⟨hit, by decide, by decide⟩)
    have ql8 := ql.md m8 (fun y hy => by rw [List.mem_singleton.mp hy, qi.1]; decide)
    have hm := ((pr.ex qb8.1).hm ha)
    have ht : L[i] < 8 := by have := hL _ (List.getElem_mem hi); omega
    refine ⟨fun b' eb => (by cases eb; rw [hm.1]; decide), letter_c (by decide) hm ht ⟨b, rfl, qb8.cl, B_char2_c (by decide) (by omega) gt qb8 (by omega) (by simp; omega) fun h9 S9 qb9 m9 hS9 => ?_⟩⟩
    have ql9 := ql8.md m9 (fun y hy => by rcases hS9 y hy with z | z <;> rw [z] <;> decide)
    have qi9 : isLI h9 it ll ns (i + 1) mc := by
      have n : it ∉ S9 := fun z => by rcases hS9 it z with y | y <;> rw [qi8.1] at y <;> cases y
      exact ⟨m9.cl' qi8.1 (by decide), m9.vl' qi8.1 (by decide) n qi8.2.1, m9.vl' qi8.1 (by decide) n qi8.2.2.1, m9.vl' qi8.1 (by decide) n qi8.2.2.2.1, m9.vl' qi8.1 (by decide) n qi8.2.2.2.2⟩
    refine ih (i + 1) h9 _ ns mc (by omega) ?_ ql9 qi9 hit hlen (by omega)
    rw [List.take_succ, et, List.map_append, ← List.append_assoc]
    exact qb9
end XWL

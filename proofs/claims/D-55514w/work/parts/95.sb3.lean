/-! StringBuilder: a sign more -/
section XSD
variable {G : xG} {d k : Nat} {h h' h0 : xH} {T : Nat → xH → Nat → Prop} {S : List Nat} {x p i j c a b e r w m n o v cap : Nat} {cs ds : List Nat} {y z : Int32}
/-- what a builder's signs may write: itself and its bytes -/
def sbQ (F : xH → Nat → Prop) (h : xH) (b v : Nat) (cs : List Nat) (k : Nat) : Prop := ∀ h' v' cap', xMod [b, v] h h' → (v' = v ∨ xsz h ≤ v') → isSB h' b v' cap' cs → (cap' = 16 ∨ cap' = 34) → F h' k
theorem sb_put (q : isSB h b v cap cs) (hl : cs.length < cap) (hc : c < 128) (e1 : h' = xput (xput h b 3 (xi (nI (cs.length + 1)))) v cs.length (xi (nI c))) : isSB h' b v cap (cs ++ [c]) ∧ xMod [b, v] h h' := by
  obtain ⟨q1, q2, q3, q4, q5, q6, q7, q8, q9, q10, q11⟩ := q
  have nb : ¬ b = v := xne_cls q1 q5 (by decide)
  have m : xMod [b, v] h h' := by
    rw [e1]
    exact (xMod.rf.put (Or.inl (by simp))).put (Or.inl (by simp))
  have vb : ∀ j, j ≠ 3 → xval h' b j = xval h b j := fun j hj => by rw [e1, xval_put, if_neg (fun z => nb z.1), xval_put, if_neg (fun z => hj z.2)]
  have vv : ∀ j, xval h' v j = if j = cs.length then xi (nI c) else xval h v j := fun j => by
    rw [e1, xval_put]
    by_cases hj : j = cs.length
    · rw [if_pos ⟨rfl, hj⟩, if_pos hj]
    · rw [if_neg (fun z => hj z.2), if_neg hj, xval_put, if_neg (fun z => nb z.1.symm)]
  refine ⟨⟨m.cl' q1 (by decide), (vb 0 (by decide)).trans q2, (vb 1 (by decide)).trans q3, ?_, m.cl' q5 (by decide), by rw [m.1]; exact q6, (m.ln (by rw [q5]; decide)).trans q7, by simp; omega, q9, fun i c' e => ?_, fun t ht => ?_⟩, m⟩
  · rw [e1, xval_put, if_neg (fun z => nb z.1), xval_put, if_pos ⟨rfl, rfl⟩]
    simp
  · rw [vv]
    by_cases hi : i < cs.length
    · rw [List.getElem?_append_left hi] at e
      rw [if_neg (by omega)]
      exact q10 i c' e
    · have hi2 := (List.getElem?_eq_some_iff.mp e).1
      simp at hi2
      have hi3 : i = cs.length := by omega
      subst hi3
      rw [List.getElem?_append_right (Nat.le_refl _), Nat.sub_self] at e
      simp only [List.getElem?_cons_zero, Option.some.injEq] at e
      subst e
      rw [if_pos rfl]
      exact ⟨hc, rfl⟩
  · rw [vv]
    by_cases ht2 : t = cs.length
    · rw [if_pos ht2]
      exact ⟨_, rfl, (sb_fit hc).1⟩
    · rw [if_neg ht2]
      exact q11 t ht
theorem sb_char_c {F : Option Nat → xH → Nat → Prop} (hd : 6 < d) (hk : 35 ≤ k) (gs : G.2.1 3 = xi 1) (q : isSB h b v cap cs) (hcap : cap = 16 ∨ cap = 34) (hc : c < 128) (hn : cs.length < 34) (hlo : xlo h ≤ xsz h)
    (hQ : sbQ (F (some b)) h b v (cs ++ [c]) (k - 35)) : xCall G d k mJ12_append_3 [xr (some b), xi (nI c)] h (xkR F T) := by
  have q1 := q.1
  have q4 := q.2.2.2.1
  refine xCall_of (d' := 6) hd hk (vc_J12_append_3 ⟨q1, xCall_of (d' := 5) (by decide) (Nat.le_refl _) (vc_J11_append_3 ⟨q1, _, q4, q1, ?_⟩)⟩)
  rw [← nI_succ]
  refine sb_ensure_c (by decide) (by decide) q hcap (by omega) hlo fun h2 v2 cap2 m2 hv2 s2 hc2 hl2 => ?_
  have b1 := s2.1
  refine ⟨b1, sb_latin_c (by decide) gs s2 ⟨fun z => absurd z (by decide), fun _ => xCall_of (d' := 1) (by decide) (Nat.zero_le _) (vc_J18_canEncode ⟨fun z => ?_, fun _ => ⟨fun z => absurd z (by decide), fun _ => ?_⟩⟩)⟩⟩
  · have : (255 : Int32) < nI c := z
    exact absurd this (nI_nlt (b := c) (a := 255) (by omega) (by decide))
  · refine ⟨b1, _, s2.2.1, b1, _, s2.2.2.2.1, b1, fun h42 e42 => ⟨v2, rfl, ?_, ?_, cs.length, rfl, by omega, ?_, fun n46 hn46 h45 e45 => ?_⟩⟩
    · rw [e42]; exact s2.2.2.2.2.1
    · rw [e42]; exact s2.2.2.2.2.2.1
    · rw [e42, xlen_put, s2.2.2.2.2.2.2.1]; omega
    · rw [(sb_fit hc).2.2, (sb_fit hc).2.1] at hn46
      cases hn46
      have e42' : h42 = xput h2 b 3 (xi (nI (cs.length + 1))) := by rw [e42, ← nI_succ]
      obtain ⟨s3, m3⟩ := sb_put (h' := h45) s2 (by omega) hc (by rw [e45, e42'])
      refine hQ h45 v2 cap2 ?_ hv2 s3 hc2
      refine (m2.wk (fun x hx => by rw [List.mem_singleton.mp hx]; exact List.mem_cons_self)).tn m3 fun x hx => ?_
      rcases List.mem_cons.mp hx with e | e
      · rw [e]; exact Or.inl List.mem_cons_self
      · rw [List.mem_singleton.mp e]
        rcases hv2 with z | z
        · rw [z]; exact Or.inl (by simp)
        · exact Or.inr z
end XSD

/-! append, fault -/
def inX (Z : xZ) (u : Nat → Int32) (f : Nat) (v : Int32) : xZ := (Z.1, Z.2.1, Z.2.2.1, Z.2.2.2.1, Z.2.2.2.2.1, u, f, v)
section XIN
variable {G : xG} {d k : Nat} {h h' h0 : xH} {T : Nat → xH → Nat → Prop} {S : List Nat} {x p N N0 i j c a b e r ka mm w m ll n al most dq da ip f dd kd t : Nat} {es hs ss hs' ss' ps ps' cs : List Nat} {W W' g X' Y' u : Nat → Int32} {nd y z v v0 x' y' z' w' mc : Int32} {s s' : xSt} {o : Option xSt} {bs bs' : List xSt} {ro : Option xRf} {rf : xRf} {Z : xZ} {Y : xM} {bo : Bool}
/-- the input's fields and its array written -/
theorem isX.inp (q : isX G h x dq da ip Z) (m : xMod [x, ip] h h') (e : ∀ j, j < 6 → xval h' x j = xval h x j) (hp : isXp h' x ip u f v) : isX G h' x dq da ip (inX Z u f v) ∧ xMod [x, dq, da, ip] h h' := by
  obtain ⟨cdq, cda, cip, -, -, n1, n2, n3⟩ := q.dqda
  have n4 : ¬ dq = ip := xne_cls cdq cip (by decide)
  have n5 : ¬ da = ip := xne_cls cda cip (by decide)
  obtain ⟨q1, q2, q3, q4, q5, q6, q7⟩ := q
  have ok : okZ h da [x, ip] := by
    intro y hy
    rcases List.mem_cons.mp hy with z | z
    · rw [z]; exact Or.inr (Or.inl q1)
    · rw [List.mem_singleton.mp z]; exact Or.inr (Or.inr (Or.inr cip))
  exact ⟨⟨m.cl' q1 (by decide), q2.md (e 0 (by decide)) m ok, q3.md (e 1 (by decide)) m ok, q4.md (e 2 (by decide)) m ok (by simp [n1, n4]) (by simp [n2, n5]), q5.md (e 3 (by decide)) m ok, q6.md (e 4 (by decide)) m ok, hp⟩, m.wk (fun y hy => by simp at hy ⊢; rcases hy with z | z <;> simp [z])⟩
theorem xfault_c {F : Int32 → xH → Nat → Prop} (hd : 1 < d) (q : isX G h x dq da ip Z) (hQ : F (if 0 ≤ Z.2.2.2.2.2.2.2 then Z.2.2.2.2.2.2.2 else -3) h k) : xCall G d k mX0_fault [xr (some x)] h (xkI F T) := by
  have q7 := q.2.2.2.2.2.2.2.2.2.2.2.2
  refine xCall_of (d' := 1) hd (Nat.zero_le k) (vc_X0_fault ⟨q.1, _, q7, fun z => ⟨q.1, _, q7, ?_⟩, fun z => ?_⟩)
  · rw [if_pos z] at hQ; exact hQ
  · rw [if_neg z] at hQ; exact hQ
theorem xappend_c {F : Int32 → xH → Nat → Prop} (hd : 2 < d) (hc : c < 65536) (q : isX G h x dq da ip Z)
    (h0 : ¬ (32 ≤ c ∧ c ≤ 126) → F (-2) h k) (h1 : 32 ≤ c → c ≤ 126 → Z.2.2.2.2.2.2.1 = 60 → F (-4) h k)
    (hQ : 32 ≤ c → c ≤ 126 → Z.2.2.2.2.2.2.1 < 60 → ∀ h', xMod [x, dq, da, ip] h h' → isX G h' x dq da ip (inX Z (fun i => if i = Z.2.2.2.2.2.2.1 then nI c else Z.2.2.2.2.2.1 i) (Z.2.2.2.2.2.2.1 + 1) Z.2.2.2.2.2.2.2) → F (nI (Z.2.2.2.2.2.2.1 + 1)) h' k) : xCall G d k mX0_append [xr (some x), xi (nI c)] h (xkI F T) := by
  have hin : pIn (nI c) 32 126 = true ↔ 32 ≤ c ∧ c ≤ 126 := by
    rw [pIn_iff, nI_toInt (by omega)]
    show (32 : Int) ≤ c ∧ (c : Int) ≤ 126 ↔ _
    omega
  obtain ⟨cdq, cda, cip, -, -, n1, n2, n3⟩ := q.dqda
  obtain ⟨p1, p2, p3, p4, p5, p6, p7⟩ := q.2.2.2.2.2.2
  have qq := q
  generalize Z.2.2.2.2.2.2.1 = f at *
  generalize Z.2.2.2.2.2.1 = u at *
  refine xCall_of (d' := 2) hd (Nat.zero_le k) (vc_X0_append (in_c (by decide) ⟨fun z => ⟨q.1, _, p5, fun z2 => ⟨q.1, _, p1, q.1, _, p5, ip, rfl, p2, f, rfl, by omega, ?_, fun n10 hn h9 e9 => ?_⟩, fun z2 => ?_⟩, fun z => ?_⟩))
  · have : f ≠ 60 := fun e => z2 (by rw [e]; rfl)
    rw [p3]; omega
  · have hf : f < 60 := by
      have : f ≠ 60 := fun e => z2 (by rw [e]; rfl)
      omega
    have hb : pIn (nI c) 32 126 = true := by
      cases hb : pIn (nI c) 32 126 with
      | true => rfl
      | false => rw [hb] at z; exact absurd rfl z
    obtain ⟨c1, c2⟩ := hin.mp hb
    have e10 : n10 = nI c := by
      rw [(t_chr (by omega)).2] at hn
      cases hn
      rfl
    subst e10
    have m9 : xMod [x, ip] h h9 := e9 ▸ xMod.rf.put (Or.inl (by simp))
    have c9 : xcls h9 x = 1 := m9.cl' q.1 (by decide)
    have v9 : ∀ j, xval h9 x j = xval h x j := fun j => by rw [e9, xval_put, if_neg (fun z => n3 z.1.symm)]
    refine ⟨c9, _, (v9 6).trans p5, c9, fun h12 e12 => ?_⟩
    have m12 : xMod [x, ip] h h12 := e12 ▸ m9.put (Or.inl (by simp))
    have v12 : ∀ j, j ≠ 6 → xval h12 x j = xval h x j := fun j hj => by rw [e12, xval_put, if_neg (fun z => hj z.2)]; exact v9 j
    have v126 : xval h12 x 6 = xi (nI (f + 1)) := by rw [e12, xval_put, if_pos ⟨rfl, rfl⟩, nI_succ]
    have ni : ¬ ip = x := n3
    have vip : ∀ i, xval h12 ip i = if i = f then xi (nI c) else xval h ip i := fun i => by
      rw [e12, xval_put, if_neg (fun z => ni z.1), e9, xval_put]
      by_cases hi : i = f
      · rw [if_pos ⟨rfl, hi⟩, if_pos hi]
      · rw [if_neg (fun z => hi z.2), if_neg hi]
    obtain ⟨q12, mm12⟩ := qq.inp (u := fun i => if i = f then nI c else u i) (f := f + 1) (v := Z.2.2.2.2.2.2.2) m12 (fun j hj => v12 j (by omega)) ⟨(v12 5 (by decide)).trans p1, m12.cl' p2 (by decide), (m12.ln (by rw [p2]; decide)).trans p3, fun i hi => by
      rw [vip]
      by_cases hi2 : i = f
      · rw [if_pos hi2]; show _ = xi (if i = f then nI c else u i); rw [if_pos hi2]
      · rw [if_neg hi2]; show _ = xi (if i = f then nI c else u i); rw [if_neg hi2]; exact p4 i (by omega), v126, by omega, (v12 7 (by decide)).trans p7⟩
    exact ⟨m12.cl' q.1 (by decide), _, v126, hQ c1 c2 hf h12 mm12 q12⟩
  · have hb : pIn (nI c) 32 126 = true := by
      cases hb : pIn (nI c) 32 126 with
      | true => rfl
      | false => rw [hb] at z; exact absurd rfl z
    obtain ⟨c1, c2⟩ := hin.mp hb
    exact h1 c1 c2 ((nI_eq (b := 60) (by omega) (by decide)).mp z2)
  · exact h0 (fun y => by rw [hin.mpr y] at z; exact absurd z (by decide))
end XIN

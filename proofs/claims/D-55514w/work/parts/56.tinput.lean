/-! the twin: a text is read -/
theorem nI_sur (x : Int32) : ∃ n : Nat, x = nI n := ⟨x.toBitVec.toNat, by
  unfold nI
  rw [Int32.ofNat_bitVecToNat]
  rfl⟩
theorem tCp_out {V : Nat → Nat → Int32} {f p g r k i : Nat} (h : ¬ (p ≤ i ∧ i < p + k)) : tCp V f p g r k f i = V f i := if_neg (fun z => h z.2)
section XTI
variable {G : xG} {d k : Nat} {h h' h0 : xH} {T : Nat → xH → Nat → Prop} {S : List Nat} {m : Nat} {A : Nat → Nat} {V V0 : Nat → Nat → Int32} {W : Nat → Int32} {a b c s i j mm n f v : Nat} {x y z w ix : Int32} {cs : List Nat} {u : rU}
theorem isTw.pV (q : isTw h m A V) : ∃ u : rU, isTw h m A (pV V u) := by
  obtain ⟨n1, e1⟩ := nI_sur (V 16 0)
  obtain ⟨n2, e2⟩ := nI_sur (V 19 0)
  obtain ⟨nn, e3⟩ : ∃ nn : Nat → Nat, ∀ k, V 18 k = nI (nn k) := ⟨fun k => (nI_sur (V 18 k)).choose, fun k => (nI_sur (V 18 k)).choose_spec⟩
  exact pV_id ⟨(n1, nn, n2), e1, e2, fun k _ => e3 k⟩ q
theorem tN_2 {o : Option (Int32 × Int32)} : tN V o 2 0 = (o.getD (V 2 0, V 3 0)).1 ∧ tN V o 3 0 = (o.getD (V 2 0, V 3 0)).2 := by
  rcases o with _ | ⟨r, e⟩
  · exact ⟨rfl, rfl⟩
  · exact ⟨rfl, rfl⟩
theorem tN_ne {o : Option (Int32 × Int32)} {g : Nat} (h2 : g ≠ 2) (h3 : g ≠ 3) : tN V o g = V g := by
  rcases o with _ | ⟨r, e⟩
  · rfl
  · exact (tU_ne h3).trans (tU_ne h2)
/-- what a text that is refused leaves -/
def tBadV (V V' : Nat → Nat → Int32) (c : Nat) (r e : Int32) : Prop :=
  (∀ i, i < 112 → V' 4 i = V 4 i) ∧ V' 15 0 = 0 ∧ V' 0 0 = 10 ∧ V' 1 0 = nI c ∧ V' 0 1 = r ∧ V' 1 1 = e ∧ ∀ g, g ∈ [5, 6, 8, 9, 10, 12, 13, 14, 17] → V' g = V g
theorem t_read_c {F : Int32 → xH → Nat → Prop} (hd : 10 < d) (q : isTw h m A V) (p : pW (V 4)) (t : tIn V cs) (e8 : V 8 0 = nI n) (e9 : V 9 0 = nI f) (hn : n ≤ 8) (hf : f < 8)
    (hF : ∀ u, (rAll cs (cs.length + 1) (0, u)).1 = false → ∀ h' V', isTw h' m A V' → xMod (tS m A) h h' → V' 17 0 = nI (rAll cs (cs.length + 1) (0, u)).2.1 → V' 15 0 = 0 → (∀ g, g ∉ [15, 16, 17, 18, 19] → V' g = V g) → F (-2) h' k)
    (hS : ∀ u u', (rAll cs (cs.length + 1) (0, u)).1 = true → (rRun cs (cs.length + 1) (V 4) (0, u') 0).1.1 = 0 → ∀ h' V', isTw h' m A V' → xMod (tS m A) h h' → V' 4 = (rRun cs (cs.length + 1) (V 4) (0, u') 0).2.1 → V' 15 0 = 0 → V' 5 = tRemV V n f 5 → V' 8 0 = tRemV V n f 8 0 → V' 9 0 = tRemV V n f 9 0 → (∀ g, g ∈ [0, 1, 6, 10, 12, 13, 14, 17] → V' g = V g) → F (nI (rRun cs (cs.length + 1) (V 4) (0, u') 0).2.2.2) h' k)
    (hR : ∀ u u', (rAll cs (cs.length + 1) (0, u)).1 = true → (rRun cs (cs.length + 1) (V 4) (0, u') 0).1.1 ≠ 0 → ∀ h' V', isTw h' m A V' → xMod (tS m A) h h' →
      tBadV V V' (rRun cs (cs.length + 1) (V 4) (0, u') 0).2.2.2 (if (rRun cs (cs.length + 1) (V 4) (0, u') 0).1.1 = -5 then ((rRun cs (cs.length + 1) (V 4) (0, u') 0).1.2.getD (V 2 0, V 3 0)).1 else 0) (if (rRun cs (cs.length + 1) (V 4) (0, u') 0).1.1 = -5 then ((rRun cs (cs.length + 1) (V 4) (0, u') 0).1.2.getD (V 2 0, V 3 0)).2 else 0) → F (-5) h' k) :
    xCall G d k mX3_read [xr (some m)] h (xkI F T) := by
  obtain ⟨u0, q⟩ := q.pV
  refine xCall_of (d' := 10) hd (Nat.zero_le k) (vc_X3_read ⟨q.cl, t_readsAll_c (by decide) q t fun h1 q1 x1 => ⟨fun z => ⟨q1.cl, t_thinks_c (by decide) q1 fun h2 q2 x2 => ⟨q2.cl, ?_⟩⟩, fun z => ⟨q1.cl, _, q1.ff 16 rfl, q1.cl, fun h3 e3 => ?_⟩⟩⟩)
  · have ea := xb1.mp z
    generalize hu1 : (rAll cs (cs.length + 1) (0, u0.2)).2 = u1 at *
    have e1 : tCp (pV V u1) 7 0 4 0 112 = pV (tCp V 7 0 4 0 112) u1 := by
      funext g i
      by_cases h7 : g = 7
      · subst h7
        rw [congrFun (pV_ne (show 7 ≠ 16 by decide) (by decide) (by decide)) i]
        by_cases hi : 0 ≤ i ∧ i < 0 + 112
        · rw [tCp_at hi.1 hi.2, tCp_at hi.1 hi.2, congrFun pV_4]
        · rw [tCp_out hi, tCp_out hi, congrFun (pV_ne (show 7 ≠ 16 by decide) (by decide) (by decide)) i]
      · rw [tCp_g h7]
        unfold pV
        rw [tCp_g h7]
    rw [e1] at q2
    have t2 : tIn (tCp V 7 0 4 0 112) cs := t.cg (tCp_g (by decide)) (tCp_g (by decide))
    have w2 : tCp V 7 0 4 0 112 4 = V 4 := tCp_g (by decide)
    refine t_notAll_c (by decide) q2 (by rw [w2]; exact p) t2 fun h3 q3 x3 => ⟨q3.cl, fun h9 e9 => ?_⟩
    rw [w2] at q3 ⊢
    have hS := hS u0.2 u1.2 ea
    have hR := hR u0.2 u1.2 ea
    generalize rRun cs (cs.length + 1) (V 4) (0, u1.2) 0 = R at *
    have q9 := q3.pf 15 rfl 0
    have x9 : xMod (tS m A) h h9 := e9 ▸ (x1.tr (x2.tr x3)).tf (fun _ z => z) 15 _
    rw [← e9] at q9
    have o9 : ∀ g, g ∉ [2, 3, 4, 7, 15, 16, 18, 19, 20] → tU (tN (pV (tU (tW (tCp V 7 0 4 0 112) R.2.1) 20 0 (nI R.2.2.2)) R.2.2.1) R.1.2) 15 0 0 g = V g := by
      intro g hg
      simp only [List.mem_cons, List.not_mem_nil, or_false, not_or] at hg
      rw [tU_ne (by omega), tN_ne (by omega) (by omega), pV_ne (by omega) (by omega) (by omega), tU_ne (by omega), tW_ne (by omega), tCp_g (by omega)]
    have i9 : tU (tN (pV (tU (tW (tCp V 7 0 4 0 112) R.2.1) 20 0 (nI R.2.2.2)) R.2.2.1) R.1.2) 15 0 0 20 0 = nI R.2.2.2 := by
      rw [tU_ne (by decide), tN_ne (by decide) (by decide), pV_ne (by decide) (by decide) (by decide), tU_eq]
    have w9 : tU (tN (pV (tU (tW (tCp V 7 0 4 0 112) R.2.1) 20 0 (nI R.2.2.2)) R.2.2.1) R.1.2) 15 0 0 4 = R.2.1 := by
      rw [tU_ne (by decide), tN_ne (by decide) (by decide), pV_ne (by decide) (by decide) (by decide), tU_ne (by decide), tW_4]
    have m9 : tU (tN (pV (tU (tW (tCp V 7 0 4 0 112) R.2.1) 20 0 (nI R.2.2.2)) R.2.2.1) R.1.2) 15 0 0 7 = tCp V 7 0 4 0 112 7 := by
      rw [tU_ne (by decide), tN_ne (by decide) (by decide), pV_ne (by decide) (by decide) (by decide), tU_ne (by decide), tW_ne (by decide)]
    have r9 : tU (tN (pV (tU (tW (tCp V 7 0 4 0 112) R.2.1) 20 0 (nI R.2.2.2)) R.2.2.1) R.1.2) 15 0 0 2 0 = (R.1.2.getD (V 2 0, V 3 0)).1 := by
      rw [tU_ne (by decide), tN_2.1]; rfl
    have s9 : tU (tN (pV (tU (tW (tCp V 7 0 4 0 112) R.2.1) 20 0 (nI R.2.2.2)) R.2.2.1) R.1.2) 15 0 0 3 0 = (R.1.2.getD (V 2 0, V 3 0)).2 := by
      rw [tU_ne (by decide), tN_2.2]; rfl
    have z9 : tU (tN (pV (tU (tW (tCp V 7 0 4 0 112) R.2.1) 20 0 (nI R.2.2.2)) R.2.2.1) R.1.2) 15 0 0 15 0 = 0 := tU_eq
    generalize tU (tN (pV (tU (tW (tCp V 7 0 4 0 112) R.2.1) 20 0 (nI R.2.2.2)) R.2.2.1) R.1.2) 15 0 0 = V9 at *
    refine ⟨fun zz => ⟨q9.cl, t_forgets_c (by decide) q9 fun h10 q10 x10 => ⟨q10.cl, _, q10.ff 20 rfl, q10.cl, ?_⟩⟩, fun zz => ⟨q9.cl, t_keepsMind_c (n := n) (f := f) (by decide) q9 (by rw [o9 8 (by decide)]; exact e8) (by rw [o9 9 (by decide)]; assumption) hn hf fun h10 q10 x10 => ⟨q10.cl, _, q10.ff 20 rfl, ?_⟩⟩⟩
    · have hR := hR zz
      rw [congrFun (tCp_g (show 20 ≠ 4 by decide)) 0, i9]
      refine t_keepsAt_c (c := 0) (by decide) q10 (by decide) fun h11 q11 x11 => ?_
      have base : ∀ (r e : Int32) h12, isTw h12 m A (tU (tU (tU (tU (tCp V9 4 0 7 0 112) 0 0 10) 1 0 (nI R.2.2.2)) 0 1 r) 1 1 e) → xMod (tS m A) h11 h12 → r = (if R.1.1 = -5 then (R.1.2.getD (V 2 0, V 3 0)).1 else 0) → e = (if R.1.1 = -5 then (R.1.2.getD (V 2 0, V 3 0)).2 else 0) → F (-5) h12 k := by
        intro r e h12 q12 x12 hr he
        subst hr he
        refine hR h12 _ q12 (x9.tr (x10.tr (x11.tr x12))) ⟨fun i hi => ?_, ?_, rfl, rfl, rfl, rfl, fun g hg => ?_⟩
        · rw [tU_ne (by decide), tU_ne (by decide), tU_ne (by decide), tU_ne (by decide)]
          unfold tCp
          rw [if_pos ⟨rfl, by omega, by omega⟩, m9]
          unfold tCp
          rw [if_pos ⟨rfl, by omega, by omega⟩]
          congr 1
          omega
        · rw [tU_ne (by decide), tU_ne (by decide), tU_ne (by decide), tU_ne (by decide), tCp_g (by decide)]
          exact z9
        · have hg2 : g ≠ 0 ∧ g ≠ 1 ∧ g ≠ 4 ∧ g ∉ [2, 3, 4, 7, 15, 16, 18, 19, 20] := by
            simp only [List.mem_cons, List.not_mem_nil, or_false] at hg
            rcases hg with rfl | rfl | rfl | rfl | rfl | rfl | rfl | rfl | rfl <;> decide
          rw [tU_ne hg2.2.1, tU_ne hg2.1, tU_ne hg2.2.1, tU_ne hg2.1, tCp_g hg2.2.2.1]
          exact o9 g hg2.2.2.2
      have r11 : tU (tU (tCp V9 4 0 7 0 112) 0 0 10) 1 0 (nI R.2.2.2) 2 0 = (R.1.2.getD (V 2 0, V 3 0)).1 := by
        rw [tU_ne (by decide), tU_ne (by decide), tCp_g (by decide)]; exact r9
      have s11 : tU (tU (tCp V9 4 0 7 0 112) 0 0 10) 1 0 (nI R.2.2.2) 3 0 = (R.1.2.getD (V 2 0, V 3 0)).2 := by
        rw [tU_ne (by decide), tU_ne (by decide), tCp_g (by decide)]; exact s9
      refine ⟨fun y => ⟨fun _ => ⟨q11.cl, t_keepsAt_c (c := 1) (by decide) q11 (by decide) fun h12 q12 x12 => base 0 0 h12 q12 x12 (by rw [if_neg y]) (by rw [if_neg y])⟩, fun w => absurd w y⟩, fun y => ⟨q11.cl, _, q11.ff 2 rfl, fun w => absurd y w, fun _ => ⟨q11.cl, _, q11.ff 3 rfl, q11.cl, t_keepsAt_c (c := 1) (by decide) q11 (by decide) fun h12 q12 x12 => base _ _ h12 q12 x12 (by rw [if_pos y]; exact r11) (by rw [if_pos y]; exact s11)⟩⟩⟩
    · have hS := hS zz
      have k20 : tKeepV V9 n f 20 0 = nI R.2.2.2 := by
        unfold tKeepV
        split
        · rw [tU_ne (by decide), tCp_g (by decide), tU_ne (by decide), tU_ne (by decide)]; exact i9
        · rw [tU_ne (by decide), tCp_g (by decide)]; exact i9
      rw [k20]
      have ko : ∀ g, g ≠ 5 → g ≠ 8 → g ≠ 9 → tKeepV V9 n f g = V9 g := by
        intro g h1 h2 h3
        unfold tKeepV
        split
        · rw [tU_ne h2, tCp_g h1, tU_ne h2, tU_ne h3]
        · rw [tU_ne h2, tCp_g h1]
      refine hS h10 _ q10 (x9.tr x10) ?_ ?_ ?_ ?_ ?_ fun g hg => ?_
      · rw [ko 4 (by decide) (by decide) (by decide)]; exact w9
      · rw [ko 15 (by decide) (by decide) (by decide)]; exact z9
      · unfold tRemV tKeepV
        split
        · rw [tU_ne (by decide), tU_ne (by decide)]
          funext i
          unfold tCp
          split
          · rw [tU_ne (by decide), tU_ne (by decide), tU_ne (by decide), tU_ne (by decide), m9]
            rfl
          · rw [tU_ne (by decide), tU_ne (by decide), tU_ne (by decide), tU_ne (by decide), o9 5 (by decide)]
            rfl
        · rw [tU_ne (by decide), tU_ne (by decide)]
          funext i
          unfold tCp
          split
          · rw [m9]
            rfl
          · rw [o9 5 (by decide)]
            rfl
      · unfold tRemV tKeepV
        split <;> rw [tU_eq, tU_eq]
      · unfold tRemV tKeepV
        split
        · rw [tU_ne (by decide), tCp_g (by decide), tU_ne (by decide), tU_eq, tU_ne (by decide), tCp_g (by decide), tU_ne (by decide), tU_eq]
        · rw [tU_ne (by decide), tCp_g (by decide), tU_ne (by decide), tCp_g (by decide), tCp_g (by decide), o9 9 (by decide)]
      · have hg2 : g ≠ 5 ∧ g ≠ 8 ∧ g ≠ 9 ∧ g ∉ [2, 3, 4, 7, 15, 16, 18, 19, 20] := by
          simp only [List.mem_cons, List.not_mem_nil, or_false] at hg
          rcases hg with rfl | rfl | rfl | rfl | rfl | rfl | rfl | rfl <;> decide
        rw [ko g hg2.1 hg2.2.1 hg2.2.2.1]
        exact o9 g hg2.2.2.2
  · have ea := xb0.mp z
    have hF := hF u0.2 ea
    generalize (rAll cs (cs.length + 1) (0, u0.2)).2 = u1 at *
    have q3 := q1.pf 17 rfl (nI u1.1)
    have e4 : h3 = xput h1 m 17 (xi (nI u1.1)) := e3
    have x3 : xMod (tS m A) h h3 := e4 ▸ x1.tf (fun _ z => z) 17 _
    rw [← e4] at q3
    refine ⟨q3.cl, fun h5 e5 => ?_⟩
    have q5 := q3.pf 15 rfl 0
    rw [← e5] at q5
    refine hF h5 _ q5 (e5 ▸ x3.tf (fun _ z => z) 15 _) ?_ tU_eq fun g hg => ?_
    · rw [tU_ne (by decide), tU_eq]
    · simp only [List.mem_cons, List.not_mem_nil, or_false, not_or] at hg
      rw [tU_ne (by omega), tU_ne (by omega), pV_ne (by omega) (by omega) (by omega)]
theorem t_append_c {F : Int32 → xH → Nat → Prop} (hd : 2 < d) (hc : c < 65536) (q : isTw h m A V) (t : tIn V cs)
    (h0 : ¬ (32 ≤ c ∧ c ≤ 126) → F (-2) h k) (h1 : 32 ≤ c → c ≤ 126 → cs.length = 60 → F (-4) h k)
    (hQ : 32 ≤ c → c ≤ 126 → cs.length < 60 → ∀ h' V', isTw h' m A V' → tIn V' (cs ++ [c]) → (∀ g, g ≠ 14 → g ≠ 15 → V' g = V g) → xMod (tS m A) h h' → F (nI (cs.length + 1)) h' k) : xCall G d k mX3_append [xr (some m), xi (nI c)] h (xkI F T) := by
  obtain ⟨t1, t2, t3⟩ := t
  have hin : pIn (nI c) 32 126 = true ↔ 32 ≤ c ∧ c ≤ 126 := by
    rw [pIn_iff, nI_toInt (by omega)]
    show (32 : Int) ≤ c ∧ (c : Int) ≤ 126 ↔ _
    omega
  refine xCall_of (d' := 2) hd (Nat.zero_le k) (vc_X3_append (t_isBetween_c (by decide) ⟨fun z => ⟨q.cl, _, (q.ff 15 rfl).trans (congrArg xi t1), fun y => ?_, fun y => ?_⟩, fun z => ?_⟩))
  · obtain ⟨c1, c2⟩ := hin.mp (xb1.mp z)
    have hl : cs.length < 60 := by
      rcases Nat.lt_or_eq_of_le t2 with e | e
      · exact e
      · exact absurd (by rw [e]; rfl) y
    refine ⟨q.cl, _, q.rr 14 (by decide), q.cl, _, (q.ff 15 rfl).trans (congrArg xi t1), _, rfl, q.kk 14 (by decide), cs.length, rfl, by omega, (by rw [q.ll 14 (by decide)]; exact hl), fun n10 e10 h9 e9 => ?_⟩
    have e11 : n10 = nI c := by
      rw [(t_chr (by omega)).2] at e10
      exact (Value.int.inj e10).symm
    subst e11
    have q9 := q.pa 14 (show cs.length < tL 14 from hl) (nI c)
    have x9 : xMod (tS m A) h h9 := e9 ▸ xMod.rf.ta (fun _ z => z) 14 (by decide) _ _
    rw [← e9] at q9
    have e15 : tU V 14 cs.length (nI c) 15 0 = nI cs.length := by rw [tU_ne (by decide)]; exact t1
    refine ⟨q9.cl, _, (q9.ff 15 rfl).trans (congrArg xi e15), q9.cl, fun h12 e12 => ?_⟩
    have q12 := q9.pf 15 rfl (nI (cs.length + 1))
    have e13 : h12 = xput h9 m 15 (xi (nI (cs.length + 1))) := e12.trans (by rw [← nI_1])
    rw [← e13] at q12
    refine ⟨q12.cl, _, (q12.ff 15 rfl).trans (congrArg xi tU_eq), hQ c1 c2 hl h12 _ q12 ⟨?_, by simp; omega, fun i c' hi => ?_⟩ (fun g g1 g2 => (tU_ne g2).trans (tU_ne g1)) (e13 ▸ x9.tf (fun _ z => z) 15 _)⟩
    · rw [tU_eq, List.length_append]; rfl
    · rw [congrFun (tU_ne (show 14 ≠ 15 by decide)) i]
      unfold tU
      by_cases hlt : i < cs.length
      · rw [List.getElem?_append_left hlt] at hi
        rw [if_neg (fun z => by omega)]
        exact t3 i c' hi
      · rw [List.getElem?_append_right (by omega)] at hi
        have h0 : i - cs.length < 1 := (List.getElem?_eq_some_iff.mp hi).1
        have h1 : i = cs.length := by omega
        subst h1
        simp at hi
        subst hi
        rw [if_pos ⟨rfl, rfl⟩]
        exact ⟨rfl, by omega⟩
  · obtain ⟨c1, c2⟩ := hin.mp (xb1.mp z)
    exact h1 c1 c2 ((nI_eq (b := 60) (by omega) (by decide)).mp y)
  · exact h0 fun y => by have := hin.mpr y; rw [xb0.mp z] at this; cases this
theorem t_fault_c {F : Int32 → xH → Nat → Prop} (hd : 1 < d) (q : isTw h m A V) (hQ : F (if 0 ≤ V 17 0 then V 17 0 else -3) h k) : xCall G d k mX3_fault [xr (some m)] h (xkI F T) := by
  refine xCall_of (d' := 1) hd (Nat.zero_le k) (vc_X3_fault ⟨q.cl, _, q.ff 17 rfl, fun z => ⟨q.cl, _, q.ff 17 rfl, ?_⟩, fun z => ?_⟩)
  · rw [if_pos z] at hQ; exact hQ
  · rw [if_neg z] at hQ; exact hQ
/-! the twin is made -/
def isTi (h0 h : xH) (m : Nat) (A : Nat → Nat) (L : List Nat) : Prop :=
  xcls h m = 6 ∧ (∀ f, tL f = 0 → xval h m f = xval h0 m f) ∧ (∀ f, f ∈ L → tL f ≠ 0 ∧ xval h m f = xr (some (A f)) ∧ xcls h (A f) = tK f ∧ xlen h (A f) = tL f ∧ (∀ i, xval h (A f) i = xi 0) ∧ xsz h0 ≤ A f) ∧ (∀ f g, f ∈ L → g ∈ L → A f = A g → f = g)
def uA (A : Nat → Nat) (f a : Nat) : Nat → Nat := fun g => if g = f then a else A g
theorem isTi.step {L : List Nat} (q : isTi h0 h m A L) (x : xsz h0 ≤ xsz h) (f : Nat) (hf : f ∉ L) (hz : tL f ≠ 0) : isTi h0 (xput (xnew h (tK f) (tL f) (fun _ => xi 0)) m f (xr (some (xsz h)))) m (uA A f (xsz h)) (f :: L) := by
  obtain ⟨q1, q2, q3, q4⟩ := q
  have n1 : xcls h m ≠ 0 := by rw [q1]; decide
  have hm : ¬ m = xsz h := xne_new n1 rfl
  have hm' : ¬ xsz h = m := fun z => hm z.symm
  have old : ∀ g, g ∈ L → ¬ A g = xsz h := fun g hg => xne_new (by rw [(q3 g hg).2.2.1]; exact tK_0 g) rfl
  have nam : ∀ g, g ∈ L → ¬ A g = m := fun g hg => xne_cls (q3 g hg).2.2.1 q1 (tK_a g)
  have nf : ∀ g, g ∈ L → ¬ g = f := fun g hg e => hf (e ▸ hg)
  refine ⟨?_, fun g hg => ?_, fun g hg => ?_, fun g g' hg hg' e => ?_⟩
  · simp (decide := true) only [true_and, and_true, and_self, exists_eq_left, exists_eq_left', forall_eq, forall_eq', Sum.inl.injEq, Sum.inr.injEq, Option.some.injEq, xcls_put, xlen_put, xval_put, xsz_put, xlo_put, xcls_new, xlen_new, xval_new, xsz_new, xlo_new, ↓reduceIte, reduceCtorEq, and_false, false_and, not_true_eq_false, not_false_eq_true, implies_true, forall_const, true_implies, false_implies, ne_eq, hm, q1]
  · have : ¬ g = f := fun e => hz (e ▸ hg)
    simp (decide := true) only [true_and, and_true, and_self, exists_eq_left, exists_eq_left', forall_eq, forall_eq', Sum.inl.injEq, Sum.inr.injEq, Option.some.injEq, xcls_put, xlen_put, xval_put, xsz_put, xlo_put, xcls_new, xlen_new, xval_new, xsz_new, xlo_new, ↓reduceIte, reduceCtorEq, and_false, false_and, not_true_eq_false, not_false_eq_true, implies_true, forall_const, true_implies, false_implies, ne_eq, hm, this]; exact q2 g hg
  · unfold uA
    rcases List.mem_cons.mp hg with rfl | hg
    · refine ⟨hz, ?_, ?_, ?_, fun i => ?_, ?_⟩
      · simp (decide := true) only [true_and, and_true, and_self, exists_eq_left, exists_eq_left', forall_eq, forall_eq', Sum.inl.injEq, Sum.inr.injEq, Option.some.injEq, xcls_put, xlen_put, xval_put, xsz_put, xlo_put, xcls_new, xlen_new, xval_new, xsz_new, xlo_new, ↓reduceIte, reduceCtorEq, and_false, false_and, not_true_eq_false, not_false_eq_true, implies_true, forall_const, true_implies, false_implies, ne_eq]
      · simp (decide := true) only [true_and, and_true, and_self, exists_eq_left, exists_eq_left', forall_eq, forall_eq', Sum.inl.injEq, Sum.inr.injEq, Option.some.injEq, xcls_put, xlen_put, xval_put, xsz_put, xlo_put, xcls_new, xlen_new, xval_new, xsz_new, xlo_new, ↓reduceIte, reduceCtorEq, and_false, false_and, not_true_eq_false, not_false_eq_true, implies_true, forall_const, true_implies, false_implies, ne_eq]
      · simp (decide := true) only [true_and, and_true, and_self, exists_eq_left, exists_eq_left', forall_eq, forall_eq', Sum.inl.injEq, Sum.inr.injEq, Option.some.injEq, xcls_put, xlen_put, xval_put, xsz_put, xlo_put, xcls_new, xlen_new, xval_new, xsz_new, xlo_new, ↓reduceIte, reduceCtorEq, and_false, false_and, not_true_eq_false, not_false_eq_true, implies_true, forall_const, true_implies, false_implies, ne_eq]
      · simp (decide := true) only [true_and, and_true, and_self, exists_eq_left, exists_eq_left', forall_eq, forall_eq', Sum.inl.injEq, Sum.inr.injEq, Option.some.injEq, xcls_put, xlen_put, xval_put, xsz_put, xlo_put, xcls_new, xlen_new, xval_new, xsz_new, xlo_new, ↓reduceIte, reduceCtorEq, and_false, false_and, not_true_eq_false, not_false_eq_true, implies_true, forall_const, true_implies, false_implies, ne_eq, hm']
      · simp (decide := true) only [true_and, and_true, and_self, exists_eq_left, exists_eq_left', forall_eq, forall_eq', Sum.inl.injEq, Sum.inr.injEq, Option.some.injEq, xcls_put, xlen_put, xval_put, xsz_put, xlo_put, xcls_new, xlen_new, xval_new, xsz_new, xlo_new, ↓reduceIte, reduceCtorEq, and_false, false_and, not_true_eq_false, not_false_eq_true, implies_true, forall_const, true_implies, false_implies, ne_eq]; exact x
    · obtain ⟨a1, a2, a3, a4, a5, a6⟩ := q3 g hg
      refine ⟨a1, ?_, ?_, ?_, fun i => ?_, ?_⟩
      · simp (decide := true) only [true_and, and_true, and_self, exists_eq_left, exists_eq_left', forall_eq, forall_eq', Sum.inl.injEq, Sum.inr.injEq, Option.some.injEq, xcls_put, xlen_put, xval_put, xsz_put, xlo_put, xcls_new, xlen_new, xval_new, xsz_new, xlo_new, ↓reduceIte, reduceCtorEq, and_false, false_and, not_true_eq_false, not_false_eq_true, implies_true, forall_const, true_implies, false_implies, ne_eq, nf g hg, hm]; exact a2
      · simp (decide := true) only [true_and, and_true, and_self, exists_eq_left, exists_eq_left', forall_eq, forall_eq', Sum.inl.injEq, Sum.inr.injEq, Option.some.injEq, xcls_put, xlen_put, xval_put, xsz_put, xlo_put, xcls_new, xlen_new, xval_new, xsz_new, xlo_new, ↓reduceIte, reduceCtorEq, and_false, false_and, not_true_eq_false, not_false_eq_true, implies_true, forall_const, true_implies, false_implies, ne_eq, nf g hg, old g hg]; exact a3
      · simp (decide := true) only [true_and, and_true, and_self, exists_eq_left, exists_eq_left', forall_eq, forall_eq', Sum.inl.injEq, Sum.inr.injEq, Option.some.injEq, xcls_put, xlen_put, xval_put, xsz_put, xlo_put, xcls_new, xlen_new, xval_new, xsz_new, xlo_new, ↓reduceIte, reduceCtorEq, and_false, false_and, not_true_eq_false, not_false_eq_true, implies_true, forall_const, true_implies, false_implies, ne_eq, nf g hg, old g hg]; exact a4
      · simp (decide := true) only [true_and, and_true, and_self, exists_eq_left, exists_eq_left', forall_eq, forall_eq', Sum.inl.injEq, Sum.inr.injEq, Option.some.injEq, xcls_put, xlen_put, xval_put, xsz_put, xlo_put, xcls_new, xlen_new, xval_new, xsz_new, xlo_new, ↓reduceIte, reduceCtorEq, and_false, false_and, not_true_eq_false, not_false_eq_true, implies_true, forall_const, true_implies, false_implies, ne_eq, nf g hg, old g hg, nam g hg]; exact a5 i
      · simp (decide := true) only [true_and, and_true, and_self, exists_eq_left, exists_eq_left', forall_eq, forall_eq', Sum.inl.injEq, Sum.inr.injEq, Option.some.injEq, xcls_put, xlen_put, xval_put, xsz_put, xlo_put, xcls_new, xlen_new, xval_new, xsz_new, xlo_new, ↓reduceIte, reduceCtorEq, and_false, false_and, not_true_eq_false, not_false_eq_true, implies_true, forall_const, true_implies, false_implies, ne_eq, nf g hg]; exact a6
  · unfold uA at e
    by_cases e1 : g = f
    · by_cases e2 : g' = f
      · exact e1.trans e2.symm
      · have hg2 : g' ∈ L := (List.mem_cons.mp hg').resolve_left e2
        rw [if_pos e1, if_neg e2] at e
        exact absurd e.symm (old g' hg2)
    · have hg1 : g ∈ L := (List.mem_cons.mp hg).resolve_left e1
      by_cases e2 : g' = f
      · rw [if_neg e1, if_pos e2] at e
        exact absurd e (old g hg1)
      · have hg2 : g' ∈ L := (List.mem_cons.mp hg').resolve_left e2
        rw [if_neg e1, if_neg e2] at e
        exact q4 g g' hg1 hg2 e
def tV0 : Nat → Nat → Int32 := fun f i => if f = 4 then (if i = 1 then 200 else if i = 4 then 3 else 0) else if f = 17 then (if i = 0 then -1 else 0) else 0
theorem isTi.tw {v : Nat → Int32} (q : isTi h0 h m A [18, 14, 12, 7, 6, 5, 4, 1, 0]) (hz : ∀ f, tL f = 0 → xval h0 m f = xi (v f)) : isTw h m A (fun f _ => if tL f = 0 then v f else 0) := by
  obtain ⟨q1, q2, q3, q4⟩ := q
  have hm : ∀ f, tL f ≠ 0 → f ∈ [18, 14, 12, 7, 6, 5, 4, 1, 0] := fun f z => by
    have := tL_mem z
    simp only [List.mem_cons, List.not_mem_nil, or_false] at this ⊢
    omega
  refine ⟨q1, fun f z => by simp only [z, ↓reduceIte]; exact (q2 f z).trans (hz f z), fun f z => ?_, fun f g zf zg e => q4 f g (hm f zf) (hm g zg) e⟩
  obtain ⟨-, a2, a3, a4, a5, -⟩ := q3 f (hm f z)
  exact ⟨a2, a3, a4, fun i _ => by simp only [z, ↓reduceIte]; exact a5 i⟩
theorem isTi.put {L : List Nat} {v : xV} (q : isTi h0 h m A L) : isTi (xput h0 m 17 v) (xput h m 17 v) m A L := by
  obtain ⟨q1, q2, q3, q4⟩ := q
  refine ⟨q1, fun f hf => ?_, fun f hf => ?_, q4⟩
  · by_cases e : f = 17
    · simp (decide := true) only [true_and, and_true, and_self, exists_eq_left, exists_eq_left', forall_eq, forall_eq', Sum.inl.injEq, Sum.inr.injEq, Option.some.injEq, xcls_put, xlen_put, xval_put, xsz_put, xlo_put, xcls_new, xlen_new, xval_new, xsz_new, xlo_new, ↓reduceIte, reduceCtorEq, and_false, false_and, not_true_eq_false, not_false_eq_true, implies_true, forall_const, true_implies, false_implies, ne_eq, e]
    · simp (decide := true) only [true_and, and_true, and_self, exists_eq_left, exists_eq_left', forall_eq, forall_eq', Sum.inl.injEq, Sum.inr.injEq, Option.some.injEq, xcls_put, xlen_put, xval_put, xsz_put, xlo_put, xcls_new, xlen_new, xval_new, xsz_new, xlo_new, ↓reduceIte, reduceCtorEq, and_false, false_and, not_true_eq_false, not_false_eq_true, implies_true, forall_const, true_implies, false_implies, ne_eq, e]; exact q2 f hf
  · obtain ⟨a1, a2, a3, a4, a5, a6⟩ := q3 f hf
    have e : ¬ f = 17 := fun z => a1 (by rw [z]; rfl)
    have e2 : ¬ A f = m := xne_cls a3 q1 (tK_a f)
    refine ⟨a1, ?_, a3, a4, fun i => ?_, a6⟩
    · simp (decide := true) only [true_and, and_true, and_self, exists_eq_left, exists_eq_left', forall_eq, forall_eq', Sum.inl.injEq, Sum.inr.injEq, Option.some.injEq, xcls_put, xlen_put, xval_put, xsz_put, xlo_put, xcls_new, xlen_new, xval_new, xsz_new, xlo_new, ↓reduceIte, reduceCtorEq, and_false, false_and, not_true_eq_false, not_false_eq_true, implies_true, forall_const, true_implies, false_implies, ne_eq, e]; exact a2
    · simp (decide := true) only [true_and, and_true, and_self, exists_eq_left, exists_eq_left', forall_eq, forall_eq', Sum.inl.injEq, Sum.inr.injEq, Option.some.injEq, xcls_put, xlen_put, xval_put, xsz_put, xlo_put, xcls_new, xlen_new, xval_new, xsz_new, xlo_new, ↓reduceIte, reduceCtorEq, and_false, false_and, not_true_eq_false, not_false_eq_true, implies_true, forall_const, true_implies, false_implies, ne_eq, e2]; exact a5 i
end XTI

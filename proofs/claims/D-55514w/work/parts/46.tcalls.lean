/-! the twin: the sites' changes as they are called -/
def tRef (V : Nat → Nat → Int32) (c : Int32 × Option (Int32 × Int32)) : Nat → Nat → Int32 :=
  let V1 := tN V c.2
  if c.1 = -5 then tU (tU (tU (tU V1 0 0 (V1 2 0)) 1 0 (V1 3 0)) 0 1 0) 1 1 0 else V1
section XTE
variable {G : xG} {d k : Nat} {h h' : xH} {T : Nat → xH → Nat → Prop} {S : List Nat} {m : Nat} {A : Nat → Nat} {V : Nat → Nat → Int32} {a b c s i j mm n f : Nat} {x y : Int32}
theorem t_open_c {F : Int32 → xH → Nat → Prop} (hd : 7 < d) (q : isTw h m A V) (p : pW (V 4)) (e8 : V 8 0 = nI n) (e9 : V 9 0 = nI f) (hn : n ≤ 8) (hf : f < 8)
    (h1 : ∀ s, x = nI s → s < nS (V 4) → pNotOpen (V 4) x = (0, none) → ∀ h', isTw h' m A (tOpens (tRemV V n f) s) → xMod (tS m A) h h' → F (nI (pMany (tOpens (tRemV V n f) s 4) x)) h' k)
    (h2 : (pNotOpen (V 4) x).1 ≠ 0 → ∀ h', isTw h' m A (tRef V (pNotOpen (V 4) x)) → xMod (tS m A) h h' → F (pNotOpen (V 4) x).1 h' k) : xCall G d k mX3_open [xr (some m), xi x] h (xkI F T) := by
  have p4 := p.2.2.2
  refine xCall_of (d' := 7) hd (Nat.zero_le k) (vc_X3_open ⟨q.cl, t_notOpen_c (by decide) q p fun h3 q3 x3 => ⟨fun z => ⟨q3.cl, ?_⟩, fun z => ⟨q3.cl, t_refuses_c (by decide) q3 fun h4 q4 x4 => h2 z h4 q4 (x3.tr x4)⟩⟩⟩)
  obtain ⟨s, hs, rfl, e⟩ : ∃ s, s < nS (V 4) ∧ x = nI s ∧ pNotOpen (V 4) x = (0, none) := by
    unfold pNotOpen at z ⊢
    by_cases hb : pHas (nS (V 4)) x = true
    · obtain ⟨s, hs, rfl⟩ := (pHas_iff (by omega)).mp hb
      refine ⟨s, hs, rfl, ?_⟩
      rw [if_pos hb] at z ⊢
      split at z
      · exact absurd (show (-5 : Int32) = 0 from z) (by decide)
      · split at z
        · rename_i u1 u2
          rw [if_neg u1, if_pos u2]
        · exact absurd (show (-5 : Int32) = 0 from z) (by decide)
    · rw [if_neg hb] at z; exact absurd (show (-1 : Int32) = 0 from z) (by decide)
  rw [e] at q3
  refine t_remembers_c (by decide) q3 e8 e9 hn hf fun h4 q4 x4 => ⟨q4.cl, t_opens_c (by decide) q4 ?_ (by omega) fun h5 q5 x5 => h1 s rfl hs e h5 q5 ((x3.tr x4).tr x5)⟩
  show pW (tRemV V n f 4)
  rw [tRemV_4]
  exact p
theorem t_shut_c {F : Int32 → xH → Nat → Prop} (hd : 7 < d) (q : isTw h m A V) (p : pW (V 4)) (e8 : V 8 0 = nI n) (e9 : V 9 0 = nI f) (hn : n ≤ 8) (hf : f < 8)
    (h1 : ∀ s, x = nI s → s < nS (V 4) → pNotShut (V 4) x = (0, none) → ∀ h', isTw h' m A (tShuts (tRemV V n f) s) → xMod (tS m A) h h' → F (nI (bCard (pMask (tShuts (tRemV V n f) s 4)))) h' k)
    (h2 : (pNotShut (V 4) x).1 ≠ 0 → ∀ h', isTw h' m A (tRef V (pNotShut (V 4) x)) → xMod (tS m A) h h' → F (pNotShut (V 4) x).1 h' k) : xCall G d k mX3_shut [xr (some m), xi x] h (xkI F T) := by
  have p4 := p.2.2.2
  refine xCall_of (d' := 7) hd (Nat.zero_le k) (vc_X3_shut ⟨q.cl, t_notShut_c (by decide) q p fun h3 q3 x3 => ⟨fun z => ⟨q3.cl, ?_⟩, fun z => ⟨q3.cl, t_refuses_c (by decide) q3 fun h4 q4 x4 => h2 z h4 q4 (x3.tr x4)⟩⟩⟩)
  obtain ⟨s, hs, rfl, e⟩ : ∃ s, s < nS (V 4) ∧ x = nI s ∧ pNotShut (V 4) x = (0, none) := by
    unfold pNotShut at z ⊢
    by_cases hb : pHas (nS (V 4)) x = true
    · obtain ⟨s, hs, rfl⟩ := (pHas_iff (by omega)).mp hb
      refine ⟨s, hs, rfl, ?_⟩
      rw [if_pos hb] at z ⊢
      split at z
      · rename_i u1
        rw [if_pos u1]
      · exact absurd (show (-5 : Int32) = 0 from z) (by decide)
    · rw [if_neg hb] at z; exact absurd (show (-1 : Int32) = 0 from z) (by decide)
  rw [e] at q3
  refine t_remembers_c (by decide) q3 e8 e9 hn hf fun h4 q4 x4 => ⟨q4.cl, t_shuts_c (by decide) q4 ?_ (by omega) fun h5 q5 x5 => h1 s rfl hs e h5 q5 ((x3.tr x4).tr x5)⟩
  show pW (tRemV V n f 4)
  rw [tRemV_4]
  exact p
theorem t_pump_c {F : Int32 → xH → Nat → Prop} (hd : 7 < d) (q : isTw h m A V) (p : pW (V 4)) (e8 : V 8 0 = nI n) (e9 : V 9 0 = nI f) (hn : n ≤ 8) (hf : f < 8)
    (h1 : ∀ s, x = nI s → s < nS (V 4) → pNotPump (V 4) x = (0, none) → ∀ h', isTw h' m A (tPumps (tRemV V n f) s) → xMod (tS m A) h h' → F (pGives (tPumps (tRemV V n f) s 4) s) h' k)
    (h2 : (pNotPump (V 4) x).1 ≠ 0 → ∀ h', isTw h' m A (tRef V (pNotPump (V 4) x)) → xMod (tS m A) h h' → F (pNotPump (V 4) x).1 h' k) : xCall G d k mX3_pump [xr (some m), xi x] h (xkI F T) := by
  have p4 := p.2.2.2
  refine xCall_of (d' := 7) hd (Nat.zero_le k) (vc_X3_pump ⟨q.cl, t_notPump_c (by decide) q p fun h3 q3 x3 => ⟨fun z => ⟨q3.cl, ?_⟩, fun z => ⟨q3.cl, t_refuses_c (by decide) q3 fun h4 q4 x4 => h2 z h4 q4 (x3.tr x4)⟩⟩⟩)
  obtain ⟨s, hs, rfl, e⟩ : ∃ s, s < nS (V 4) ∧ x = nI s ∧ pNotPump (V 4) x = (0, none) := by
    unfold pNotPump at z ⊢
    by_cases hb : pHas (nS (V 4)) x = true
    · obtain ⟨s, hs, rfl⟩ := (pHas_iff (by omega)).mp hb
      refine ⟨s, hs, rfl, ?_⟩
      rw [if_pos hb] at z ⊢
      split at z
      · rename_i u1
        rw [if_pos u1]
        split at z
        · exact absurd (show (-5 : Int32) = 0 from z) (by decide)
        · rename_i u2
          split at z
          · exact absurd (show (-5 : Int32) = 0 from z) (by decide)
          · rename_i u3
            rw [if_neg u2, if_neg u3]
      · exact absurd (show (-5 : Int32) = 0 from z) (by decide)
    · rw [if_neg hb] at z; exact absurd (show (-1 : Int32) = 0 from z) (by decide)
  rw [e] at q3
  exact t_remembers_c (by decide) q3 e8 e9 hn hf fun h4 q4 x4 => ⟨q4.cl, t_pumps_c (by decide) q4 (by omega) fun h5 q5 x5 => h1 s rfl hs e h5 q5 ((x3.tr x4).tr x5)⟩
end XTE
section XTE2
variable {G : xG} {d k : Nat} {h h' : xH} {T : Nat → xH → Nat → Prop} {S : List Nat} {m : Nat} {A : Nat → Nat} {V : Nat → Nat → Int32} {a b c s i j mm n f : Nat} {x y : Int32}
def tUnpumps (V : Nat → Nat → Int32) (s : Nat) : Nat → Nat → Int32 :=
  let V1 := tU V 4 (61 + 8 * s + 6) 0
  tU V1 4 4 (V1 4 4 + 1)
theorem t_unpump_c {F : Int32 → xH → Nat → Prop} (hd : 7 < d) (q : isTw h m A V) (p : pW (V 4)) (e8 : V 8 0 = nI n) (e9 : V 9 0 = nI f) (hn : n ≤ 8) (hf : f < 8)
    (h1 : ∀ s, x = nI s → s < nS (V 4) → pNotUnpump (V 4) x = (0, none) → ∀ h', isTw h' m A (tUnpumps (tRemV V n f) s) → xMod (tS m A) h h' → F (tUnpumps (tRemV V n f) s 4 4) h' k)
    (h2 : (pNotUnpump (V 4) x).1 ≠ 0 → ∀ h', isTw h' m A (tRef V (pNotUnpump (V 4) x)) → xMod (tS m A) h h' → F (pNotUnpump (V 4) x).1 h' k) : xCall G d k mX3_unpump [xr (some m), xi x] h (xkI F T) := by
  have p4 := p.2.2.2
  refine xCall_of (d' := 7) hd (Nat.zero_le k) (vc_X3_unpump ⟨q.cl, t_notUnpump_c (by decide) q p fun h3 q3 x3 => ⟨fun z => ⟨q3.cl, ?_⟩, fun z => ⟨q3.cl, t_refuses_c (by decide) q3 fun h4 q4 x4 => h2 z h4 q4 (x3.tr x4)⟩⟩⟩)
  obtain ⟨s, hs, rfl, e⟩ : ∃ s, s < nS (V 4) ∧ x = nI s ∧ pNotUnpump (V 4) x = (0, none) := by
    unfold pNotUnpump at z ⊢
    by_cases hb : pHas (nS (V 4)) x = true
    · obtain ⟨s, hs, rfl⟩ := (pHas_iff (by omega)).mp hb
      refine ⟨s, hs, rfl, ?_⟩
      rw [if_pos hb] at z ⊢
      split at z
      · rename_i u1
        rw [if_pos u1]
        split at z
        · rename_i u2
          rw [if_pos u2]
        · exact absurd (show (-5 : Int32) = 0 from z) (by decide)
      · exact absurd (show (-5 : Int32) = 0 from z) (by decide)
    · rw [if_neg hb] at z; exact absurd (show (-1 : Int32) = 0 from z) (by decide)
  rw [e] at q3
  refine t_remembers_c (by decide) q3 e8 e9 hn hf fun h4 q4 x4 => ⟨q4.cl, t_setsSite_c (by decide) q4 s 6 (by omega) fun h5 q5 x5 => ?_⟩
  refine ⟨q5.cl, _, q5.rr 4 (by decide), _, rfl, q5.kk 4 (by decide), 4, rfl, by decide, (by rw [q5.ll 4 (by decide)]; decide), _, q5.vv 4 (by decide), q5.kk 4 (by decide), 4, rfl, by decide, (by rw [q5.ll 4 (by decide)]; decide), fun h9 e9 => ?_⟩
  have q6 := q5.pa 4 (show 4 < tL 4 by decide) (tU (tRemV V n f) 4 (61 + 8 * s + 6) 0 4 4 + 1)
  have x6 : xMod (tS m A) h h9 := by subst e9; exact ((x3.tr x4).tr x5).ta (fun _ z => z) 4 (by decide) _ _
  have e9' : h9 = xput h5 (A 4) 4 (xi (tU (tRemV V n f) 4 (61 + 8 * s + 6) 0 4 4 + 1)) := e9
  rw [← e9'] at q6
  exact ⟨q6.cl, _, q6.rr 4 (by decide), _, rfl, q6.kk 4 (by decide), 4, rfl, by decide, (by rw [q6.ll 4 (by decide)]; decide), _, q6.vv 4 (by decide), h1 s rfl hs e h9 q6 x6⟩
theorem t_move_c {F : Int32 → xH → Nat → Prop} (hd : 7 < d) (q : isTw h m A V) (p : pW (V 4)) (e8 : V 8 0 = nI n) (e9 : V 9 0 = nI f) (hn : n ≤ 8) (hf : f < 8)
    (h1 : ∀ a b, x = nI a → y = nI b → a < nS (V 4) → b < nS (V 4) → pNotMove (V 4) x y = (0, none) → ∀ h', isTw h' m A (tMoves (tRemV V n f) a b) → xMod (tS m A) h h' → F (pToll (tMoves (tRemV V n f) a b 4) a b) h' k)
    (h2 : (pNotMove (V 4) x y).1 ≠ 0 → ∀ h', isTw h' m A (tRef V (pNotMove (V 4) x y)) → xMod (tS m A) h h' → F (pNotMove (V 4) x y).1 h' k) : xCall G d k mX3_move [xr (some m), xi x, xi y] h (xkI F T) := by
  have p4 := p.2.2.2
  refine xCall_of (d' := 7) hd (Nat.zero_le k) (vc_X3_move ⟨q.cl, t_notMove_c (by decide) q p fun h3 q3 x3 => ⟨fun z => ⟨q3.cl, ?_⟩, fun z => ⟨q3.cl, t_refuses_c (by decide) q3 fun h4 q4 x4 => h2 z h4 q4 (x3.tr x4)⟩⟩⟩)
  obtain ⟨a, b, ha, hb', rfl, rfl, e⟩ : ∃ a b, a < nS (V 4) ∧ b < nS (V 4) ∧ x = nI a ∧ y = nI b ∧ pNotMove (V 4) x y = (0, none) := by
    unfold pNotMove at z ⊢
    have no : ∀ (o : Option (Int32 × Int32)), ((-5 : Int32), o).1 = 0 → False := fun o w => absurd (show (-5 : Int32) = 0 from w) (by decide)
    have no1 : ∀ (o : Option (Int32 × Int32)), ((-1 : Int32), o).1 = 0 → False := fun o w => absurd (show (-1 : Int32) = 0 from w) (by decide)
    by_cases hb : pHas (nS (V 4)) x = true
    · by_cases hb2 : pHas (nS (V 4)) y = true
      · obtain ⟨s, hs, rfl⟩ := (pHas_iff (by omega)).mp hb
        obtain ⟨t, ht, rfl⟩ := (pHas_iff (by omega)).mp hb2
        refine ⟨s, t, hs, ht, rfl, rfl, ?_⟩
        rw [if_pos hb, if_pos hb2] at z ⊢
        by_cases u1 : nI s = nI t
        · rw [if_pos u1] at z; exact (no _ z).elim
        · rw [if_neg u1] at z ⊢
          split at z
          · rename_i u2
            rw [if_pos u2]
            split at z
            · rename_i u3
              rw [if_pos u3]
              split at z
              · rename_i u4
                rw [if_pos u4]
                split at z
                · exact (no _ z).elim
                · rename_i u5
                  rw [if_neg u5]
                  split at z
                  · rename_i u6
                    rw [if_pos u6]
                  · exact (no _ z).elim
              · exact (no _ z).elim
            · exact (no _ z).elim
          · exact (no _ z).elim
      · rw [if_pos hb, if_neg hb2] at z; exact (no1 _ z).elim
    · rw [if_neg hb] at z; exact (no1 _ z).elim
  rw [e] at q3
  exact t_remembers_c (by decide) q3 e8 e9 hn hf fun h4 q4 x4 => ⟨q4.cl, t_moves_c (by decide) q4 (by omega) (by omega) fun h5 q5 x5 => h1 a b rfl rfl ha hb' e h5 q5 ((x3.tr x4).tr x5)⟩
end XTE2

/-! the twin: hamlet, site as they are called -/
section XTW
variable {G : xG} {d k : Nat} {h h' : xH} {T : Nat → xH → Nat → Prop} {S : List Nat} {m : Nat} {A : Nat → Nat} {V : Nat → Nat → Int32} {a b c s i j mm n f : Nat} {x y z w : Int32}
theorem pNotHamlet_0 {W : Nat → Int32} (e : (pNotHamlet W x y z).1 = 0) (p : pW W) : pNotHamlet W x y z = (0, none) ∧ nH W < 8 := by
  have p2 := p.2.1
  have no : ∀ (o : Option (Int32 × Int32)), ((-5 : Int32), o).1 = 0 → False := fun o w => absurd (show (-5 : Int32) = 0 from w) (by decide)
  have no2 : ∀ (o : Option (Int32 × Int32)), ((-2 : Int32), o).1 = 0 → False := fun o w => absurd (show (-2 : Int32) = 0 from w) (by decide)
  unfold pNotHamlet at e ⊢
  by_cases h1 : pPlace x y = true
  · rw [if_pos h1] at e ⊢
    by_cases h2 : pIn z 1 20 = true
    · rw [if_pos h2] at e ⊢
      by_cases h3 : nH W = 8
      · rw [if_pos h3] at e; exact (no _ e).elim
      · rw [if_neg h3] at e ⊢
        cases h4 : pHamletAt W x y with
        | none => exact ⟨rfl, by omega⟩
        | some a => rw [h4] at e; exact (no _ e).elim
    · rw [if_neg h2] at e; exact (no2 _ e).elim
  · rw [if_neg h1] at e; exact (no2 _ e).elim
theorem pNotSite_0 {W : Nat → Int32} (e : (pNotSite W x y z w).1 = 0) (p : pW W) : pNotSite W x y z w = (0, none) ∧ nS W < 6 := by
  have p4 := p.2.2.2
  have no : ∀ (o : Option (Int32 × Int32)), ((-5 : Int32), o).1 = 0 → False := fun o w => absurd (show (-5 : Int32) = 0 from w) (by decide)
  have no2 : ∀ (o : Option (Int32 × Int32)), ((-2 : Int32), o).1 = 0 → False := fun o w => absurd (show (-2 : Int32) = 0 from w) (by decide)
  unfold pNotSite at e ⊢
  by_cases h1 : pPlace x y = true
  · rw [if_pos h1] at e ⊢
    by_cases h2 : pIn z 1 40 = true
    · rw [if_pos h2] at e ⊢
      by_cases h5 : pIn w 0 99 = true
      · rw [if_pos h5] at e ⊢
        by_cases h3 : nS W = 6
        · rw [if_pos h3] at e; exact (no _ e).elim
        · rw [if_neg h3] at e ⊢
          cases h4 : pSiteAt W x y with
          | none => exact ⟨rfl, by omega⟩
          | some a => rw [h4] at e; exact (no _ e).elim
      · rw [if_neg h5] at e; exact (no2 _ e).elim
    · rw [if_neg h2] at e; exact (no2 _ e).elim
  · rw [if_neg h1] at e; exact (no2 _ e).elim
theorem t_hamlet_c {F : Int32 → xH → Nat → Prop} (hd : 7 < d) (q : isTw h m A V) (p : pW (V 4)) (e8 : V 8 0 = nI n) (e9 : V 9 0 = nI f) (hn : n ≤ 8) (hf : f < 8)
    (h1 : pNotHamlet (V 4) x y z = (0, none) → nH (V 4) < 8 → ∀ h', isTw h' m A (tTellsH (tRemV V n f) x y z) → xMod (tS m A) h h' → F (tTellsH (tRemV V n f) x y z 4 2 - 1) h' k)
    (h2 : (pNotHamlet (V 4) x y z).1 ≠ 0 → ∀ h', isTw h' m A (tRef V (pNotHamlet (V 4) x y z)) → xMod (tS m A) h h' → F (pNotHamlet (V 4) x y z).1 h' k) : xCall G d k mX3_hamlet [xr (some m), xi x, xi y, xi z] h (xkI F T) := by
  refine xCall_of (d' := 7) hd (Nat.zero_le k) (vc_X3_hamlet ⟨q.cl, t_notHamlet_c (by decide) q p fun h3 q3 x3 => ⟨fun u => ⟨q3.cl, ?_⟩, fun u => ⟨q3.cl, t_refuses_c (by decide) q3 fun h4 q4 x4 => h2 u h4 q4 (x3.tr x4)⟩⟩⟩)
  obtain ⟨e, hl⟩ := pNotHamlet_0 u p
  rw [e] at q3
  refine t_remembers_c (by decide) q3 e8 e9 hn hf fun h4 q4 x4 => ⟨q4.cl, t_tellsHamlet_c (by decide) q4 ?_ ?_ fun h5 q5 x5 => h1 e hl h5 q5 ((x3.tr x4).tr x5)⟩
  · show pW (tRemV V n f 4)
    rw [tRemV_4]; exact p
  · show nH (tRemV V n f 4) < 8
    rw [tRemV_4]; exact hl
theorem t_site_c {F : Int32 → xH → Nat → Prop} (hd : 7 < d) (q : isTw h m A V) (p : pW (V 4)) (e8 : V 8 0 = nI n) (e9 : V 9 0 = nI f) (hn : n ≤ 8) (hf : f < 8)
    (h1 : pNotSite (V 4) x y z w = (0, none) → nS (V 4) < 6 → ∀ h', isTw h' m A (tTellsS (tRemV V n f) x y z w) → xMod (tS m A) h h' → F (nI (nS (V 4))) h' k)
    (h2 : (pNotSite (V 4) x y z w).1 ≠ 0 → ∀ h', isTw h' m A (tRef V (pNotSite (V 4) x y z w)) → xMod (tS m A) h h' → F (pNotSite (V 4) x y z w).1 h' k) : xCall G d k mX3_site [xr (some m), xi x, xi y, xi z, xi w] h (xkI F T) := by
  refine xCall_of (d' := 7) hd (Nat.zero_le k) (vc_X3_site ⟨q.cl, t_notSite_c (by decide) q p fun h3 q3 x3 => ⟨fun u => ⟨q3.cl, ?_⟩, fun u => ⟨q3.cl, t_refuses_c (by decide) q3 fun h4 q4 x4 => h2 u h4 q4 (x3.tr x4)⟩⟩⟩)
  obtain ⟨e, hl⟩ := pNotSite_0 u p
  rw [e] at q3
  refine t_remembers_c (by decide) q3 e8 e9 hn hf fun h4 q4 x4 => ⟨q4.cl, t_tellsSite_c (by decide) q4 ?_ ?_ fun h5 q5 x5 => ?_⟩
  · show pW (tRemV V n f 4)
    rw [tRemV_4]; exact p
  · show nS (tRemV V n f 4) < 6
    rw [tRemV_4]; exact hl
  · have h1 := h1 e hl h5 q5 ((x3.tr x4).tr x5)
    show F (nI (nS (tRemV V n f 4))) h5 _
    rw [tRemV_4]
    exact h1
end XTW

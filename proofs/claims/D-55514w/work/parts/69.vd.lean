/-! conditions with more cuts -/
set_option maxRecDepth 100000
theorem vd_X0_isCounted {G : xG} {d K : Nat} {Q : xR → xH → Prop} {h : xH} {this : Nat}
    (hvc : xcls h this = 1 ∧ ∃ o1 : Option Nat, xval h this 0 = xr o1 ∧ ∃ a2, o1 = some a2 ∧ xcls h a2 = 2 ∧ ∃ o3 : Option Nat, xval h a2 1 = xr o3 ∧ ∃ a4, o3 = some a4 ∧ xcls h a4 = 3 ∧ xCall G d K mX2_iterator [xr (some a4)] h (xkR (fun o7 h5 k6 => xWp G mX0_isCounted d K Q k6 13 [some (xr (some this)), some (xi (0 : Int32)), some (xr o7), none, none, none] [] h5) (fun q h _ => Q (.inr q) h))) : xCn G mX0_isCounted d K [xr (some this)] h Q := by
  refine xCn_of px_X0_isCounted rfl rfl (Nat.le_of_ble_eq_true rfl) ?_
  show xWp G mX0_isCounted d K Q K 0 [some (xr (some this)), none, none, none, none, none] [] h
  refine xw_iconst (0 : Int32) dX0_isCounted_0 (by decide) ?_
  refine xw_istore_n dX0_isCounted_1 (Nat.le_of_ble_eq_true rfl) (L9 := [some (xr (some this)), some (xi (0 : Int32)), none, none, none, none]) rfl ?_
  refine xw_aload_n dX0_isCounted_2 rfl ?_
  obtain ⟨hcK, o1, hvK, hvc⟩ := hvc
  refine xw_get dX0_isCounted_3 hcX0 in_X0 (kf := 0) (by decide) q321 (fun _ _ _ _ z => z) hcK hvK ?_
  obtain ⟨a2, ho, hvc⟩ := hvc
  subst ho
  obtain ⟨hcK, o3, hvK, hvc⟩ := hvc
  refine xw_getN dX0_isCounted_6 hcX1 in_X1 (kf := 1) (by decide) q255 (fun _ _ _ _ z => z) hcK hvK ?_
  obtain ⟨a4, ho, hvc⟩ := hvc
  subst ho
  obtain ⟨hcK, hvc⟩ := hvc
  obtain ⟨d9, k9, hd9, hk9, hC9⟩ := hvc
  refine xw_callV dX0_isCounted_9 px_X2_iterator pm_X2_iterator q2550 q415 q416 hcX2 hcK (As := []) (rest := []) rfl rfl (Nat.le_of_ble_eq_true rfl) hd9 hk9 hC9 (xkR_n fun o7 h5 hvc => ?_) (fun q h hq => xTh_out0 rfl hq)
  refine xw_astore_n dX0_isCounted_12 (Nat.le_of_ble_eq_true rfl) (L9 := [some (xr (some this)), some (xi (0 : Int32)), some (xr o7), none, none, none]) rfl ?_
  exact hvc

theorem vd_X0_isCounted_13 {G : xG} {d K k : Nat} {Q : xR → xH → Prop} {h : xH} {this : Nat} {x1 : Int32} {o902 : Option Nat}
    (hvc : ∃ a8, o902 = some a8 ∧ ∃ Y25 : xM, (xcls h a8, Y25) ∈ dsp_Iterator_hasNext ∧ xCall G d k Y25 [xr (some a8)] h (xkI (fun n11 h9 k10 => ((n11 = 0 → xWp G mX0_isCounted d K Q k10 49 [some (xr (some this)), some (xi x1), none, none, none, none] [] h9) ∧ (¬ n11 = 0 → ∃ Y24 : xM, (xcls h9 a8, Y24) ∈ dsp_Iterator_next ∧ xCall G d k10 Y24 [xr (some a8)] h9 (xkR (fun o14 h12 k13 => (∀ b, o14 = some b → xcls h12 b ∈ cst_HamletWells_Site) ∧ xcls h12 this = 1 ∧ ∃ o15 : Option Nat, xval h12 this 0 = xr o15 ∧ ∃ a16, o15 = some a16 ∧ xcls h12 a16 = 2 ∧ xCall G d k13 mX1_drinkers [xr (some a16), xr o14] h12 (xkR (fun o19 h17 k18 => ∃ a20, o19 = some a20 ∧ xcls h17 a20 = 17 ∧ xCall G d k18 mJ20_size [xr (some a20)] h17 (xkI (fun n23 h21 k22 => xWp G mX0_isCounted d K Q k22 13 [some (xr (some this)), some (xi (x1 + n23)), some (xr (some a8)), none, none, none] [] h21) (fun q h _ => Q (.inr q) h))) (fun q h _ => Q (.inr q) h))) (fun q h _ => Q (.inr q) h))))) (fun q h _ => Q (.inr q) h))) : xWp G mX0_isCounted d K Q k 13 [some (xr (some this)), some (xi x1), some (xr o902), none, none, none] [] h := by
  refine xw_aload_n dX0_isCounted_13 rfl ?_
  obtain ⟨a8, ho, hvc⟩ := hvc
  subst ho
  obtain ⟨Y25, hm9, d9, k9, hd9, hk9, hC9⟩ := hvc
  refine rowd_X0_isCounted_14  hm9 (rest := []) (Nat.le_of_ble_eq_true rfl) hd9 hk9 hC9 (xkI_n fun n11 h9 hvc => ?_) (fun q h hq => xTh_out0 rfl hq)
  refine xw_if_eq 49 dX0_isCounted_19 rfl (fun hc => ?_) (fun hc => ?_)
  · replace hvc := hvc.1 hc
    exact xWp_loc hvc (And.intro rfl (And.intro rfl trivial))
  · replace hvc := hvc.2 hc
    refine xw_aload_n dX0_isCounted_22 rfl ?_
    obtain ⟨Y24, hm9, d9, k9, hd9, hk9, hC9⟩ := hvc
    refine rowd_X0_isCounted_23  hm9 (rest := []) (Nat.le_of_ble_eq_true rfl) hd9 hk9 hC9 (xkR_n fun o14 h12 hvc => ?_) (fun q h hq => xTh_out0 rfl hq)
    obtain ⟨hcs, hvc⟩ := hvc
    refine xw_castC dX0_isCounted_28 q2076 (fun b hb => cst_HamletWells_Site_ok _ (hcs b hb)) ?_
    refine xw_astore_n dX0_isCounted_31 (Nat.le_of_ble_eq_true rfl) (L9 := [some (xr (some this)), some (xi x1), some (xr (some a8)), some (xr o14), none, none]) rfl ?_
    refine xw_iload_n dX0_isCounted_32 rfl ?_
    refine xw_aload_n dX0_isCounted_33 rfl ?_
    obtain ⟨hcK, o15, hvK, hvc⟩ := hvc
    refine xw_get dX0_isCounted_34 hcX0 in_X0 (kf := 0) (by decide) q321 (fun _ _ _ _ z => z) hcK hvK ?_
    refine xw_aload_n dX0_isCounted_37 rfl ?_
    obtain ⟨a16, ho, hvc⟩ := hvc
    subst ho
    obtain ⟨hcK, hvc⟩ := hvc
    obtain ⟨d9, k9, hd9, hk9, hC9⟩ := hvc
    refine xw_callV dX0_isCounted_38 px_X1_drinkers pm_X1_drinkers q2096 q1279 q1280 hcX1 hcK (As := [xr o14]) (rest := [xi x1]) rfl rfl (Nat.le_of_ble_eq_true rfl) hd9 hk9 hC9 (xkR_n fun o19 h17 hvc => ?_) (fun q h hq => xTh_out0 rfl hq)
    obtain ⟨a20, ho, hvc⟩ := hvc
    subst ho
    obtain ⟨hcK, hvc⟩ := hvc
    obtain ⟨d9, k9, hd9, hk9, hC9⟩ := hvc
    refine xw_callV dX0_isCounted_41 px_J20_size pm_J20_size q2097 q460 q3486 hcJ20 hcK (As := []) (rest := [xi x1]) rfl rfl (Nat.le_of_ble_eq_true rfl) hd9 hk9 hC9 (xkI_n fun n23 h21 hvc => ?_) (fun q h hq => xTh_out0 rfl hq)
    refine xw_iadd dX0_isCounted_44 ?_
    refine xw_istore_n dX0_isCounted_45 (Nat.le_of_ble_eq_true rfl) (L9 := [some (xr (some this)), some (xi (x1 + n23)), some (xr (some a8)), some (xr o14), none, none]) rfl ?_
    refine xw_goto 13 dX0_isCounted_46 rfl ?_
    exact xWp_loc hvc (And.intro rfl (And.intro rfl (And.intro rfl trivial)))

theorem vd_X0_isCounted_49 {G : xG} {d K k : Nat} {Q : xR → xH → Prop} {h : xH} {this : Nat} {x1 : Int32}
    (hvc : xcls h this = 1 ∧ xCall G d k mX0_cheapest [xr (some this)] h (xkI (fun n28 h26 k27 => ((0 ≤ n28 → xcls h26 this = 1 ∧ xCall G d k27 mX0_cost [xr (some this), xi n28] h26 (xkI (fun n31 h29 k30 => xWp G mX0_isCounted d K Q k30 69 [some (xr (some this)), some (xi x1), none, some (xi n31), none, none] [] h29) (fun q h _ => Q (.inr q) h))) ∧ (¬ 0 ≤ n28 → xWp G mX0_isCounted d K Q k27 69 [some (xr (some this)), some (xi x1), none, some (xi (-6 : Int32)), none, none] [] h26))) (fun q h _ => Q (.inr q) h))) : xWp G mX0_isCounted d K Q k 49 [some (xr (some this)), some (xi x1), none, none, none, none] [] h := by
  refine xw_aload_n dX0_isCounted_49 rfl ?_
  obtain ⟨hcK, hvc⟩ := hvc
  obtain ⟨d9, k9, hd9, hk9, hC9⟩ := hvc
  refine xw_callV dX0_isCounted_50 px_X0_cheapest pm_X0_cheapest q2564 q2151 q2152 hcX0 hcK (As := []) (rest := []) rfl rfl (Nat.le_of_ble_eq_true rfl) hd9 hk9 hC9 (xkI_n fun n28 h26 hvc => ?_) (fun q h hq => xTh_out0 rfl hq)
  refine xw_istore_n dX0_isCounted_53 (Nat.le_of_ble_eq_true rfl) (L9 := [some (xr (some this)), some (xi x1), some (xi n28), none, none, none]) rfl ?_
  refine xw_iload_n dX0_isCounted_54 rfl ?_
  refine xw_if_ge 63 dX0_isCounted_55 rfl (fun hc => ?_) (fun hc => ?_)
  · replace hvc := hvc.1 hc
    refine xw_aload_n dX0_isCounted_63 rfl ?_
    refine xw_iload_n dX0_isCounted_64 rfl ?_
    obtain ⟨hcK, hvc⟩ := hvc
    obtain ⟨d9, k9, hd9, hk9, hC9⟩ := hvc
    refine xw_callV dX0_isCounted_65 px_X0_cost pm_X0_cost q2565 q2104 q2105 hcX0 hcK (As := [xi n28]) (rest := []) rfl rfl (Nat.le_of_ble_eq_true rfl) hd9 hk9 hC9 (xkI_n fun n31 h29 hvc => ?_) (fun q h hq => xTh_out0 rfl hq)
    refine xw_istore_n dX0_isCounted_68 (Nat.le_of_ble_eq_true rfl) (L9 := [some (xr (some this)), some (xi x1), some (xi n28), some (xi n31), none, none]) rfl ?_
    exact xWp_loc hvc (And.intro rfl (And.intro rfl (And.intro rfl trivial)))
  · replace hvc := hvc.2 hc
    refine xw_bipush (-6 : Int32) dX0_isCounted_58 (by decide) ?_
    refine xw_goto 68 dX0_isCounted_60 rfl ?_
    refine xw_istore_n dX0_isCounted_68 (Nat.le_of_ble_eq_true rfl) (L9 := [some (xr (some this)), some (xi x1), some (xi n28), some (xi (-6 : Int32)), none, none]) rfl ?_
    exact xWp_loc hvc (And.intro rfl (And.intro rfl (And.intro rfl trivial)))

theorem vd_X0_isCounted_69 {G : xG} {d K k : Nat} {Q : xR → xH → Prop} {h : xH} {this : Nat} {x1 : Int32} {x3 : Int32}
    (hvc : xcls h this = 1 ∧ ∃ o32 : Option Nat, xval h this 0 = xr o32 ∧ ∃ a33, o32 = some a33 ∧ xcls h a33 = 2 ∧ xCall G d k mX1_openMany [xr (some a33)] h (xkI (fun n36 h34 k35 => ((n36 ≤ 0 → ((¬ x1 = (0 : Int32) → xWp G mX0_isCounted d K Q k35 104 [some (xr (some this)), none, none, some (xi x3), some (xi (0 : Int32)), none] [] h34) ∧ (x1 = (0 : Int32) → xWp G mX0_isCounted d K Q k35 104 [some (xr (some this)), none, none, some (xi x3), some (xi (1 : Int32)), none] [] h34))) ∧ (¬ n36 ≤ 0 → xcls h34 this = 1 ∧ ∃ o37 : Option Nat, xval h34 this 0 = xr o37 ∧ ∃ a38, o37 = some a38 ∧ xcls h34 a38 = 2 ∧ ∃ o39 : Option Nat, xval h34 a38 0 = xr o39 ∧ ∃ a40, o39 = some a40 ∧ xcls h34 a40 = 3 ∧ xCall G d k35 mX2_many [xr (some a40)] h34 (xkI (fun n43 h41 k42 => ((¬ x1 = n43 → xWp G mX0_isCounted d K Q k42 104 [some (xr (some this)), none, none, some (xi x3), some (xi (0 : Int32)), none] [] h41) ∧ (x1 = n43 → xWp G mX0_isCounted d K Q k42 104 [some (xr (some this)), none, none, some (xi x3), some (xi (1 : Int32)), none] [] h41))) (fun q h _ => Q (.inr q) h))))) (fun q h _ => Q (.inr q) h))) : xWp G mX0_isCounted d K Q k 69 [some (xr (some this)), some (xi x1), none, some (xi x3), none, none] [] h := by
  refine xw_iload_n dX0_isCounted_69 rfl ?_
  refine xw_aload_n dX0_isCounted_70 rfl ?_
  obtain ⟨hcK, o32, hvK, hvc⟩ := hvc
  refine xw_get dX0_isCounted_71 hcX0 in_X0 (kf := 0) (by decide) q321 (fun _ _ _ _ z => z) hcK hvK ?_
  obtain ⟨a33, ho, hvc⟩ := hvc
  subst ho
  obtain ⟨hcK, hvc⟩ := hvc
  obtain ⟨d9, k9, hd9, hk9, hC9⟩ := hvc
  refine xw_callV dX0_isCounted_74 px_X1_openMany pm_X1_openMany q2251 q1774 q1775 hcX1 hcK (As := []) (rest := [xi x1]) rfl rfl (Nat.le_of_ble_eq_true rfl) hd9 hk9 hC9 (xkI_n fun n36 h34 hvc => ?_) (fun q h hq => xTh_out0 rfl hq)
  refine xw_if_le 93 dX0_isCounted_77 rfl (fun hc => ?_) (fun hc => ?_)
  · replace hvc := hvc.1 hc
    refine xw_iconst (0 : Int32) dX0_isCounted_93 (by decide) ?_
    refine xw_icmp_ne 101 dX0_isCounted_94 rfl (fun hc => ?_) (fun hc => ?_)
    · replace hvc := hvc.1 hc
      refine xw_iconst (0 : Int32) dX0_isCounted_101 (by decide) ?_
      refine xw_istore dX0_isCounted_102 (Nat.le_of_ble_eq_true rfl) (L9 := [some (xr (some this)), some (xi x1), none, some (xi x3), some (xi (0 : Int32)), none]) rfl ?_
      exact xWp_loc hvc (And.intro rfl (And.intro rfl (And.intro rfl trivial)))
    · replace hvc := hvc.2 hc
      refine xw_iconst (1 : Int32) dX0_isCounted_97 (by decide) ?_
      refine xw_goto 102 dX0_isCounted_98 rfl ?_
      refine xw_istore dX0_isCounted_102 (Nat.le_of_ble_eq_true rfl) (L9 := [some (xr (some this)), some (xi x1), none, some (xi x3), some (xi (1 : Int32)), none]) rfl ?_
      exact xWp_loc hvc (And.intro rfl (And.intro rfl (And.intro rfl trivial)))
  · replace hvc := hvc.2 hc
    refine xw_aload_n dX0_isCounted_80 rfl ?_
    obtain ⟨hcK, o37, hvK, hvc⟩ := hvc
    refine xw_get dX0_isCounted_81 hcX0 in_X0 (kf := 0) (by decide) q321 (fun _ _ _ _ z => z) hcK hvK ?_
    obtain ⟨a38, ho, hvc⟩ := hvc
    subst ho
    obtain ⟨hcK, o39, hvK, hvc⟩ := hvc
    refine xw_getN dX0_isCounted_84 hcX1 in_X1 (kf := 0) (by decide) q251 (fun _ _ _ _ z => z) hcK hvK ?_
    obtain ⟨a40, ho, hvc⟩ := hvc
    subst ho
    obtain ⟨hcK, hvc⟩ := hvc
    obtain ⟨d9, k9, hd9, hk9, hC9⟩ := hvc
    refine xw_callV dX0_isCounted_87 px_X2_many pm_X2_many q2111 q1165 q1166 hcX2 hcK (As := []) (rest := [xi x1]) rfl rfl (Nat.le_of_ble_eq_true rfl) hd9 hk9 hC9 (xkI_n fun n43 h41 hvc => ?_) (fun q h hq => xTh_out0 rfl hq)
    refine xw_goto 94 dX0_isCounted_90 rfl ?_
    refine xw_icmp_ne 101 dX0_isCounted_94 rfl (fun hc => ?_) (fun hc => ?_)
    · replace hvc := hvc.1 hc
      refine xw_iconst (0 : Int32) dX0_isCounted_101 (by decide) ?_
      refine xw_istore dX0_isCounted_102 (Nat.le_of_ble_eq_true rfl) (L9 := [some (xr (some this)), some (xi x1), none, some (xi x3), some (xi (0 : Int32)), none]) rfl ?_
      exact xWp_loc hvc (And.intro rfl (And.intro rfl (And.intro rfl trivial)))
    · replace hvc := hvc.2 hc
      refine xw_iconst (1 : Int32) dX0_isCounted_97 (by decide) ?_
      refine xw_goto 102 dX0_isCounted_98 rfl ?_
      refine xw_istore dX0_isCounted_102 (Nat.le_of_ble_eq_true rfl) (L9 := [some (xr (some this)), some (xi x1), none, some (xi x3), some (xi (1 : Int32)), none]) rfl ?_
      exact xWp_loc hvc (And.intro rfl (And.intro rfl (And.intro rfl trivial)))

theorem vd_X0_isCounted_104 {G : xG} {d K k : Nat} {Q : xR → xH → Prop} {h : xH} {this : Nat} {x3 : Int32} {x4 : Int32}
    (hvc : xcls h this = 1 ∧ ∃ o44 : Option Nat, xval h this 0 = xr o44 ∧ ∃ a45, o44 = some a45 ∧ xcls h a45 = 2 ∧ ∃ o46 : Option Nat, xval h a45 1 = xr o46 ∧ 1 ≤ k ∧ ∀ (h47 : xH) (a48 : Nat), a48 = xsz h → h47 = xnew h 41 0 (fun j => xdf ((fun _ => FieldType.int) j)) → xCall G d (k - 1) mX27_init [xr (some a48)] h47 (xkV (fun h49 k50 => xCall G d k50 mX0_sum [xr o46, xr (some a48)] h49 (xkI (fun n53 h51 k52 => xcls h51 this = 1 ∧ ∃ o54 : Option Nat, xval h51 this 0 = xr o54 ∧ ∃ a55, o54 = some a55 ∧ xcls h51 a55 = 2 ∧ ∃ o56 : Option Nat, xval h51 a55 0 = xr o56 ∧ 1 ≤ k52 ∧ ∀ (h57 : xH) (a58 : Nat), a58 = xsz h51 → h57 = xnew h51 42 0 (fun j => xdf ((fun _ => FieldType.int) j)) → xCall G d (k52 - 1) mX28_init [xr (some a58)] h57 (xkV (fun h59 k60 => xCall G d k60 mX0_sum [xr o56, xr (some a58)] h59 (xkI (fun n63 h61 k62 => ((¬ n53 = n63 → xWp G mX0_isCounted d K Q k62 148 [some (xr (some this)), none, none, some (xi x3), some (xi x4), some (xi (0 : Int32))] [] h61) ∧ (n53 = n63 → xWp G mX0_isCounted d K Q k62 148 [some (xr (some this)), none, none, some (xi x3), some (xi x4), some (xi (1 : Int32))] [] h61))) (fun q h _ => Q (.inr q) h))) (fun q h _ => Q (.inr q) h))) (fun q h _ => Q (.inr q) h))) (fun q h _ => Q (.inr q) h))) : xWp G mX0_isCounted d K Q k 104 [some (xr (some this)), none, none, some (xi x3), some (xi x4), none] [] h := by
  refine xw_aload_n dX0_isCounted_104 rfl ?_
  obtain ⟨hcK, o44, hvK, hvc⟩ := hvc
  refine xw_get dX0_isCounted_105 hcX0 in_X0 (kf := 0) (by decide) q321 (fun _ _ _ _ z => z) hcK hvK ?_
  obtain ⟨a45, ho, hvc⟩ := hvc
  subst ho
  obtain ⟨hcK, o46, hvK, hvc⟩ := hvc
  refine xw_getN dX0_isCounted_108 hcX1 in_X1 (kf := 1) (by decide) q255 (fun _ _ _ _ z => z) hcK hvK ?_
  obtain ⟨hle, hvc⟩ := hvc
  refine xw_new dX0_isCounted_111 hcX27 (xin0 RX27) xty0 q2566 q2567 q175 hle (fun h47 a48 ea9 eh9 => ?_)
  replace hvc := hvc h47 a48 ea9 eh9
  refine xw_dup dX0_isCounted_114 rfl ?_
  obtain ⟨d9, k9, hd9, hk9, hC9⟩ := hvc
  refine xw_callIN dX0_isCounted_115 px_X27_init pm_X27_init q2568 q2569 rfl rfl (As := []) (rest := [xr (some a48), xr o46]) rfl rfl (Nat.le_of_ble_eq_true rfl) hd9 hk9 hC9 (xkV_n fun h49 hvc => ?_) (fun q h hq => xTh_out0 rfl hq)
  obtain ⟨d9, k9, hd9, hk9, hC9⟩ := hvc
  refine xw_callS dX0_isCounted_118 px_X0_sum pm_X0_sum q2573 q2094 (As := [xr o46, xr (some a48)]) (rest := []) rfl rfl (Nat.le_of_ble_eq_true rfl) hd9 hk9 hC9 (xkI_n fun n53 h51 hvc => ?_) (fun q h hq => xTh_out0 rfl hq)
  refine xw_aload_n dX0_isCounted_121 rfl ?_
  obtain ⟨hcK, o54, hvK, hvc⟩ := hvc
  refine xw_get dX0_isCounted_122 hcX0 in_X0 (kf := 0) (by decide) q321 (fun _ _ _ _ z => z) hcK hvK ?_
  obtain ⟨a55, ho, hvc⟩ := hvc
  subst ho
  obtain ⟨hcK, o56, hvK, hvc⟩ := hvc
  refine xw_getN dX0_isCounted_125 hcX1 in_X1 (kf := 0) (by decide) q251 (fun _ _ _ _ z => z) hcK hvK ?_
  obtain ⟨hle, hvc⟩ := hvc
  refine xw_new dX0_isCounted_128 hcX28 (xin0 RX28) xty0 q2574 q2575 q176 hle (fun h57 a58 ea9 eh9 => ?_)
  replace hvc := hvc h57 a58 ea9 eh9
  refine xw_dup dX0_isCounted_131 rfl ?_
  obtain ⟨d9, k9, hd9, hk9, hC9⟩ := hvc
  refine xw_callIN dX0_isCounted_132 px_X28_init pm_X28_init q2576 q2577 rfl rfl (As := []) (rest := [xr (some a58), xr o56, xi n53]) rfl rfl (Nat.le_of_ble_eq_true rfl) hd9 hk9 hC9 (xkV_n fun h59 hvc => ?_) (fun q h hq => xTh_out0 rfl hq)
  obtain ⟨d9, k9, hd9, hk9, hC9⟩ := hvc
  refine xw_callS dX0_isCounted_135 px_X0_sum pm_X0_sum q2573 q2094 (As := [xr o56, xr (some a58)]) (rest := [xi n53]) rfl rfl (Nat.le_of_ble_eq_true rfl) hd9 hk9 hC9 (xkI_n fun n63 h61 hvc => ?_) (fun q h hq => xTh_out0 rfl hq)
  refine xw_icmp_ne 145 dX0_isCounted_138 rfl (fun hc => ?_) (fun hc => ?_)
  · replace hvc := hvc.1 hc
    refine xw_iconst (0 : Int32) dX0_isCounted_145 (by decide) ?_
    refine xw_istore dX0_isCounted_146 (Nat.le_of_ble_eq_true rfl) (L9 := [some (xr (some this)), none, none, some (xi x3), some (xi x4), some (xi (0 : Int32))]) rfl ?_
    exact hvc
  · replace hvc := hvc.2 hc
    refine xw_iconst (1 : Int32) dX0_isCounted_141 (by decide) ?_
    refine xw_goto 146 dX0_isCounted_142 rfl ?_
    refine xw_istore dX0_isCounted_146 (Nat.le_of_ble_eq_true rfl) (L9 := [some (xr (some this)), none, none, some (xi x3), some (xi x4), some (xi (1 : Int32))]) rfl ?_
    exact hvc

theorem vd_X0_isCounted_148 {G : xG} {d K k : Nat} {Q : xR → xH → Prop} {h : xH} {this : Nat} {x3 : Int32} {x4 : Int32} {x5 : Int32}
    (hvc : ((x4 = 0 → Q (.inl (some (xi (0 : Int32)))) h) ∧ (¬ x4 = 0 → ((x5 = 0 → Q (.inl (some (xi (0 : Int32)))) h) ∧ (¬ x5 = 0 → xcls h this = 1 ∧ ∃ o64 : Option Nat, xval h this 0 = xr o64 ∧ ∃ a65, o64 = some a65 ∧ xcls h a65 = 2 ∧ ∃ o66 : Option Nat, xval h a65 1 = xr o66 ∧ 1 ≤ k ∧ ∀ (h67 : xH) (a68 : Nat), a68 = xsz h → h67 = xnew h 43 0 (fun j => xdf ((fun _ => FieldType.int) j)) → xCall G d (k - 1) mX29_init [xr (some a68)] h67 (xkV (fun h69 k70 => xCall G d k70 mX0_sum [xr o66, xr (some a68)] h69 (xkI (fun n73 h71 k72 => xcls h71 this = 1 ∧ ∃ o74 : Option Nat, xval h71 this 0 = xr o74 ∧ ∃ a75, o74 = some a75 ∧ xcls h71 a75 = 2 ∧ ∃ n76 : Int32, xval h71 a75 4 = xi n76 ∧ ((¬ (n73 + n76) = (3 : Int32) → Q (.inl (some (xi (0 : Int32)))) h71) ∧ ((n73 + n76) = (3 : Int32) → xcls h71 this = 1 ∧ xCall G d k72 mX0_cheapestAgain [xr (some this)] h71 (xkI (fun n79 h77 k78 => ((¬ x3 = n79 → Q (.inl (some (xi (0 : Int32)))) h77) ∧ (x3 = n79 → Q (.inl (some (xi (1 : Int32)))) h77))) (fun q h _ => Q (.inr q) h))))) (fun q h _ => Q (.inr q) h))) (fun q h _ => Q (.inr q) h))))))) : xWp G mX0_isCounted d K Q k 148 [some (xr (some this)), none, none, some (xi x3), some (xi x4), some (xi x5)] [] h := by
  refine xw_iload dX0_isCounted_148 rfl ?_
  refine xw_if_eq 199 dX0_isCounted_150 rfl (fun hc => ?_) (fun hc => ?_)
  · replace hvc := hvc.1 hc
    refine xw_iconst (0 : Int32) dX0_isCounted_199 (by decide) ?_
    exact xw_zret dX0_isCounted_200 rfl rfl hvc
  · replace hvc := hvc.2 hc
    refine xw_iload dX0_isCounted_153 rfl ?_
    refine xw_if_eq 199 dX0_isCounted_155 rfl (fun hc => ?_) (fun hc => ?_)
    · replace hvc := hvc.1 hc
      refine xw_iconst (0 : Int32) dX0_isCounted_199 (by decide) ?_
      exact xw_zret dX0_isCounted_200 rfl rfl hvc
    · replace hvc := hvc.2 hc
      refine xw_aload_n dX0_isCounted_158 rfl ?_
      obtain ⟨hcK, o64, hvK, hvc⟩ := hvc
      refine xw_get dX0_isCounted_159 hcX0 in_X0 (kf := 0) (by decide) q321 (fun _ _ _ _ z => z) hcK hvK ?_
      obtain ⟨a65, ho, hvc⟩ := hvc
      subst ho
      obtain ⟨hcK, o66, hvK, hvc⟩ := hvc
      refine xw_getN dX0_isCounted_162 hcX1 in_X1 (kf := 1) (by decide) q255 (fun _ _ _ _ z => z) hcK hvK ?_
      obtain ⟨hle, hvc⟩ := hvc
      refine xw_new dX0_isCounted_165 hcX29 (xin0 RX29) xty0 q2581 q2582 q177 hle (fun h67 a68 ea9 eh9 => ?_)
      replace hvc := hvc h67 a68 ea9 eh9
      refine xw_dup dX0_isCounted_168 rfl ?_
      obtain ⟨d9, k9, hd9, hk9, hC9⟩ := hvc
      refine xw_callIN dX0_isCounted_169 px_X29_init pm_X29_init q2583 q2584 rfl rfl (As := []) (rest := [xr (some a68), xr o66]) rfl rfl (Nat.le_of_ble_eq_true rfl) hd9 hk9 hC9 (xkV_n fun h69 hvc => ?_) (fun q h hq => xTh_out0 rfl hq)
      obtain ⟨d9, k9, hd9, hk9, hC9⟩ := hvc
      refine xw_callS dX0_isCounted_172 px_X0_sum pm_X0_sum q2573 q2094 (As := [xr o66, xr (some a68)]) (rest := []) rfl rfl (Nat.le_of_ble_eq_true rfl) hd9 hk9 hC9 (xkI_n fun n73 h71 hvc => ?_) (fun q h hq => xTh_out0 rfl hq)
      refine xw_aload_n dX0_isCounted_175 rfl ?_
      obtain ⟨hcK, o74, hvK, hvc⟩ := hvc
      refine xw_get dX0_isCounted_176 hcX0 in_X0 (kf := 0) (by decide) q321 (fun _ _ _ _ z => z) hcK hvK ?_
      obtain ⟨a75, ho, hvc⟩ := hvc
      subst ho
      obtain ⟨hcK, n76, hvK, hvc⟩ := hvc
      refine xw_getN dX0_isCounted_179 hcX1 in_X1 (kf := 4) (by decide) q261 (fun _ _ _ _ z => z) hcK hvK ?_
      refine xw_iadd dX0_isCounted_182 ?_
      refine xw_iconst (3 : Int32) dX0_isCounted_183 (by decide) ?_
      refine xw_icmp_ne 199 dX0_isCounted_184 rfl (fun hc => ?_) (fun hc => ?_)
      · replace hvc := hvc.1 hc
        refine xw_iconst (0 : Int32) dX0_isCounted_199 (by decide) ?_
        exact xw_zret dX0_isCounted_200 rfl rfl hvc
      · replace hvc := hvc.2 hc
        refine xw_iload_n dX0_isCounted_187 rfl ?_
        refine xw_aload_n dX0_isCounted_188 rfl ?_
        obtain ⟨hcK, hvc⟩ := hvc
        obtain ⟨d9, k9, hd9, hk9, hC9⟩ := hvc
        refine xw_callV dX0_isCounted_189 px_X0_cheapestAgain pm_X0_cheapestAgain q2588 q2158 q2159 hcX0 hcK (As := []) (rest := [xi x3]) rfl rfl (Nat.le_of_ble_eq_true rfl) hd9 hk9 hC9 (xkI_n fun n79 h77 hvc => ?_) (fun q h hq => xTh_out0 rfl hq)
        refine xw_icmp_ne 199 dX0_isCounted_192 rfl (fun hc => ?_) (fun hc => ?_)
        · replace hvc := hvc.1 hc
          refine xw_iconst (0 : Int32) dX0_isCounted_199 (by decide) ?_
          exact xw_zret dX0_isCounted_200 rfl rfl hvc
        · replace hvc := hvc.2 hc
          refine xw_iconst (1 : Int32) dX0_isCounted_195 (by decide) ?_
          refine xw_goto 200 dX0_isCounted_196 rfl ?_
          exact xw_zret dX0_isCounted_200 rfl rfl hvc


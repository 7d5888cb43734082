set_option maxRecDepth 100000
theorem vcs_J15_newLength {G : xG} {d K : Nat} {Q : xR → xH → Prop} {h : xH} {x1 : Int32} {x2 : Int32} {x3 : Int32}
    (hvc : 1 ≤ d ∧ ∀ n1 : Int32, n1 = (if x2 < x3 then x3 else x2) → (((x1 + n1) ≤ (0 : Int32) → xCall G d K mJ15_hugeLength [xi x1, xi x2] h (xkI (fun n4 h2 k3 => Q (.inl (some (xi n4))) h2) (fun q h _ => Q (.inr q) h))) ∧ (¬ (x1 + n1) ≤ (0 : Int32) → (((2147483639 : Int32) < (x1 + n1) → xCall G d K mJ15_hugeLength [xi x1, xi x2] h (xkI (fun n7 h5 k6 => Q (.inl (some (xi n7))) h5) (fun q h _ => Q (.inr q) h))) ∧ (¬ (2147483639 : Int32) < (x1 + n1) → Q (.inl (some (xi (x1 + n1)))) h))))) : xCn G mJ15_newLength d K [xi x1, xi x2, xi x3] h Q := by
  refine xCn_of px_J15_newLength rfl rfl (Nat.le_of_ble_eq_true rfl) ?_
  show xWp G mJ15_newLength d K Q K 0 [some (xi x1), some (xi x2), some (xi x3), none] [] h
  refine xw_iload_n dJ15_newLength_0 rfl ?_
  refine xw_iload_n dJ15_newLength_1 rfl ?_
  refine xw_iload_n dJ15_newLength_2 rfl ?_
  obtain ⟨hd9, hvc⟩ := hvc
  refine xw_mmax dJ15_newLength_3 q730 q731 q132 q732 hd9 (Nat.le_of_ble_eq_true rfl) ?_
  obtain ⟨n1, he9⟩ : ∃ z, z = (if x2 < x3 then x3 else x2) := ⟨_, rfl⟩
  rw [← he9]
  replace hvc := hvc n1 he9
  refine xw_iadd dJ15_newLength_6 ?_
  refine xw_istore_n dJ15_newLength_7 (Nat.le_of_ble_eq_true rfl) (L9 := [some (xi x1), some (xi x2), some (xi x3), some (xi (x1 + n1))]) rfl ?_
  refine xw_iconst (0 : Int32) dJ15_newLength_8 (by decide) ?_
  refine xw_iload_n dJ15_newLength_9 rfl ?_
  refine xw_icmp_ge 21 dJ15_newLength_10 rfl (fun hc => ?_) (fun hc => ?_)
  · replace hvc := hvc.1 hc
    refine xw_iload_n dJ15_newLength_21 rfl ?_
    refine xw_iload_n dJ15_newLength_22 rfl ?_
    obtain ⟨d9, k9, hd9, hk9, hC9⟩ := hvc
    refine xw_callS dJ15_newLength_23 px_J15_hugeLength pm_J15_hugeLength q734 q735 (As := [xi x1, xi x2]) (rest := []) rfl rfl (Nat.le_of_ble_eq_true rfl) hd9 hk9 hC9 (xkI_n fun n4 h2 hvc => ?_) (fun q h hq => xTh_out0 rfl hq)
    exact xw_iret dJ15_newLength_26 rfl hvc
  · replace hvc := hvc.2 hc
    refine xw_iload_n dJ15_newLength_13 rfl ?_
    refine xw_ldc dJ15_newLength_14 q733 ?_
    refine xw_icmp_gt 21 dJ15_newLength_16 rfl (fun hc => ?_) (fun hc => ?_)
    · replace hvc := hvc.1 hc
      refine xw_iload_n dJ15_newLength_21 rfl ?_
      refine xw_iload_n dJ15_newLength_22 rfl ?_
      obtain ⟨d9, k9, hd9, hk9, hC9⟩ := hvc
      refine xw_callS dJ15_newLength_23 px_J15_hugeLength pm_J15_hugeLength q734 q735 (As := [xi x1, xi x2]) (rest := []) rfl rfl (Nat.le_of_ble_eq_true rfl) hd9 hk9 hC9 (xkI_n fun n7 h5 hvc => ?_) (fun q h hq => xTh_out0 rfl hq)
      exact xw_iret dJ15_newLength_26 rfl hvc
    · replace hvc := hvc.2 hc
      refine xw_iload_n dJ15_newLength_19 rfl ?_
      exact xw_iret dJ15_newLength_20 rfl hvc


set_option maxRecDepth 100000
theorem vc_J9_init {G : xG} {d K : Nat} {Q : xR → xH → Prop} {h : xH} {this : Nat} {o900 : Option Nat}
    (hvc : xCall G d K mJ8_init [xr (some this), xr o900] h (xkV (fun h1 k2 => Q (.inl none) h1) (fun q h _ => Q (.inr q) h))) : xCn G mJ9_init d K [xr (some this), xr o900] h Q := by
  refine xCn_of px_J9_init rfl rfl (Nat.le_of_ble_eq_true rfl) ?_
  show xWp G mJ9_init d K Q K 0 [some (xr (some this)), some (xr o900)] [] h
  refine xw_aload_n dJ9_init_0 rfl ?_
  refine xw_aload_n dJ9_init_1 rfl ?_
  obtain ⟨d9, k9, hd9, hk9, hC9⟩ := hvc
  refine xw_callI dJ9_init_2 px_J8_init pm_J8_init q587 q588 rfl rfl (As := [xr o900]) (rest := []) rfl rfl (Nat.le_of_ble_eq_true rfl) hd9 hk9 hC9 (xkV_n fun h1 hvc => ?_) (fun q h hq => xTh_out0 rfl hq)
  exact xw_vret dJ9_init_5 rfl hvc

theorem vc_J31_init {G : xG} {d K : Nat} {Q : xR → xH → Prop} {h : xH} {this : Nat}
    (hvc : xCall G d K mJ0_init [xr (some this)] h (xkV (fun h1 k2 => Q (.inl none) h1) (fun q h _ => Q (.inr q) h))) : xCn G mJ31_init d K [xr (some this)] h Q := by
  refine xCn_of px_J31_init rfl rfl (Nat.le_of_ble_eq_true rfl) ?_
  show xWp G mJ31_init d K Q K 0 [some (xr (some this))] [] h
  refine xw_aload_n dJ31_init_0 rfl ?_
  obtain ⟨d9, k9, hd9, hk9, hC9⟩ := hvc
  refine xw_callI dJ31_init_1 px_J0_init pm_J0_init q2284 q219 rfl rfl (As := []) (rest := []) rfl rfl (Nat.le_of_ble_eq_true rfl) hd9 hk9 hC9 (xkV_n fun h1 hvc => ?_) (fun q h hq => xTh_out0 rfl hq)
  exact xw_vret dJ31_init_4 rfl hvc

theorem vc_J17_copyOf {G : xG} {d K : Nat} {Q : xR → xH → Prop} {h : xH} {o900 : Option Nat} {x2 : Int32}
    (hvc : ∃ a1, o900 = some a1 ∧ (∃ t2 ty, xty[t2]? = some ty ∧ xcls h a1 = 1000 + t2) ∧ ((¬ x2 = (nI (xlen h a1)) → ∃ m5 : Nat, x2 = nI m5 ∧ m5 ≤ 65536 ∧ 1 + m5 ≤ K ∧ ∀ (h3 : xH) (a4 : Nat), a4 = xsz h → h3 = xnew h 1000 m5 (fun _ => xdf FieldType.byte) → (∃ t6 ty, xty[t6]? = some ty ∧ xcls h3 a1 = 1000 + t6) ∧ 1 ≤ d ∧ ∀ n7 : Int32, n7 = (if x2 < (nI (xlen h3 a1)) then x2 else (nI (xlen h3 a1))) → 1 ≤ d ∧ xcls h3 a1 = 1000 ∧ xcls h3 a4 = 1000 ∧ xlo h3 ≤ a4 ∧ ∃ i8 i9 m10 : Nat, (0 : Int32) = nI i8 ∧ (0 : Int32) = nI i9 ∧ n7 = nI m10 ∧ i8 + m10 ≤ xlen h3 a1 ∧ i9 + m10 ≤ xlen h3 a4 ∧ xlen h3 a1 < 2147483648 ∧ xlen h3 a4 < 2147483648 ∧ (∀ t, t < m10 → ∃ v : Int32, xval h3 a1 (i8 + t) = xi v ∧ fits .byte (.int v) = true) ∧ ∀ h11 : xH, h11 = xcpy h3 a1 a4 i8 i9 m10 → Q (.inl (some (xr (some a4)))) h11) ∧ (x2 = (nI (xlen h a1)) → 1 ≤ d ∧ xcls h a1 = 1000 ∧ 1 + xlen h a1 ≤ K ∧ (∀ t, t < xlen h a1 → ∃ v : Int32, xval h a1 t = xi v ∧ fits .byte (.int v) = true) ∧ ∀ (h12 : xH) (a13 : Nat), a13 = xsz h → h12 = xnew h 1000 (xlen h a1) (fun t => xval h a1 t) → xcls h12 a13 = 1000 ∧ Q (.inl (some (xr (some a13)))) h12))) : xCn G mJ17_copyOf d K [xr o900, xi x2] h Q := by
  refine xCn_of px_J17_copyOf rfl rfl (Nat.le_of_ble_eq_true rfl) ?_
  show xWp G mJ17_copyOf d K Q K 0 [some (xr o900), some (xi x2), none] [] h
  refine xw_iload_n dJ17_copyOf_0 rfl ?_
  refine xw_aload_n dJ17_copyOf_1 rfl ?_
  obtain ⟨a1, ho, hvc⟩ := hvc
  subst ho
  obtain ⟨⟨t2, ty9, hty9, hcK⟩, hvc⟩ := hvc
  refine xw_alen dJ17_copyOf_2 hty9 hcK ?_
  refine xw_icmp_ne 14 dJ17_copyOf_3 rfl (fun hc => ?_) (fun hc => ?_)
  · replace hvc := hvc.1 hc
    refine xw_iload_n dJ17_copyOf_14 rfl ?_
    obtain ⟨m5, hx9, hn9, hle, hvc⟩ := hvc
    refine xw_newa (j := 0) (atype := .byte) dJ17_copyOf_15 rfl q350 hx9 hn9 hle (fun h3 a4 ea9 eh9 => ?_)
    replace hvc := hvc h3 a4 ea9 eh9
    refine xw_astore_n dJ17_copyOf_17 (Nat.le_of_ble_eq_true rfl) (L9 := [some (xr (some a1)), some (xi x2), some (xr (some a4))]) rfl ?_
    refine xw_aload_n dJ17_copyOf_18 rfl ?_
    refine xw_iconst (0 : Int32) dJ17_copyOf_19 (by decide) ?_
    refine xw_aload_n dJ17_copyOf_20 rfl ?_
    refine xw_iconst (0 : Int32) dJ17_copyOf_21 (by decide) ?_
    refine xw_aload_n dJ17_copyOf_22 rfl ?_
    obtain ⟨⟨t6, ty9, hty9, hcK⟩, hvc⟩ := hvc
    refine xw_alen dJ17_copyOf_23 hty9 hcK ?_
    refine xw_iload_n dJ17_copyOf_24 rfl ?_
    obtain ⟨hd9, hvc⟩ := hvc
    refine xw_mmin dJ17_copyOf_25 q748 q749 q132 q750 hd9 (Nat.le_of_ble_eq_true rfl) ?_
    obtain ⟨n7, he9⟩ : ∃ z, z = (if x2 < (nI (xlen h3 a1)) then x2 else (nI (xlen h3 a1))) := ⟨_, rfl⟩
    rw [← he9]
    replace hvc := hvc n7 he9
    obtain ⟨hd9, hca, hcb, hlo9, i8, i9, m10, hx9, hy9, hz9, hi9, hj9, ha9, hb9, hf9, hvc⟩ := hvc
    refine xw_acopyB dJ17_copyOf_28 q751 q753 q752 q134 hd9 (Nat.le_of_ble_eq_true rfl) hca hcb hlo9 hx9 hy9 hz9 hi9 hj9 ha9 hb9 hf9 (fun h11 eh9 => ?_)
    replace hvc := hvc h11 eh9
    refine xw_aload_n dJ17_copyOf_31 rfl ?_
    exact xw_aret dJ17_copyOf_32 rfl rfl hvc
  · replace hvc := hvc.2 hc
    refine xw_aload_n dJ17_copyOf_6 rfl ?_
    obtain ⟨hd9, hca, hle9, hf9, hvc⟩ := hvc
    refine xw_cloneB dJ17_copyOf_7 q741 q742 q743 q744 q745 q746 hd9 (Nat.le_of_ble_eq_true rfl) hca hle9 hf9 (fun h12 a13 ea9 eh9 => ?_)
    replace hvc := hvc h12 a13 ea9 eh9
    obtain ⟨hcK, hvc⟩ := hvc
    refine xw_castB dJ17_copyOf_10 q747 hcK ?_
    exact xw_aret dJ17_copyOf_13 rfl rfl hvc

theorem vc_J17_copyOfRange {G : xG} {d K : Nat} {Q : xR → xH → Prop} {h : xH} {o900 : Option Nat} {x2 : Int32} {x3 : Int32}
    (hvc : ((¬ x2 = 0 → xCall G d K mJ17_copyOfRangeByte [xr o900, xi x2, xi x3] h (xkR (fun o3 h1 k2 => Q (.inl (some (xr o3))) h1) (fun q h _ => Q (.inr q) h))) ∧ (x2 = 0 → ∃ a4, o900 = some a4 ∧ (∃ t5 ty, xty[t5]? = some ty ∧ xcls h a4 = 1000 + t5) ∧ ((x3 = (nI (xlen h a4)) → 1 ≤ d ∧ xcls h a4 = 1000 ∧ 1 + xlen h a4 ≤ K ∧ (∀ t, t < xlen h a4 → ∃ v : Int32, xval h a4 t = xi v ∧ fits .byte (.int v) = true) ∧ ∀ (h6 : xH) (a7 : Nat), a7 = xsz h → h6 = xnew h 1000 (xlen h a4) (fun t => xval h a4 t) → xcls h6 a7 = 1000 ∧ Q (.inl (some (xr (some a7)))) h6) ∧ (¬ x3 = (nI (xlen h a4)) → xCall G d K mJ17_copyOfRangeByte [xr (some a4), xi x2, xi x3] h (xkR (fun o10 h8 k9 => Q (.inl (some (xr o10))) h8) (fun q h _ => Q (.inr q) h))))))) : xCn G mJ17_copyOfRange d K [xr o900, xi x2, xi x3] h Q := by
  refine xCn_of px_J17_copyOfRange rfl rfl (Nat.le_of_ble_eq_true rfl) ?_
  show xWp G mJ17_copyOfRange d K Q K 0 [some (xr o900), some (xi x2), some (xi x3)] [] h
  refine xw_iload_n dJ17_copyOfRange_0 rfl ?_
  refine xw_if_ne 10 dJ17_copyOfRange_1 rfl (fun hc => ?_) (fun hc => ?_)
  · replace hvc := hvc.1 hc
    refine xw_aload_n dJ17_copyOfRange_10 rfl ?_
    refine xw_iload_n dJ17_copyOfRange_11 rfl ?_
    refine xw_iload_n dJ17_copyOfRange_12 rfl ?_
    obtain ⟨d9, k9, hd9, hk9, hC9⟩ := hvc
    refine xw_callS dJ17_copyOfRange_13 px_J17_copyOfRangeByte pm_J17_copyOfRangeByte q859 q860 (As := [xr o900, xi x2, xi x3]) (rest := []) rfl rfl (Nat.le_of_ble_eq_true rfl) hd9 hk9 hC9 (xkR_n fun o3 h1 hvc => ?_) (fun q h hq => xTh_out0 rfl hq)
    exact xw_aret dJ17_copyOfRange_16 rfl rfl hvc
  · replace hvc := hvc.2 hc
    refine xw_iload_n dJ17_copyOfRange_4 rfl ?_
    refine xw_aload_n dJ17_copyOfRange_5 rfl ?_
    obtain ⟨a4, ho, hvc⟩ := hvc
    subst ho
    obtain ⟨⟨t5, ty9, hty9, hcK⟩, hvc⟩ := hvc
    refine xw_alen dJ17_copyOfRange_6 hty9 hcK ?_
    refine xw_icmp_eq 17 dJ17_copyOfRange_7 rfl (fun hc => ?_) (fun hc => ?_)
    · replace hvc := hvc.1 hc
      refine xw_aload_n dJ17_copyOfRange_17 rfl ?_
      obtain ⟨hd9, hca, hle9, hf9, hvc⟩ := hvc
      refine xw_cloneB dJ17_copyOfRange_18 q741 q742 q743 q744 q745 q746 hd9 (Nat.le_of_ble_eq_true rfl) hca hle9 hf9 (fun h6 a7 ea9 eh9 => ?_)
      replace hvc := hvc h6 a7 ea9 eh9
      obtain ⟨hcK, hvc⟩ := hvc
      refine xw_castB dJ17_copyOfRange_21 q747 hcK ?_
      exact xw_aret dJ17_copyOfRange_24 rfl rfl hvc
    · replace hvc := hvc.2 hc
      refine xw_aload_n dJ17_copyOfRange_10 rfl ?_
      refine xw_iload_n dJ17_copyOfRange_11 rfl ?_
      refine xw_iload_n dJ17_copyOfRange_12 rfl ?_
      obtain ⟨d9, k9, hd9, hk9, hC9⟩ := hvc
      refine xw_callS dJ17_copyOfRange_13 px_J17_copyOfRangeByte pm_J17_copyOfRangeByte q859 q860 (As := [xr (some a4), xi x2, xi x3]) (rest := []) rfl rfl (Nat.le_of_ble_eq_true rfl) hd9 hk9 hC9 (xkR_n fun o10 h8 hvc => ?_) (fun q h hq => xTh_out0 rfl hq)
      exact xw_aret dJ17_copyOfRange_16 rfl rfl hvc

theorem vc_J17_copyOfRangeByte {G : xG} {d K : Nat} {Q : xR → xH → Prop} {h : xH} {o900 : Option Nat} {x2 : Int32} {x3 : Int32}
    (hvc : xCall G d K mJ17_checkLength [xi x2, xi x3] h (xkV (fun h1 k2 => ∃ m5 : Nat, (x3 - x2) = nI m5 ∧ m5 ≤ 65536 ∧ 1 + m5 ≤ k2 ∧ ∀ (h3 : xH) (a4 : Nat), a4 = xsz h1 → h3 = xnew h1 1000 m5 (fun _ => xdf FieldType.byte) → ∃ a6, o900 = some a6 ∧ (∃ t7 ty, xty[t7]? = some ty ∧ xcls h3 a6 = 1000 + t7) ∧ 1 ≤ d ∧ ∀ n8 : Int32, n8 = (if (x3 - x2) < ((nI (xlen h3 a6)) - x2) then (x3 - x2) else ((nI (xlen h3 a6)) - x2)) → 1 ≤ d ∧ xcls h3 a6 = 1000 ∧ xcls h3 a4 = 1000 ∧ xlo h3 ≤ a4 ∧ ∃ i9 i10 m11 : Nat, x2 = nI i9 ∧ (0 : Int32) = nI i10 ∧ n8 = nI m11 ∧ i9 + m11 ≤ xlen h3 a6 ∧ i10 + m11 ≤ xlen h3 a4 ∧ xlen h3 a6 < 2147483648 ∧ xlen h3 a4 < 2147483648 ∧ (∀ t, t < m11 → ∃ v : Int32, xval h3 a6 (i9 + t) = xi v ∧ fits .byte (.int v) = true) ∧ ∀ h12 : xH, h12 = xcpy h3 a6 a4 i9 i10 m11 → Q (.inl (some (xr (some a4)))) h12) (fun q h _ => Q (.inr q) h))) : xCn G mJ17_copyOfRangeByte d K [xr o900, xi x2, xi x3] h Q := by
  refine xCn_of px_J17_copyOfRangeByte rfl rfl (Nat.le_of_ble_eq_true rfl) ?_
  show xWp G mJ17_copyOfRangeByte d K Q K 0 [some (xr o900), some (xi x2), some (xi x3), none, none] [] h
  refine xw_iload_n dJ17_copyOfRangeByte_0 rfl ?_
  refine xw_iload_n dJ17_copyOfRangeByte_1 rfl ?_
  obtain ⟨d9, k9, hd9, hk9, hC9⟩ := hvc
  refine xw_callS dJ17_copyOfRangeByte_2 px_J17_checkLength pm_J17_checkLength q862 q863 (As := [xi x2, xi x3]) (rest := []) rfl rfl (Nat.le_of_ble_eq_true rfl) hd9 hk9 hC9 (xkV_n fun h1 hvc => ?_) (fun q h hq => xTh_out0 rfl hq)
  refine xw_iload_n dJ17_copyOfRangeByte_5 rfl ?_
  refine xw_iload_n dJ17_copyOfRangeByte_6 rfl ?_
  refine xw_isub dJ17_copyOfRangeByte_7 ?_
  refine xw_istore_n dJ17_copyOfRangeByte_8 (Nat.le_of_ble_eq_true rfl) (L9 := [some (xr o900), some (xi x2), some (xi x3), some (xi (x3 - x2)), none]) rfl ?_
  refine xw_iload_n dJ17_copyOfRangeByte_9 rfl ?_
  obtain ⟨m5, hx9, hn9, hle, hvc⟩ := hvc
  refine xw_newa (j := 0) (atype := .byte) dJ17_copyOfRangeByte_10 rfl q350 hx9 hn9 hle (fun h3 a4 ea9 eh9 => ?_)
  replace hvc := hvc h3 a4 ea9 eh9
  refine xw_astore dJ17_copyOfRangeByte_12 (Nat.le_of_ble_eq_true rfl) (L9 := [some (xr o900), some (xi x2), some (xi x3), some (xi (x3 - x2)), some (xr (some a4))]) rfl ?_
  refine xw_aload_n dJ17_copyOfRangeByte_14 rfl ?_
  refine xw_iload_n dJ17_copyOfRangeByte_15 rfl ?_
  refine xw_aload dJ17_copyOfRangeByte_16 rfl ?_
  refine xw_iconst (0 : Int32) dJ17_copyOfRangeByte_18 (by decide) ?_
  refine xw_aload_n dJ17_copyOfRangeByte_19 rfl ?_
  obtain ⟨a6, ho, hvc⟩ := hvc
  subst ho
  obtain ⟨⟨t7, ty9, hty9, hcK⟩, hvc⟩ := hvc
  refine xw_alen dJ17_copyOfRangeByte_20 hty9 hcK ?_
  refine xw_iload_n dJ17_copyOfRangeByte_21 rfl ?_
  refine xw_isub dJ17_copyOfRangeByte_22 ?_
  refine xw_iload_n dJ17_copyOfRangeByte_23 rfl ?_
  obtain ⟨hd9, hvc⟩ := hvc
  refine xw_mmin dJ17_copyOfRangeByte_24 q748 q749 q132 q750 hd9 (Nat.le_of_ble_eq_true rfl) ?_
  obtain ⟨n8, he9⟩ : ∃ z, z = (if (x3 - x2) < ((nI (xlen h3 a6)) - x2) then (x3 - x2) else ((nI (xlen h3 a6)) - x2)) := ⟨_, rfl⟩
  rw [← he9]
  replace hvc := hvc n8 he9
  obtain ⟨hd9, hca, hcb, hlo9, i9, i10, m11, hx9, hy9, hz9, hi9, hj9, ha9, hb9, hf9, hvc⟩ := hvc
  refine xw_acopyB dJ17_copyOfRangeByte_27 q751 q753 q752 q134 hd9 (Nat.le_of_ble_eq_true rfl) hca hcb hlo9 hx9 hy9 hz9 hi9 hj9 ha9 hb9 hf9 (fun h12 eh9 => ?_)
  replace hvc := hvc h12 eh9
  refine xw_aload dJ17_copyOfRangeByte_30 rfl ?_
  exact xw_aret dJ17_copyOfRangeByte_32 rfl rfl hvc

theorem vc_J17_checkLength {G : xG} {d K : Nat} {Q : xR → xH → Prop} {h : xH} {x1 : Int32} {x2 : Int32}
    (hvc : ((x1 ≤ x2 → Q (.inl none) h) ∧ (¬ x1 ≤ x2 → False))) : xCn G mJ17_checkLength d K [xi x1, xi x2] h Q := by
  refine xCn_of px_J17_checkLength rfl rfl (Nat.le_of_ble_eq_true rfl) ?_
  show xWp G mJ17_checkLength d K Q K 0 [some (xi x1), some (xi x2)] [] h
  refine xw_iload_n dJ17_checkLength_0 rfl ?_
  refine xw_iload_n dJ17_checkLength_1 rfl ?_
  refine xw_icmp_ge 37 dJ17_checkLength_2 rfl (fun hc => ?_) (fun hc => ?_)
  · replace hvc := hvc.1 hc
    exact xw_vret dJ17_checkLength_37 rfl hvc
  · replace hvc := hvc.2 hc
    exact hvc.elim

theorem vc_J17_copyOf_2 {G : xG} {d K : Nat} {Q : xR → xH → Prop} {h : xH} {o900 : Option Nat} {x2 : Int32}
    (hvc : False) : xCn G mJ17_copyOf_2 d K [xr o900, xi x2] h Q := by
  refine xCn_of px_J17_copyOf_2 rfl rfl (Nat.le_of_ble_eq_true rfl) ?_
  show xWp G mJ17_copyOf_2 d K Q K 0 [some (xr o900), some (xi x2)] [] h
  refine xw_aload_n dJ17_copyOf_2_0 rfl ?_
  refine xw_iload_n dJ17_copyOf_2_1 rfl ?_
  refine xw_aload_n dJ17_copyOf_2_2 rfl ?_
  exact hvc.elim

theorem vc_J17_copyOf_3 {G : xG} {d K : Nat} {Q : xR → xH → Prop} {h : xH} {o900 : Option Nat} {x2 : Int32} {o902 : Option Nat}
    (hvc : False) : xCn G mJ17_copyOf_3 d K [xr o900, xi x2, xr o902] h Q := by
  refine xCn_of px_J17_copyOf_3 rfl rfl (Nat.le_of_ble_eq_true rfl) ?_
  show xWp G mJ17_copyOf_3 d K Q K 0 [some (xr o900), some (xi x2), some (xr o902), none] [] h
  refine xw_aload_n dJ17_copyOf_3_0 rfl ?_
  exact hvc.elim

theorem vc_J17_copyOf_4 {G : xG} {d K : Nat} {Q : xR → xH → Prop} {h : xH} {o900 : Option Nat} {x2 : Int32}
    (hvc : ∃ a1, o900 = some a1 ∧ (∃ t2 ty, xty[t2]? = some ty ∧ xcls h a1 = 1000 + t2) ∧ ((¬ x2 = (nI (xlen h a1)) → ∃ m5 : Nat, x2 = nI m5 ∧ m5 ≤ 65536 ∧ 1 + m5 ≤ K ∧ ∀ (h3 : xH) (a4 : Nat), a4 = xsz h → h3 = xnew h 1004 m5 (fun _ => xdf FieldType.long) → (∃ t6 ty, xty[t6]? = some ty ∧ xcls h3 a1 = 1000 + t6) ∧ 1 ≤ d ∧ ∀ n7 : Int32, n7 = (if x2 < (nI (xlen h3 a1)) then x2 else (nI (xlen h3 a1))) → 1 ≤ d ∧ xcls h3 a1 = 1000 ∧ xcls h3 a4 = 1000 ∧ xlo h3 ≤ a4 ∧ ∃ i8 i9 m10 : Nat, (0 : Int32) = nI i8 ∧ (0 : Int32) = nI i9 ∧ n7 = nI m10 ∧ i8 + m10 ≤ xlen h3 a1 ∧ i9 + m10 ≤ xlen h3 a4 ∧ xlen h3 a1 < 2147483648 ∧ xlen h3 a4 < 2147483648 ∧ (∀ t, t < m10 → ∃ v : Int32, xval h3 a1 (i8 + t) = xi v ∧ fits .byte (.int v) = true) ∧ ∀ h11 : xH, h11 = xcpy h3 a1 a4 i8 i9 m10 → Q (.inl (some (xr (some a4)))) h11) ∧ (x2 = (nI (xlen h a1)) → False))) : xCn G mJ17_copyOf_4 d K [xr o900, xi x2] h Q := by
  refine xCn_of px_J17_copyOf_4 rfl rfl (Nat.le_of_ble_eq_true rfl) ?_
  show xWp G mJ17_copyOf_4 d K Q K 0 [some (xr o900), some (xi x2), none] [] h
  refine xw_iload_n dJ17_copyOf_4_0 rfl ?_
  refine xw_aload_n dJ17_copyOf_4_1 rfl ?_
  obtain ⟨a1, ho, hvc⟩ := hvc
  subst ho
  obtain ⟨⟨t2, ty9, hty9, hcK⟩, hvc⟩ := hvc
  refine xw_alen dJ17_copyOf_4_2 hty9 hcK ?_
  refine xw_icmp_ne 14 dJ17_copyOf_4_3 rfl (fun hc => ?_) (fun hc => ?_)
  · replace hvc := hvc.1 hc
    refine xw_iload_n dJ17_copyOf_4_14 rfl ?_
    obtain ⟨m5, hx9, hn9, hle, hvc⟩ := hvc
    refine xw_newa (j := 4) (atype := .long) dJ17_copyOf_4_15 rfl q1800 hx9 hn9 hle (fun h3 a4 ea9 eh9 => ?_)
    replace hvc := hvc h3 a4 ea9 eh9
    refine xw_astore_n dJ17_copyOf_4_17 (Nat.le_of_ble_eq_true rfl) (L9 := [some (xr (some a1)), some (xi x2), some (xr (some a4))]) rfl ?_
    refine xw_aload_n dJ17_copyOf_4_18 rfl ?_
    refine xw_iconst (0 : Int32) dJ17_copyOf_4_19 (by decide) ?_
    refine xw_aload_n dJ17_copyOf_4_20 rfl ?_
    refine xw_iconst (0 : Int32) dJ17_copyOf_4_21 (by decide) ?_
    refine xw_aload_n dJ17_copyOf_4_22 rfl ?_
    obtain ⟨⟨t6, ty9, hty9, hcK⟩, hvc⟩ := hvc
    refine xw_alen dJ17_copyOf_4_23 hty9 hcK ?_
    refine xw_iload_n dJ17_copyOf_4_24 rfl ?_
    obtain ⟨hd9, hvc⟩ := hvc
    refine xw_mmin dJ17_copyOf_4_25 q748 q749 q132 q750 hd9 (Nat.le_of_ble_eq_true rfl) ?_
    obtain ⟨n7, he9⟩ : ∃ z, z = (if x2 < (nI (xlen h3 a1)) then x2 else (nI (xlen h3 a1))) := ⟨_, rfl⟩
    rw [← he9]
    replace hvc := hvc n7 he9
    obtain ⟨hd9, hca, hcb, hlo9, i8, i9, m10, hx9, hy9, hz9, hi9, hj9, ha9, hb9, hf9, hvc⟩ := hvc
    refine xw_acopyB dJ17_copyOf_4_28 q751 q753 q752 q134 hd9 (Nat.le_of_ble_eq_true rfl) hca hcb hlo9 hx9 hy9 hz9 hi9 hj9 ha9 hb9 hf9 (fun h11 eh9 => ?_)
    replace hvc := hvc h11 eh9
    refine xw_aload_n dJ17_copyOf_4_31 rfl ?_
    exact xw_aret dJ17_copyOf_4_32 rfl rfl hvc
  · replace hvc := hvc.2 hc
    refine xw_aload_n dJ17_copyOf_4_6 rfl ?_
    exact hvc.elim

theorem vc_J27_init {G : xG} {d K : Nat} {Q : xR → xH → Prop} {h : xH} {this : Nat} {o900 : Option Nat} {o901 : Option Nat} {o902 : Option Nat}
    (hvc : 1 ≤ d ∧ xcls h this = 25 ∧ ∀ h1 : xH, h1 = xput h this 0 (xr o901) → xcls h1 this = 25 ∧ ∀ h2 : xH, h2 = xput h1 this 1 (xr o902) → xcls h2 this = 25 ∧ ∀ h3 : xH, h3 = xput h2 this 2 (xr o900) → Q (.inl none) h3) : xCn G mJ27_init d K [xr (some this), xr o900, xr o901, xr o902] h Q := by
  refine xCn_of px_J27_init rfl rfl (Nat.le_of_ble_eq_true rfl) ?_
  show xWp G mJ27_init d K Q K 0 [some (xr (some this)), some (xr o900), some (xr o901), some (xr o902)] [] h
  refine xw_aload_n dJ27_init_0 rfl ?_
  obtain ⟨hd9, hvc⟩ := hvc
  refine xw_objInit dJ27_init_1 q1661 q196 q197 hd9 (Nat.le_of_ble_eq_true rfl) ?_
  refine xw_aload_n dJ27_init_4 rfl ?_
  refine xw_aload_n dJ27_init_5 rfl ?_
  obtain ⟨hcK, hvc⟩ := hvc
  refine xw_put dJ27_init_6 hcJ27 in_J27 tyJ27_ok xnmJ27 (kf := 0) (by decide) q1662 (fun _ _ _ _ z => z) rfl (xnar_r _ rfl _).1 (xnar_r _ rfl _).2 hcK (Or.inl rfl) (fun h1 eh9 => ?_)
  replace hvc := hvc h1 eh9
  refine xw_aload_n dJ27_init_9 rfl ?_
  refine xw_aload_n dJ27_init_10 rfl ?_
  obtain ⟨hcK, hvc⟩ := hvc
  refine xw_put dJ27_init_11 hcJ27 in_J27 tyJ27_ok xnmJ27 (kf := 1) (by decide) q1665 (fun _ _ _ _ z => z) rfl (xnar_r _ rfl _).1 (xnar_r _ rfl _).2 hcK (Or.inl rfl) (fun h2 eh9 => ?_)
  replace hvc := hvc h2 eh9
  refine xw_aload_n dJ27_init_14 rfl ?_
  refine xw_aload_n dJ27_init_15 rfl ?_
  obtain ⟨hcK, hvc⟩ := hvc
  refine xw_put dJ27_init_16 hcJ27 in_J27 tyJ27_ok xnmJ27 (kf := 2) (by decide) q1668 (fun _ _ _ _ z => z) rfl (xnar_r _ rfl _).1 (xnar_r _ rfl _).2 hcK (Or.inl rfl) (fun h3 eh9 => ?_)
  replace hvc := hvc h3 eh9
  exact xw_vret dJ27_init_19 rfl hvc

theorem vc_J3_init {G : xG} {d K : Nat} {Q : xR → xH → Prop} {h : xH} {this : Nat}
    (hvc : xCall G d K mJ0_init [xr (some this)] h (xkV (fun h1 k2 => ∃ m5 : Nat, (17 : Int32) = nI m5 ∧ m5 ≤ 65536 ∧ 1 + m5 ≤ k2 ∧ ∀ (h3 : xH) (a4 : Nat), a4 = xsz h1 → h3 = xnew h1 1006 m5 (fun _ => xr none) → xcls h3 this = 5 ∧ ∀ h6 : xH, h6 = xput h3 this 0 (xr (some a4)) → Q (.inl none) h6) (fun q h _ => Q (.inr q) h))) : xCn G mJ3_init d K [xr (some this)] h Q := by
  refine xCn_of px_J3_init rfl rfl (Nat.le_of_ble_eq_true rfl) ?_
  show xWp G mJ3_init d K Q K 0 [some (xr (some this))] [] h
  refine xw_aload_n dJ3_init_0 rfl ?_
  obtain ⟨d9, k9, hd9, hk9, hC9⟩ := hvc
  refine xw_callI dJ3_init_1 px_J0_init pm_J0_init q302 q219 rfl rfl (As := []) (rest := []) rfl rfl (Nat.le_of_ble_eq_true rfl) hd9 hk9 hC9 (xkV_n fun h1 hvc => ?_) (fun q h hq => xTh_out0 rfl hq)
  refine xw_aload_n dJ3_init_4 rfl ?_
  refine xw_bipush (17 : Int32) dJ3_init_5 (by decide) ?_
  obtain ⟨m5, hx9, hn9, hle, hvc⟩ := hvc
  refine xw_anew (j := 6) dJ3_init_7 rfl (Or.inl rfl) q303 hx9 hn9 hle (fun h3 a4 ea9 eh9 => ?_)
  replace hvc := hvc h3 a4 ea9 eh9
  obtain ⟨hcK, hvc⟩ := hvc
  refine xw_put dJ3_init_10 hcJ3 in_J3 tyJ3_ok xnmJ3 (kf := 0) (by decide) q305 (fun _ _ _ _ z => z) rfl (xnar_r _ rfl _).1 (xnar_r _ rfl _).2 hcK (Or.inl rfl) (fun h6 eh9 => ?_)
  replace hvc := hvc h6 eh9
  exact xw_vret dJ3_init_13 rfl hvc

theorem vc_J3_isEmpty {G : xG} {d K : Nat} {Q : xR → xH → Prop} {h : xH} {this : Nat}
    (hvc : xcls h this = 5 ∧ ∃ n1 : Int32, xval h this 1 = xi n1 ∧ xcls h this = 5 ∧ ∃ n2 : Int32, xval h this 2 = xi n2 ∧ ((¬ n1 = n2 → Q (.inl (some (xi (0 : Int32)))) h) ∧ (n1 = n2 → Q (.inl (some (xi (1 : Int32)))) h))) : xCn G mJ3_isEmpty d K [xr (some this)] h Q := by
  refine xCn_of px_J3_isEmpty rfl rfl (Nat.le_of_ble_eq_true rfl) ?_
  show xWp G mJ3_isEmpty d K Q K 0 [some (xr (some this))] [] h
  refine xw_aload_n dJ3_isEmpty_0 rfl ?_
  obtain ⟨hcK, n1, hvK, hvc⟩ := hvc
  refine xw_get dJ3_isEmpty_1 hcJ3 in_J3 (kf := 1) (by decide) q308 (fun _ _ _ _ z => z) hcK hvK ?_
  refine xw_aload_n dJ3_isEmpty_4 rfl ?_
  obtain ⟨hcK, n2, hvK, hvc⟩ := hvc
  refine xw_get dJ3_isEmpty_5 hcJ3 in_J3 (kf := 2) (by decide) q309 (fun _ _ _ _ z => z) hcK hvK ?_
  refine xw_icmp_ne 15 dJ3_isEmpty_8 rfl (fun hc => ?_) (fun hc => ?_)
  · replace hvc := hvc.1 hc
    refine xw_iconst (0 : Int32) dJ3_isEmpty_15 (by decide) ?_
    exact xw_zret dJ3_isEmpty_16 rfl rfl hvc
  · replace hvc := hvc.2 hc
    refine xw_iconst (1 : Int32) dJ3_isEmpty_11 (by decide) ?_
    refine xw_goto 16 dJ3_isEmpty_12 rfl ?_
    exact xw_zret dJ3_isEmpty_16 rfl rfl hvc

theorem vc_J3_inc {G : xG} {d K : Nat} {Q : xR → xH → Prop} {h : xH} {x1 : Int32} {x2 : Int32}
    (hvc : (((x1 + (1 : Int32)) < x2 → Q (.inl (some (xi (x1 + (1 : Int32))))) h) ∧ (¬ (x1 + (1 : Int32)) < x2 → Q (.inl (some (xi (0 : Int32)))) h))) : xCn G mJ3_inc d K [xi x1, xi x2] h Q := by
  refine xCn_of px_J3_inc rfl rfl (Nat.le_of_ble_eq_true rfl) ?_
  show xWp G mJ3_inc d K Q K 0 [some (xi x1), some (xi x2)] [] h
  refine xw_iinc (1 : Int32) dJ3_inc_0 rfl (by decide) (Nat.le_of_ble_eq_true rfl) (L9 := [some (xi (x1 + (1 : Int32))), some (xi x2)]) rfl ?_
  refine xw_iload_n dJ3_inc_3 rfl ?_
  refine xw_iload_n dJ3_inc_4 rfl ?_
  refine xw_icmp_lt 10 dJ3_inc_5 rfl (fun hc => ?_) (fun hc => ?_)
  · replace hvc := hvc.1 hc
    refine xw_iload_n dJ3_inc_10 rfl ?_
    exact xw_iret dJ3_inc_11 rfl hvc
  · replace hvc := hvc.2 hc
    refine xw_iconst (0 : Int32) dJ3_inc_8 (by decide) ?_
    refine xw_istore_n dJ3_inc_9 (Nat.le_of_ble_eq_true rfl) (L9 := [some (xi (0 : Int32)), some (xi x2)]) rfl ?_
    refine xw_iload_n dJ3_inc_10 rfl ?_
    exact xw_iret dJ3_inc_11 rfl hvc

theorem vc_J3_poll {G : xG} {d K : Nat} {Q : xR → xH → Prop} {h : xH} {this : Nat}
    (hvc : xcls h this = 5 ∧ xCall G d K mJ3_pollFirst [xr (some this)] h (xkR (fun o3 h1 k2 => Q (.inl (some (xr o3))) h1) (fun q h _ => Q (.inr q) h))) : xCn G mJ3_poll d K [xr (some this)] h Q := by
  refine xCn_of px_J3_poll rfl rfl (Nat.le_of_ble_eq_true rfl) ?_
  show xWp G mJ3_poll d K Q K 0 [some (xr (some this))] [] h
  refine xw_aload_n dJ3_poll_0 rfl ?_
  obtain ⟨hcK, hvc⟩ := hvc
  obtain ⟨d9, k9, hd9, hk9, hC9⟩ := hvc
  refine xw_callV dJ3_poll_1 px_J3_pollFirst pm_J3_pollFirst q947 q948 q949 hcJ3 hcK (As := []) (rest := []) rfl rfl (Nat.le_of_ble_eq_true rfl) hd9 hk9 hC9 (xkR_n fun o3 h1 hvc => ?_) (fun q h hq => xTh_out0 rfl hq)
  exact xw_aret dJ3_poll_4 rfl rfl hvc

theorem vc_J3_pollFirst {G : xG} {d K : Nat} {Q : xR → xH → Prop} {h : xH} {this : Nat}
    (hvc : xcls h this = 5 ∧ ∃ o1 : Option Nat, xval h this 0 = xr o1 ∧ xcls h this = 5 ∧ ∃ n2 : Int32, xval h this 1 = xi n2 ∧ xCall G d K mJ3_elementAt [xr o1, xi n2] h (xkR (fun o5 h3 k4 => ((∀ a6, o5 = some a6 → ∃ a7, o1 = some a7 ∧ xcls h3 a7 = 1006 ∧ ∃ i8 : Nat, n2 = nI i8 ∧ i8 < 2147483648 ∧ i8 < xlen h3 a7 ∧ ∀ h9 : xH, h9 = xput h3 a7 i8 (xr none) → (∃ t10 ty, xty[t10]? = some ty ∧ xcls h9 a7 = 1000 + t10) ∧ xCall G d k4 mJ3_inc [xi n2, xi (nI (xlen h9 a7))] h9 (xkI (fun n13 h11 k12 => xcls h11 this = 5 ∧ ∀ h14 : xH, h14 = xput h11 this 1 (xi n13) → Q (.inl (some (xr (some a6)))) h14) (fun q h _ => Q (.inr q) h))) ∧ (o5 = none → Q (.inl (some (xr none))) h3))) (fun q h _ => Q (.inr q) h))) : xCn G mJ3_pollFirst d K [xr (some this)] h Q := by
  refine xCn_of px_J3_pollFirst rfl rfl (Nat.le_of_ble_eq_true rfl) ?_
  show xWp G mJ3_pollFirst d K Q K 0 [some (xr (some this)), none, none, none] [] h
  refine xw_aload_n dJ3_pollFirst_0 rfl ?_
  obtain ⟨hcK, o1, hvK, hvc⟩ := hvc
  refine xw_get dJ3_pollFirst_1 hcJ3 in_J3 (kf := 0) (by decide) q305 (fun _ _ _ _ z => z) hcK hvK ?_
  refine xw_dup dJ3_pollFirst_4 rfl ?_
  refine xw_astore_n dJ3_pollFirst_5 (Nat.le_of_ble_eq_true rfl) (L9 := [some (xr (some this)), some (xr o1), none, none]) rfl ?_
  refine xw_aload_n dJ3_pollFirst_6 rfl ?_
  obtain ⟨hcK, n2, hvK, hvc⟩ := hvc
  refine xw_get dJ3_pollFirst_7 hcJ3 in_J3 (kf := 1) (by decide) q308 (fun _ _ _ _ z => z) hcK hvK ?_
  refine xw_dup dJ3_pollFirst_10 rfl ?_
  refine xw_istore_n dJ3_pollFirst_11 (Nat.le_of_ble_eq_true rfl) (L9 := [some (xr (some this)), some (xr o1), some (xi n2), none]) rfl ?_
  obtain ⟨d9, k9, hd9, hk9, hC9⟩ := hvc
  refine xw_callS dJ3_pollFirst_12 px_J3_elementAt pm_J3_elementAt q951 q952 (As := [xr o1, xi n2]) (rest := []) rfl rfl (Nat.le_of_ble_eq_true rfl) hd9 hk9 hC9 (xkR_n fun o5 h3 hvc => ?_) (fun q h hq => xTh_out0 rfl hq)
  refine xw_astore_n dJ3_pollFirst_15 (Nat.le_of_ble_eq_true rfl) (L9 := [some (xr (some this)), some (xr o1), some (xi n2), some (xr o5)]) rfl ?_
  refine xw_aload_n dJ3_pollFirst_16 rfl ?_
  refine xw_ifnull 34 dJ3_pollFirst_17 rfl (fun hc => ?_) (fun a6 hc => ?_)
  · replace hvc := hvc.2 hc
    subst hc
    refine xw_aload_n dJ3_pollFirst_34 rfl ?_
    exact xw_aret dJ3_pollFirst_35 rfl rfl hvc
  · replace hvc := hvc.1 _ hc
    subst hc
    refine xw_aload_n dJ3_pollFirst_20 rfl ?_
    refine xw_iload_n dJ3_pollFirst_21 rfl ?_
    refine xw_null dJ3_pollFirst_22 ?_
    obtain ⟨a7, ho, hvc⟩ := hvc
    subst ho
    obtain ⟨hcK, i8, hx9, hb9, hi9, hvc⟩ := hvc
    refine xw_aastN (j := 6) dJ3_pollFirst_23 rfl hcK (Or.inl rfl) hx9 hb9 hi9 (fun h9 eh9 => ?_)
    replace hvc := hvc h9 eh9
    refine xw_aload_n dJ3_pollFirst_24 rfl ?_
    refine xw_iload_n dJ3_pollFirst_25 rfl ?_
    refine xw_aload_n dJ3_pollFirst_26 rfl ?_
    obtain ⟨⟨t10, ty9, hty9, hcK⟩, hvc⟩ := hvc
    refine xw_alen dJ3_pollFirst_27 hty9 hcK ?_
    obtain ⟨d9, k9, hd9, hk9, hC9⟩ := hvc
    refine xw_callS dJ3_pollFirst_28 px_J3_inc pm_J3_inc q954 q913 (As := [xi n2, xi (nI (xlen h9 a7))]) (rest := [xr (some this)]) rfl rfl (Nat.le_of_ble_eq_true rfl) hd9 hk9 hC9 (xkI_n fun n13 h11 hvc => ?_) (fun q h hq => xTh_out0 rfl hq)
    obtain ⟨hcK, hvc⟩ := hvc
    refine xw_put dJ3_pollFirst_31 hcJ3 in_J3 tyJ3_ok xnmJ3 (kf := 1) (by decide) q308 (fun _ _ _ _ z => z) rfl rfl rfl hcK (Or.inl rfl) (fun h14 eh9 => ?_)
    replace hvc := hvc h14 eh9
    refine xw_aload_n dJ3_pollFirst_34 rfl ?_
    exact xw_aret dJ3_pollFirst_35 rfl rfl hvc

theorem vc_J3_elementAt {G : xG} {d K : Nat} {Q : xR → xH → Prop} {h : xH} {o900 : Option Nat} {x2 : Int32}
    (hvc : ∃ a1, o900 = some a1 ∧ xcls h a1 = 1006 ∧ ∃ i2 : Nat, x2 = nI i2 ∧ i2 < 2147483648 ∧ i2 < xlen h a1 ∧ ∃ o3 : Option Nat, xval h a1 i2 = xr o3 ∧ Q (.inl (some (xr o3))) h) : xCn G mJ3_elementAt d K [xr o900, xi x2] h Q := by
  refine xCn_of px_J3_elementAt rfl rfl (Nat.le_of_ble_eq_true rfl) ?_
  show xWp G mJ3_elementAt d K Q K 0 [some (xr o900), some (xi x2)] [] h
  refine xw_aload_n dJ3_elementAt_0 rfl ?_
  refine xw_iload_n dJ3_elementAt_1 rfl ?_
  obtain ⟨a1, ho, hvc⟩ := hvc
  subst ho
  obtain ⟨hcK, i2, hx9, hb9, hi9, o3, hv9, hvc⟩ := hvc
  refine xw_aald (j := 6) dJ3_elementAt_2 rfl hcK hx9 hb9 hi9 hv9 ?_
  exact xw_aret dJ3_elementAt_3 rfl rfl hvc

theorem vc_J3_size {G : xG} {d K : Nat} {Q : xR → xH → Prop} {h : xH} {this : Nat}
    (hvc : xcls h this = 5 ∧ ∃ n1 : Int32, xval h this 2 = xi n1 ∧ xcls h this = 5 ∧ ∃ n2 : Int32, xval h this 1 = xi n2 ∧ xcls h this = 5 ∧ ∃ o3 : Option Nat, xval h this 0 = xr o3 ∧ ∃ a4, o3 = some a4 ∧ (∃ t5 ty, xty[t5]? = some ty ∧ xcls h a4 = 1000 + t5) ∧ xCall G d K mJ3_sub [xi n1, xi n2, xi (nI (xlen h a4))] h (xkI (fun n8 h6 k7 => Q (.inl (some (xi n8))) h6) (fun q h _ => Q (.inr q) h))) : xCn G mJ3_size d K [xr (some this)] h Q := by
  refine xCn_of px_J3_size rfl rfl (Nat.le_of_ble_eq_true rfl) ?_
  show xWp G mJ3_size d K Q K 0 [some (xr (some this))] [] h
  refine xw_aload_n dJ3_size_0 rfl ?_
  obtain ⟨hcK, n1, hvK, hvc⟩ := hvc
  refine xw_get dJ3_size_1 hcJ3 in_J3 (kf := 2) (by decide) q309 (fun _ _ _ _ z => z) hcK hvK ?_
  refine xw_aload_n dJ3_size_4 rfl ?_
  obtain ⟨hcK, n2, hvK, hvc⟩ := hvc
  refine xw_get dJ3_size_5 hcJ3 in_J3 (kf := 1) (by decide) q308 (fun _ _ _ _ z => z) hcK hvK ?_
  refine xw_aload_n dJ3_size_8 rfl ?_
  obtain ⟨hcK, o3, hvK, hvc⟩ := hvc
  refine xw_get dJ3_size_9 hcJ3 in_J3 (kf := 0) (by decide) q305 (fun _ _ _ _ z => z) hcK hvK ?_
  obtain ⟨a4, ho, hvc⟩ := hvc
  subst ho
  obtain ⟨⟨t5, ty9, hty9, hcK⟩, hvc⟩ := hvc
  refine xw_alen dJ3_size_12 hty9 hcK ?_
  obtain ⟨d9, k9, hd9, hk9, hC9⟩ := hvc
  refine xw_callS dJ3_size_13 px_J3_sub pm_J3_sub q1361 q1362 (As := [xi n1, xi n2, xi (nI (xlen h a4))]) (rest := []) rfl rfl (Nat.le_of_ble_eq_true rfl) hd9 hk9 hC9 (xkI_n fun n8 h6 hvc => ?_) (fun q h hq => xTh_out0 rfl hq)
  exact xw_iret dJ3_size_16 rfl hvc

theorem vc_J3_sub {G : xG} {d K : Nat} {Q : xR → xH → Prop} {h : xH} {x1 : Int32} {x2 : Int32} {x3 : Int32}
    (hvc : ((0 ≤ (x1 - x2) → Q (.inl (some (xi (x1 - x2)))) h) ∧ (¬ 0 ≤ (x1 - x2) → Q (.inl (some (xi ((x1 - x2) + x3)))) h))) : xCn G mJ3_sub d K [xi x1, xi x2, xi x3] h Q := by
  refine xCn_of px_J3_sub rfl rfl (Nat.le_of_ble_eq_true rfl) ?_
  show xWp G mJ3_sub d K Q K 0 [some (xi x1), some (xi x2), some (xi x3)] [] h
  refine xw_iload_n dJ3_sub_0 rfl ?_
  refine xw_iload_n dJ3_sub_1 rfl ?_
  refine xw_isub dJ3_sub_2 ?_
  refine xw_dup dJ3_sub_3 rfl ?_
  refine xw_istore_n dJ3_sub_4 (Nat.le_of_ble_eq_true rfl) (L9 := [some (xi (x1 - x2)), some (xi x2), some (xi x3)]) rfl ?_
  refine xw_if_ge 12 dJ3_sub_5 rfl (fun hc => ?_) (fun hc => ?_)
  · replace hvc := hvc.1 hc
    refine xw_iload_n dJ3_sub_12 rfl ?_
    exact xw_iret dJ3_sub_13 rfl hvc
  · replace hvc := hvc.2 hc
    refine xw_iload_n dJ3_sub_8 rfl ?_
    refine xw_iload_n dJ3_sub_9 rfl ?_
    refine xw_iadd dJ3_sub_10 ?_
    refine xw_istore_n dJ3_sub_11 (Nat.le_of_ble_eq_true rfl) (L9 := [some (xi ((x1 - x2) + x3)), some (xi x2), some (xi x3)]) rfl ?_
    refine xw_iload_n dJ3_sub_12 rfl ?_
    exact xw_iret dJ3_sub_13 rfl hvc

theorem vc_J3_addLast {G : xG} {d K : Nat} {Q : xR → xH → Prop} {h : xH} {this : Nat} {o900 : Option Nat}
    (hvc : ((∀ a1, o900 = some a1 → xcls h this = 5 ∧ ∃ o2 : Option Nat, xval h this 0 = xr o2 ∧ xcls h this = 5 ∧ ∃ n3 : Int32, xval h this 2 = xi n3 ∧ ∃ a4, o2 = some a4 ∧ xcls h a4 = 1006 ∧ ∃ i5 : Nat, n3 = nI i5 ∧ i5 < 2147483648 ∧ i5 < xlen h a4 ∧ xcls h a1 ∈ cst_java_lang_Object ∧ ∀ h6 : xH, h6 = xput h a4 i5 (xr (some a1)) → xcls h6 this = 5 ∧ ∃ n7 : Int32, xval h6 this 1 = xi n7 ∧ xcls h6 this = 5 ∧ ∃ n8 : Int32, xval h6 this 2 = xi n8 ∧ (∃ t9 ty, xty[t9]? = some ty ∧ xcls h6 a4 = 1000 + t9) ∧ xCall G d K mJ3_inc [xi n8, xi (nI (xlen h6 a4))] h6 (xkI (fun n12 h10 k11 => xcls h10 this = 5 ∧ ∀ h13 : xH, h13 = xput h10 this 2 (xi n12) → ((¬ n7 = n12 → Q (.inl none) h13) ∧ (n7 = n12 → xcls h13 this = 5 ∧ xCall G d k11 mJ3_grow [xr (some this), xi (1 : Int32)] h13 (xkV (fun h14 k15 => Q (.inl none) h14) (fun q h _ => Q (.inr q) h))))) (fun q h _ => Q (.inr q) h))) ∧ (o900 = none → False))) : xCn G mJ3_addLast d K [xr (some this), xr o900] h Q := by
  refine xCn_of px_J3_addLast rfl rfl (Nat.le_of_ble_eq_true rfl) ?_
  show xWp G mJ3_addLast d K Q K 0 [some (xr (some this)), some (xr o900), none] [] h
  refine xw_aload_n dJ3_addLast_0 rfl ?_
  refine xw_ifnonnull 12 dJ3_addLast_1 rfl (fun a1 hc => ?_) (fun hc => ?_)
  · replace hvc := hvc.1 _ hc
    subst hc
    refine xw_aload_n dJ3_addLast_12 rfl ?_
    obtain ⟨hcK, o2, hvK, hvc⟩ := hvc
    refine xw_get dJ3_addLast_13 hcJ3 in_J3 (kf := 0) (by decide) q305 (fun _ _ _ _ z => z) hcK hvK ?_
    refine xw_astore_n dJ3_addLast_16 (Nat.le_of_ble_eq_true rfl) (L9 := [some (xr (some this)), some (xr (some a1)), some (xr o2)]) rfl ?_
    refine xw_aload_n dJ3_addLast_17 rfl ?_
    refine xw_aload_n dJ3_addLast_18 rfl ?_
    obtain ⟨hcK, n3, hvK, hvc⟩ := hvc
    refine xw_get dJ3_addLast_19 hcJ3 in_J3 (kf := 2) (by decide) q309 (fun _ _ _ _ z => z) hcK hvK ?_
    refine xw_aload_n dJ3_addLast_22 rfl ?_
    obtain ⟨a4, ho, hvc⟩ := hvc
    subst ho
    obtain ⟨hcK, i5, hx9, hb9, hi9, hvc⟩ := hvc
    obtain ⟨hcst, hvc⟩ := hvc
    obtain ⟨ci9, r9, hcb9, hc9, hca9⟩ := cst_java_lang_Object_ok _ hcst
    refine xw_aast (j := 6) dJ3_addLast_23 rfl hcK (Or.inl rfl) hx9 hb9 hi9 hc9 hcb9 hca9 (fun h6 eh9 => ?_)
    replace hvc := hvc h6 eh9
    refine xw_aload_n dJ3_addLast_24 rfl ?_
    obtain ⟨hcK, n7, hvK, hvc⟩ := hvc
    refine xw_get dJ3_addLast_25 hcJ3 in_J3 (kf := 1) (by decide) q308 (fun _ _ _ _ z => z) hcK hvK ?_
    refine xw_aload_n dJ3_addLast_28 rfl ?_
    refine xw_aload_n dJ3_addLast_29 rfl ?_
    obtain ⟨hcK, n8, hvK, hvc⟩ := hvc
    refine xw_get dJ3_addLast_30 hcJ3 in_J3 (kf := 2) (by decide) q309 (fun _ _ _ _ z => z) hcK hvK ?_
    refine xw_aload_n dJ3_addLast_33 rfl ?_
    obtain ⟨⟨t9, ty9, hty9, hcK⟩, hvc⟩ := hvc
    refine xw_alen dJ3_addLast_34 hty9 hcK ?_
    obtain ⟨d9, k9, hd9, hk9, hC9⟩ := hvc
    refine xw_callS dJ3_addLast_35 px_J3_inc pm_J3_inc q954 q913 (As := [xi n8, xi (nI (xlen h6 a4))]) (rest := [xr (some this), xi n7]) rfl rfl (Nat.le_of_ble_eq_true rfl) hd9 hk9 hC9 (xkI_n fun n12 h10 hvc => ?_) (fun q h hq => xTh_out0 rfl hq)
    refine xw_dup_x1 dJ3_addLast_38 rfl rfl ?_
    obtain ⟨hcK, hvc⟩ := hvc
    refine xw_put dJ3_addLast_39 hcJ3 in_J3 tyJ3_ok xnmJ3 (kf := 2) (by decide) q309 (fun _ _ _ _ z => z) rfl rfl rfl hcK (Or.inl rfl) (fun h13 eh9 => ?_)
    replace hvc := hvc h13 eh9
    refine xw_icmp_ne 50 dJ3_addLast_42 rfl (fun hc => ?_) (fun hc => ?_)
    · replace hvc := hvc.1 hc
      exact xw_vret dJ3_addLast_50 rfl hvc
    · replace hvc := hvc.2 hc
      refine xw_aload_n dJ3_addLast_45 rfl ?_
      refine xw_iconst (1 : Int32) dJ3_addLast_46 (by decide) ?_
      obtain ⟨hcK, hvc⟩ := hvc
      obtain ⟨d9, k9, hd9, hk9, hC9⟩ := hvc
      refine xw_callV dJ3_addLast_47 px_J3_grow pm_J3_grow q1885 q1887 qs18 hcJ3 hcK (As := [xi (1 : Int32)]) (rest := []) rfl rfl (Nat.le_of_ble_eq_true rfl) hd9 hk9 hC9 (xkV_n fun h14 hvc => ?_) (fun q h hq => xTh_out0 rfl hq)
      exact xw_vret dJ3_addLast_50 rfl hvc
  · replace hvc := hvc.2 hc
    subst hc
    exact hvc.elim

theorem vc_J3_removeFirst {G : xG} {d K : Nat} {Q : xR → xH → Prop} {h : xH} {this : Nat}
    (hvc : xcls h this = 5 ∧ xCall G d K mJ3_pollFirst [xr (some this)] h (xkR (fun o3 h1 k2 => ((∀ a4, o3 = some a4 → Q (.inl (some (xr (some a4)))) h1) ∧ (o3 = none → False))) (fun q h _ => Q (.inr q) h))) : xCn G mJ3_removeFirst d K [xr (some this)] h Q := by
  refine xCn_of px_J3_removeFirst rfl rfl (Nat.le_of_ble_eq_true rfl) ?_
  show xWp G mJ3_removeFirst d K Q K 0 [some (xr (some this)), none] [] h
  refine xw_aload_n dJ3_removeFirst_0 rfl ?_
  obtain ⟨hcK, hvc⟩ := hvc
  obtain ⟨d9, k9, hd9, hk9, hC9⟩ := hvc
  refine xw_callV dJ3_removeFirst_1 px_J3_pollFirst pm_J3_pollFirst q947 q948 q949 hcJ3 hcK (As := []) (rest := []) rfl rfl (Nat.le_of_ble_eq_true rfl) hd9 hk9 hC9 (xkR_n fun o3 h1 hvc => ?_) (fun q h hq => xTh_out0 rfl hq)
  refine xw_astore_n dJ3_removeFirst_4 (Nat.le_of_ble_eq_true rfl) (L9 := [some (xr (some this)), some (xr o3)]) rfl ?_
  refine xw_aload_n dJ3_removeFirst_5 rfl ?_
  refine xw_ifnonnull 17 dJ3_removeFirst_6 rfl (fun a4 hc => ?_) (fun hc => ?_)
  · replace hvc := hvc.1 _ hc
    subst hc
    refine xw_aload_n dJ3_removeFirst_17 rfl ?_
    exact xw_aret dJ3_removeFirst_18 rfl rfl hvc
  · replace hvc := hvc.2 hc
    subst hc
    exact hvc.elim

theorem vc_J3_removeLast {G : xG} {d K : Nat} {Q : xR → xH → Prop} {h : xH} {this : Nat}
    (hvc : xcls h this = 5 ∧ xCall G d K mJ3_pollLast [xr (some this)] h (xkR (fun o3 h1 k2 => ((∀ a4, o3 = some a4 → Q (.inl (some (xr (some a4)))) h1) ∧ (o3 = none → False))) (fun q h _ => Q (.inr q) h))) : xCn G mJ3_removeLast d K [xr (some this)] h Q := by
  refine xCn_of px_J3_removeLast rfl rfl (Nat.le_of_ble_eq_true rfl) ?_
  show xWp G mJ3_removeLast d K Q K 0 [some (xr (some this)), none] [] h
  refine xw_aload_n dJ3_removeLast_0 rfl ?_
  obtain ⟨hcK, hvc⟩ := hvc
  obtain ⟨d9, k9, hd9, hk9, hC9⟩ := hvc
  refine xw_callV dJ3_removeLast_1 px_J3_pollLast pm_J3_pollLast q2951 q2952 q2953 hcJ3 hcK (As := []) (rest := []) rfl rfl (Nat.le_of_ble_eq_true rfl) hd9 hk9 hC9 (xkR_n fun o3 h1 hvc => ?_) (fun q h hq => xTh_out0 rfl hq)
  refine xw_astore_n dJ3_removeLast_4 (Nat.le_of_ble_eq_true rfl) (L9 := [some (xr (some this)), some (xr o3)]) rfl ?_
  refine xw_aload_n dJ3_removeLast_5 rfl ?_
  refine xw_ifnonnull 17 dJ3_removeLast_6 rfl (fun a4 hc => ?_) (fun hc => ?_)
  · replace hvc := hvc.1 _ hc
    subst hc
    refine xw_aload_n dJ3_removeLast_17 rfl ?_
    exact xw_aret dJ3_removeLast_18 rfl rfl hvc
  · replace hvc := hvc.2 hc
    subst hc
    exact hvc.elim

theorem vc_J3_pollLast {G : xG} {d K : Nat} {Q : xR → xH → Prop} {h : xH} {this : Nat}
    (hvc : xcls h this = 5 ∧ ∃ o1 : Option Nat, xval h this 0 = xr o1 ∧ xcls h this = 5 ∧ ∃ n2 : Int32, xval h this 2 = xi n2 ∧ ∃ a3, o1 = some a3 ∧ (∃ t4 ty, xty[t4]? = some ty ∧ xcls h a3 = 1000 + t4) ∧ xCall G d K mJ3_dec [xi n2, xi (nI (xlen h a3))] h (xkI (fun n7 h5 k6 => xCall G d k6 mJ3_elementAt [xr (some a3), xi n7] h5 (xkR (fun o10 h8 k9 => ((∀ a11, o10 = some a11 → xcls h8 this = 5 ∧ ∀ h12 : xH, h12 = xput h8 this 2 (xi n7) → xcls h12 a3 = 1006 ∧ ∃ i13 : Nat, n7 = nI i13 ∧ i13 < 2147483648 ∧ i13 < xlen h12 a3 ∧ ∀ h14 : xH, h14 = xput h12 a3 i13 (xr none) → Q (.inl (some (xr (some a11)))) h14) ∧ (o10 = none → Q (.inl (some (xr none))) h8))) (fun q h _ => Q (.inr q) h))) (fun q h _ => Q (.inr q) h))) : xCn G mJ3_pollLast d K [xr (some this)] h Q := by
  refine xCn_of px_J3_pollLast rfl rfl (Nat.le_of_ble_eq_true rfl) ?_
  show xWp G mJ3_pollLast d K Q K 0 [some (xr (some this)), none, none, none] [] h
  refine xw_aload_n dJ3_pollLast_0 rfl ?_
  obtain ⟨hcK, o1, hvK, hvc⟩ := hvc
  refine xw_get dJ3_pollLast_1 hcJ3 in_J3 (kf := 0) (by decide) q305 (fun _ _ _ _ z => z) hcK hvK ?_
  refine xw_dup dJ3_pollLast_4 rfl ?_
  refine xw_astore_n dJ3_pollLast_5 (Nat.le_of_ble_eq_true rfl) (L9 := [some (xr (some this)), some (xr o1), none, none]) rfl ?_
  refine xw_aload_n dJ3_pollLast_6 rfl ?_
  obtain ⟨hcK, n2, hvK, hvc⟩ := hvc
  refine xw_get dJ3_pollLast_7 hcJ3 in_J3 (kf := 2) (by decide) q309 (fun _ _ _ _ z => z) hcK hvK ?_
  refine xw_aload_n dJ3_pollLast_10 rfl ?_
  obtain ⟨a3, ho, hvc⟩ := hvc
  subst ho
  obtain ⟨⟨t4, ty9, hty9, hcK⟩, hvc⟩ := hvc
  refine xw_alen dJ3_pollLast_11 hty9 hcK ?_
  obtain ⟨d9, k9, hd9, hk9, hC9⟩ := hvc
  refine xw_callS dJ3_pollLast_12 px_J3_dec pm_J3_dec q2955 q2956 (As := [xi n2, xi (nI (xlen h a3))]) (rest := [xr (some a3)]) rfl rfl (Nat.le_of_ble_eq_true rfl) hd9 hk9 hC9 (xkI_n fun n7 h5 hvc => ?_) (fun q h hq => xTh_out0 rfl hq)
  refine xw_dup dJ3_pollLast_15 rfl ?_
  refine xw_istore_n dJ3_pollLast_16 (Nat.le_of_ble_eq_true rfl) (L9 := [some (xr (some this)), some (xr (some a3)), some (xi n7), none]) rfl ?_
  obtain ⟨d9, k9, hd9, hk9, hC9⟩ := hvc
  refine xw_callS dJ3_pollLast_17 px_J3_elementAt pm_J3_elementAt q951 q952 (As := [xr (some a3), xi n7]) (rest := []) rfl rfl (Nat.le_of_ble_eq_true rfl) hd9 hk9 hC9 (xkR_n fun o10 h8 hvc => ?_) (fun q h hq => xTh_out0 rfl hq)
  refine xw_astore_n dJ3_pollLast_20 (Nat.le_of_ble_eq_true rfl) (L9 := [some (xr (some this)), some (xr (some a3)), some (xi n7), some (xr o10)]) rfl ?_
  refine xw_aload_n dJ3_pollLast_21 rfl ?_
  refine xw_ifnull 34 dJ3_pollLast_22 rfl (fun hc => ?_) (fun a11 hc => ?_)
  · replace hvc := hvc.2 hc
    subst hc
    refine xw_aload_n dJ3_pollLast_34 rfl ?_
    exact xw_aret dJ3_pollLast_35 rfl rfl hvc
  · replace hvc := hvc.1 _ hc
    subst hc
    refine xw_aload_n dJ3_pollLast_25 rfl ?_
    refine xw_aload_n dJ3_pollLast_26 rfl ?_
    refine xw_iload_n dJ3_pollLast_27 rfl ?_
    refine xw_dup_x1 dJ3_pollLast_28 rfl rfl ?_
    obtain ⟨hcK, hvc⟩ := hvc
    refine xw_put dJ3_pollLast_29 hcJ3 in_J3 tyJ3_ok xnmJ3 (kf := 2) (by decide) q309 (fun _ _ _ _ z => z) rfl rfl rfl hcK (Or.inl rfl) (fun h12 eh9 => ?_)
    replace hvc := hvc h12 eh9
    refine xw_null dJ3_pollLast_32 ?_
    obtain ⟨hcK, i13, hx9, hb9, hi9, hvc⟩ := hvc
    refine xw_aastN (j := 6) dJ3_pollLast_33 rfl hcK (Or.inl rfl) hx9 hb9 hi9 (fun h14 eh9 => ?_)
    replace hvc := hvc h14 eh9
    refine xw_aload_n dJ3_pollLast_34 rfl ?_
    exact xw_aret dJ3_pollLast_35 rfl rfl hvc

theorem vc_J3_dec {G : xG} {d K : Nat} {Q : xR → xH → Prop} {h : xH} {x1 : Int32} {x2 : Int32}
    (hvc : ((0 ≤ (x1 + (-1 : Int32)) → Q (.inl (some (xi (x1 + (-1 : Int32))))) h) ∧ (¬ 0 ≤ (x1 + (-1 : Int32)) → Q (.inl (some (xi (x2 - (1 : Int32))))) h))) : xCn G mJ3_dec d K [xi x1, xi x2] h Q := by
  refine xCn_of px_J3_dec rfl rfl (Nat.le_of_ble_eq_true rfl) ?_
  show xWp G mJ3_dec d K Q K 0 [some (xi x1), some (xi x2)] [] h
  refine xw_iinc (-1 : Int32) dJ3_dec_0 rfl (by decide) (Nat.le_of_ble_eq_true rfl) (L9 := [some (xi (x1 + (-1 : Int32))), some (xi x2)]) rfl ?_
  refine xw_iload_n dJ3_dec_3 rfl ?_
  refine xw_if_ge 11 dJ3_dec_4 rfl (fun hc => ?_) (fun hc => ?_)
  · replace hvc := hvc.1 hc
    refine xw_iload_n dJ3_dec_11 rfl ?_
    exact xw_iret dJ3_dec_12 rfl hvc
  · replace hvc := hvc.2 hc
    refine xw_iload_n dJ3_dec_7 rfl ?_
    refine xw_iconst (1 : Int32) dJ3_dec_8 (by decide) ?_
    refine xw_isub dJ3_dec_9 ?_
    refine xw_istore_n dJ3_dec_10 (Nat.le_of_ble_eq_true rfl) (L9 := [some (xi (x2 - (1 : Int32))), some (xi x2)]) rfl ?_
    refine xw_iload_n dJ3_dec_11 rfl ?_
    exact xw_iret dJ3_dec_12 rfl hvc

theorem vc_J3_clear {G : xG} {d K : Nat} {Q : xR → xH → Prop} {h : xH} {this : Nat}
    (hvc : xcls h this = 5 ∧ ∃ o1 : Option Nat, xval h this 0 = xr o1 ∧ xcls h this = 5 ∧ ∃ n2 : Int32, xval h this 1 = xi n2 ∧ xcls h this = 5 ∧ ∃ n3 : Int32, xval h this 2 = xi n3 ∧ xCall G d K mJ3_circularClear [xr o1, xi n2, xi n3] h (xkV (fun h4 k5 => xcls h4 this = 5 ∧ ∀ h6 : xH, h6 = xput h4 this 2 (xi (0 : Int32)) → xcls h6 this = 5 ∧ ∀ h7 : xH, h7 = xput h6 this 1 (xi (0 : Int32)) → Q (.inl none) h7) (fun q h _ => Q (.inr q) h))) : xCn G mJ3_clear d K [xr (some this)] h Q := by
  refine xCn_of px_J3_clear rfl rfl (Nat.le_of_ble_eq_true rfl) ?_
  show xWp G mJ3_clear d K Q K 0 [some (xr (some this))] [] h
  refine xw_aload_n dJ3_clear_0 rfl ?_
  obtain ⟨hcK, o1, hvK, hvc⟩ := hvc
  refine xw_get dJ3_clear_1 hcJ3 in_J3 (kf := 0) (by decide) q305 (fun _ _ _ _ z => z) hcK hvK ?_
  refine xw_aload_n dJ3_clear_4 rfl ?_
  obtain ⟨hcK, n2, hvK, hvc⟩ := hvc
  refine xw_get dJ3_clear_5 hcJ3 in_J3 (kf := 1) (by decide) q308 (fun _ _ _ _ z => z) hcK hvK ?_
  refine xw_aload_n dJ3_clear_8 rfl ?_
  obtain ⟨hcK, n3, hvK, hvc⟩ := hvc
  refine xw_get dJ3_clear_9 hcJ3 in_J3 (kf := 2) (by decide) q309 (fun _ _ _ _ z => z) hcK hvK ?_
  obtain ⟨d9, k9, hd9, hk9, hC9⟩ := hvc
  refine xw_callS dJ3_clear_12 px_J3_circularClear pm_J3_circularClear q2970 q2971 (As := [xr o1, xi n2, xi n3]) (rest := []) rfl rfl (Nat.le_of_ble_eq_true rfl) hd9 hk9 hC9 (xkV_n fun h4 hvc => ?_) (fun q h hq => xTh_out0 rfl hq)
  refine xw_aload_n dJ3_clear_15 rfl ?_
  refine xw_aload_n dJ3_clear_16 rfl ?_
  refine xw_iconst (0 : Int32) dJ3_clear_17 (by decide) ?_
  refine xw_dup_x1 dJ3_clear_18 rfl rfl ?_
  obtain ⟨hcK, hvc⟩ := hvc
  refine xw_put dJ3_clear_19 hcJ3 in_J3 tyJ3_ok xnmJ3 (kf := 2) (by decide) q309 (fun _ _ _ _ z => z) rfl rfl rfl hcK (Or.inl rfl) (fun h6 eh9 => ?_)
  replace hvc := hvc h6 eh9
  obtain ⟨hcK, hvc⟩ := hvc
  refine xw_put dJ3_clear_22 hcJ3 in_J3 tyJ3_ok xnmJ3 (kf := 1) (by decide) q308 (fun _ _ _ _ z => z) rfl rfl rfl hcK (Or.inl rfl) (fun h7 eh9 => ?_)
  replace hvc := hvc h7 eh9
  exact xw_vret dJ3_clear_25 rfl hvc

theorem vc_J3_circularClear {G : xG} {d K : Nat} {Q : xR → xH → Prop} {h : xH} {o900 : Option Nat} {x2 : Int32} {x3 : Int32}
    (hvc : ((x3 < x2 → ∃ a1, o900 = some a1 ∧ (∃ t2 ty, xty[t2]? = some ty ∧ xcls h a1 = 1000 + t2) ∧ xWp G mJ3_circularClear d K Q K 12 [some (xr (some a1)), some (xi x2), some (xi x3), some (xi (nI (xlen h a1)))] [] h) ∧ (¬ x3 < x2 → xWp G mJ3_circularClear d K Q K 12 [some (xr o900), some (xi x2), some (xi x3), some (xi x3)] [] h))) : xCn G mJ3_circularClear d K [xr o900, xi x2, xi x3] h Q := by
  refine xCn_of px_J3_circularClear rfl rfl (Nat.le_of_ble_eq_true rfl) ?_
  show xWp G mJ3_circularClear d K Q K 0 [some (xr o900), some (xi x2), some (xi x3), none] [] h
  refine xw_iload_n dJ3_circularClear_0 rfl ?_
  refine xw_iload_n dJ3_circularClear_1 rfl ?_
  refine xw_icmp_gt 9 dJ3_circularClear_2 rfl (fun hc => ?_) (fun hc => ?_)
  · replace hvc := hvc.1 hc
    refine xw_aload_n dJ3_circularClear_9 rfl ?_
    obtain ⟨a1, ho, hvc⟩ := hvc
    subst ho
    obtain ⟨⟨t2, ty9, hty9, hcK⟩, hvc⟩ := hvc
    refine xw_alen dJ3_circularClear_10 hty9 hcK ?_
    refine xw_istore_n dJ3_circularClear_11 (Nat.le_of_ble_eq_true rfl) (L9 := [some (xr (some a1)), some (xi x2), some (xi x3), some (xi (nI (xlen h a1)))]) rfl ?_
    exact hvc
  · replace hvc := hvc.2 hc
    refine xw_iload_n dJ3_circularClear_5 rfl ?_
    refine xw_goto 11 dJ3_circularClear_6 rfl ?_
    refine xw_istore_n dJ3_circularClear_11 (Nat.le_of_ble_eq_true rfl) (L9 := [some (xr o900), some (xi x2), some (xi x3), some (xi x3)]) rfl ?_
    exact hvc

theorem vc_J3_circularClear_12 {G : xG} {d K k : Nat} {Q : xR → xH → Prop} {h : xH} {o900 : Option Nat} {x1 : Int32} {x2 : Int32} {x3 : Int32}
    (hvc : ((x3 ≤ x1 → ((¬ x3 = x2 → xWp G mJ3_circularClear d K Q k 12 [some (xr o900), some (xi (0 : Int32)), some (xi x2), some (xi x2)] [] h) ∧ (x3 = x2 → Q (.inl none) h))) ∧ (¬ x3 ≤ x1 → ∃ a3, o900 = some a3 ∧ xcls h a3 = 1006 ∧ ∃ i4 : Nat, x1 = nI i4 ∧ i4 < 2147483648 ∧ i4 < xlen h a3 ∧ ∀ h5 : xH, h5 = xput h a3 i4 (xr none) → xWp G mJ3_circularClear d K Q k 12 [some (xr (some a3)), some (xi (x1 + (1 : Int32))), some (xi x2), some (xi x3)] [] h5))) : xWp G mJ3_circularClear d K Q k 12 [some (xr o900), some (xi x1), some (xi x2), some (xi x3)] [] h := by
  refine xw_iload_n dJ3_circularClear_12 rfl ?_
  refine xw_iload_n dJ3_circularClear_13 rfl ?_
  refine xw_icmp_ge 27 dJ3_circularClear_14 rfl (fun hc => ?_) (fun hc => ?_)
  · replace hvc := hvc.1 hc
    refine xw_iload_n dJ3_circularClear_27 rfl ?_
    refine xw_iload_n dJ3_circularClear_28 rfl ?_
    refine xw_icmp_ne 35 dJ3_circularClear_29 rfl (fun hc => ?_) (fun hc => ?_)
    · replace hvc := hvc.1 hc
      refine xw_iconst (0 : Int32) dJ3_circularClear_35 (by decide) ?_
      refine xw_istore_n dJ3_circularClear_36 (Nat.le_of_ble_eq_true rfl) (L9 := [some (xr o900), some (xi (0 : Int32)), some (xi x2), some (xi x3)]) rfl ?_
      refine xw_iload_n dJ3_circularClear_37 rfl ?_
      refine xw_istore_n dJ3_circularClear_38 (Nat.le_of_ble_eq_true rfl) (L9 := [some (xr o900), some (xi (0 : Int32)), some (xi x2), some (xi x2)]) rfl ?_
      refine xw_goto 12 dJ3_circularClear_39 rfl ?_
      exact hvc
    · replace hvc := hvc.2 hc
      refine xw_goto 42 dJ3_circularClear_32 rfl ?_
      exact xw_vret dJ3_circularClear_42 rfl hvc
  · replace hvc := hvc.2 hc
    refine xw_aload_n dJ3_circularClear_17 rfl ?_
    refine xw_iload_n dJ3_circularClear_18 rfl ?_
    refine xw_null dJ3_circularClear_19 ?_
    obtain ⟨a3, ho, hvc⟩ := hvc
    subst ho
    obtain ⟨hcK, i4, hx9, hb9, hi9, hvc⟩ := hvc
    refine xw_aastN (j := 6) dJ3_circularClear_20 rfl hcK (Or.inl rfl) hx9 hb9 hi9 (fun h5 eh9 => ?_)
    replace hvc := hvc h5 eh9
    refine xw_iinc (1 : Int32) dJ3_circularClear_21 rfl (by decide) (Nat.le_of_ble_eq_true rfl) (L9 := [some (xr (some a3)), some (xi (x1 + (1 : Int32))), some (xi x2), some (xi x3)]) rfl ?_
    refine xw_goto 12 dJ3_circularClear_24 rfl ?_
    exact hvc

theorem vc_J6_checkIndex {G : xG} {d K : Nat} {Q : xR → xH → Prop} {h : xH} {x1 : Int32} {x2 : Int32} {o902 : Option Nat}
    (hvc : ((x1 < 0 → False) ∧ (¬ x1 < 0 → ((x1 < x2 → Q (.inl (some (xi x1))) h) ∧ (¬ x1 < x2 → False))))) : xCn G mJ6_checkIndex d K [xi x1, xi x2, xr o902] h Q := by
  refine xCn_of px_J6_checkIndex rfl rfl (Nat.le_of_ble_eq_true rfl) ?_
  show xWp G mJ6_checkIndex d K Q K 0 [some (xi x1), some (xi x2), some (xr o902)] [] h
  refine xw_iload_n dJ6_checkIndex_0 rfl ?_
  refine xw_if_lt 9 dJ6_checkIndex_1 rfl (fun hc => ?_) (fun hc => ?_)
  · replace hvc := hvc.1 hc
    refine xw_aload_n dJ6_checkIndex_9 rfl ?_
    refine xw_iload_n dJ6_checkIndex_10 rfl ?_
    refine xw_iload_n dJ6_checkIndex_11 rfl ?_
    exact hvc.elim
  · replace hvc := hvc.2 hc
    refine xw_iload_n dJ6_checkIndex_4 rfl ?_
    refine xw_iload_n dJ6_checkIndex_5 rfl ?_
    refine xw_icmp_lt 16 dJ6_checkIndex_6 rfl (fun hc => ?_) (fun hc => ?_)
    · replace hvc := hvc.1 hc
      refine xw_iload_n dJ6_checkIndex_16 rfl ?_
      exact xw_iret dJ6_checkIndex_17 rfl hvc
    · replace hvc := hvc.2 hc
      refine xw_aload_n dJ6_checkIndex_9 rfl ?_
      refine xw_iload_n dJ6_checkIndex_10 rfl ?_
      refine xw_iload_n dJ6_checkIndex_11 rfl ?_
      exact hvc.elim

theorem vc_J6_checkFromToIndex {G : xG} {d K : Nat} {Q : xR → xH → Prop} {h : xH} {x1 : Int32} {x2 : Int32} {x3 : Int32} {o903 : Option Nat}
    (hvc : ((x1 < 0 → False) ∧ (¬ x1 < 0 → ((x2 < x1 → False) ∧ (¬ x2 < x1 → ((x2 ≤ x3 → Q (.inl (some (xi x1))) h) ∧ (¬ x2 ≤ x3 → False))))))) : xCn G mJ6_checkFromToIndex d K [xi x1, xi x2, xi x3, xr o903] h Q := by
  refine xCn_of px_J6_checkFromToIndex rfl rfl (Nat.le_of_ble_eq_true rfl) ?_
  show xWp G mJ6_checkFromToIndex d K Q K 0 [some (xi x1), some (xi x2), some (xi x3), some (xr o903)] [] h
  refine xw_iload_n dJ6_checkFromToIndex_0 rfl ?_
  refine xw_if_lt 14 dJ6_checkFromToIndex_1 rfl (fun hc => ?_) (fun hc => ?_)
  · replace hvc := hvc.1 hc
    refine xw_aload_n dJ6_checkFromToIndex_14 rfl ?_
    refine xw_iload_n dJ6_checkFromToIndex_15 rfl ?_
    refine xw_iload_n dJ6_checkFromToIndex_16 rfl ?_
    refine xw_iload_n dJ6_checkFromToIndex_17 rfl ?_
    exact hvc.elim
  · replace hvc := hvc.2 hc
    refine xw_iload_n dJ6_checkFromToIndex_4 rfl ?_
    refine xw_iload_n dJ6_checkFromToIndex_5 rfl ?_
    refine xw_icmp_gt 14 dJ6_checkFromToIndex_6 rfl (fun hc => ?_) (fun hc => ?_)
    · replace hvc := hvc.1 hc
      refine xw_aload_n dJ6_checkFromToIndex_14 rfl ?_
      refine xw_iload_n dJ6_checkFromToIndex_15 rfl ?_
      refine xw_iload_n dJ6_checkFromToIndex_16 rfl ?_
      refine xw_iload_n dJ6_checkFromToIndex_17 rfl ?_
      exact hvc.elim
    · replace hvc := hvc.2 hc
      refine xw_iload_n dJ6_checkFromToIndex_9 rfl ?_
      refine xw_iload_n dJ6_checkFromToIndex_10 rfl ?_
      refine xw_icmp_le 22 dJ6_checkFromToIndex_11 rfl (fun hc => ?_) (fun hc => ?_)
      · replace hvc := hvc.1 hc
        refine xw_iload_n dJ6_checkFromToIndex_22 rfl ?_
        exact xw_iret dJ6_checkFromToIndex_23 rfl hvc
      · replace hvc := hvc.2 hc
        refine xw_aload_n dJ6_checkFromToIndex_14 rfl ?_
        refine xw_iload_n dJ6_checkFromToIndex_15 rfl ?_
        refine xw_iload_n dJ6_checkFromToIndex_16 rfl ?_
        refine xw_iload_n dJ6_checkFromToIndex_17 rfl ?_
        exact hvc.elim

theorem vc_J6_checkFromIndexSize {G : xG} {d K : Nat} {Q : xR → xH → Prop} {h : xH} {x1 : Int32} {x2 : Int32} {x3 : Int32} {o903 : Option Nat}
    (hvc : ((((x3 ||| x1) ||| x2) < 0 → False) ∧ (¬ ((x3 ||| x1) ||| x2) < 0 → ((x2 ≤ (x3 - x1) → Q (.inl (some (xi x1))) h) ∧ (¬ x2 ≤ (x3 - x1) → False))))) : xCn G mJ6_checkFromIndexSize d K [xi x1, xi x2, xi x3, xr o903] h Q := by
  refine xCn_of px_J6_checkFromIndexSize rfl rfl (Nat.le_of_ble_eq_true rfl) ?_
  show xWp G mJ6_checkFromIndexSize d K Q K 0 [some (xi x1), some (xi x2), some (xi x3), some (xr o903)] [] h
  refine xw_iload_n dJ6_checkFromIndexSize_0 rfl ?_
  refine xw_iload_n dJ6_checkFromIndexSize_1 rfl ?_
  refine xw_ior dJ6_checkFromIndexSize_2 ?_
  refine xw_iload_n dJ6_checkFromIndexSize_3 rfl ?_
  refine xw_ior dJ6_checkFromIndexSize_4 ?_
  refine xw_if_lt 15 dJ6_checkFromIndexSize_5 rfl (fun hc => ?_) (fun hc => ?_)
  · replace hvc := hvc.1 hc
    refine xw_aload_n dJ6_checkFromIndexSize_15 rfl ?_
    refine xw_iload_n dJ6_checkFromIndexSize_16 rfl ?_
    refine xw_iload_n dJ6_checkFromIndexSize_17 rfl ?_
    refine xw_iload_n dJ6_checkFromIndexSize_18 rfl ?_
    exact hvc.elim
  · replace hvc := hvc.2 hc
    refine xw_iload_n dJ6_checkFromIndexSize_8 rfl ?_
    refine xw_iload_n dJ6_checkFromIndexSize_9 rfl ?_
    refine xw_iload_n dJ6_checkFromIndexSize_10 rfl ?_
    refine xw_isub dJ6_checkFromIndexSize_11 ?_
    refine xw_icmp_le 23 dJ6_checkFromIndexSize_12 rfl (fun hc => ?_) (fun hc => ?_)
    · replace hvc := hvc.1 hc
      refine xw_iload_n dJ6_checkFromIndexSize_23 rfl ?_
      exact xw_iret dJ6_checkFromIndexSize_24 rfl hvc
    · replace hvc := hvc.2 hc
      refine xw_aload_n dJ6_checkFromIndexSize_15 rfl ?_
      refine xw_iload_n dJ6_checkFromIndexSize_16 rfl ?_
      refine xw_iload_n dJ6_checkFromIndexSize_17 rfl ?_
      refine xw_iload_n dJ6_checkFromIndexSize_18 rfl ?_
      exact hvc.elim

theorem vc_J30_init {G : xG} {d K : Nat} {Q : xR → xH → Prop} {h : xH} {this : Nat}
    (hvc : 1 ≤ d ∧ Q (.inl none) h) : xCn G mJ30_init d K [xr (some this)] h Q := by
  refine xCn_of px_J30_init rfl rfl (Nat.le_of_ble_eq_true rfl) ?_
  show xWp G mJ30_init d K Q K 0 [some (xr (some this))] [] h
  refine xw_aload_n dJ30_init_0 rfl ?_
  obtain ⟨hd9, hvc⟩ := hvc
  refine xw_objInit dJ30_init_1 q2203 q196 q197 hd9 (Nat.le_of_ble_eq_true rfl) ?_
  exact xw_vret dJ30_init_4 rfl hvc

theorem vc_J26_get {G : xG} {d K : Nat} {Q : xR → xH → Prop} {h : xH} {this : Nat} {x1 : Int32}
    (hvc : ((0 ≤ x1 → xcls h this = 24 ∧ xCall G d K mJ26_checkInvariants [xr (some this)] h (xkV (fun h1 k2 => xCall G d k2 mJ26_wordIndex [xi x1] h1 (xkI (fun n5 h3 k4 => xcls h3 this = 24 ∧ ∃ n6 : Int32, xval h3 this 1 = xi n6 ∧ ((n6 ≤ n5 → Q (.inl (some (xi (0 : Int32)))) h3) ∧ (¬ n6 ≤ n5 → xcls h3 this = 24 ∧ ∃ o7 : Option Nat, xval h3 this 0 = xr o7 ∧ ∃ a8, o7 = some a8 ∧ xcls h3 a8 = 1004 ∧ ∃ i9 : Nat, n5 = nI i9 ∧ i9 < 2147483648 ∧ i9 < xlen h3 a8 ∧ ∃ j10 : Int64, xval h3 a8 i9 = xj j10 ∧ (((lg_cmp (j10 &&& ((1 : Int64) <<< (x1.toInt64 &&& 63))) (0 : Int64)) = 0 → Q (.inl (some (xi (0 : Int32)))) h3) ∧ (¬ (lg_cmp (j10 &&& ((1 : Int64) <<< (x1.toInt64 &&& 63))) (0 : Int64)) = 0 → Q (.inl (some (xi (1 : Int32)))) h3))))) (fun q h _ => Q (.inr q) h))) (fun q h _ => Q (.inr q) h))) ∧ (¬ 0 ≤ x1 → False))) : xCn G mJ26_get d K [xr (some this), xi x1] h Q := by
  refine xCn_of px_J26_get rfl rfl (Nat.le_of_ble_eq_true rfl) ?_
  show xWp G mJ26_get d K Q K 0 [some (xr (some this)), some (xi x1), none] [] h
  refine xw_iload_n dJ26_get_0 rfl ?_
  refine xw_if_ge 31 dJ26_get_1 rfl (fun hc => ?_) (fun hc => ?_)
  · replace hvc := hvc.1 hc
    refine xw_aload_n dJ26_get_31 rfl ?_
    obtain ⟨hcK, hvc⟩ := hvc
    obtain ⟨d9, k9, hd9, hk9, hC9⟩ := hvc
    refine xw_callV dJ26_get_32 px_J26_checkInvariants pm_J26_checkInvariants q1528 q1530 qs12 hcJ26 hcK (As := []) (rest := []) rfl rfl (Nat.le_of_ble_eq_true rfl) hd9 hk9 hC9 (xkV_n fun h1 hvc => ?_) (fun q h hq => xTh_out0 rfl hq)
    refine xw_iload_n dJ26_get_35 rfl ?_
    obtain ⟨d9, k9, hd9, hk9, hC9⟩ := hvc
    refine xw_callS dJ26_get_36 px_J26_wordIndex pm_J26_wordIndex q1535 q1536 (As := [xi x1]) (rest := []) rfl rfl (Nat.le_of_ble_eq_true rfl) hd9 hk9 hC9 (xkI_n fun n5 h3 hvc => ?_) (fun q h hq => xTh_out0 rfl hq)
    refine xw_istore_n dJ26_get_39 (Nat.le_of_ble_eq_true rfl) (L9 := [some (xr (some this)), some (xi x1), some (xi n5)]) rfl ?_
    refine xw_iload_n dJ26_get_40 rfl ?_
    refine xw_aload_n dJ26_get_41 rfl ?_
    obtain ⟨hcK, n6, hvK, hvc⟩ := hvc
    refine xw_get dJ26_get_42 hcJ26 in_J26 (kf := 1) (by decide) q1791 (fun _ _ _ _ z => z) hcK hvK ?_
    refine xw_icmp_ge 67 dJ26_get_45 rfl (fun hc => ?_) (fun hc => ?_)
    · replace hvc := hvc.1 hc
      refine xw_iconst (0 : Int32) dJ26_get_67 (by decide) ?_
      exact xw_zret dJ26_get_68 rfl rfl hvc
    · replace hvc := hvc.2 hc
      refine xw_aload_n dJ26_get_48 rfl ?_
      obtain ⟨hcK, o7, hvK, hvc⟩ := hvc
      refine xw_get dJ26_get_49 hcJ26 in_J26 (kf := 0) (by decide) q1790 (fun _ _ _ _ z => z) hcK hvK ?_
      refine xw_iload_n dJ26_get_52 rfl ?_
      obtain ⟨a8, ho, hvc⟩ := hvc
      subst ho
      obtain ⟨hcK, i9, hx9, hb9, hi9, j10, hv9, hvc⟩ := hvc
      refine xw_lald (j := 4) dJ26_get_53 rfl hcK hx9 hb9 hi9 hv9 ?_
      refine xw_lconst (1 : Int64) dJ26_get_54 (by decide) ?_
      refine xw_iload_n dJ26_get_55 rfl ?_
      refine xw_lshl dJ26_get_56 ?_
      refine xw_land dJ26_get_57 ?_
      refine xw_lconst (0 : Int64) dJ26_get_58 (by decide) ?_
      refine xw_lcmp dJ26_get_59 ?_
      refine xw_if_eq 67 dJ26_get_60 rfl (fun hc => ?_) (fun hc => ?_)
      · replace hvc := hvc.1 hc
        refine xw_iconst (0 : Int32) dJ26_get_67 (by decide) ?_
        exact xw_zret dJ26_get_68 rfl rfl hvc
      · replace hvc := hvc.2 hc
        refine xw_iconst (1 : Int32) dJ26_get_63 (by decide) ?_
        refine xw_goto 68 dJ26_get_64 rfl ?_
        exact xw_zret dJ26_get_68 rfl rfl hvc
  · replace hvc := hvc.2 hc
    exact hvc.elim

theorem vc_J26_checkInvariants {G : xG} {d K : Nat} {Q : xR → xH → Prop} {h : xH} {this : Nat}
    (hvc : ∃ n1 : Int32, G.2.1 8 = xi n1 ∧ (¬ n1 = 0 ∧ ∃ n2 : Int32, G.2.1 8 = xi n2 ∧ (¬ n2 = 0 ∧ ∃ n3 : Int32, G.2.1 8 = xi n3 ∧ (¬ n3 = 0 ∧ Q (.inl none) h)))) : xCn G mJ26_checkInvariants d K [xr (some this)] h Q := by
  refine xCn_of px_J26_checkInvariants rfl rfl (Nat.le_of_ble_eq_true rfl) ?_
  show xWp G mJ26_checkInvariants d K Q K 0 [some (xr (some this))] [] h
  obtain ⟨n1, he, hvc⟩ := hvc
  refine xw_gets (i := 8) dJ26_checkInvariants_0 rfl q1533 ?_
  rw [he]
  obtain ⟨hne, hvc⟩ := hvc
  refine xw_if_ne 37 dJ26_checkInvariants_3 rfl (fun hc => ?_) (fun hc => absurd hc hne)
  obtain ⟨n2, he, hvc⟩ := hvc
  refine xw_gets (i := 8) dJ26_checkInvariants_37 rfl q1533 ?_
  rw [he]
  obtain ⟨hne, hvc⟩ := hvc
  refine xw_if_ne 70 dJ26_checkInvariants_40 rfl (fun hc => ?_) (fun hc => absurd hc hne)
  obtain ⟨n3, he, hvc⟩ := hvc
  refine xw_gets (i := 8) dJ26_checkInvariants_70 rfl q1533 ?_
  rw [he]
  obtain ⟨hne, hvc⟩ := hvc
  refine xw_if_ne 110 dJ26_checkInvariants_73 rfl (fun hc => ?_) (fun hc => absurd hc hne)
  exact xw_vret dJ26_checkInvariants_110 rfl hvc

theorem vc_J26_wordIndex {G : xG} {d K : Nat} {Q : xR → xH → Prop} {h : xH} {x1 : Int32}
    (hvc : Q (.inl (some (xi (x1 >>> ((6 : Int32) &&& 31))))) h) : xCn G mJ26_wordIndex d K [xi x1] h Q := by
  refine xCn_of px_J26_wordIndex rfl rfl (Nat.le_of_ble_eq_true rfl) ?_
  show xWp G mJ26_wordIndex d K Q K 0 [some (xi x1)] [] h
  refine xw_iload_n dJ26_wordIndex_0 rfl ?_
  refine xw_bipush (6 : Int32) dJ26_wordIndex_1 (by decide) ?_
  refine xw_ishr dJ26_wordIndex_3 ?_
  exact xw_iret dJ26_wordIndex_4 rfl hvc

theorem vc_J26_init {G : xG} {d K : Nat} {Q : xR → xH → Prop} {h : xH} {this : Nat}
    (hvc : 1 ≤ d ∧ xcls h this = 24 ∧ ∀ h1 : xH, h1 = xput h this 1 (xi (0 : Int32)) → xcls h1 this = 24 ∧ ∀ h2 : xH, h2 = xput h1 this 2 (xi (0 : Int32)) → xcls h2 this = 24 ∧ xCall G d K mJ26_initWords [xr (some this), xi (64 : Int32)] h2 (xkV (fun h3 k4 => xcls h3 this = 24 ∧ ∀ h5 : xH, h5 = xput h3 this 2 (xi (0 : Int32)) → Q (.inl none) h5) (fun q h _ => Q (.inr q) h))) : xCn G mJ26_init d K [xr (some this)] h Q := by
  refine xCn_of px_J26_init rfl rfl (Nat.le_of_ble_eq_true rfl) ?_
  show xWp G mJ26_init d K Q K 0 [some (xr (some this))] [] h
  refine xw_aload_n dJ26_init_0 rfl ?_
  obtain ⟨hd9, hvc⟩ := hvc
  refine xw_objInit dJ26_init_1 q1785 q196 q197 hd9 (Nat.le_of_ble_eq_true rfl) ?_
  refine xw_aload_n dJ26_init_4 rfl ?_
  refine xw_iconst (0 : Int32) dJ26_init_5 (by decide) ?_
  obtain ⟨hcK, hvc⟩ := hvc
  refine xw_put dJ26_init_6 hcJ26 in_J26 tyJ26_ok xnmJ26 (kf := 1) (by decide) q1791 (fun _ _ _ _ z => z) rfl rfl rfl hcK (Or.inl rfl) (fun h1 eh9 => ?_)
  replace hvc := hvc h1 eh9
  refine xw_aload_n dJ26_init_9 rfl ?_
  refine xw_iconst (0 : Int32) dJ26_init_10 (by decide) ?_
  obtain ⟨hcK, hvc⟩ := hvc
  refine xw_put dJ26_init_11 hcJ26 in_J26 tyJ26_ok xnmJ26 (kf := 2) (by decide) q1792 (fun _ _ _ _ z => z) rfl rfl rfl hcK (Or.inl rfl) (fun h2 eh9 => ?_)
  replace hvc := hvc h2 eh9
  refine xw_aload_n dJ26_init_14 rfl ?_
  refine xw_bipush (64 : Int32) dJ26_init_15 (by decide) ?_
  obtain ⟨hcK, hvc⟩ := hvc
  obtain ⟨d9, k9, hd9, hk9, hC9⟩ := hvc
  refine xw_callV dJ26_init_17 px_J26_initWords pm_J26_initWords q1786 q1788 qs14 hcJ26 hcK (As := [xi (64 : Int32)]) (rest := []) rfl rfl (Nat.le_of_ble_eq_true rfl) hd9 hk9 hC9 (xkV_n fun h3 hvc => ?_) (fun q h hq => xTh_out0 rfl hq)
  refine xw_aload_n dJ26_init_20 rfl ?_
  refine xw_iconst (0 : Int32) dJ26_init_21 (by decide) ?_
  obtain ⟨hcK, hvc⟩ := hvc
  refine xw_put dJ26_init_22 hcJ26 in_J26 tyJ26_ok xnmJ26 (kf := 2) (by decide) q1792 (fun _ _ _ _ z => z) rfl rfl rfl hcK (Or.inl rfl) (fun h5 eh9 => ?_)
  replace hvc := hvc h5 eh9
  exact xw_vret dJ26_init_25 rfl hvc

theorem vc_J26_initWords {G : xG} {d K : Nat} {Q : xR → xH → Prop} {h : xH} {this : Nat} {x1 : Int32}
    (hvc : xCall G d K mJ26_wordIndex [xi (x1 - (1 : Int32))] h (xkI (fun n3 h1 k2 => ∃ m6 : Nat, (n3 + (1 : Int32)) = nI m6 ∧ m6 ≤ 65536 ∧ 1 + m6 ≤ k2 ∧ ∀ (h4 : xH) (a5 : Nat), a5 = xsz h1 → h4 = xnew h1 1004 m6 (fun _ => xdf FieldType.long) → xcls h4 this = 24 ∧ ∀ h7 : xH, h7 = xput h4 this 0 (xr (some a5)) → Q (.inl none) h7) (fun q h _ => Q (.inr q) h))) : xCn G mJ26_initWords d K [xr (some this), xi x1] h Q := by
  refine xCn_of px_J26_initWords rfl rfl (Nat.le_of_ble_eq_true rfl) ?_
  show xWp G mJ26_initWords d K Q K 0 [some (xr (some this)), some (xi x1)] [] h
  refine xw_aload_n dJ26_initWords_0 rfl ?_
  refine xw_iload_n dJ26_initWords_1 rfl ?_
  refine xw_iconst (1 : Int32) dJ26_initWords_2 (by decide) ?_
  refine xw_isub dJ26_initWords_3 ?_
  obtain ⟨d9, k9, hd9, hk9, hC9⟩ := hvc
  refine xw_callS dJ26_initWords_4 px_J26_wordIndex pm_J26_wordIndex q1535 q1536 (As := [xi (x1 - (1 : Int32))]) (rest := [xr (some this)]) rfl rfl (Nat.le_of_ble_eq_true rfl) hd9 hk9 hC9 (xkI_n fun n3 h1 hvc => ?_) (fun q h hq => xTh_out0 rfl hq)
  refine xw_iconst (1 : Int32) dJ26_initWords_7 (by decide) ?_
  refine xw_iadd dJ26_initWords_8 ?_
  obtain ⟨m6, hx9, hn9, hle, hvc⟩ := hvc
  refine xw_newa (j := 4) (atype := .long) dJ26_initWords_9 rfl q1800 hx9 hn9 hle (fun h4 a5 ea9 eh9 => ?_)
  replace hvc := hvc h4 a5 ea9 eh9
  obtain ⟨hcK, hvc⟩ := hvc
  refine xw_put dJ26_initWords_11 hcJ26 in_J26 tyJ26_ok xnmJ26 (kf := 0) (by decide) q1790 (fun _ _ _ _ z => z) rfl (xnar_r _ rfl _).1 (xnar_r _ rfl _).2 hcK (Or.inl rfl) (fun h7 eh9 => ?_)
  replace hvc := hvc h7 eh9
  exact xw_vret dJ26_initWords_14 rfl hvc

theorem vc_J26_set {G : xG} {d K : Nat} {Q : xR → xH → Prop} {h : xH} {this : Nat} {x1 : Int32} {x2 : Int32}
    (hvc : ((x2 = 0 → xcls h this = 24 ∧ xCall G d K mJ26_clear [xr (some this), xi x1] h (xkV (fun h1 k2 => Q (.inl none) h1) (fun q h _ => Q (.inr q) h))) ∧ (¬ x2 = 0 → xcls h this = 24 ∧ xCall G d K mJ26_set_2 [xr (some this), xi x1] h (xkV (fun h3 k4 => Q (.inl none) h3) (fun q h _ => Q (.inr q) h))))) : xCn G mJ26_set d K [xr (some this), xi x1, xi x2] h Q := by
  refine xCn_of px_J26_set rfl rfl (Nat.le_of_ble_eq_true rfl) ?_
  show xWp G mJ26_set d K Q K 0 [some (xr (some this)), some (xi x1), some (xi x2)] [] h
  refine xw_iload_n dJ26_set_0 rfl ?_
  refine xw_if_eq 12 dJ26_set_1 rfl (fun hc => ?_) (fun hc => ?_)
  · replace hvc := hvc.1 hc
    refine xw_aload_n dJ26_set_12 rfl ?_
    refine xw_iload_n dJ26_set_13 rfl ?_
    obtain ⟨hcK, hvc⟩ := hvc
    obtain ⟨d9, k9, hd9, hk9, hC9⟩ := hvc
    refine xw_callV dJ26_set_14 px_J26_clear pm_J26_clear q1826 q1827 q1828 hcJ26 hcK (As := [xi x1]) (rest := []) rfl rfl (Nat.le_of_ble_eq_true rfl) hd9 hk9 hC9 (xkV_n fun h1 hvc => ?_) (fun q h hq => xTh_out0 rfl hq)
    exact xw_vret dJ26_set_17 rfl hvc
  · replace hvc := hvc.2 hc
    refine xw_aload_n dJ26_set_4 rfl ?_
    refine xw_iload_n dJ26_set_5 rfl ?_
    obtain ⟨hcK, hvc⟩ := hvc
    obtain ⟨d9, k9, hd9, hk9, hC9⟩ := hvc
    refine xw_callV dJ26_set_6 px_J26_set_2 pm_J26_set_2 q1805 q1806 q1807 hcJ26 hcK (As := [xi x1]) (rest := []) rfl rfl (Nat.le_of_ble_eq_true rfl) hd9 hk9 hC9 (xkV_n fun h3 hvc => ?_) (fun q h hq => xTh_out0 rfl hq)
    refine xw_goto 17 dJ26_set_9 rfl ?_
    exact xw_vret dJ26_set_17 rfl hvc

theorem vc_J26_set_2 {G : xG} {d K : Nat} {Q : xR → xH → Prop} {h : xH} {this : Nat} {x1 : Int32}
    (hvc : ((0 ≤ x1 → xCall G d K mJ26_wordIndex [xi x1] h (xkI (fun n3 h1 k2 => xcls h1 this = 24 ∧ xCall G d k2 mJ26_expandTo [xr (some this), xi n3] h1 (xkV (fun h4 k5 => xcls h4 this = 24 ∧ ∃ o6 : Option Nat, xval h4 this 0 = xr o6 ∧ ∃ a7, o6 = some a7 ∧ xcls h4 a7 = 1004 ∧ ∃ i8 : Nat, n3 = nI i8 ∧ i8 < 2147483648 ∧ i8 < xlen h4 a7 ∧ ∃ j9 : Int64, xval h4 a7 i8 = xj j9 ∧ xcls h4 a7 = 1004 ∧ ∃ i10 : Nat, n3 = nI i10 ∧ i10 < 2147483648 ∧ i10 < xlen h4 a7 ∧ ∀ h11 : xH, h11 = xput h4 a7 i10 (xj (j9 ||| ((1 : Int64) <<< (x1.toInt64 &&& 63)))) → xcls h11 this = 24 ∧ xCall G d k5 mJ26_checkInvariants [xr (some this)] h11 (xkV (fun h12 k13 => Q (.inl none) h12) (fun q h _ => Q (.inr q) h))) (fun q h _ => Q (.inr q) h))) (fun q h _ => Q (.inr q) h))) ∧ (¬ 0 ≤ x1 → False))) : xCn G mJ26_set_2 d K [xr (some this), xi x1] h Q := by
  refine xCn_of px_J26_set_2 rfl rfl (Nat.le_of_ble_eq_true rfl) ?_
  show xWp G mJ26_set_2 d K Q K 0 [some (xr (some this)), some (xi x1), none] [] h
  refine xw_iload_n dJ26_set_2_0 rfl ?_
  refine xw_if_ge 31 dJ26_set_2_1 rfl (fun hc => ?_) (fun hc => ?_)
  · replace hvc := hvc.1 hc
    refine xw_iload_n dJ26_set_2_31 rfl ?_
    obtain ⟨d9, k9, hd9, hk9, hC9⟩ := hvc
    refine xw_callS dJ26_set_2_32 px_J26_wordIndex pm_J26_wordIndex q1535 q1536 (As := [xi x1]) (rest := []) rfl rfl (Nat.le_of_ble_eq_true rfl) hd9 hk9 hC9 (xkI_n fun n3 h1 hvc => ?_) (fun q h hq => xTh_out0 rfl hq)
    refine xw_istore_n dJ26_set_2_35 (Nat.le_of_ble_eq_true rfl) (L9 := [some (xr (some this)), some (xi x1), some (xi n3)]) rfl ?_
    refine xw_aload_n dJ26_set_2_36 rfl ?_
    refine xw_iload_n dJ26_set_2_37 rfl ?_
    obtain ⟨hcK, hvc⟩ := hvc
    obtain ⟨d9, k9, hd9, hk9, hC9⟩ := hvc
    refine xw_callV dJ26_set_2_38 px_J26_expandTo pm_J26_expandTo q1809 q1811 qs15 hcJ26 hcK (As := [xi n3]) (rest := []) rfl rfl (Nat.le_of_ble_eq_true rfl) hd9 hk9 hC9 (xkV_n fun h4 hvc => ?_) (fun q h hq => xTh_out0 rfl hq)
    refine xw_aload_n dJ26_set_2_41 rfl ?_
    obtain ⟨hcK, o6, hvK, hvc⟩ := hvc
    refine xw_get dJ26_set_2_42 hcJ26 in_J26 (kf := 0) (by decide) q1790 (fun _ _ _ _ z => z) hcK hvK ?_
    refine xw_iload_n dJ26_set_2_45 rfl ?_
    refine xw_dup2 dJ26_set_2_46 rfl rfl ?_
    obtain ⟨a7, ho, hvc⟩ := hvc
    subst ho
    obtain ⟨hcK, i8, hx9, hb9, hi9, j9, hv9, hvc⟩ := hvc
    refine xw_lald (j := 4) dJ26_set_2_47 rfl hcK hx9 hb9 hi9 hv9 ?_
    refine xw_lconst (1 : Int64) dJ26_set_2_48 (by decide) ?_
    refine xw_iload_n dJ26_set_2_49 rfl ?_
    refine xw_lshl dJ26_set_2_50 ?_
    refine xw_lor dJ26_set_2_51 ?_
    obtain ⟨hcK, i10, hx9, hb9, hi9, hvc⟩ := hvc
    refine xw_last (j := 4) dJ26_set_2_52 rfl hcK (Or.inl rfl) hx9 hb9 hi9 (fun h11 eh9 => ?_)
    replace hvc := hvc h11 eh9
    refine xw_aload_n dJ26_set_2_53 rfl ?_
    obtain ⟨hcK, hvc⟩ := hvc
    obtain ⟨d9, k9, hd9, hk9, hC9⟩ := hvc
    refine xw_callV dJ26_set_2_54 px_J26_checkInvariants pm_J26_checkInvariants q1528 q1530 qs12 hcJ26 hcK (As := []) (rest := []) rfl rfl (Nat.le_of_ble_eq_true rfl) hd9 hk9 hC9 (xkV_n fun h12 hvc => ?_) (fun q h hq => xTh_out0 rfl hq)
    exact xw_vret dJ26_set_2_57 rfl hvc
  · replace hvc := hvc.2 hc
    exact hvc.elim

theorem vc_J26_expandTo {G : xG} {d K : Nat} {Q : xR → xH → Prop} {h : xH} {this : Nat} {x1 : Int32}
    (hvc : xcls h this = 24 ∧ ∃ n1 : Int32, xval h this 1 = xi n1 ∧ (((x1 + (1 : Int32)) ≤ n1 → Q (.inl none) h) ∧ (¬ (x1 + (1 : Int32)) ≤ n1 → xcls h this = 24 ∧ xCall G d K mJ26_ensureCapacity [xr (some this), xi (x1 + (1 : Int32))] h (xkV (fun h2 k3 => xcls h2 this = 24 ∧ ∀ h4 : xH, h4 = xput h2 this 1 (xi (x1 + (1 : Int32))) → Q (.inl none) h4) (fun q h _ => Q (.inr q) h))))) : xCn G mJ26_expandTo d K [xr (some this), xi x1] h Q := by
  refine xCn_of px_J26_expandTo rfl rfl (Nat.le_of_ble_eq_true rfl) ?_
  show xWp G mJ26_expandTo d K Q K 0 [some (xr (some this)), some (xi x1), none] [] h
  refine xw_iload_n dJ26_expandTo_0 rfl ?_
  refine xw_iconst (1 : Int32) dJ26_expandTo_1 (by decide) ?_
  refine xw_iadd dJ26_expandTo_2 ?_
  refine xw_istore_n dJ26_expandTo_3 (Nat.le_of_ble_eq_true rfl) (L9 := [some (xr (some this)), some (xi x1), some (xi (x1 + (1 : Int32)))]) rfl ?_
  refine xw_aload_n dJ26_expandTo_4 rfl ?_
  obtain ⟨hcK, n1, hvK, hvc⟩ := hvc
  refine xw_get dJ26_expandTo_5 hcJ26 in_J26 (kf := 1) (by decide) q1791 (fun _ _ _ _ z => z) hcK hvK ?_
  refine xw_iload_n dJ26_expandTo_8 rfl ?_
  refine xw_icmp_ge 22 dJ26_expandTo_9 rfl (fun hc => ?_) (fun hc => ?_)
  · replace hvc := hvc.1 hc
    exact xw_vret dJ26_expandTo_22 rfl hvc
  · replace hvc := hvc.2 hc
    refine xw_aload_n dJ26_expandTo_12 rfl ?_
    refine xw_iload_n dJ26_expandTo_13 rfl ?_
    obtain ⟨hcK, hvc⟩ := hvc
    obtain ⟨d9, k9, hd9, hk9, hC9⟩ := hvc
    refine xw_callV dJ26_expandTo_14 px_J26_ensureCapacity pm_J26_ensureCapacity q1813 q1815 qs16 hcJ26 hcK (As := [xi (x1 + (1 : Int32))]) (rest := []) rfl rfl (Nat.le_of_ble_eq_true rfl) hd9 hk9 hC9 (xkV_n fun h2 hvc => ?_) (fun q h hq => xTh_out0 rfl hq)
    refine xw_aload_n dJ26_expandTo_17 rfl ?_
    refine xw_iload_n dJ26_expandTo_18 rfl ?_
    obtain ⟨hcK, hvc⟩ := hvc
    refine xw_put dJ26_expandTo_19 hcJ26 in_J26 tyJ26_ok xnmJ26 (kf := 1) (by decide) q1791 (fun _ _ _ _ z => z) rfl rfl rfl hcK (Or.inl rfl) (fun h4 eh9 => ?_)
    replace hvc := hvc h4 eh9
    exact xw_vret dJ26_expandTo_22 rfl hvc

theorem vc_J26_ensureCapacity {G : xG} {d K : Nat} {Q : xR → xH → Prop} {h : xH} {this : Nat} {x1 : Int32}
    (hvc : xcls h this = 24 ∧ ∃ o1 : Option Nat, xval h this 0 = xr o1 ∧ ∃ a2, o1 = some a2 ∧ (∃ t3 ty, xty[t3]? = some ty ∧ xcls h a2 = 1000 + t3) ∧ ((x1 ≤ (nI (xlen h a2)) → Q (.inl none) h) ∧ (¬ x1 ≤ (nI (xlen h a2)) → xcls h this = 24 ∧ ∃ o4 : Option Nat, xval h this 0 = xr o4 ∧ ∃ a5, o4 = some a5 ∧ (∃ t6 ty, xty[t6]? = some ty ∧ xcls h a5 = 1000 + t6) ∧ 1 ≤ d ∧ ∀ n7 : Int32, n7 = (if ((2 : Int32) * (nI (xlen h a5))) < x1 then x1 else ((2 : Int32) * (nI (xlen h a5)))) → xcls h this = 24 ∧ ∃ o8 : Option Nat, xval h this 0 = xr o8 ∧ xCall G d K mJ17_copyOf_4 [xr o8, xi n7] h (xkR (fun o11 h9 k10 => xcls h9 this = 24 ∧ ∀ h12 : xH, h12 = xput h9 this 0 (xr o11) → xcls h12 this = 24 ∧ ∀ h13 : xH, h13 = xput h12 this 2 (xi (0 : Int32)) → Q (.inl none) h13) (fun q h _ => Q (.inr q) h))))) : xCn G mJ26_ensureCapacity d K [xr (some this), xi x1] h Q := by
  refine xCn_of px_J26_ensureCapacity rfl rfl (Nat.le_of_ble_eq_true rfl) ?_
  show xWp G mJ26_ensureCapacity d K Q K 0 [some (xr (some this)), some (xi x1), none] [] h
  refine xw_aload_n dJ26_ensureCapacity_0 rfl ?_
  obtain ⟨hcK, o1, hvK, hvc⟩ := hvc
  refine xw_get dJ26_ensureCapacity_1 hcJ26 in_J26 (kf := 0) (by decide) q1790 (fun _ _ _ _ z => z) hcK hvK ?_
  obtain ⟨a2, ho, hvc⟩ := hvc
  subst ho
  obtain ⟨⟨t3, ty9, hty9, hcK⟩, hvc⟩ := hvc
  refine xw_alen dJ26_ensureCapacity_4 hty9 hcK ?_
  refine xw_iload_n dJ26_ensureCapacity_5 rfl ?_
  refine xw_icmp_ge 38 dJ26_ensureCapacity_6 rfl (fun hc => ?_) (fun hc => ?_)
  · replace hvc := hvc.1 hc
    exact xw_vret dJ26_ensureCapacity_38 rfl hvc
  · replace hvc := hvc.2 hc
    refine xw_iconst (2 : Int32) dJ26_ensureCapacity_9 (by decide) ?_
    refine xw_aload_n dJ26_ensureCapacity_10 rfl ?_
    obtain ⟨hcK, o4, hvK, hvc⟩ := hvc
    refine xw_get dJ26_ensureCapacity_11 hcJ26 in_J26 (kf := 0) (by decide) q1790 (fun _ _ _ _ z => z) hcK hvK ?_
    obtain ⟨a5, ho, hvc⟩ := hvc
    subst ho
    obtain ⟨⟨t6, ty9, hty9, hcK⟩, hvc⟩ := hvc
    refine xw_alen dJ26_ensureCapacity_14 hty9 hcK ?_
    refine xw_imul dJ26_ensureCapacity_15 ?_
    refine xw_iload_n dJ26_ensureCapacity_16 rfl ?_
    obtain ⟨hd9, hvc⟩ := hvc
    refine xw_mmax dJ26_ensureCapacity_17 q1817 q731 q132 q732 hd9 (Nat.le_of_ble_eq_true rfl) ?_
    obtain ⟨n7, he9⟩ : ∃ z, z = (if ((2 : Int32) * (nI (xlen h a5))) < x1 then x1 else ((2 : Int32) * (nI (xlen h a5)))) := ⟨_, rfl⟩
    rw [← he9]
    replace hvc := hvc n7 he9
    refine xw_istore_n dJ26_ensureCapacity_20 (Nat.le_of_ble_eq_true rfl) (L9 := [some (xr (some this)), some (xi x1), some (xi n7)]) rfl ?_
    refine xw_aload_n dJ26_ensureCapacity_21 rfl ?_
    refine xw_aload_n dJ26_ensureCapacity_22 rfl ?_
    obtain ⟨hcK, o8, hvK, hvc⟩ := hvc
    refine xw_get dJ26_ensureCapacity_23 hcJ26 in_J26 (kf := 0) (by decide) q1790 (fun _ _ _ _ z => z) hcK hvK ?_
    refine xw_iload_n dJ26_ensureCapacity_26 rfl ?_
    obtain ⟨d9, k9, hd9, hk9, hC9⟩ := hvc
    refine xw_callS dJ26_ensureCapacity_27 px_J17_copyOf_4 pm_J17_copyOf_4 q1818 q1819 (As := [xr o8, xi n7]) (rest := [xr (some this)]) rfl rfl (Nat.le_of_ble_eq_true rfl) hd9 hk9 hC9 (xkR_n fun o11 h9 hvc => ?_) (fun q h hq => xTh_out0 rfl hq)
    obtain ⟨hcK, hvc⟩ := hvc
    refine xw_put dJ26_ensureCapacity_30 hcJ26 in_J26 tyJ26_ok xnmJ26 (kf := 0) (by decide) q1790 (fun _ _ _ _ z => z) rfl (xnar_r _ rfl _).1 (xnar_r _ rfl _).2 hcK (Or.inl rfl) (fun h12 eh9 => ?_)
    replace hvc := hvc h12 eh9
    refine xw_aload_n dJ26_ensureCapacity_33 rfl ?_
    refine xw_iconst (0 : Int32) dJ26_ensureCapacity_34 (by decide) ?_
    obtain ⟨hcK, hvc⟩ := hvc
    refine xw_put dJ26_ensureCapacity_35 hcJ26 in_J26 tyJ26_ok xnmJ26 (kf := 2) (by decide) q1792 (fun _ _ _ _ z => z) rfl rfl rfl hcK (Or.inl rfl) (fun h13 eh9 => ?_)
    replace hvc := hvc h13 eh9
    exact xw_vret dJ26_ensureCapacity_38 rfl hvc

theorem vc_J26_clear {G : xG} {d K : Nat} {Q : xR → xH → Prop} {h : xH} {this : Nat} {x1 : Int32}
    (hvc : ((0 ≤ x1 → xCall G d K mJ26_wordIndex [xi x1] h (xkI (fun n3 h1 k2 => xcls h1 this = 24 ∧ ∃ n4 : Int32, xval h1 this 1 = xi n4 ∧ ((n3 < n4 → xcls h1 this = 24 ∧ ∃ o5 : Option Nat, xval h1 this 0 = xr o5 ∧ ∃ a6, o5 = some a6 ∧ xcls h1 a6 = 1004 ∧ ∃ i7 : Nat, n3 = nI i7 ∧ i7 < 2147483648 ∧ i7 < xlen h1 a6 ∧ ∃ j8 : Int64, xval h1 a6 i7 = xj j8 ∧ xcls h1 a6 = 1004 ∧ ∃ i9 : Nat, n3 = nI i9 ∧ i9 < 2147483648 ∧ i9 < xlen h1 a6 ∧ ∀ h10 : xH, h10 = xput h1 a6 i9 (xj (j8 &&& (((1 : Int64) <<< (x1.toInt64 &&& 63)) ^^^ (-1 : Int64)))) → xcls h10 this = 24 ∧ xCall G d k2 mJ26_recalculateWordsInUse [xr (some this)] h10 (xkV (fun h11 k12 => xcls h11 this = 24 ∧ xCall G d k12 mJ26_checkInvariants [xr (some this)] h11 (xkV (fun h13 k14 => Q (.inl none) h13) (fun q h _ => Q (.inr q) h))) (fun q h _ => Q (.inr q) h))) ∧ (¬ n3 < n4 → Q (.inl none) h1))) (fun q h _ => Q (.inr q) h))) ∧ (¬ 0 ≤ x1 → False))) : xCn G mJ26_clear d K [xr (some this), xi x1] h Q := by
  refine xCn_of px_J26_clear rfl rfl (Nat.le_of_ble_eq_true rfl) ?_
  show xWp G mJ26_clear d K Q K 0 [some (xr (some this)), some (xi x1), none] [] h
  refine xw_iload_n dJ26_clear_0 rfl ?_
  refine xw_if_ge 31 dJ26_clear_1 rfl (fun hc => ?_) (fun hc => ?_)
  · replace hvc := hvc.1 hc
    refine xw_iload_n dJ26_clear_31 rfl ?_
    obtain ⟨d9, k9, hd9, hk9, hC9⟩ := hvc
    refine xw_callS dJ26_clear_32 px_J26_wordIndex pm_J26_wordIndex q1535 q1536 (As := [xi x1]) (rest := []) rfl rfl (Nat.le_of_ble_eq_true rfl) hd9 hk9 hC9 (xkI_n fun n3 h1 hvc => ?_) (fun q h hq => xTh_out0 rfl hq)
    refine xw_istore_n dJ26_clear_35 (Nat.le_of_ble_eq_true rfl) (L9 := [some (xr (some this)), some (xi x1), some (xi n3)]) rfl ?_
    refine xw_iload_n dJ26_clear_36 rfl ?_
    refine xw_aload_n dJ26_clear_37 rfl ?_
    obtain ⟨hcK, n4, hvK, hvc⟩ := hvc
    refine xw_get dJ26_clear_38 hcJ26 in_J26 (kf := 1) (by decide) q1791 (fun _ _ _ _ z => z) hcK hvK ?_
    refine xw_icmp_lt 45 dJ26_clear_41 rfl (fun hc => ?_) (fun hc => ?_)
    · replace hvc := hvc.1 hc
      refine xw_aload_n dJ26_clear_45 rfl ?_
      obtain ⟨hcK, o5, hvK, hvc⟩ := hvc
      refine xw_get dJ26_clear_46 hcJ26 in_J26 (kf := 0) (by decide) q1790 (fun _ _ _ _ z => z) hcK hvK ?_
      refine xw_iload_n dJ26_clear_49 rfl ?_
      refine xw_dup2 dJ26_clear_50 rfl rfl ?_
      obtain ⟨a6, ho, hvc⟩ := hvc
      subst ho
      obtain ⟨hcK, i7, hx9, hb9, hi9, j8, hv9, hvc⟩ := hvc
      refine xw_lald (j := 4) dJ26_clear_51 rfl hcK hx9 hb9 hi9 hv9 ?_
      refine xw_lconst (1 : Int64) dJ26_clear_52 (by decide) ?_
      refine xw_iload_n dJ26_clear_53 rfl ?_
      refine xw_lshl dJ26_clear_54 ?_
      refine xw_ldc2 dJ26_clear_55 q1830 ?_
      refine xw_lxor dJ26_clear_58 ?_
      refine xw_land dJ26_clear_59 ?_
      obtain ⟨hcK, i9, hx9, hb9, hi9, hvc⟩ := hvc
      refine xw_last (j := 4) dJ26_clear_60 rfl hcK (Or.inl rfl) hx9 hb9 hi9 (fun h10 eh9 => ?_)
      replace hvc := hvc h10 eh9
      refine xw_aload_n dJ26_clear_61 rfl ?_
      obtain ⟨hcK, hvc⟩ := hvc
      obtain ⟨d9, k9, hd9, hk9, hC9⟩ := hvc
      refine xw_callV dJ26_clear_62 px_J26_recalculateWordsInUse pm_J26_recalculateWordsInUse q1831 q1833 qs17 hcJ26 hcK (As := []) (rest := []) rfl rfl (Nat.le_of_ble_eq_true rfl) hd9 hk9 hC9 (xkV_n fun h11 hvc => ?_) (fun q h hq => xTh_out0 rfl hq)
      refine xw_aload_n dJ26_clear_65 rfl ?_
      obtain ⟨hcK, hvc⟩ := hvc
      obtain ⟨d9, k9, hd9, hk9, hC9⟩ := hvc
      refine xw_callV dJ26_clear_66 px_J26_checkInvariants pm_J26_checkInvariants q1528 q1530 qs12 hcJ26 hcK (As := []) (rest := []) rfl rfl (Nat.le_of_ble_eq_true rfl) hd9 hk9 hC9 (xkV_n fun h13 hvc => ?_) (fun q h hq => xTh_out0 rfl hq)
      exact xw_vret dJ26_clear_69 rfl hvc
    · replace hvc := hvc.2 hc
      exact xw_vret dJ26_clear_44 rfl hvc
  · replace hvc := hvc.2 hc
    exact hvc.elim

theorem vc_J26_recalculateWordsInUse {G : xG} {d K : Nat} {Q : xR → xH → Prop} {h : xH} {this : Nat}
    (hvc : xcls h this = 24 ∧ ∃ n1 : Int32, xval h this 1 = xi n1 ∧ xWp G mJ26_recalculateWordsInUse d K Q K 7 [some (xr (some this)), some (xi (n1 - (1 : Int32)))] [] h) : xCn G mJ26_recalculateWordsInUse d K [xr (some this)] h Q := by
  refine xCn_of px_J26_recalculateWordsInUse rfl rfl (Nat.le_of_ble_eq_true rfl) ?_
  show xWp G mJ26_recalculateWordsInUse d K Q K 0 [some (xr (some this)), none] [] h
  refine xw_aload_n dJ26_recalculateWordsInUse_0 rfl ?_
  obtain ⟨hcK, n1, hvK, hvc⟩ := hvc
  refine xw_get dJ26_recalculateWordsInUse_1 hcJ26 in_J26 (kf := 1) (by decide) q1791 (fun _ _ _ _ z => z) hcK hvK ?_
  refine xw_iconst (1 : Int32) dJ26_recalculateWordsInUse_4 (by decide) ?_
  refine xw_isub dJ26_recalculateWordsInUse_5 ?_
  refine xw_istore_n dJ26_recalculateWordsInUse_6 (Nat.le_of_ble_eq_true rfl) (L9 := [some (xr (some this)), some (xi (n1 - (1 : Int32)))]) rfl ?_
  exact hvc

theorem vc_J26_recalculateWordsInUse_7 {G : xG} {d K k : Nat} {Q : xR → xH → Prop} {h : xH} {this : Nat} {x1 : Int32}
    (hvc : ((x1 < 0 → xcls h this = 24 ∧ ∀ h2 : xH, h2 = xput h this 1 (xi (x1 + (1 : Int32))) → Q (.inl none) h2) ∧ (¬ x1 < 0 → xcls h this = 24 ∧ ∃ o3 : Option Nat, xval h this 0 = xr o3 ∧ ∃ a4, o3 = some a4 ∧ xcls h a4 = 1004 ∧ ∃ i5 : Nat, x1 = nI i5 ∧ i5 < 2147483648 ∧ i5 < xlen h a4 ∧ ∃ j6 : Int64, xval h a4 i5 = xj j6 ∧ (((lg_cmp j6 (0 : Int64)) = 0 → xWp G mJ26_recalculateWordsInUse d K Q k 7 [some (xr (some this)), some (xi (x1 + (-1 : Int32)))] [] h) ∧ (¬ (lg_cmp j6 (0 : Int64)) = 0 → xcls h this = 24 ∧ ∀ h7 : xH, h7 = xput h this 1 (xi (x1 + (1 : Int32))) → Q (.inl none) h7))))) : xWp G mJ26_recalculateWordsInUse d K Q k 7 [some (xr (some this)), some (xi x1)] [] h := by
  refine xw_iload_n dJ26_recalculateWordsInUse_7 rfl ?_
  refine xw_if_lt 31 dJ26_recalculateWordsInUse_8 rfl (fun hc => ?_) (fun hc => ?_)
  · replace hvc := hvc.1 hc
    refine xw_aload_n dJ26_recalculateWordsInUse_31 rfl ?_
    refine xw_iload_n dJ26_recalculateWordsInUse_32 rfl ?_
    refine xw_iconst (1 : Int32) dJ26_recalculateWordsInUse_33 (by decide) ?_
    refine xw_iadd dJ26_recalculateWordsInUse_34 ?_
    obtain ⟨hcK, hvc⟩ := hvc
    refine xw_put dJ26_recalculateWordsInUse_35 hcJ26 in_J26 tyJ26_ok xnmJ26 (kf := 1) (by decide) q1791 (fun _ _ _ _ z => z) rfl rfl rfl hcK (Or.inl rfl) (fun h2 eh9 => ?_)
    replace hvc := hvc h2 eh9
    exact xw_vret dJ26_recalculateWordsInUse_38 rfl hvc
  · replace hvc := hvc.2 hc
    refine xw_aload_n dJ26_recalculateWordsInUse_11 rfl ?_
    obtain ⟨hcK, o3, hvK, hvc⟩ := hvc
    refine xw_get dJ26_recalculateWordsInUse_12 hcJ26 in_J26 (kf := 0) (by decide) q1790 (fun _ _ _ _ z => z) hcK hvK ?_
    refine xw_iload_n dJ26_recalculateWordsInUse_15 rfl ?_
    obtain ⟨a4, ho, hvc⟩ := hvc
    subst ho
    obtain ⟨hcK, i5, hx9, hb9, hi9, j6, hv9, hvc⟩ := hvc
    refine xw_lald (j := 4) dJ26_recalculateWordsInUse_16 rfl hcK hx9 hb9 hi9 hv9 ?_
    refine xw_lconst (0 : Int64) dJ26_recalculateWordsInUse_17 (by decide) ?_
    refine xw_lcmp dJ26_recalculateWordsInUse_18 ?_
    refine xw_if_eq 25 dJ26_recalculateWordsInUse_19 rfl (fun hc => ?_) (fun hc => ?_)
    · replace hvc := hvc.1 hc
      refine xw_iinc (-1 : Int32) dJ26_recalculateWordsInUse_25 rfl (by decide) (Nat.le_of_ble_eq_true rfl) (L9 := [some (xr (some this)), some (xi (x1 + (-1 : Int32)))]) rfl ?_
      refine xw_goto 7 dJ26_recalculateWordsInUse_28 rfl ?_
      exact hvc
    · replace hvc := hvc.2 hc
      refine xw_goto 31 dJ26_recalculateWordsInUse_22 rfl ?_
      refine xw_aload_n dJ26_recalculateWordsInUse_31 rfl ?_
      refine xw_iload_n dJ26_recalculateWordsInUse_32 rfl ?_
      refine xw_iconst (1 : Int32) dJ26_recalculateWordsInUse_33 (by decide) ?_
      refine xw_iadd dJ26_recalculateWordsInUse_34 ?_
      obtain ⟨hcK, hvc⟩ := hvc
      refine xw_put dJ26_recalculateWordsInUse_35 hcJ26 in_J26 tyJ26_ok xnmJ26 (kf := 1) (by decide) q1791 (fun _ _ _ _ z => z) rfl rfl rfl hcK (Or.inl rfl) (fun h7 eh9 => ?_)
      replace hvc := hvc h7 eh9
      exact xw_vret dJ26_recalculateWordsInUse_38 rfl hvc

theorem vc_J26_cardinality {G : xG} {d K : Nat} {Q : xR → xH → Prop} {h : xH} {this : Nat}
    (hvc : xWp G mJ26_cardinality d K Q K 4 [some (xr (some this)), some (xi (0 : Int32)), some (xi (0 : Int32))] [] h) : xCn G mJ26_cardinality d K [xr (some this)] h Q := by
  refine xCn_of px_J26_cardinality rfl rfl (Nat.le_of_ble_eq_true rfl) ?_
  show xWp G mJ26_cardinality d K Q K 0 [some (xr (some this)), none, none] [] h
  refine xw_iconst (0 : Int32) dJ26_cardinality_0 (by decide) ?_
  refine xw_istore_n dJ26_cardinality_1 (Nat.le_of_ble_eq_true rfl) (L9 := [some (xr (some this)), some (xi (0 : Int32)), none]) rfl ?_
  refine xw_iconst (0 : Int32) dJ26_cardinality_2 (by decide) ?_
  refine xw_istore_n dJ26_cardinality_3 (Nat.le_of_ble_eq_true rfl) (L9 := [some (xr (some this)), some (xi (0 : Int32)), some (xi (0 : Int32))]) rfl ?_
  exact hvc

theorem vc_J26_cardinality_4 {G : xG} {d K k : Nat} {Q : xR → xH → Prop} {h : xH} {this : Nat} {x1 : Int32} {x2 : Int32}
    (hvc : xcls h this = 24 ∧ ∃ n1 : Int32, xval h this 1 = xi n1 ∧ ((n1 ≤ x2 → Q (.inl (some (xi x1))) h) ∧ (¬ n1 ≤ x2 → xcls h this = 24 ∧ ∃ o2 : Option Nat, xval h this 0 = xr o2 ∧ ∃ a3, o2 = some a3 ∧ xcls h a3 = 1004 ∧ ∃ i4 : Nat, x2 = nI i4 ∧ i4 < 2147483648 ∧ i4 < xlen h a3 ∧ ∃ j5 : Int64, xval h a3 i4 = xj j5 ∧ xCall G d k mJ28_bitCount [xj j5] h (xkI (fun n8 h6 k7 => xWp G mJ26_cardinality d K Q k7 4 [some (xr (some this)), some (xi (x1 + n8)), some (xi (x2 + (1 : Int32)))] [] h6) (fun q h _ => Q (.inr q) h))))) : xWp G mJ26_cardinality d K Q k 4 [some (xr (some this)), some (xi x1), some (xi x2)] [] h := by
  refine xw_iload_n dJ26_cardinality_4 rfl ?_
  refine xw_aload_n dJ26_cardinality_5 rfl ?_
  obtain ⟨hcK, n1, hvK, hvc⟩ := hvc
  refine xw_get dJ26_cardinality_6 hcJ26 in_J26 (kf := 1) (by decide) q1791 (fun _ _ _ _ z => z) hcK hvK ?_
  refine xw_icmp_ge 30 dJ26_cardinality_9 rfl (fun hc => ?_) (fun hc => ?_)
  · replace hvc := hvc.1 hc
    refine xw_iload_n dJ26_cardinality_30 rfl ?_
    exact xw_iret dJ26_cardinality_31 rfl hvc
  · replace hvc := hvc.2 hc
    refine xw_iload_n dJ26_cardinality_12 rfl ?_
    refine xw_aload_n dJ26_cardinality_13 rfl ?_
    obtain ⟨hcK, o2, hvK, hvc⟩ := hvc
    refine xw_get dJ26_cardinality_14 hcJ26 in_J26 (kf := 0) (by decide) q1790 (fun _ _ _ _ z => z) hcK hvK ?_
    refine xw_iload_n dJ26_cardinality_17 rfl ?_
    obtain ⟨a3, ho, hvc⟩ := hvc
    subst ho
    obtain ⟨hcK, i4, hx9, hb9, hi9, j5, hv9, hvc⟩ := hvc
    refine xw_lald (j := 4) dJ26_cardinality_18 rfl hcK hx9 hb9 hi9 hv9 ?_
    obtain ⟨d9, k9, hd9, hk9, hC9⟩ := hvc
    refine xw_callS dJ26_cardinality_19 px_J28_bitCount pm_J28_bitCount q1839 q1840 (As := [xj j5]) (rest := [xi x1]) rfl rfl (Nat.le_of_ble_eq_true rfl) hd9 hk9 hC9 (xkI_n fun n8 h6 hvc => ?_) (fun q h hq => xTh_out0 rfl hq)
    refine xw_iadd dJ26_cardinality_22 ?_
    refine xw_istore_n dJ26_cardinality_23 (Nat.le_of_ble_eq_true rfl) (L9 := [some (xr (some this)), some (xi (x1 + n8)), some (xi x2)]) rfl ?_
    refine xw_iinc (1 : Int32) dJ26_cardinality_24 rfl (by decide) (Nat.le_of_ble_eq_true rfl) (L9 := [some (xr (some this)), some (xi (x1 + n8)), some (xi (x2 + (1 : Int32)))]) rfl ?_
    refine xw_goto 4 dJ26_cardinality_27 rfl ?_
    exact hvc

theorem vc_J26_isEmpty {G : xG} {d K : Nat} {Q : xR → xH → Prop} {h : xH} {this : Nat}
    (hvc : xcls h this = 24 ∧ ∃ n1 : Int32, xval h this 1 = xi n1 ∧ ((¬ n1 = 0 → Q (.inl (some (xi (0 : Int32)))) h) ∧ (n1 = 0 → Q (.inl (some (xi (1 : Int32)))) h))) : xCn G mJ26_isEmpty d K [xr (some this)] h Q := by
  refine xCn_of px_J26_isEmpty rfl rfl (Nat.le_of_ble_eq_true rfl) ?_
  show xWp G mJ26_isEmpty d K Q K 0 [some (xr (some this))] [] h
  refine xw_aload_n dJ26_isEmpty_0 rfl ?_
  obtain ⟨hcK, n1, hvK, hvc⟩ := hvc
  refine xw_get dJ26_isEmpty_1 hcJ26 in_J26 (kf := 1) (by decide) q1791 (fun _ _ _ _ z => z) hcK hvK ?_
  refine xw_if_ne 11 dJ26_isEmpty_4 rfl (fun hc => ?_) (fun hc => ?_)
  · replace hvc := hvc.1 hc
    refine xw_iconst (0 : Int32) dJ26_isEmpty_11 (by decide) ?_
    exact xw_zret dJ26_isEmpty_12 rfl rfl hvc
  · replace hvc := hvc.2 hc
    refine xw_iconst (1 : Int32) dJ26_isEmpty_7 (by decide) ?_
    refine xw_goto 12 dJ26_isEmpty_8 rfl ?_
    exact xw_zret dJ26_isEmpty_12 rfl rfl hvc

theorem vc_J26_nextSetBit {G : xG} {d K : Nat} {Q : xR → xH → Prop} {h : xH} {this : Nat} {x1 : Int32}
    (hvc : ((0 ≤ x1 → xcls h this = 24 ∧ xCall G d K mJ26_checkInvariants [xr (some this)] h (xkV (fun h1 k2 => xCall G d k2 mJ26_wordIndex [xi x1] h1 (xkI (fun n5 h3 k4 => xcls h3 this = 24 ∧ ∃ n6 : Int32, xval h3 this 1 = xi n6 ∧ ((n5 < n6 → xcls h3 this = 24 ∧ ∃ o7 : Option Nat, xval h3 this 0 = xr o7 ∧ ∃ a8, o7 = some a8 ∧ xcls h3 a8 = 1004 ∧ ∃ i9 : Nat, n5 = nI i9 ∧ i9 < 2147483648 ∧ i9 < xlen h3 a8 ∧ ∃ j10 : Int64, xval h3 a8 i9 = xj j10 ∧ xWp G mJ26_nextSetBit d K Q k4 63 [some (xr (some this)), none, some (xi n5), some (xj (j10 &&& ((-1 : Int64) <<< (x1.toInt64 &&& 63)))), none] [] h3) ∧ (¬ n5 < n6 → Q (.inl (some (xi (-1 : Int32)))) h3))) (fun q h _ => Q (.inr q) h))) (fun q h _ => Q (.inr q) h))) ∧ (¬ 0 ≤ x1 → False))) : xCn G mJ26_nextSetBit d K [xr (some this), xi x1] h Q := by
  refine xCn_of px_J26_nextSetBit rfl rfl (Nat.le_of_ble_eq_true rfl) ?_
  show xWp G mJ26_nextSetBit d K Q K 0 [some (xr (some this)), some (xi x1), none, none, none] [] h
  refine xw_iload_n dJ26_nextSetBit_0 rfl ?_
  refine xw_if_ge 31 dJ26_nextSetBit_1 rfl (fun hc => ?_) (fun hc => ?_)
  · replace hvc := hvc.1 hc
    refine xw_aload_n dJ26_nextSetBit_31 rfl ?_
    obtain ⟨hcK, hvc⟩ := hvc
    obtain ⟨d9, k9, hd9, hk9, hC9⟩ := hvc
    refine xw_callV dJ26_nextSetBit_32 px_J26_checkInvariants pm_J26_checkInvariants q1528 q1530 qs12 hcJ26 hcK (As := []) (rest := []) rfl rfl (Nat.le_of_ble_eq_true rfl) hd9 hk9 hC9 (xkV_n fun h1 hvc => ?_) (fun q h hq => xTh_out0 rfl hq)
    refine xw_iload_n dJ26_nextSetBit_35 rfl ?_
    obtain ⟨d9, k9, hd9, hk9, hC9⟩ := hvc
    refine xw_callS dJ26_nextSetBit_36 px_J26_wordIndex pm_J26_wordIndex q1535 q1536 (As := [xi x1]) (rest := []) rfl rfl (Nat.le_of_ble_eq_true rfl) hd9 hk9 hC9 (xkI_n fun n5 h3 hvc => ?_) (fun q h hq => xTh_out0 rfl hq)
    refine xw_istore_n dJ26_nextSetBit_39 (Nat.le_of_ble_eq_true rfl) (L9 := [some (xr (some this)), some (xi x1), some (xi n5), none, none]) rfl ?_
    refine xw_iload_n dJ26_nextSetBit_40 rfl ?_
    refine xw_aload_n dJ26_nextSetBit_41 rfl ?_
    obtain ⟨hcK, n6, hvK, hvc⟩ := hvc
    refine xw_get dJ26_nextSetBit_42 hcJ26 in_J26 (kf := 1) (by decide) q1791 (fun _ _ _ _ z => z) hcK hvK ?_
    refine xw_icmp_lt 50 dJ26_nextSetBit_45 rfl (fun hc => ?_) (fun hc => ?_)
    · replace hvc := hvc.1 hc
      refine xw_aload_n dJ26_nextSetBit_50 rfl ?_
      obtain ⟨hcK, o7, hvK, hvc⟩ := hvc
      refine xw_get dJ26_nextSetBit_51 hcJ26 in_J26 (kf := 0) (by decide) q1790 (fun _ _ _ _ z => z) hcK hvK ?_
      refine xw_iload_n dJ26_nextSetBit_54 rfl ?_
      obtain ⟨a8, ho, hvc⟩ := hvc
      subst ho
      obtain ⟨hcK, i9, hx9, hb9, hi9, j10, hv9, hvc⟩ := hvc
      refine xw_lald (j := 4) dJ26_nextSetBit_55 rfl hcK hx9 hb9 hi9 hv9 ?_
      refine xw_ldc2 dJ26_nextSetBit_56 q1830 ?_
      refine xw_iload_n dJ26_nextSetBit_59 rfl ?_
      refine xw_lshl dJ26_nextSetBit_60 ?_
      refine xw_land dJ26_nextSetBit_61 ?_
      refine xw_lstore_n dJ26_nextSetBit_62 (Nat.le_of_ble_eq_true rfl) (L9 := [some (xr (some this)), some (xi x1), some (xi n5), some (xj (j10 &&& ((-1 : Int64) <<< (x1.toInt64 &&& 63)))), none]) rfl ?_
      exact xWp_loc hvc (And.intro rfl (And.intro rfl (And.intro rfl trivial)))
    · replace hvc := hvc.2 hc
      refine xw_iconst (-1 : Int32) dJ26_nextSetBit_48 (by decide) ?_
      exact xw_iret dJ26_nextSetBit_49 rfl hvc
  · replace hvc := hvc.2 hc
    exact hvc.elim

theorem vc_J26_nextSetBit_63 {G : xG} {d K k : Nat} {Q : xR → xH → Prop} {h : xH} {this : Nat} {x2 : Int32} {l3 : Int64}
    (hvc : (((lg_cmp l3 (0 : Int64)) = 0 → xcls h this = 24 ∧ ∃ n11 : Int32, xval h this 1 = xi n11 ∧ ((¬ (x2 + (1 : Int32)) = n11 → xcls h this = 24 ∧ ∃ o12 : Option Nat, xval h this 0 = xr o12 ∧ ∃ a13, o12 = some a13 ∧ xcls h a13 = 1004 ∧ ∃ i14 : Nat, (x2 + (1 : Int32)) = nI i14 ∧ i14 < 2147483648 ∧ i14 < xlen h a13 ∧ ∃ j15 : Int64, xval h a13 i14 = xj j15 ∧ xWp G mJ26_nextSetBit d K Q k 63 [some (xr (some this)), none, some (xi (x2 + (1 : Int32))), some (xj j15), none] [] h) ∧ ((x2 + (1 : Int32)) = n11 → Q (.inl (some (xi (-1 : Int32)))) h))) ∧ (¬ (lg_cmp l3 (0 : Int64)) = 0 → xCall G d k mJ28_numberOfTrailingZeros [xj l3] h (xkI (fun n18 h16 k17 => Q (.inl (some (xi ((x2 * (64 : Int32)) + n18)))) h16) (fun q h _ => Q (.inr q) h))))) : xWp G mJ26_nextSetBit d K Q k 63 [some (xr (some this)), none, some (xi x2), some (xj l3), none] [] h := by
  refine xw_lload_n dJ26_nextSetBit_63 rfl ?_
  refine xw_lconst (0 : Int64) dJ26_nextSetBit_64 (by decide) ?_
  refine xw_lcmp dJ26_nextSetBit_65 ?_
  refine xw_if_eq 79 dJ26_nextSetBit_66 rfl (fun hc => ?_) (fun hc => ?_)
  · replace hvc := hvc.1 hc
    refine xw_iinc (1 : Int32) dJ26_nextSetBit_79 rfl (by decide) (Nat.le_of_ble_eq_true rfl) (L9 := [some (xr (some this)), none, some (xi (x2 + (1 : Int32))), some (xj l3), none]) rfl ?_
    refine xw_iload_n dJ26_nextSetBit_82 rfl ?_
    refine xw_aload_n dJ26_nextSetBit_83 rfl ?_
    obtain ⟨hcK, n11, hvK, hvc⟩ := hvc
    refine xw_get dJ26_nextSetBit_84 hcJ26 in_J26 (kf := 1) (by decide) q1791 (fun _ _ _ _ z => z) hcK hvK ?_
    refine xw_icmp_ne 92 dJ26_nextSetBit_87 rfl (fun hc => ?_) (fun hc => ?_)
    · replace hvc := hvc.1 hc
      refine xw_aload_n dJ26_nextSetBit_92 rfl ?_
      obtain ⟨hcK, o12, hvK, hvc⟩ := hvc
      refine xw_get dJ26_nextSetBit_93 hcJ26 in_J26 (kf := 0) (by decide) q1790 (fun _ _ _ _ z => z) hcK hvK ?_
      refine xw_iload_n dJ26_nextSetBit_96 rfl ?_
      obtain ⟨a13, ho, hvc⟩ := hvc
      subst ho
      obtain ⟨hcK, i14, hx9, hb9, hi9, j15, hv9, hvc⟩ := hvc
      refine xw_lald (j := 4) dJ26_nextSetBit_97 rfl hcK hx9 hb9 hi9 hv9 ?_
      refine xw_lstore_n dJ26_nextSetBit_98 (Nat.le_of_ble_eq_true rfl) (L9 := [some (xr (some this)), none, some (xi (x2 + (1 : Int32))), some (xj j15), none]) rfl ?_
      refine xw_goto 63 dJ26_nextSetBit_99 rfl ?_
      exact hvc
    · replace hvc := hvc.2 hc
      refine xw_iconst (-1 : Int32) dJ26_nextSetBit_90 (by decide) ?_
      exact xw_iret dJ26_nextSetBit_91 rfl hvc
  · replace hvc := hvc.2 hc
    refine xw_iload_n dJ26_nextSetBit_69 rfl ?_
    refine xw_bipush (64 : Int32) dJ26_nextSetBit_70 (by decide) ?_
    refine xw_imul dJ26_nextSetBit_72 ?_
    refine xw_lload_n dJ26_nextSetBit_73 rfl ?_
    obtain ⟨d9, k9, hd9, hk9, hC9⟩ := hvc
    refine xw_callS dJ26_nextSetBit_74 px_J28_numberOfTrailingZeros pm_J28_numberOfTrailingZeros q2130 q2131 (As := [xj l3]) (rest := [xi (x2 * (64 : Int32))]) rfl rfl (Nat.le_of_ble_eq_true rfl) hd9 hk9 hC9 (xkI_n fun n18 h16 hvc => ?_) (fun q h hq => xTh_out0 rfl hq)
    refine xw_iadd dJ26_nextSetBit_77 ?_
    exact xw_iret dJ26_nextSetBit_78 rfl hvc

theorem vc_J26_flip {G : xG} {d K : Nat} {Q : xR → xH → Prop} {h : xH} {this : Nat} {x1 : Int32}
    (hvc : ((0 ≤ x1 → xCall G d K mJ26_wordIndex [xi x1] h (xkI (fun n3 h1 k2 => xcls h1 this = 24 ∧ xCall G d k2 mJ26_expandTo [xr (some this), xi n3] h1 (xkV (fun h4 k5 => xcls h4 this = 24 ∧ ∃ o6 : Option Nat, xval h4 this 0 = xr o6 ∧ ∃ a7, o6 = some a7 ∧ xcls h4 a7 = 1004 ∧ ∃ i8 : Nat, n3 = nI i8 ∧ i8 < 2147483648 ∧ i8 < xlen h4 a7 ∧ ∃ j9 : Int64, xval h4 a7 i8 = xj j9 ∧ xcls h4 a7 = 1004 ∧ ∃ i10 : Nat, n3 = nI i10 ∧ i10 < 2147483648 ∧ i10 < xlen h4 a7 ∧ ∀ h11 : xH, h11 = xput h4 a7 i10 (xj (j9 ^^^ ((1 : Int64) <<< (x1.toInt64 &&& 63)))) → xcls h11 this = 24 ∧ xCall G d k5 mJ26_recalculateWordsInUse [xr (some this)] h11 (xkV (fun h12 k13 => xcls h12 this = 24 ∧ xCall G d k13 mJ26_checkInvariants [xr (some this)] h12 (xkV (fun h14 k15 => Q (.inl none) h14) (fun q h _ => Q (.inr q) h))) (fun q h _ => Q (.inr q) h))) (fun q h _ => Q (.inr q) h))) (fun q h _ => Q (.inr q) h))) ∧ (¬ 0 ≤ x1 → False))) : xCn G mJ26_flip d K [xr (some this), xi x1] h Q := by
  refine xCn_of px_J26_flip rfl rfl (Nat.le_of_ble_eq_true rfl) ?_
  show xWp G mJ26_flip d K Q K 0 [some (xr (some this)), some (xi x1), none] [] h
  refine xw_iload_n dJ26_flip_0 rfl ?_
  refine xw_if_ge 31 dJ26_flip_1 rfl (fun hc => ?_) (fun hc => ?_)
  · replace hvc := hvc.1 hc
    refine xw_iload_n dJ26_flip_31 rfl ?_
    obtain ⟨d9, k9, hd9, hk9, hC9⟩ := hvc
    refine xw_callS dJ26_flip_32 px_J26_wordIndex pm_J26_wordIndex q1535 q1536 (As := [xi x1]) (rest := []) rfl rfl (Nat.le_of_ble_eq_true rfl) hd9 hk9 hC9 (xkI_n fun n3 h1 hvc => ?_) (fun q h hq => xTh_out0 rfl hq)
    refine xw_istore_n dJ26_flip_35 (Nat.le_of_ble_eq_true rfl) (L9 := [some (xr (some this)), some (xi x1), some (xi n3)]) rfl ?_
    refine xw_aload_n dJ26_flip_36 rfl ?_
    refine xw_iload_n dJ26_flip_37 rfl ?_
    obtain ⟨hcK, hvc⟩ := hvc
    obtain ⟨d9, k9, hd9, hk9, hC9⟩ := hvc
    refine xw_callV dJ26_flip_38 px_J26_expandTo pm_J26_expandTo q1809 q1811 qs15 hcJ26 hcK (As := [xi n3]) (rest := []) rfl rfl (Nat.le_of_ble_eq_true rfl) hd9 hk9 hC9 (xkV_n fun h4 hvc => ?_) (fun q h hq => xTh_out0 rfl hq)
    refine xw_aload_n dJ26_flip_41 rfl ?_
    obtain ⟨hcK, o6, hvK, hvc⟩ := hvc
    refine xw_get dJ26_flip_42 hcJ26 in_J26 (kf := 0) (by decide) q1790 (fun _ _ _ _ z => z) hcK hvK ?_
    refine xw_iload_n dJ26_flip_45 rfl ?_
    refine xw_dup2 dJ26_flip_46 rfl rfl ?_
    obtain ⟨a7, ho, hvc⟩ := hvc
    subst ho
    obtain ⟨hcK, i8, hx9, hb9, hi9, j9, hv9, hvc⟩ := hvc
    refine xw_lald (j := 4) dJ26_flip_47 rfl hcK hx9 hb9 hi9 hv9 ?_
    refine xw_lconst (1 : Int64) dJ26_flip_48 (by decide) ?_
    refine xw_iload_n dJ26_flip_49 rfl ?_
    refine xw_lshl dJ26_flip_50 ?_
    refine xw_lxor dJ26_flip_51 ?_
    obtain ⟨hcK, i10, hx9, hb9, hi9, hvc⟩ := hvc
    refine xw_last (j := 4) dJ26_flip_52 rfl hcK (Or.inl rfl) hx9 hb9 hi9 (fun h11 eh9 => ?_)
    replace hvc := hvc h11 eh9
    refine xw_aload_n dJ26_flip_53 rfl ?_
    obtain ⟨hcK, hvc⟩ := hvc
    obtain ⟨d9, k9, hd9, hk9, hC9⟩ := hvc
    refine xw_callV dJ26_flip_54 px_J26_recalculateWordsInUse pm_J26_recalculateWordsInUse q1831 q1833 qs17 hcJ26 hcK (As := []) (rest := []) rfl rfl (Nat.le_of_ble_eq_true rfl) hd9 hk9 hC9 (xkV_n fun h12 hvc => ?_) (fun q h hq => xTh_out0 rfl hq)
    refine xw_aload_n dJ26_flip_57 rfl ?_
    obtain ⟨hcK, hvc⟩ := hvc
    obtain ⟨d9, k9, hd9, hk9, hC9⟩ := hvc
    refine xw_callV dJ26_flip_58 px_J26_checkInvariants pm_J26_checkInvariants q1528 q1530 qs12 hcJ26 hcK (As := []) (rest := []) rfl rfl (Nat.le_of_ble_eq_true rfl) hd9 hk9 hC9 (xkV_n fun h14 hvc => ?_) (fun q h hq => xTh_out0 rfl hq)
    exact xw_vret dJ26_flip_61 rfl hvc
  · replace hvc := hvc.2 hc
    exact hvc.elim

theorem vc_J20_size {G : xG} {d K : Nat} {Q : xR → xH → Prop} {h : xH} {this : Nat}
    (hvc : xcls h this = 17 ∧ ∃ n1 : Int32, xval h this 1 = xi n1 ∧ Q (.inl (some (xi n1))) h) : xCn G mJ20_size d K [xr (some this)] h Q := by
  refine xCn_of px_J20_size rfl rfl (Nat.le_of_ble_eq_true rfl) ?_
  show xWp G mJ20_size d K Q K 0 [some (xr (some this))] [] h
  refine xw_aload_n dJ20_size_0 rfl ?_
  obtain ⟨hcK, n1, hvK, hvc⟩ := hvc
  refine xw_get dJ20_size_1 hcJ20 in_J20 (kf := 1) (by decide) q1290 (fun _ _ _ _ z => z) hcK hvK ?_
  exact xw_iret dJ20_size_4 rfl hvc

theorem vc_J20_get {G : xG} {d K : Nat} {Q : xR → xH → Prop} {h : xH} {this : Nat} {x1 : Int32}
    (hvc : xcls h this = 17 ∧ xCall G d K mJ20_checkElementIndex [xr (some this), xi x1] h (xkV (fun h1 k2 => xcls h1 this = 17 ∧ xCall G d k2 mJ20_node [xr (some this), xi x1] h1 (xkR (fun o5 h3 k4 => ∃ a6, o5 = some a6 ∧ xcls h3 a6 = 25 ∧ ∃ o7 : Option Nat, xval h3 a6 0 = xr o7 ∧ Q (.inl (some (xr o7))) h3) (fun q h _ => Q (.inr q) h))) (fun q h _ => Q (.inr q) h))) : xCn G mJ20_get d K [xr (some this), xi x1] h Q := by
  refine xCn_of px_J20_get rfl rfl (Nat.le_of_ble_eq_true rfl) ?_
  show xWp G mJ20_get d K Q K 0 [some (xr (some this)), some (xi x1)] [] h
  refine xw_aload_n dJ20_get_0 rfl ?_
  refine xw_iload_n dJ20_get_1 rfl ?_
  obtain ⟨hcK, hvc⟩ := hvc
  obtain ⟨d9, k9, hd9, hk9, hC9⟩ := hvc
  refine xw_callV dJ20_get_2 px_J20_checkElementIndex pm_J20_checkElementIndex q526 q528 qs0 hcJ20 hcK (As := [xi x1]) (rest := []) rfl rfl (Nat.le_of_ble_eq_true rfl) hd9 hk9 hC9 (xkV_n fun h1 hvc => ?_) (fun q h hq => xTh_out0 rfl hq)
  refine xw_aload_n dJ20_get_5 rfl ?_
  refine xw_iload_n dJ20_get_6 rfl ?_
  obtain ⟨hcK, hvc⟩ := hvc
  obtain ⟨d9, k9, hd9, hk9, hC9⟩ := hvc
  refine xw_callV dJ20_get_7 px_J20_node pm_J20_node q535 q536 q537 hcJ20 hcK (As := [xi x1]) (rest := []) rfl rfl (Nat.le_of_ble_eq_true rfl) hd9 hk9 hC9 (xkR_n fun o5 h3 hvc => ?_) (fun q h hq => xTh_out0 rfl hq)
  obtain ⟨a6, ho, hvc⟩ := hvc
  subst ho
  obtain ⟨hcK, o7, hvK, hvc⟩ := hvc
  refine xw_get dJ20_get_10 hcJ27 in_J27 (kf := 0) (by decide) q1664 (fun _ _ _ _ z => z) hcK hvK ?_
  exact xw_aret dJ20_get_13 rfl rfl hvc

theorem vc_J20_checkElementIndex {G : xG} {d K : Nat} {Q : xR → xH → Prop} {h : xH} {this : Nat} {x1 : Int32}
    (hvc : xcls h this = 17 ∧ xCall G d K mJ20_isElementIndex [xr (some this), xi x1] h (xkI (fun n3 h1 k2 => ((¬ n3 = 0 → Q (.inl none) h1) ∧ (n3 = 0 → False))) (fun q h _ => Q (.inr q) h))) : xCn G mJ20_checkElementIndex d K [xr (some this), xi x1] h Q := by
  refine xCn_of px_J20_checkElementIndex rfl rfl (Nat.le_of_ble_eq_true rfl) ?_
  show xWp G mJ20_checkElementIndex d K Q K 0 [some (xr (some this)), some (xi x1)] [] h
  refine xw_aload_n dJ20_checkElementIndex_0 rfl ?_
  refine xw_iload_n dJ20_checkElementIndex_1 rfl ?_
  obtain ⟨hcK, hvc⟩ := hvc
  obtain ⟨d9, k9, hd9, hk9, hC9⟩ := hvc
  refine xw_callV dJ20_checkElementIndex_2 px_J20_isElementIndex pm_J20_isElementIndex q531 q533 qs1 hcJ20 hcK (As := [xi x1]) (rest := []) rfl rfl (Nat.le_of_ble_eq_true rfl) hd9 hk9 hC9 (xkI_n fun n3 h1 hvc => ?_) (fun q h hq => xTh_out0 rfl hq)
  refine xw_if_ne 21 dJ20_checkElementIndex_5 rfl (fun hc => ?_) (fun hc => ?_)
  · replace hvc := hvc.1 hc
    exact xw_vret dJ20_checkElementIndex_21 rfl hvc
  · replace hvc := hvc.2 hc
    exact hvc.elim

theorem vc_J20_isElementIndex {G : xG} {d K : Nat} {Q : xR → xH → Prop} {h : xH} {this : Nat} {x1 : Int32}
    (hvc : ((x1 < 0 → Q (.inl (some (xi (0 : Int32)))) h) ∧ (¬ x1 < 0 → xcls h this = 17 ∧ ∃ n1 : Int32, xval h this 1 = xi n1 ∧ ((n1 ≤ x1 → Q (.inl (some (xi (0 : Int32)))) h) ∧ (¬ n1 ≤ x1 → Q (.inl (some (xi (1 : Int32)))) h))))) : xCn G mJ20_isElementIndex d K [xr (some this), xi x1] h Q := by
  refine xCn_of px_J20_isElementIndex rfl rfl (Nat.le_of_ble_eq_true rfl) ?_
  show xWp G mJ20_isElementIndex d K Q K 0 [some (xr (some this)), some (xi x1)] [] h
  refine xw_iload_n dJ20_isElementIndex_0 rfl ?_
  refine xw_if_lt 16 dJ20_isElementIndex_1 rfl (fun hc => ?_) (fun hc => ?_)
  · replace hvc := hvc.1 hc
    refine xw_iconst (0 : Int32) dJ20_isElementIndex_16 (by decide) ?_
    exact xw_zret dJ20_isElementIndex_17 rfl rfl hvc
  · replace hvc := hvc.2 hc
    refine xw_iload_n dJ20_isElementIndex_4 rfl ?_
    refine xw_aload_n dJ20_isElementIndex_5 rfl ?_
    obtain ⟨hcK, n1, hvK, hvc⟩ := hvc
    refine xw_get dJ20_isElementIndex_6 hcJ20 in_J20 (kf := 1) (by decide) q1290 (fun _ _ _ _ z => z) hcK hvK ?_
    refine xw_icmp_ge 16 dJ20_isElementIndex_9 rfl (fun hc => ?_) (fun hc => ?_)
    · replace hvc := hvc.1 hc
      refine xw_iconst (0 : Int32) dJ20_isElementIndex_16 (by decide) ?_
      exact xw_zret dJ20_isElementIndex_17 rfl rfl hvc
    · replace hvc := hvc.2 hc
      refine xw_iconst (1 : Int32) dJ20_isElementIndex_12 (by decide) ?_
      refine xw_goto 17 dJ20_isElementIndex_13 rfl ?_
      exact xw_zret dJ20_isElementIndex_17 rfl rfl hvc

theorem vc_J20_node {G : xG} {d K : Nat} {Q : xR → xH → Prop} {h : xH} {this : Nat} {x1 : Int32}
    (hvc : xcls h this = 17 ∧ ∃ n1 : Int32, xval h this 1 = xi n1 ∧ (((n1 >>> ((1 : Int32) &&& 31)) ≤ x1 → xcls h this = 17 ∧ ∃ o2 : Option Nat, xval h this 3 = xr o2 ∧ xcls h this = 17 ∧ ∃ n3 : Int32, xval h this 1 = xi n3 ∧ xWp G mJ20_node d K Q K 47 [none, some (xi x1), some (xr o2), some (xi (n3 - (1 : Int32)))] [] h) ∧ (¬ (n1 >>> ((1 : Int32) &&& 31)) ≤ x1 → xcls h this = 17 ∧ ∃ o4 : Option Nat, xval h this 2 = xr o4 ∧ xWp G mJ20_node d K Q K 17 [none, some (xi x1), some (xr o4), some (xi (0 : Int32))] [] h))) : xCn G mJ20_node d K [xr (some this), xi x1] h Q := by
  refine xCn_of px_J20_node rfl rfl (Nat.le_of_ble_eq_true rfl) ?_
  show xWp G mJ20_node d K Q K 0 [some (xr (some this)), some (xi x1), none, none] [] h
  refine xw_iload_n dJ20_node_0 rfl ?_
  refine xw_aload_n dJ20_node_1 rfl ?_
  obtain ⟨hcK, n1, hvK, hvc⟩ := hvc
  refine xw_get dJ20_node_2 hcJ20 in_J20 (kf := 1) (by decide) q1290 (fun _ _ _ _ z => z) hcK hvK ?_
  refine xw_iconst (1 : Int32) dJ20_node_5 (by decide) ?_
  refine xw_ishr dJ20_node_6 ?_
  refine xw_icmp_ge 35 dJ20_node_7 rfl (fun hc => ?_) (fun hc => ?_)
  · replace hvc := hvc.1 hc
    refine xw_aload_n dJ20_node_35 rfl ?_
    obtain ⟨hcK, o2, hvK, hvc⟩ := hvc
    refine xw_get dJ20_node_36 hcJ20 in_J20 (kf := 3) (by decide) q1293 (fun _ _ _ _ z => z) hcK hvK ?_
    refine xw_astore_n dJ20_node_39 (Nat.le_of_ble_eq_true rfl) (L9 := [some (xr (some this)), some (xi x1), some (xr o2), none]) rfl ?_
    refine xw_aload_n dJ20_node_40 rfl ?_
    obtain ⟨hcK, n3, hvK, hvc⟩ := hvc
    refine xw_get dJ20_node_41 hcJ20 in_J20 (kf := 1) (by decide) q1290 (fun _ _ _ _ z => z) hcK hvK ?_
    refine xw_iconst (1 : Int32) dJ20_node_44 (by decide) ?_
    refine xw_isub dJ20_node_45 ?_
    refine xw_istore_n dJ20_node_46 (Nat.le_of_ble_eq_true rfl) (L9 := [some (xr (some this)), some (xi x1), some (xr o2), some (xi (n3 - (1 : Int32)))]) rfl ?_
    exact xWp_loc hvc (And.intro rfl (And.intro rfl (And.intro rfl trivial)))
  · replace hvc := hvc.2 hc
    refine xw_aload_n dJ20_node_10 rfl ?_
    obtain ⟨hcK, o4, hvK, hvc⟩ := hvc
    refine xw_get dJ20_node_11 hcJ20 in_J20 (kf := 2) (by decide) q1292 (fun _ _ _ _ z => z) hcK hvK ?_
    refine xw_astore_n dJ20_node_14 (Nat.le_of_ble_eq_true rfl) (L9 := [some (xr (some this)), some (xi x1), some (xr o4), none]) rfl ?_
    refine xw_iconst (0 : Int32) dJ20_node_15 (by decide) ?_
    refine xw_istore_n dJ20_node_16 (Nat.le_of_ble_eq_true rfl) (L9 := [some (xr (some this)), some (xi x1), some (xr o4), some (xi (0 : Int32))]) rfl ?_
    exact xWp_loc hvc (And.intro rfl (And.intro rfl (And.intro rfl trivial)))

theorem vc_J20_node_17 {G : xG} {d K k : Nat} {Q : xR → xH → Prop} {h : xH} {x1 : Int32} {o902 : Option Nat} {x3 : Int32}
    (hvc : ((x1 ≤ x3 → Q (.inl (some (xr o902))) h) ∧ (¬ x1 ≤ x3 → ∃ a5, o902 = some a5 ∧ xcls h a5 = 25 ∧ ∃ o6 : Option Nat, xval h a5 1 = xr o6 ∧ xWp G mJ20_node d K Q k 17 [none, some (xi x1), some (xr o6), some (xi (x3 + (1 : Int32)))] [] h))) : xWp G mJ20_node d K Q k 17 [none, some (xi x1), some (xr o902), some (xi x3)] [] h := by
  refine xw_iload_n dJ20_node_17 rfl ?_
  refine xw_iload_n dJ20_node_18 rfl ?_
  refine xw_icmp_ge 33 dJ20_node_19 rfl (fun hc => ?_) (fun hc => ?_)
  · replace hvc := hvc.1 hc
    refine xw_aload_n dJ20_node_33 rfl ?_
    exact xw_aret dJ20_node_34 rfl rfl hvc
  · replace hvc := hvc.2 hc
    refine xw_aload_n dJ20_node_22 rfl ?_
    obtain ⟨a5, ho, hvc⟩ := hvc
    subst ho
    obtain ⟨hcK, o6, hvK, hvc⟩ := hvc
    refine xw_get dJ20_node_23 hcJ27 in_J27 (kf := 1) (by decide) q1667 (fun _ _ _ _ z => z) hcK hvK ?_
    refine xw_astore_n dJ20_node_26 (Nat.le_of_ble_eq_true rfl) (L9 := [none, some (xi x1), some (xr o6), some (xi x3)]) rfl ?_
    refine xw_iinc (1 : Int32) dJ20_node_27 rfl (by decide) (Nat.le_of_ble_eq_true rfl) (L9 := [none, some (xi x1), some (xr o6), some (xi (x3 + (1 : Int32)))]) rfl ?_
    refine xw_goto 17 dJ20_node_30 rfl ?_
    exact hvc

theorem vc_J20_node_47 {G : xG} {d K k : Nat} {Q : xR → xH → Prop} {h : xH} {x1 : Int32} {o902 : Option Nat} {x3 : Int32}
    (hvc : ((x3 ≤ x1 → Q (.inl (some (xr o902))) h) ∧ (¬ x3 ≤ x1 → ∃ a7, o902 = some a7 ∧ xcls h a7 = 25 ∧ ∃ o8 : Option Nat, xval h a7 2 = xr o8 ∧ xWp G mJ20_node d K Q k 47 [none, some (xi x1), some (xr o8), some (xi (x3 + (-1 : Int32)))] [] h))) : xWp G mJ20_node d K Q k 47 [none, some (xi x1), some (xr o902), some (xi x3)] [] h := by
  refine xw_iload_n dJ20_node_47 rfl ?_
  refine xw_iload_n dJ20_node_48 rfl ?_
  refine xw_icmp_le 63 dJ20_node_49 rfl (fun hc => ?_) (fun hc => ?_)
  · replace hvc := hvc.1 hc
    refine xw_aload_n dJ20_node_63 rfl ?_
    exact xw_aret dJ20_node_64 rfl rfl hvc
  · replace hvc := hvc.2 hc
    refine xw_aload_n dJ20_node_52 rfl ?_
    obtain ⟨a7, ho, hvc⟩ := hvc
    subst ho
    obtain ⟨hcK, o8, hvK, hvc⟩ := hvc
    refine xw_get dJ20_node_53 hcJ27 in_J27 (kf := 2) (by decide) q1669 (fun _ _ _ _ z => z) hcK hvK ?_
    refine xw_astore_n dJ20_node_56 (Nat.le_of_ble_eq_true rfl) (L9 := [none, some (xi x1), some (xr o8), some (xi x3)]) rfl ?_
    refine xw_iinc (-1 : Int32) dJ20_node_57 rfl (by decide) (Nat.le_of_ble_eq_true rfl) (L9 := [none, some (xi x1), some (xr o8), some (xi (x3 + (-1 : Int32)))]) rfl ?_
    refine xw_goto 47 dJ20_node_60 rfl ?_
    exact hvc

theorem vc_J20_init {G : xG} {d K : Nat} {Q : xR → xH → Prop} {h : xH} {this : Nat}
    (hvc : xCall G d K mJ19_init [xr (some this)] h (xkV (fun h1 k2 => xcls h1 this = 17 ∧ ∀ h3 : xH, h3 = xput h1 this 1 (xi (0 : Int32)) → Q (.inl none) h3) (fun q h _ => Q (.inr q) h))) : xCn G mJ20_init d K [xr (some this)] h Q := by
  refine xCn_of px_J20_init rfl rfl (Nat.le_of_ble_eq_true rfl) ?_
  show xWp G mJ20_init d K Q K 0 [some (xr (some this))] [] h
  refine xw_aload_n dJ20_init_0 rfl ?_
  obtain ⟨d9, k9, hd9, hk9, hC9⟩ := hvc
  refine xw_callI dJ20_init_1 px_J19_init pm_J19_init q1286 q1287 rfl rfl (As := []) (rest := []) rfl rfl (Nat.le_of_ble_eq_true rfl) hd9 hk9 hC9 (xkV_n fun h1 hvc => ?_) (fun q h hq => xTh_out0 rfl hq)
  refine xw_aload_n dJ20_init_4 rfl ?_
  refine xw_iconst (0 : Int32) dJ20_init_5 (by decide) ?_
  obtain ⟨hcK, hvc⟩ := hvc
  refine xw_put dJ20_init_6 hcJ20 in_J20 tyJ20_ok xnmJ20 (kf := 1) (by decide) q1290 (fun _ _ _ _ z => z) rfl rfl rfl hcK (Or.inl rfl) (fun h3 eh9 => ?_)
  replace hvc := hvc h3 eh9
  exact xw_vret dJ20_init_9 rfl hvc

theorem vc_J20_listIterator {G : xG} {d K : Nat} {Q : xR → xH → Prop} {h : xH} {this : Nat} {x1 : Int32}
    (hvc : xcls h this = 17 ∧ xCall G d K mJ20_checkPositionIndex [xr (some this), xi x1] h (xkV (fun h1 k2 => 6 ≤ k2 ∧ ∀ (h3 : xH) (a4 : Nat), a4 = xsz h1 → h3 = xnew h1 22 5 (fun j => xdf (tyJ24 j)) → xCall G d (k2 - 6) mJ24_init [xr (some a4), xr (some this), xi x1] h3 (xkV (fun h5 k6 => Q (.inl (some (xr (some a4)))) h5) (fun q h _ => Q (.inr q) h))) (fun q h _ => Q (.inr q) h))) : xCn G mJ20_listIterator d K [xr (some this), xi x1] h Q := by
  refine xCn_of px_J20_listIterator rfl rfl (Nat.le_of_ble_eq_true rfl) ?_
  show xWp G mJ20_listIterator d K Q K 0 [some (xr (some this)), some (xi x1)] [] h
  refine xw_aload_n dJ20_listIterator_0 rfl ?_
  refine xw_iload_n dJ20_listIterator_1 rfl ?_
  obtain ⟨hcK, hvc⟩ := hvc
  obtain ⟨d9, k9, hd9, hk9, hC9⟩ := hvc
  refine xw_callV dJ20_listIterator_2 px_J20_checkPositionIndex pm_J20_checkPositionIndex q1420 q1422 qs10 hcJ20 hcK (As := [xi x1]) (rest := []) rfl rfl (Nat.le_of_ble_eq_true rfl) hd9 hk9 hC9 (xkV_n fun h1 hvc => ?_) (fun q h hq => xTh_out0 rfl hq)
  obtain ⟨hle, hvc⟩ := hvc
  refine xw_new dJ20_listIterator_5 hcJ24 in_J24 tyJ24_ok q1428 q1429 q149 hle (fun h3 a4 ea9 eh9 => ?_)
  replace hvc := hvc h3 a4 ea9 eh9
  refine xw_dup dJ20_listIterator_8 rfl ?_
  refine xw_aload_n dJ20_listIterator_9 rfl ?_
  refine xw_iload_n dJ20_listIterator_10 rfl ?_
  obtain ⟨d9, k9, hd9, hk9, hC9⟩ := hvc
  refine xw_callI dJ20_listIterator_11 px_J24_init pm_J24_init q1430 q1431 rfl rfl (As := [xr (some this), xi x1]) (rest := [xr (some a4)]) rfl rfl (Nat.le_of_ble_eq_true rfl) hd9 hk9 hC9 (xkV_n fun h5 hvc => ?_) (fun q h hq => xTh_out0 rfl hq)
  exact xw_aret dJ20_listIterator_14 rfl rfl hvc

theorem vc_J20_checkPositionIndex {G : xG} {d K : Nat} {Q : xR → xH → Prop} {h : xH} {this : Nat} {x1 : Int32}
    (hvc : xcls h this = 17 ∧ xCall G d K mJ20_isPositionIndex [xr (some this), xi x1] h (xkI (fun n3 h1 k2 => ((¬ n3 = 0 → Q (.inl none) h1) ∧ (n3 = 0 → False))) (fun q h _ => Q (.inr q) h))) : xCn G mJ20_checkPositionIndex d K [xr (some this), xi x1] h Q := by
  refine xCn_of px_J20_checkPositionIndex rfl rfl (Nat.le_of_ble_eq_true rfl) ?_
  show xWp G mJ20_checkPositionIndex d K Q K 0 [some (xr (some this)), some (xi x1)] [] h
  refine xw_aload_n dJ20_checkPositionIndex_0 rfl ?_
  refine xw_iload_n dJ20_checkPositionIndex_1 rfl ?_
  obtain ⟨hcK, hvc⟩ := hvc
  obtain ⟨d9, k9, hd9, hk9, hC9⟩ := hvc
  refine xw_callV dJ20_checkPositionIndex_2 px_J20_isPositionIndex pm_J20_isPositionIndex q1424 q1426 qs11 hcJ20 hcK (As := [xi x1]) (rest := []) rfl rfl (Nat.le_of_ble_eq_true rfl) hd9 hk9 hC9 (xkI_n fun n3 h1 hvc => ?_) (fun q h hq => xTh_out0 rfl hq)
  refine xw_if_ne 21 dJ20_checkPositionIndex_5 rfl (fun hc => ?_) (fun hc => ?_)
  · replace hvc := hvc.1 hc
    exact xw_vret dJ20_checkPositionIndex_21 rfl hvc
  · replace hvc := hvc.2 hc
    exact hvc.elim

theorem vc_J20_isPositionIndex {G : xG} {d K : Nat} {Q : xR → xH → Prop} {h : xH} {this : Nat} {x1 : Int32}
    (hvc : ((x1 < 0 → Q (.inl (some (xi (0 : Int32)))) h) ∧ (¬ x1 < 0 → xcls h this = 17 ∧ ∃ n1 : Int32, xval h this 1 = xi n1 ∧ ((n1 < x1 → Q (.inl (some (xi (0 : Int32)))) h) ∧ (¬ n1 < x1 → Q (.inl (some (xi (1 : Int32)))) h))))) : xCn G mJ20_isPositionIndex d K [xr (some this), xi x1] h Q := by
  refine xCn_of px_J20_isPositionIndex rfl rfl (Nat.le_of_ble_eq_true rfl) ?_
  show xWp G mJ20_isPositionIndex d K Q K 0 [some (xr (some this)), some (xi x1)] [] h
  refine xw_iload_n dJ20_isPositionIndex_0 rfl ?_
  refine xw_if_lt 16 dJ20_isPositionIndex_1 rfl (fun hc => ?_) (fun hc => ?_)
  · replace hvc := hvc.1 hc
    refine xw_iconst (0 : Int32) dJ20_isPositionIndex_16 (by decide) ?_
    exact xw_zret dJ20_isPositionIndex_17 rfl rfl hvc
  · replace hvc := hvc.2 hc
    refine xw_iload_n dJ20_isPositionIndex_4 rfl ?_
    refine xw_aload_n dJ20_isPositionIndex_5 rfl ?_
    obtain ⟨hcK, n1, hvK, hvc⟩ := hvc
    refine xw_get dJ20_isPositionIndex_6 hcJ20 in_J20 (kf := 1) (by decide) q1290 (fun _ _ _ _ z => z) hcK hvK ?_
    refine xw_icmp_gt 16 dJ20_isPositionIndex_9 rfl (fun hc => ?_) (fun hc => ?_)
    · replace hvc := hvc.1 hc
      refine xw_iconst (0 : Int32) dJ20_isPositionIndex_16 (by decide) ?_
      exact xw_zret dJ20_isPositionIndex_17 rfl rfl hvc
    · replace hvc := hvc.2 hc
      refine xw_iconst (1 : Int32) dJ20_isPositionIndex_12 (by decide) ?_
      refine xw_goto 17 dJ20_isPositionIndex_13 rfl ?_
      exact xw_zret dJ20_isPositionIndex_17 rfl rfl hvc

theorem vc_J20_addLast {G : xG} {d K : Nat} {Q : xR → xH → Prop} {h : xH} {this : Nat} {o900 : Option Nat}
    (hvc : xcls h this = 17 ∧ xCall G d K mJ20_linkLast [xr (some this), xr o900] h (xkV (fun h1 k2 => Q (.inl none) h1) (fun q h _ => Q (.inr q) h))) : xCn G mJ20_addLast d K [xr (some this), xr o900] h Q := by
  refine xCn_of px_J20_addLast rfl rfl (Nat.le_of_ble_eq_true rfl) ?_
  show xWp G mJ20_addLast d K Q K 0 [some (xr (some this)), some (xr o900)] [] h
  refine xw_aload_n dJ20_addLast_0 rfl ?_
  refine xw_aload_n dJ20_addLast_1 rfl ?_
  obtain ⟨hcK, hvc⟩ := hvc
  obtain ⟨d9, k9, hd9, hk9, hC9⟩ := hvc
  refine xw_callV dJ20_addLast_2 px_J20_linkLast pm_J20_linkLast q1652 q1653 q1654 hcJ20 hcK (As := [xr o900]) (rest := []) rfl rfl (Nat.le_of_ble_eq_true rfl) hd9 hk9 hC9 (xkV_n fun h1 hvc => ?_) (fun q h hq => xTh_out0 rfl hq)
  exact xw_vret dJ20_addLast_5 rfl hvc

theorem vc_J20_linkLast {G : xG} {d K : Nat} {Q : xR → xH → Prop} {h : xH} {this : Nat} {o900 : Option Nat}
    (hvc : xcls h this = 17 ∧ ∃ o1 : Option Nat, xval h this 3 = xr o1 ∧ 4 ≤ K ∧ ∀ (h2 : xH) (a3 : Nat), a3 = xsz h → h2 = xnew h 25 3 (fun j => xdf (tyJ27 j)) → xCall G d (K - 4) mJ27_init [xr (some a3), xr o1, xr o900, xr none] h2 (xkV (fun h4 k5 => xcls h4 this = 17 ∧ ∀ h6 : xH, h6 = xput h4 this 3 (xr (some a3)) → ((∀ a7, o1 = some a7 → xcls h6 a7 = 25 ∧ ∀ h8 : xH, h8 = xput h6 a7 1 (xr (some a3)) → xcls h8 this = 17 ∧ ∃ n9 : Int32, xval h8 this 1 = xi n9 ∧ xcls h8 this = 17 ∧ ∀ h10 : xH, h10 = xput h8 this 1 (xi (n9 + (1 : Int32))) → xcls h10 this = 17 ∧ ∃ n11 : Int32, xval h10 this 0 = xi n11 ∧ xcls h10 this = 17 ∧ ∀ h12 : xH, h12 = xput h10 this 0 (xi (n11 + (1 : Int32))) → Q (.inl none) h12) ∧ (o1 = none → xcls h6 this = 17 ∧ ∀ h13 : xH, h13 = xput h6 this 2 (xr (some a3)) → xcls h13 this = 17 ∧ ∃ n14 : Int32, xval h13 this 1 = xi n14 ∧ xcls h13 this = 17 ∧ ∀ h15 : xH, h15 = xput h13 this 1 (xi (n14 + (1 : Int32))) → xcls h15 this = 17 ∧ ∃ n16 : Int32, xval h15 this 0 = xi n16 ∧ xcls h15 this = 17 ∧ ∀ h17 : xH, h17 = xput h15 this 0 (xi (n16 + (1 : Int32))) → Q (.inl none) h17))) (fun q h _ => Q (.inr q) h))) : xCn G mJ20_linkLast d K [xr (some this), xr o900] h Q := by
  refine xCn_of px_J20_linkLast rfl rfl (Nat.le_of_ble_eq_true rfl) ?_
  show xWp G mJ20_linkLast d K Q K 0 [some (xr (some this)), some (xr o900), none, none] [] h
  refine xw_aload_n dJ20_linkLast_0 rfl ?_
  obtain ⟨hcK, o1, hvK, hvc⟩ := hvc
  refine xw_get dJ20_linkLast_1 hcJ20 in_J20 (kf := 3) (by decide) q1293 (fun _ _ _ _ z => z) hcK hvK ?_
  refine xw_astore_n dJ20_linkLast_4 (Nat.le_of_ble_eq_true rfl) (L9 := [some (xr (some this)), some (xr o900), some (xr o1), none]) rfl ?_
  obtain ⟨hle, hvc⟩ := hvc
  refine xw_new dJ20_linkLast_5 hcJ27 in_J27 tyJ27_ok q1656 q1657 q152 hle (fun h2 a3 ea9 eh9 => ?_)
  replace hvc := hvc h2 a3 ea9 eh9
  refine xw_dup dJ20_linkLast_8 rfl ?_
  refine xw_aload_n dJ20_linkLast_9 rfl ?_
  refine xw_aload_n dJ20_linkLast_10 rfl ?_
  refine xw_null dJ20_linkLast_11 ?_
  obtain ⟨d9, k9, hd9, hk9, hC9⟩ := hvc
  refine xw_callI dJ20_linkLast_12 px_J27_init pm_J27_init q1658 q1659 rfl rfl (As := [xr o1, xr o900, xr none]) (rest := [xr (some a3)]) rfl rfl (Nat.le_of_ble_eq_true rfl) hd9 hk9 hC9 (xkV_n fun h4 hvc => ?_) (fun q h hq => xTh_out0 rfl hq)
  refine xw_astore_n dJ20_linkLast_15 (Nat.le_of_ble_eq_true rfl) (L9 := [some (xr (some this)), some (xr o900), some (xr o1), some (xr (some a3))]) rfl ?_
  refine xw_aload_n dJ20_linkLast_16 rfl ?_
  refine xw_aload_n dJ20_linkLast_17 rfl ?_
  obtain ⟨hcK, hvc⟩ := hvc
  refine xw_put dJ20_linkLast_18 hcJ20 in_J20 tyJ20_ok xnmJ20 (kf := 3) (by decide) q1293 (fun _ _ _ _ z => z) rfl (xnar_r _ rfl _).1 (xnar_r _ rfl _).2 hcK (Or.inl rfl) (fun h6 eh9 => ?_)
  replace hvc := hvc h6 eh9
  refine xw_aload_n dJ20_linkLast_21 rfl ?_
  refine xw_ifnonnull 33 dJ20_linkLast_22 rfl (fun a7 hc => ?_) (fun hc => ?_)
  · replace hvc := hvc.1 _ hc
    subst hc
    refine xw_aload_n dJ20_linkLast_33 rfl ?_
    refine xw_aload_n dJ20_linkLast_34 rfl ?_
    obtain ⟨hcK, hvc⟩ := hvc
    refine xw_put dJ20_linkLast_35 hcJ27 in_J27 tyJ27_ok xnmJ27 (kf := 1) (by decide) q1667 (fun _ _ _ _ z => z) rfl (xnar_r _ rfl _).1 (xnar_r _ rfl _).2 hcK (Or.inl rfl) (fun h8 eh9 => ?_)
    replace hvc := hvc h8 eh9
    refine xw_aload_n dJ20_linkLast_38 rfl ?_
    refine xw_dup dJ20_linkLast_39 rfl ?_
    obtain ⟨hcK, n9, hvK, hvc⟩ := hvc
    refine xw_get dJ20_linkLast_40 hcJ20 in_J20 (kf := 1) (by decide) q1290 (fun _ _ _ _ z => z) hcK hvK ?_
    refine xw_iconst (1 : Int32) dJ20_linkLast_43 (by decide) ?_
    refine xw_iadd dJ20_linkLast_44 ?_
    obtain ⟨hcK, hvc⟩ := hvc
    refine xw_put dJ20_linkLast_45 hcJ20 in_J20 tyJ20_ok xnmJ20 (kf := 1) (by decide) q1290 (fun _ _ _ _ z => z) rfl rfl rfl hcK (Or.inl rfl) (fun h10 eh9 => ?_)
    replace hvc := hvc h10 eh9
    refine xw_aload_n dJ20_linkLast_48 rfl ?_
    refine xw_dup dJ20_linkLast_49 rfl ?_
    obtain ⟨hcK, n11, hvK, hvc⟩ := hvc
    refine xw_get dJ20_linkLast_50 hcJ20 in_J20 (kf := 0) (by decide) q234 (fun _ _ hw _ z => u_same (hw _ q230) _ z) hcK hvK ?_
    refine xw_iconst (1 : Int32) dJ20_linkLast_53 (by decide) ?_
    refine xw_iadd dJ20_linkLast_54 ?_
    obtain ⟨hcK, hvc⟩ := hvc
    refine xw_put dJ20_linkLast_55 hcJ20 in_J20 tyJ20_ok xnmJ20 (kf := 0) (by decide) q234 (fun _ _ hw _ z => u_same (hw _ q230) _ z) rfl rfl rfl hcK (Or.inl rfl) (fun h12 eh9 => ?_)
    replace hvc := hvc h12 eh9
    exact xw_vret dJ20_linkLast_58 rfl hvc
  · replace hvc := hvc.2 hc
    subst hc
    refine xw_aload_n dJ20_linkLast_25 rfl ?_
    refine xw_aload_n dJ20_linkLast_26 rfl ?_
    obtain ⟨hcK, hvc⟩ := hvc
    refine xw_put dJ20_linkLast_27 hcJ20 in_J20 tyJ20_ok xnmJ20 (kf := 2) (by decide) q1292 (fun _ _ _ _ z => z) rfl (xnar_r _ rfl _).1 (xnar_r _ rfl _).2 hcK (Or.inl rfl) (fun h13 eh9 => ?_)
    replace hvc := hvc h13 eh9
    refine xw_goto 38 dJ20_linkLast_30 rfl ?_
    refine xw_aload_n dJ20_linkLast_38 rfl ?_
    refine xw_dup dJ20_linkLast_39 rfl ?_
    obtain ⟨hcK, n14, hvK, hvc⟩ := hvc
    refine xw_get dJ20_linkLast_40 hcJ20 in_J20 (kf := 1) (by decide) q1290 (fun _ _ _ _ z => z) hcK hvK ?_
    refine xw_iconst (1 : Int32) dJ20_linkLast_43 (by decide) ?_
    refine xw_iadd dJ20_linkLast_44 ?_
    obtain ⟨hcK, hvc⟩ := hvc
    refine xw_put dJ20_linkLast_45 hcJ20 in_J20 tyJ20_ok xnmJ20 (kf := 1) (by decide) q1290 (fun _ _ _ _ z => z) rfl rfl rfl hcK (Or.inl rfl) (fun h15 eh9 => ?_)
    replace hvc := hvc h15 eh9
    refine xw_aload_n dJ20_linkLast_48 rfl ?_
    refine xw_dup dJ20_linkLast_49 rfl ?_
    obtain ⟨hcK, n16, hvK, hvc⟩ := hvc
    refine xw_get dJ20_linkLast_50 hcJ20 in_J20 (kf := 0) (by decide) q234 (fun _ _ hw _ z => u_same (hw _ q230) _ z) hcK hvK ?_
    refine xw_iconst (1 : Int32) dJ20_linkLast_53 (by decide) ?_
    refine xw_iadd dJ20_linkLast_54 ?_
    obtain ⟨hcK, hvc⟩ := hvc
    refine xw_put dJ20_linkLast_55 hcJ20 in_J20 tyJ20_ok xnmJ20 (kf := 0) (by decide) q234 (fun _ _ hw _ z => u_same (hw _ q230) _ z) rfl rfl rfl hcK (Or.inl rfl) (fun h17 eh9 => ?_)
    replace hvc := hvc h17 eh9
    exact xw_vret dJ20_linkLast_58 rfl hvc

theorem vc_J4_init {G : xG} {d K : Nat} {Q : xR → xH → Prop} {h : xH} {this : Nat} {o900 : Option Nat}
    (hvc : xcls h this = 8 ∧ ∀ h1 : xH, h1 = xput h this 3 (xr o900) → 1 ≤ d ∧ xcls h1 this = 8 ∧ ∀ h2 : xH, h2 = xput h1 this 1 (xi (-1 : Int32)) → xcls h2 this = 8 ∧ ∃ o3 : Option Nat, xval h2 this 3 = xr o3 ∧ ∃ a4, o3 = some a4 ∧ xcls h2 a4 = 4 ∧ ∃ n5 : Int32, xval h2 a4 0 = xi n5 ∧ xcls h2 this = 8 ∧ ∀ h6 : xH, h6 = xput h2 this 2 (xi n5) → Q (.inl none) h6) : xCn G mJ4_init d K [xr (some this), xr o900] h Q := by
  refine xCn_of px_J4_init rfl rfl (Nat.le_of_ble_eq_true rfl) ?_
  show xWp G mJ4_init d K Q K 0 [some (xr (some this)), some (xr o900)] [] h
  refine xw_aload_n dJ4_init_0 rfl ?_
  refine xw_aload_n dJ4_init_1 rfl ?_
  obtain ⟨hcK, hvc⟩ := hvc
  refine xw_putF dJ4_init_2 hcJ4 in_J4 tyJ4_ok xnmJ4 (kf := 3) (by decide) q433 (fun _ _ _ _ z => z) rfl rfl rfl (xnar_r _ rfl _).1 (xnar_r _ rfl _).2 hcK (Or.inl rfl) (fun h1 eh9 => ?_)
  replace hvc := hvc h1 eh9
  refine xw_aload_n dJ4_init_5 rfl ?_
  obtain ⟨hd9, hvc⟩ := hvc
  refine xw_objInit dJ4_init_6 q427 q196 q197 hd9 (Nat.le_of_ble_eq_true rfl) ?_
  refine xw_aload_n dJ4_init_9 rfl ?_
  refine xw_iconst (-1 : Int32) dJ4_init_10 (by decide) ?_
  obtain ⟨hcK, hvc⟩ := hvc
  refine xw_put dJ4_init_11 hcJ4 in_J4 tyJ4_ok xnmJ4 (kf := 1) (by decide) q431 (fun _ _ _ _ z => z) rfl rfl rfl hcK (Or.inl rfl) (fun h2 eh9 => ?_)
  replace hvc := hvc h2 eh9
  refine xw_aload_n dJ4_init_14 rfl ?_
  refine xw_aload_n dJ4_init_15 rfl ?_
  obtain ⟨hcK, o3, hvK, hvc⟩ := hvc
  refine xw_get dJ4_init_16 hcJ4 in_J4 (kf := 3) (by decide) q433 (fun _ _ _ _ z => z) hcK hvK ?_
  obtain ⟨a4, ho, hvc⟩ := hvc
  subst ho
  obtain ⟨hcK, n5, hvK, hvc⟩ := hvc
  refine xw_get dJ4_init_19 hcJ2 in_J2 (kf := 0) (by decide) q231 (fun _ _ hw _ z => u_same (hw _ q232) _ z) hcK hvK ?_
  obtain ⟨hcK, hvc⟩ := hvc
  refine xw_put dJ4_init_22 hcJ4 in_J4 tyJ4_ok xnmJ4 (kf := 2) (by decide) q432 (fun _ _ _ _ z => z) rfl rfl rfl hcK (Or.inl rfl) (fun h6 eh9 => ?_)
  replace hvc := hvc h6 eh9
  exact xw_vret dJ4_init_25 rfl hvc

theorem vc_J4_hasNext {G : xG} {d K : Nat} {Q : xR → xH → Prop} {h : xH} {this : Nat}
    (hvc : xcls h this = 8 ∧ ∃ n1 : Int32, xval h this 0 = xi n1 ∧ xcls h this = 8 ∧ ∃ o2 : Option Nat, xval h this 3 = xr o2 ∧ ∃ a3, o2 = some a3 ∧ xcls h a3 = 4 ∧ ∃ n4 : Int32, xval h a3 2 = xi n4 ∧ ((n1 = n4 → Q (.inl (some (xi (0 : Int32)))) h) ∧ (¬ n1 = n4 → Q (.inl (some (xi (1 : Int32)))) h))) : xCn G mJ4_hasNext d K [xr (some this)] h Q := by
  refine xCn_of px_J4_hasNext rfl rfl (Nat.le_of_ble_eq_true rfl) ?_
  show xWp G mJ4_hasNext d K Q K 0 [some (xr (some this))] [] h
  refine xw_aload_n dJ4_hasNext_0 rfl ?_
  obtain ⟨hcK, n1, hvK, hvc⟩ := hvc
  refine xw_get dJ4_hasNext_1 hcJ4 in_J4 (kf := 0) (by decide) q430 (fun _ _ _ _ z => z) hcK hvK ?_
  refine xw_aload_n dJ4_hasNext_4 rfl ?_
  obtain ⟨hcK, o2, hvK, hvc⟩ := hvc
  refine xw_get dJ4_hasNext_5 hcJ4 in_J4 (kf := 3) (by decide) q433 (fun _ _ _ _ z => z) hcK hvK ?_
  obtain ⟨a3, ho, hvc⟩ := hvc
  subst ho
  obtain ⟨hcK, n4, hvK, hvc⟩ := hvc
  refine xw_getN dJ4_hasNext_8 hcJ2 in_J2 (kf := 2) (by decide) q226 (fun _ _ _ _ z => z) hcK hvK ?_
  refine xw_icmp_eq 18 dJ4_hasNext_11 rfl (fun hc => ?_) (fun hc => ?_)
  · replace hvc := hvc.1 hc
    refine xw_iconst (0 : Int32) dJ4_hasNext_18 (by decide) ?_
    exact xw_zret dJ4_hasNext_19 rfl rfl hvc
  · replace hvc := hvc.2 hc
    refine xw_iconst (1 : Int32) dJ4_hasNext_14 (by decide) ?_
    refine xw_goto 19 dJ4_hasNext_15 rfl ?_
    exact xw_zret dJ4_hasNext_19 rfl rfl hvc

theorem vc_J4_next {G : xG} {d K : Nat} {Q : xR → xH → Prop} {h : xH} {this : Nat}
    (hvc : xcls h this = 8 ∧ xCall G d K mJ4_checkForComodification [xr (some this)] h (xkV (fun h1 k2 => xcls h1 this = 8 ∧ ∃ n3 : Int32, xval h1 this 0 = xi n3 ∧ xcls h1 this = 8 ∧ ∃ o4 : Option Nat, xval h1 this 3 = xr o4 ∧ ∃ a5, o4 = some a5 ∧ xcls h1 a5 = 4 ∧ ∃ n6 : Int32, xval h1 a5 2 = xi n6 ∧ ((n3 < n6 → xcls h1 this = 8 ∧ ∃ o7 : Option Nat, xval h1 this 3 = xr o7 ∧ ∃ a8, o7 = some a8 ∧ xcls h1 a8 = 4 ∧ ∃ o9 : Option Nat, xval h1 a8 1 = xr o9 ∧ ∃ a10, o9 = some a10 ∧ (∃ t11 ty, xty[t11]? = some ty ∧ xcls h1 a10 = 1000 + t11) ∧ ((n3 < (nI (xlen h1 a10)) → xcls h1 this = 8 ∧ ∀ h12 : xH, h12 = xput h1 this 0 (xi (n3 + (1 : Int32))) → xcls h12 this = 8 ∧ ∀ h13 : xH, h13 = xput h12 this 1 (xi n3) → xcls h13 a10 = 1006 ∧ ∃ i14 : Nat, n3 = nI i14 ∧ i14 < 2147483648 ∧ i14 < xlen h13 a10 ∧ ∃ o15 : Option Nat, xval h13 a10 i14 = xr o15 ∧ Q (.inl (some (xr o15))) h13) ∧ (¬ n3 < (nI (xlen h1 a10)) → False))) ∧ (¬ n3 < n6 → False))) (fun q h _ => Q (.inr q) h))) : xCn G mJ4_next d K [xr (some this)] h Q := by
  refine xCn_of px_J4_next rfl rfl (Nat.le_of_ble_eq_true rfl) ?_
  show xWp G mJ4_next d K Q K 0 [some (xr (some this)), none, none] [] h
  refine xw_aload_n dJ4_next_0 rfl ?_
  obtain ⟨hcK, hvc⟩ := hvc
  obtain ⟨d9, k9, hd9, hk9, hC9⟩ := hvc
  refine xw_callV dJ4_next_1 px_J4_checkForComodification pm_J4_checkForComodification q920 q921 q922 hcJ4 hcK (As := []) (rest := []) rfl rfl (Nat.le_of_ble_eq_true rfl) hd9 hk9 hC9 (xkV_n fun h1 hvc => ?_) (fun q h hq => xTh_out0 rfl hq)
  refine xw_aload_n dJ4_next_4 rfl ?_
  obtain ⟨hcK, n3, hvK, hvc⟩ := hvc
  refine xw_get dJ4_next_5 hcJ4 in_J4 (kf := 0) (by decide) q430 (fun _ _ _ _ z => z) hcK hvK ?_
  refine xw_istore_n dJ4_next_8 (Nat.le_of_ble_eq_true rfl) (L9 := [some (xr (some this)), some (xi n3), none]) rfl ?_
  refine xw_iload_n dJ4_next_9 rfl ?_
  refine xw_aload_n dJ4_next_10 rfl ?_
  obtain ⟨hcK, o4, hvK, hvc⟩ := hvc
  refine xw_get dJ4_next_11 hcJ4 in_J4 (kf := 3) (by decide) q433 (fun _ _ _ _ z => z) hcK hvK ?_
  obtain ⟨a5, ho, hvc⟩ := hvc
  subst ho
  obtain ⟨hcK, n6, hvK, hvc⟩ := hvc
  refine xw_getN dJ4_next_14 hcJ2 in_J2 (kf := 2) (by decide) q226 (fun _ _ _ _ z => z) hcK hvK ?_
  refine xw_icmp_lt 28 dJ4_next_17 rfl (fun hc => ?_) (fun hc => ?_)
  · replace hvc := hvc.1 hc
    refine xw_aload_n dJ4_next_28 rfl ?_
    obtain ⟨hcK, o7, hvK, hvc⟩ := hvc
    refine xw_get dJ4_next_29 hcJ4 in_J4 (kf := 3) (by decide) q433 (fun _ _ _ _ z => z) hcK hvK ?_
    obtain ⟨a8, ho, hvc⟩ := hvc
    subst ho
    obtain ⟨hcK, o9, hvK, hvc⟩ := hvc
    refine xw_get dJ4_next_32 hcJ2 in_J2 (kf := 1) (by decide) q225 (fun _ _ _ _ z => z) hcK hvK ?_
    refine xw_astore_n dJ4_next_35 (Nat.le_of_ble_eq_true rfl) (L9 := [some (xr (some this)), some (xi n3), some (xr o9)]) rfl ?_
    refine xw_iload_n dJ4_next_36 rfl ?_
    refine xw_aload_n dJ4_next_37 rfl ?_
    obtain ⟨a10, ho, hvc⟩ := hvc
    subst ho
    obtain ⟨⟨t11, ty9, hty9, hcK⟩, hvc⟩ := hvc
    refine xw_alen dJ4_next_38 hty9 hcK ?_
    refine xw_icmp_lt 50 dJ4_next_39 rfl (fun hc => ?_) (fun hc => ?_)
    · replace hvc := hvc.1 hc
      refine xw_aload_n dJ4_next_50 rfl ?_
      refine xw_iload_n dJ4_next_51 rfl ?_
      refine xw_iconst (1 : Int32) dJ4_next_52 (by decide) ?_
      refine xw_iadd dJ4_next_53 ?_
      obtain ⟨hcK, hvc⟩ := hvc
      refine xw_put dJ4_next_54 hcJ4 in_J4 tyJ4_ok xnmJ4 (kf := 0) (by decide) q430 (fun _ _ _ _ z => z) rfl rfl rfl hcK (Or.inl rfl) (fun h12 eh9 => ?_)
      replace hvc := hvc h12 eh9
      refine xw_aload_n dJ4_next_57 rfl ?_
      refine xw_aload_n dJ4_next_58 rfl ?_
      refine xw_iload_n dJ4_next_59 rfl ?_
      refine xw_dup_x1 dJ4_next_60 rfl rfl ?_
      obtain ⟨hcK, hvc⟩ := hvc
      refine xw_put dJ4_next_61 hcJ4 in_J4 tyJ4_ok xnmJ4 (kf := 1) (by decide) q431 (fun _ _ _ _ z => z) rfl rfl rfl hcK (Or.inl rfl) (fun h13 eh9 => ?_)
      replace hvc := hvc h13 eh9
      obtain ⟨hcK, i14, hx9, hb9, hi9, o15, hv9, hvc⟩ := hvc
      refine xw_aald (j := 6) dJ4_next_64 rfl hcK hx9 hb9 hi9 hv9 ?_
      exact xw_aret dJ4_next_65 rfl rfl hvc
    · replace hvc := hvc.2 hc
      exact hvc.elim
  · replace hvc := hvc.2 hc
    exact hvc.elim

theorem vc_J4_checkForComodification {G : xG} {d K : Nat} {Q : xR → xH → Prop} {h : xH} {this : Nat}
    (hvc : xcls h this = 8 ∧ ∃ o1 : Option Nat, xval h this 3 = xr o1 ∧ ∃ a2, o1 = some a2 ∧ xcls h a2 = 4 ∧ ∃ n3 : Int32, xval h a2 0 = xi n3 ∧ xcls h this = 8 ∧ ∃ n4 : Int32, xval h this 2 = xi n4 ∧ ((n3 = n4 → Q (.inl none) h) ∧ (¬ n3 = n4 → False))) : xCn G mJ4_checkForComodification d K [xr (some this)] h Q := by
  refine xCn_of px_J4_checkForComodification rfl rfl (Nat.le_of_ble_eq_true rfl) ?_
  show xWp G mJ4_checkForComodification d K Q K 0 [some (xr (some this))] [] h
  refine xw_aload_n dJ4_checkForComodification_0 rfl ?_
  obtain ⟨hcK, o1, hvK, hvc⟩ := hvc
  refine xw_get dJ4_checkForComodification_1 hcJ4 in_J4 (kf := 3) (by decide) q433 (fun _ _ _ _ z => z) hcK hvK ?_
  obtain ⟨a2, ho, hvc⟩ := hvc
  subst ho
  obtain ⟨hcK, n3, hvK, hvc⟩ := hvc
  refine xw_get dJ4_checkForComodification_4 hcJ2 in_J2 (kf := 0) (by decide) q231 (fun _ _ hw _ z => u_same (hw _ q232) _ z) hcK hvK ?_
  refine xw_aload_n dJ4_checkForComodification_7 rfl ?_
  obtain ⟨hcK, n4, hvK, hvc⟩ := hvc
  refine xw_get dJ4_checkForComodification_8 hcJ4 in_J4 (kf := 2) (by decide) q432 (fun _ _ _ _ z => z) hcK hvK ?_
  refine xw_icmp_eq 22 dJ4_checkForComodification_11 rfl (fun hc => ?_) (fun hc => ?_)
  · replace hvc := hvc.1 hc
    exact xw_vret dJ4_checkForComodification_22 rfl hvc
  · replace hvc := hvc.2 hc
    exact hvc.elim

theorem vc_J13_checkBoundsBeginEnd {G : xG} {d K : Nat} {Q : xR → xH → Prop} {h : xH} {x1 : Int32} {x2 : Int32} {x3 : Int32}
    (hvc : ∃ o1 : Option Nat, G.2.1 4 = xr o1 ∧ xCall G d K mJ6_checkFromToIndex [xi x1, xi x2, xi x3, xr o1] h (xkI (fun n4 h2 k3 => Q (.inl none) h2) (fun q h _ => Q (.inr q) h))) : xCn G mJ13_checkBoundsBeginEnd d K [xi x1, xi x2, xi x3] h Q := by
  refine xCn_of px_J13_checkBoundsBeginEnd rfl rfl (Nat.le_of_ble_eq_true rfl) ?_
  show xWp G mJ13_checkBoundsBeginEnd d K Q K 0 [some (xi x1), some (xi x2), some (xi x3)] [] h
  refine xw_iload_n dJ13_checkBoundsBeginEnd_0 rfl ?_
  refine xw_iload_n dJ13_checkBoundsBeginEnd_1 rfl ?_
  refine xw_iload_n dJ13_checkBoundsBeginEnd_2 rfl ?_
  obtain ⟨o1, he, hvc⟩ := hvc
  refine xw_gets (i := 4) dJ13_checkBoundsBeginEnd_3 rfl q771 ?_
  rw [he]
  obtain ⟨d9, k9, hd9, hk9, hC9⟩ := hvc
  refine xw_callS dJ13_checkBoundsBeginEnd_6 px_J6_checkFromToIndex pm_J6_checkFromToIndex q773 q774 (As := [xi x1, xi x2, xi x3, xr o1]) (rest := []) rfl rfl (Nat.le_of_ble_eq_true rfl) hd9 hk9 hC9 (xkI_n fun n4 h2 hvc => ?_) (fun q h hq => xTh_out0 rfl hq)
  refine xw_pop dJ13_checkBoundsBeginEnd_9 rfl ?_
  exact xw_vret dJ13_checkBoundsBeginEnd_10 rfl hvc

theorem vc_J13_length {G : xG} {d K : Nat} {Q : xR → xH → Prop} {h : xH} {this : Nat}
    (hvc : xcls h this = 12 ∧ ∃ o1 : Option Nat, xval h this 0 = xr o1 ∧ ∃ a2, o1 = some a2 ∧ (∃ t3 ty, xty[t3]? = some ty ∧ xcls h a2 = 1000 + t3) ∧ xcls h this = 12 ∧ xCall G d K mJ13_coder [xr (some this)] h (xkI (fun n6 h4 k5 => Q (.inl (some (xi ((nI (xlen h a2)) >>> (n6 &&& 31))))) h4) (fun q h _ => Q (.inr q) h))) : xCn G mJ13_length d K [xr (some this)] h Q := by
  refine xCn_of px_J13_length rfl rfl (Nat.le_of_ble_eq_true rfl) ?_
  show xWp G mJ13_length d K Q K 0 [some (xr (some this))] [] h
  refine xw_aload_n dJ13_length_0 rfl ?_
  obtain ⟨hcK, o1, hvK, hvc⟩ := hvc
  refine xw_get dJ13_length_1 hcJ13 in_J13 (kf := 0) (by decide) q878 (fun _ _ _ _ z => z) hcK hvK ?_
  obtain ⟨a2, ho, hvc⟩ := hvc
  subst ho
  obtain ⟨⟨t3, ty9, hty9, hcK⟩, hvc⟩ := hvc
  refine xw_alen dJ13_length_4 hty9 hcK ?_
  refine xw_aload_n dJ13_length_5 rfl ?_
  obtain ⟨hcK, hvc⟩ := hvc
  obtain ⟨d9, k9, hd9, hk9, hC9⟩ := hvc
  refine xw_callV dJ13_length_6 px_J13_coder pm_J13_coder q789 q790 q791 hcJ13 hcK (As := []) (rest := [xi (nI (xlen h a2))]) rfl rfl (Nat.le_of_ble_eq_true rfl) hd9 hk9 hC9 (xkI_n fun n6 h4 hvc => ?_) (fun q h hq => xTh_out0 rfl hq)
  refine xw_ishr dJ13_length_9 ?_
  exact xw_iret dJ13_length_10 rfl hvc

theorem vc_J13_coder {G : xG} {d K : Nat} {Q : xR → xH → Prop} {h : xH} {this : Nat}
    (hvc : ∃ n1 : Int32, G.2.1 3 = xi n1 ∧ ((n1 = 0 → Q (.inl (some (xi (1 : Int32)))) h) ∧ (¬ n1 = 0 → xcls h this = 12 ∧ ∃ n2 : Int32, xval h this 1 = xi n2 ∧ narrow .byte (.int n2) = .int n2 ∧ Q (.inl (some (xi n2))) h))) : xCn G mJ13_coder d K [xr (some this)] h Q := by
  refine xCn_of px_J13_coder rfl rfl (Nat.le_of_ble_eq_true rfl) ?_
  show xWp G mJ13_coder d K Q K 0 [some (xr (some this))] [] h
  obtain ⟨n1, he, hvc⟩ := hvc
  refine xw_gets (i := 3) dJ13_coder_0 rfl q793 ?_
  rw [he]
  refine xw_if_eq 13 dJ13_coder_3 rfl (fun hc => ?_) (fun hc => ?_)
  · replace hvc := hvc.1 hc
    refine xw_iconst (1 : Int32) dJ13_coder_13 (by decide) ?_
    exact xw_zret dJ13_coder_14 rfl rfl hvc
  · replace hvc := hvc.2 hc
    refine xw_aload_n dJ13_coder_6 rfl ?_
    obtain ⟨hcK, n2, hvK, hvc⟩ := hvc
    refine xw_get dJ13_coder_7 hcJ13 in_J13 (kf := 1) (by decide) q879 (fun _ _ _ _ z => z) hcK hvK ?_
    refine xw_goto 14 dJ13_coder_10 rfl ?_
    exact xw_zret dJ13_coder_14 rfl hvc.1 hvc.2

theorem vc_J13_getBytes {G : xG} {d K : Nat} {Q : xR → xH → Prop} {h : xH} {this : Nat} {o900 : Option Nat} {x2 : Int32} {x3 : Int32}
    (hvc : xcls h this = 12 ∧ xCall G d K mJ13_coder [xr (some this)] h (xkI (fun n3 h1 k2 => ((¬ n3 = x3 → xcls h1 this = 12 ∧ ∃ o4 : Option Nat, xval h1 this 0 = xr o4 ∧ xcls h1 this = 12 ∧ ∃ o5 : Option Nat, xval h1 this 0 = xr o5 ∧ ∃ a6, o5 = some a6 ∧ (∃ t7 ty, xty[t7]? = some ty ∧ xcls h1 a6 = 1000 + t7) ∧ xCall G d k2 mJ18_inflate [xr o4, xi (0 : Int32), xr o900, xi x2, xi (nI (xlen h1 a6))] h1 (xkV (fun h8 k9 => Q (.inl none) h8) (fun q h _ => Q (.inr q) h))) ∧ (n3 = x3 → xcls h1 this = 12 ∧ ∃ o10 : Option Nat, xval h1 this 0 = xr o10 ∧ xcls h1 this = 12 ∧ ∃ o11 : Option Nat, xval h1 this 0 = xr o11 ∧ ∃ a12, o11 = some a12 ∧ (∃ t13 ty, xty[t13]? = some ty ∧ xcls h1 a12 = 1000 + t13) ∧ ∃ a14, o10 = some a14 ∧ ∃ a15, o900 = some a15 ∧ 1 ≤ d ∧ xcls h1 a14 = 1000 ∧ xcls h1 a15 = 1000 ∧ xlo h1 ≤ a15 ∧ ∃ i16 i17 m18 : Nat, (0 : Int32) = nI i16 ∧ (x2 <<< (x3 &&& 31)) = nI i17 ∧ (nI (xlen h1 a12)) = nI m18 ∧ i16 + m18 ≤ xlen h1 a14 ∧ i17 + m18 ≤ xlen h1 a15 ∧ xlen h1 a14 < 2147483648 ∧ xlen h1 a15 < 2147483648 ∧ (∀ t, t < m18 → ∃ v : Int32, xval h1 a14 (i16 + t) = xi v ∧ fits .byte (.int v) = true) ∧ ∀ h19 : xH, h19 = xcpy h1 a14 a15 i16 i17 m18 → Q (.inl none) h19))) (fun q h _ => Q (.inr q) h))) : xCn G mJ13_getBytes d K [xr (some this), xr o900, xi x2, xi x3] h Q := by
  refine xCn_of px_J13_getBytes rfl rfl (Nat.le_of_ble_eq_true rfl) ?_
  show xWp G mJ13_getBytes d K Q K 0 [some (xr (some this)), some (xr o900), some (xi x2), some (xi x3)] [] h
  refine xw_aload_n dJ13_getBytes_0 rfl ?_
  obtain ⟨hcK, hvc⟩ := hvc
  obtain ⟨d9, k9, hd9, hk9, hC9⟩ := hvc
  refine xw_callV dJ13_getBytes_1 px_J13_coder pm_J13_coder q789 q790 q791 hcJ13 hcK (As := []) (rest := []) rfl rfl (Nat.le_of_ble_eq_true rfl) hd9 hk9 hC9 (xkI_n fun n3 h1 hvc => ?_) (fun q h hq => xTh_out0 rfl hq)
  refine xw_iload_n dJ13_getBytes_4 rfl ?_
  refine xw_icmp_ne 28 dJ13_getBytes_5 rfl (fun hc => ?_) (fun hc => ?_)
  · replace hvc := hvc.1 hc
    refine xw_aload_n dJ13_getBytes_28 rfl ?_
    obtain ⟨hcK, o4, hvK, hvc⟩ := hvc
    refine xw_get dJ13_getBytes_29 hcJ13 in_J13 (kf := 0) (by decide) q878 (fun _ _ _ _ z => z) hcK hvK ?_
    refine xw_iconst (0 : Int32) dJ13_getBytes_32 (by decide) ?_
    refine xw_aload_n dJ13_getBytes_33 rfl ?_
    refine xw_iload_n dJ13_getBytes_34 rfl ?_
    refine xw_aload_n dJ13_getBytes_35 rfl ?_
    obtain ⟨hcK, o5, hvK, hvc⟩ := hvc
    refine xw_get dJ13_getBytes_36 hcJ13 in_J13 (kf := 0) (by decide) q878 (fun _ _ _ _ z => z) hcK hvK ?_
    obtain ⟨a6, ho, hvc⟩ := hvc
    subst ho
    obtain ⟨⟨t7, ty9, hty9, hcK⟩, hvc⟩ := hvc
    refine xw_alen dJ13_getBytes_39 hty9 hcK ?_
    obtain ⟨d9, k9, hd9, hk9, hC9⟩ := hvc
    refine xw_callS dJ13_getBytes_40 px_J18_inflate pm_J18_inflate q827 q808 (As := [xr o4, xi (0 : Int32), xr o900, xi x2, xi (nI (xlen h1 a6))]) (rest := []) rfl rfl (Nat.le_of_ble_eq_true rfl) hd9 hk9 hC9 (xkV_n fun h8 hvc => ?_) (fun q h hq => xTh_out0 rfl hq)
    exact xw_vret dJ13_getBytes_43 rfl hvc
  · replace hvc := hvc.2 hc
    refine xw_aload_n dJ13_getBytes_8 rfl ?_
    obtain ⟨hcK, o10, hvK, hvc⟩ := hvc
    refine xw_get dJ13_getBytes_9 hcJ13 in_J13 (kf := 0) (by decide) q878 (fun _ _ _ _ z => z) hcK hvK ?_
    refine xw_iconst (0 : Int32) dJ13_getBytes_12 (by decide) ?_
    refine xw_aload_n dJ13_getBytes_13 rfl ?_
    refine xw_iload_n dJ13_getBytes_14 rfl ?_
    refine xw_iload_n dJ13_getBytes_15 rfl ?_
    refine xw_ishl dJ13_getBytes_16 ?_
    refine xw_aload_n dJ13_getBytes_17 rfl ?_
    obtain ⟨hcK, o11, hvK, hvc⟩ := hvc
    refine xw_get dJ13_getBytes_18 hcJ13 in_J13 (kf := 0) (by decide) q878 (fun _ _ _ _ z => z) hcK hvK ?_
    obtain ⟨a12, ho, hvc⟩ := hvc
    subst ho
    obtain ⟨⟨t13, ty9, hty9, hcK⟩, hvc⟩ := hvc
    refine xw_alen dJ13_getBytes_21 hty9 hcK ?_
    obtain ⟨a14, ho, hvc⟩ := hvc
    subst ho
    obtain ⟨a15, ho, hvc⟩ := hvc
    subst ho
    obtain ⟨hd9, hca, hcb, hlo9, i16, i17, m18, hx9, hy9, hz9, hi9, hj9, ha9, hb9, hf9, hvc⟩ := hvc
    refine xw_acopyB dJ13_getBytes_22 q826 q753 q752 q134 hd9 (Nat.le_of_ble_eq_true rfl) hca hcb hlo9 hx9 hy9 hz9 hi9 hj9 ha9 hb9 hf9 (fun h19 eh9 => ?_)
    replace hvc := hvc h19 eh9
    refine xw_goto 43 dJ13_getBytes_25 rfl ?_
    exact xw_vret dJ13_getBytes_43 rfl hvc

theorem vc_J13_init {G : xG} {d K : Nat} {Q : xR → xH → Prop} {h : xH} {this : Nat} {o900 : Option Nat}
    (hvc : xCall G d K mJ13_init_2 [xr (some this), xr o900, xr none] h (xkV (fun h1 k2 => Q (.inl none) h1) (fun q h _ => Q (.inr q) h))) : xCn G mJ13_init d K [xr (some this), xr o900] h Q := by
  refine xCn_of px_J13_init rfl rfl (Nat.le_of_ble_eq_true rfl) ?_
  show xWp G mJ13_init d K Q K 0 [some (xr (some this)), some (xr o900)] [] h
  refine xw_aload_n dJ13_init_0 rfl ?_
  refine xw_aload_n dJ13_init_1 rfl ?_
  refine xw_null dJ13_init_2 ?_
  obtain ⟨d9, k9, hd9, hk9, hC9⟩ := hvc
  refine xw_callI dJ13_init_3 px_J13_init_2 pm_J13_init_2 q838 q839 rfl rfl (As := [xr o900, xr none]) (rest := []) rfl rfl (Nat.le_of_ble_eq_true rfl) hd9 hk9 hC9 (xkV_n fun h1 hvc => ?_) (fun q h hq => xTh_out0 rfl hq)
  exact xw_vret dJ13_init_6 rfl hvc

theorem vc_J13_init_2 {G : xG} {d K : Nat} {Q : xR → xH → Prop} {h : xH} {this : Nat} {o900 : Option Nat} {o901 : Option Nat}
    (hvc : 1 ≤ d ∧ ∃ a1, o900 = some a1 ∧ xcls h a1 = 11 ∧ xCall G d K mJ11_getValue [xr (some a1)] h (xkR (fun o4 h2 k3 => xcls h2 a1 = 11 ∧ xCall G d k3 mJ12_length [xr (some a1)] h2 (xkI (fun n7 h5 k6 => xcls h5 a1 = 11 ∧ xCall G d k6 mJ11_isLatin1 [xr (some a1)] h5 (xkI (fun n10 h8 k9 => ((n10 = 0 → ∃ n11 : Int32, G.2.1 3 = xi n11 ∧ ((n11 = 0 → xcls h8 this = 12 ∧ xlo h8 ≤ this ∧ ∀ h12 : xH, h12 = xput h8 this 1 (xi (1 : Int32)) → xCall G d k9 mJ17_copyOfRange [xr o4, xi (0 : Int32), xi (n7 <<< ((1 : Int32) &&& 31))] h12 (xkR (fun o15 h13 k14 => xcls h13 this = 12 ∧ xlo h13 ≤ this ∧ ∀ h16 : xH, h16 = xput h13 this 0 (xr o15) → Q (.inl none) h16) (fun q h _ => Q (.inr q) h))) ∧ (¬ n11 = 0 → xcls h8 a1 = 11 ∧ ∃ n17 : Int32, xval h8 a1 2 = xi n17 ∧ ((n17 = 0 → xcls h8 this = 12 ∧ xlo h8 ≤ this ∧ ∀ h18 : xH, h18 = xput h8 this 1 (xi (1 : Int32)) → xCall G d k9 mJ17_copyOfRange [xr o4, xi (0 : Int32), xi (n7 <<< ((1 : Int32) &&& 31))] h18 (xkR (fun o21 h19 k20 => xcls h19 this = 12 ∧ xlo h19 ≤ this ∧ ∀ h22 : xH, h22 = xput h19 this 0 (xr o21) → Q (.inl none) h22) (fun q h _ => Q (.inr q) h))) ∧ (¬ n17 = 0 → xCall G d k9 mJ14_compress [xr o4, xi (0 : Int32), xi n7] h8 (xkR (fun o25 h23 k24 => xcls h23 this = 12 ∧ xlo h23 ≤ this ∧ ∀ h26 : xH, h26 = xput h23 this 0 (xr o25) → xcls h26 this = 12 ∧ ∃ o27 : Option Nat, xval h26 this 0 = xr o27 ∧ xCall G d k24 mJ14_coderFromArrayLen [xr o27, xi n7] h26 (xkI (fun n30 h28 k29 => xcls h28 this = 12 ∧ (narrow .byte (.int n30) = .int n30 ∧ fits .byte (.int n30) = true) ∧ xlo h28 ≤ this ∧ ∀ h31 : xH, h31 = xput h28 this 1 (xi n30) → Q (.inl none) h31) (fun q h _ => Q (.inr q) h))) (fun q h _ => Q (.inr q) h))))))) ∧ (¬ n10 = 0 → xcls h8 this = 12 ∧ xlo h8 ≤ this ∧ ∀ h32 : xH, h32 = xput h8 this 1 (xi (0 : Int32)) → xCall G d k9 mJ17_copyOfRange [xr o4, xi (0 : Int32), xi n7] h32 (xkR (fun o35 h33 k34 => xcls h33 this = 12 ∧ xlo h33 ≤ this ∧ ∀ h36 : xH, h36 = xput h33 this 0 (xr o35) → Q (.inl none) h36) (fun q h _ => Q (.inr q) h))))) (fun q h _ => Q (.inr q) h))) (fun q h _ => Q (.inr q) h))) (fun q h _ => Q (.inr q) h))) : xCn G mJ13_init_2 d K [xr (some this), xr o900, xr o901] h Q := by
  refine xCn_of px_J13_init_2 rfl rfl (Nat.le_of_ble_eq_true rfl) ?_
  show xWp G mJ13_init_2 d K Q K 0 [some (xr (some this)), some (xr o900), some (xr o901), none, none] [] h
  refine xw_aload_n dJ13_init_2_0 rfl ?_
  obtain ⟨hd9, hvc⟩ := hvc
  refine xw_objInit dJ13_init_2_1 q841 q196 q197 hd9 (Nat.le_of_ble_eq_true rfl) ?_
  refine xw_aload_n dJ13_init_2_4 rfl ?_
  obtain ⟨a1, ho, hvc⟩ := hvc
  subst ho
  obtain ⟨hcK, hvc⟩ := hvc
  obtain ⟨d9, k9, hd9, hk9, hC9⟩ := hvc
  refine xw_callV dJ13_init_2_5 px_J11_getValue pm_J11_getValue q842 q843 q845 hcJ12 hcK (As := []) (rest := []) rfl rfl (Nat.le_of_ble_eq_true rfl) hd9 hk9 hC9 (xkR_n fun o4 h2 hvc => ?_) (fun q h hq => xTh_out0 rfl hq)
  refine xw_astore_n dJ13_init_2_8 (Nat.le_of_ble_eq_true rfl) (L9 := [some (xr (some this)), some (xr (some a1)), some (xr o901), some (xr o4), none]) rfl ?_
  refine xw_aload_n dJ13_init_2_9 rfl ?_
  obtain ⟨hcK, hvc⟩ := hvc
  obtain ⟨d9, k9, hd9, hk9, hC9⟩ := hvc
  refine xw_callO dJ13_init_2_10 px_J12_length pm_J12_length q847 q849 q848 q854 (by decide) rfl q850 q851 hcJ12 hcK (As := []) (rest := []) rfl rfl (Nat.le_of_ble_eq_true rfl) hd9 hk9 hC9 (xkI_n fun n7 h5 hvc => ?_) (fun q h hq => xTh_out0 rfl hq)
  refine xw_istore dJ13_init_2_13 (Nat.le_of_ble_eq_true rfl) (L9 := [some (xr (some this)), some (xr (some a1)), some (xr o901), some (xr o4), some (xi n7)]) rfl ?_
  refine xw_aload_n dJ13_init_2_15 rfl ?_
  obtain ⟨hcK, hvc⟩ := hvc
  obtain ⟨d9, k9, hd9, hk9, hC9⟩ := hvc
  refine xw_callV dJ13_init_2_16 px_J11_isLatin1 pm_J11_isLatin1 q855 q755 q757 hcJ12 hcK (As := []) (rest := []) rfl rfl (Nat.le_of_ble_eq_true rfl) hd9 hk9 hC9 (xkI_n fun n10 h8 hvc => ?_) (fun q h hq => xTh_out0 rfl hq)
  refine xw_if_eq 41 dJ13_init_2_19 rfl (fun hc => ?_) (fun hc => ?_)
  · replace hvc := hvc.1 hc
    obtain ⟨n11, he, hvc⟩ := hvc
    refine xw_gets (i := 3) dJ13_init_2_41 rfl q793 ?_
    rw [he]
    refine xw_if_eq 79 dJ13_init_2_44 rfl (fun hc => ?_) (fun hc => ?_)
    · replace hvc := hvc.1 hc
      refine xw_aload_n dJ13_init_2_79 rfl ?_
      refine xw_iconst (1 : Int32) dJ13_init_2_80 (by decide) ?_
      obtain ⟨hcK, hlo9, hvc⟩ := hvc
      refine xw_putF dJ13_init_2_81 hcJ13 in_J13 tyJ13_ok xnmJ13 (kf := 1) (by decide) q879 (fun _ _ _ _ z => z) rfl rfl rfl (by decide) (by decide) hcK (Or.inr hlo9) (fun h12 eh9 => ?_)
      replace hvc := hvc h12 eh9
      refine xw_aload_n dJ13_init_2_84 rfl ?_
      refine xw_aload_n dJ13_init_2_85 rfl ?_
      refine xw_iconst (0 : Int32) dJ13_init_2_86 (by decide) ?_
      refine xw_iload dJ13_init_2_87 rfl ?_
      refine xw_iconst (1 : Int32) dJ13_init_2_89 (by decide) ?_
      refine xw_ishl dJ13_init_2_90 ?_
      obtain ⟨d9, k9, hd9, hk9, hC9⟩ := hvc
      refine xw_callS dJ13_init_2_91 px_J17_copyOfRange pm_J17_copyOfRange q856 q857 (As := [xr o4, xi (0 : Int32), xi (n7 <<< ((1 : Int32) &&& 31))]) (rest := [xr (some this)]) rfl rfl (Nat.le_of_ble_eq_true rfl) hd9 hk9 hC9 (xkR_n fun o15 h13 hvc => ?_) (fun q h hq => xTh_out0 rfl hq)
      obtain ⟨hcK, hlo9, hvc⟩ := hvc
      refine xw_putF dJ13_init_2_94 hcJ13 in_J13 tyJ13_ok xnmJ13 (kf := 0) (by decide) q878 (fun _ _ _ _ z => z) rfl rfl rfl (xnar_r _ rfl _).1 (xnar_r _ rfl _).2 hcK (Or.inr hlo9) (fun h16 eh9 => ?_)
      replace hvc := hvc h16 eh9
      exact xw_vret dJ13_init_2_97 rfl hvc
    · replace hvc := hvc.2 hc
      refine xw_aload_n dJ13_init_2_47 rfl ?_
      obtain ⟨hcK, n17, hvK, hvc⟩ := hvc
      refine xw_get dJ13_init_2_48 hcJ12 in_J12 (kf := 2) (by decide) q697 (fun _ _ _ _ z => z) hcK hvK ?_
      refine xw_if_eq 79 dJ13_init_2_51 rfl (fun hc => ?_) (fun hc => ?_)
      · replace hvc := hvc.1 hc
        refine xw_aload_n dJ13_init_2_79 rfl ?_
        refine xw_iconst (1 : Int32) dJ13_init_2_80 (by decide) ?_
        obtain ⟨hcK, hlo9, hvc⟩ := hvc
        refine xw_putF dJ13_init_2_81 hcJ13 in_J13 tyJ13_ok xnmJ13 (kf := 1) (by decide) q879 (fun _ _ _ _ z => z) rfl rfl rfl (by decide) (by decide) hcK (Or.inr hlo9) (fun h18 eh9 => ?_)
        replace hvc := hvc h18 eh9
        refine xw_aload_n dJ13_init_2_84 rfl ?_
        refine xw_aload_n dJ13_init_2_85 rfl ?_
        refine xw_iconst (0 : Int32) dJ13_init_2_86 (by decide) ?_
        refine xw_iload dJ13_init_2_87 rfl ?_
        refine xw_iconst (1 : Int32) dJ13_init_2_89 (by decide) ?_
        refine xw_ishl dJ13_init_2_90 ?_
        obtain ⟨d9, k9, hd9, hk9, hC9⟩ := hvc
        refine xw_callS dJ13_init_2_91 px_J17_copyOfRange pm_J17_copyOfRange q856 q857 (As := [xr o4, xi (0 : Int32), xi (n7 <<< ((1 : Int32) &&& 31))]) (rest := [xr (some this)]) rfl rfl (Nat.le_of_ble_eq_true rfl) hd9 hk9 hC9 (xkR_n fun o21 h19 hvc => ?_) (fun q h hq => xTh_out0 rfl hq)
        obtain ⟨hcK, hlo9, hvc⟩ := hvc
        refine xw_putF dJ13_init_2_94 hcJ13 in_J13 tyJ13_ok xnmJ13 (kf := 0) (by decide) q878 (fun _ _ _ _ z => z) rfl rfl rfl (xnar_r _ rfl _).1 (xnar_r _ rfl _).2 hcK (Or.inr hlo9) (fun h22 eh9 => ?_)
        replace hvc := hvc h22 eh9
        exact xw_vret dJ13_init_2_97 rfl hvc
      · replace hvc := hvc.2 hc
        refine xw_aload_n dJ13_init_2_54 rfl ?_
        refine xw_aload_n dJ13_init_2_55 rfl ?_
        refine xw_iconst (0 : Int32) dJ13_init_2_56 (by decide) ?_
        refine xw_iload dJ13_init_2_57 rfl ?_
        obtain ⟨d9, k9, hd9, hk9, hC9⟩ := hvc
        refine xw_callS dJ13_init_2_59 px_J14_compress pm_J14_compress q865 q866 (As := [xr o4, xi (0 : Int32), xi n7]) (rest := [xr (some this)]) rfl rfl (Nat.le_of_ble_eq_true rfl) hd9 hk9 hC9 (xkR_n fun o25 h23 hvc => ?_) (fun q h hq => xTh_out0 rfl hq)
        obtain ⟨hcK, hlo9, hvc⟩ := hvc
        refine xw_putF dJ13_init_2_62 hcJ13 in_J13 tyJ13_ok xnmJ13 (kf := 0) (by decide) q878 (fun _ _ _ _ z => z) rfl rfl rfl (xnar_r _ rfl _).1 (xnar_r _ rfl _).2 hcK (Or.inr hlo9) (fun h26 eh9 => ?_)
        replace hvc := hvc h26 eh9
        refine xw_aload_n dJ13_init_2_65 rfl ?_
        refine xw_aload_n dJ13_init_2_66 rfl ?_
        obtain ⟨hcK, o27, hvK, hvc⟩ := hvc
        refine xw_get dJ13_init_2_67 hcJ13 in_J13 (kf := 0) (by decide) q878 (fun _ _ _ _ z => z) hcK hvK ?_
        refine xw_iload dJ13_init_2_70 rfl ?_
        obtain ⟨d9, k9, hd9, hk9, hC9⟩ := hvc
        refine xw_callS dJ13_init_2_72 px_J14_coderFromArrayLen pm_J14_coderFromArrayLen q875 q876 (As := [xr o27, xi n7]) (rest := [xr (some this)]) rfl rfl (Nat.le_of_ble_eq_true rfl) hd9 hk9 hC9 (xkI_n fun n30 h28 hvc => ?_) (fun q h hq => xTh_out0 rfl hq)
        obtain ⟨hcK, hb01, hlo9, hvc⟩ := hvc
        refine xw_putF dJ13_init_2_75 hcJ13 in_J13 tyJ13_ok xnmJ13 (kf := 1) (by decide) q879 (fun _ _ _ _ z => z) rfl rfl rfl hb01.1 hb01.2 hcK (Or.inr hlo9) (fun h31 eh9 => ?_)
        replace hvc := hvc h31 eh9
        exact xw_vret dJ13_init_2_78 rfl hvc
  · replace hvc := hvc.2 hc
    refine xw_aload_n dJ13_init_2_22 rfl ?_
    refine xw_iconst (0 : Int32) dJ13_init_2_23 (by decide) ?_
    obtain ⟨hcK, hlo9, hvc⟩ := hvc
    refine xw_putF dJ13_init_2_24 hcJ13 in_J13 tyJ13_ok xnmJ13 (kf := 1) (by decide) q879 (fun _ _ _ _ z => z) rfl rfl rfl (by decide) (by decide) hcK (Or.inr hlo9) (fun h32 eh9 => ?_)
    replace hvc := hvc h32 eh9
    refine xw_aload_n dJ13_init_2_27 rfl ?_
    refine xw_aload_n dJ13_init_2_28 rfl ?_
    refine xw_iconst (0 : Int32) dJ13_init_2_29 (by decide) ?_
    refine xw_iload dJ13_init_2_30 rfl ?_
    obtain ⟨d9, k9, hd9, hk9, hC9⟩ := hvc
    refine xw_callS dJ13_init_2_32 px_J17_copyOfRange pm_J17_copyOfRange q856 q857 (As := [xr o4, xi (0 : Int32), xi n7]) (rest := [xr (some this)]) rfl rfl (Nat.le_of_ble_eq_true rfl) hd9 hk9 hC9 (xkR_n fun o35 h33 hvc => ?_) (fun q h hq => xTh_out0 rfl hq)
    obtain ⟨hcK, hlo9, hvc⟩ := hvc
    refine xw_putF dJ13_init_2_35 hcJ13 in_J13 tyJ13_ok xnmJ13 (kf := 0) (by decide) q878 (fun _ _ _ _ z => z) rfl rfl rfl (xnar_r _ rfl _).1 (xnar_r _ rfl _).2 hcK (Or.inr hlo9) (fun h36 eh9 => ?_)
    replace hvc := hvc h36 eh9
    refine xw_goto 97 dJ13_init_2_38 rfl ?_
    exact xw_vret dJ13_init_2_97 rfl hvc

theorem vc_J13_hashCode {G : xG} {d K : Nat} {Q : xR → xH → Prop} {h : xH} {this : Nat}
    (hvc : xcls h this = 12 ∧ ∃ n1 : Int32, xval h this 2 = xi n1 ∧ ((¬ n1 = 0 → Q (.inl (some (xi n1))) h) ∧ (n1 = 0 → xcls h this = 12 ∧ ∃ n2 : Int32, xval h this 3 = xi n2 ∧ ((¬ n2 = 0 → Q (.inl (some (xi n1))) h) ∧ (n2 = 0 → xcls h this = 12 ∧ xCall G d K mJ13_isLatin1 [xr (some this)] h (xkI (fun n5 h3 k4 => ((n5 = 0 → xcls h3 this = 12 ∧ ∃ o6 : Option Nat, xval h3 this 0 = xr o6 ∧ xCall G d k4 mJ14_hashCode [xr o6] h3 (xkI (fun n9 h7 k8 => ((¬ n9 = 0 → xcls h7 this = 12 ∧ xlo h7 ≤ this ∧ ∀ h10 : xH, h10 = xput h7 this 2 (xi n9) → Q (.inl (some (xi n9))) h10) ∧ (n9 = 0 → xcls h7 this = 12 ∧ xlo h7 ≤ this ∧ ∀ h11 : xH, h11 = xput h7 this 3 (xi (1 : Int32)) → Q (.inl (some (xi n9))) h11))) (fun q h _ => Q (.inr q) h))) ∧ (¬ n5 = 0 → xcls h3 this = 12 ∧ ∃ o12 : Option Nat, xval h3 this 0 = xr o12 ∧ xCall G d k4 mJ18_hashCode [xr o12] h3 (xkI (fun n15 h13 k14 => ((¬ n15 = 0 → xcls h13 this = 12 ∧ xlo h13 ≤ this ∧ ∀ h16 : xH, h16 = xput h13 this 2 (xi n15) → Q (.inl (some (xi n15))) h16) ∧ (n15 = 0 → xcls h13 this = 12 ∧ xlo h13 ≤ this ∧ ∀ h17 : xH, h17 = xput h13 this 3 (xi (1 : Int32)) → Q (.inl (some (xi n15))) h17))) (fun q h _ => Q (.inr q) h))))) (fun q h _ => Q (.inr q) h))))))) : xCn G mJ13_hashCode d K [xr (some this)] h Q := by
  refine xCn_of px_J13_hashCode rfl rfl (Nat.le_of_ble_eq_true rfl) ?_
  show xWp G mJ13_hashCode d K Q K 0 [some (xr (some this)), none] [] h
  refine xw_aload_n dJ13_hashCode_0 rfl ?_
  obtain ⟨hcK, n1, hvK, hvc⟩ := hvc
  refine xw_get dJ13_hashCode_1 hcJ13 in_J13 (kf := 2) (by decide) q880 (fun _ _ _ _ z => z) hcK hvK ?_
  refine xw_istore_n dJ13_hashCode_4 (Nat.le_of_ble_eq_true rfl) (L9 := [some (xr (some this)), some (xi n1)]) rfl ?_
  refine xw_iload_n dJ13_hashCode_5 rfl ?_
  refine xw_if_ne 58 dJ13_hashCode_6 rfl (fun hc => ?_) (fun hc => ?_)
  · replace hvc := hvc.1 hc
    refine xw_iload_n dJ13_hashCode_58 rfl ?_
    exact xw_iret dJ13_hashCode_59 rfl hvc
  · replace hvc := hvc.2 hc
    refine xw_aload_n dJ13_hashCode_9 rfl ?_
    obtain ⟨hcK, n2, hvK, hvc⟩ := hvc
    refine xw_get dJ13_hashCode_10 hcJ13 in_J13 (kf := 3) (by decide) q881 (fun _ _ _ _ z => z) hcK hvK ?_
    refine xw_if_ne 58 dJ13_hashCode_13 rfl (fun hc => ?_) (fun hc => ?_)
    · replace hvc := hvc.1 hc
      refine xw_iload_n dJ13_hashCode_58 rfl ?_
      exact xw_iret dJ13_hashCode_59 rfl hvc
    · replace hvc := hvc.2 hc
      refine xw_aload_n dJ13_hashCode_16 rfl ?_
      obtain ⟨hcK, hvc⟩ := hvc
      obtain ⟨d9, k9, hd9, hk9, hC9⟩ := hvc
      refine xw_callV dJ13_hashCode_17 px_J13_isLatin1 pm_J13_isLatin1 q1700 q1701 q1702 hcJ13 hcK (As := []) (rest := []) rfl rfl (Nat.le_of_ble_eq_true rfl) hd9 hk9 hC9 (xkI_n fun n5 h3 hvc => ?_) (fun q h hq => xTh_out0 rfl hq)
      refine xw_if_eq 33 dJ13_hashCode_20 rfl (fun hc => ?_) (fun hc => ?_)
      · replace hvc := hvc.1 hc
        refine xw_aload_n dJ13_hashCode_33 rfl ?_
        obtain ⟨hcK, o6, hvK, hvc⟩ := hvc
        refine xw_get dJ13_hashCode_34 hcJ13 in_J13 (kf := 0) (by decide) q878 (fun _ _ _ _ z => z) hcK hvK ?_
        obtain ⟨d9, k9, hd9, hk9, hC9⟩ := hvc
        refine xw_callS dJ13_hashCode_37 px_J14_hashCode pm_J14_hashCode q1745 q1746 (As := [xr o6]) (rest := []) rfl rfl (Nat.le_of_ble_eq_true rfl) hd9 hk9 hC9 (xkI_n fun n9 h7 hvc => ?_) (fun q h hq => xTh_out0 rfl hq)
        refine xw_istore_n dJ13_hashCode_40 (Nat.le_of_ble_eq_true rfl) (L9 := [some (xr (some this)), some (xi n9)]) rfl ?_
        refine xw_iload_n dJ13_hashCode_41 rfl ?_
        refine xw_if_ne 53 dJ13_hashCode_42 rfl (fun hc => ?_) (fun hc => ?_)
        · replace hvc := hvc.1 hc
          refine xw_aload_n dJ13_hashCode_53 rfl ?_
          refine xw_iload_n dJ13_hashCode_54 rfl ?_
          obtain ⟨hcK, hlo9, hvc⟩ := hvc
          refine xw_put dJ13_hashCode_55 hcJ13 in_J13 tyJ13_ok xnmJ13 (kf := 2) (by decide) q880 (fun _ _ _ _ z => z) rfl rfl rfl hcK (Or.inr hlo9) (fun h10 eh9 => ?_)
          replace hvc := hvc h10 eh9
          refine xw_iload_n dJ13_hashCode_58 rfl ?_
          exact xw_iret dJ13_hashCode_59 rfl hvc
        · replace hvc := hvc.2 hc
          refine xw_aload_n dJ13_hashCode_45 rfl ?_
          refine xw_iconst (1 : Int32) dJ13_hashCode_46 (by decide) ?_
          obtain ⟨hcK, hlo9, hvc⟩ := hvc
          refine xw_put dJ13_hashCode_47 hcJ13 in_J13 tyJ13_ok xnmJ13 (kf := 3) (by decide) q881 (fun _ _ _ _ z => z) rfl rfl rfl hcK (Or.inr hlo9) (fun h11 eh9 => ?_)
          replace hvc := hvc h11 eh9
          refine xw_goto 58 dJ13_hashCode_50 rfl ?_
          refine xw_iload_n dJ13_hashCode_58 rfl ?_
          exact xw_iret dJ13_hashCode_59 rfl hvc
      · replace hvc := hvc.2 hc
        refine xw_aload_n dJ13_hashCode_23 rfl ?_
        obtain ⟨hcK, o12, hvK, hvc⟩ := hvc
        refine xw_get dJ13_hashCode_24 hcJ13 in_J13 (kf := 0) (by decide) q878 (fun _ _ _ _ z => z) hcK hvK ?_
        obtain ⟨d9, k9, hd9, hk9, hC9⟩ := hvc
        refine xw_callS dJ13_hashCode_27 px_J18_hashCode pm_J18_hashCode q1704 q1705 (As := [xr o12]) (rest := []) rfl rfl (Nat.le_of_ble_eq_true rfl) hd9 hk9 hC9 (xkI_n fun n15 h13 hvc => ?_) (fun q h hq => xTh_out0 rfl hq)
        refine xw_goto 40 dJ13_hashCode_30 rfl ?_
        refine xw_istore_n dJ13_hashCode_40 (Nat.le_of_ble_eq_true rfl) (L9 := [some (xr (some this)), some (xi n15)]) rfl ?_
        refine xw_iload_n dJ13_hashCode_41 rfl ?_
        refine xw_if_ne 53 dJ13_hashCode_42 rfl (fun hc => ?_) (fun hc => ?_)
        · replace hvc := hvc.1 hc
          refine xw_aload_n dJ13_hashCode_53 rfl ?_
          refine xw_iload_n dJ13_hashCode_54 rfl ?_
          obtain ⟨hcK, hlo9, hvc⟩ := hvc
          refine xw_put dJ13_hashCode_55 hcJ13 in_J13 tyJ13_ok xnmJ13 (kf := 2) (by decide) q880 (fun _ _ _ _ z => z) rfl rfl rfl hcK (Or.inr hlo9) (fun h16 eh9 => ?_)
          replace hvc := hvc h16 eh9
          refine xw_iload_n dJ13_hashCode_58 rfl ?_
          exact xw_iret dJ13_hashCode_59 rfl hvc
        · replace hvc := hvc.2 hc
          refine xw_aload_n dJ13_hashCode_45 rfl ?_
          refine xw_iconst (1 : Int32) dJ13_hashCode_46 (by decide) ?_
          obtain ⟨hcK, hlo9, hvc⟩ := hvc
          refine xw_put dJ13_hashCode_47 hcJ13 in_J13 tyJ13_ok xnmJ13 (kf := 3) (by decide) q881 (fun _ _ _ _ z => z) rfl rfl rfl hcK (Or.inr hlo9) (fun h17 eh9 => ?_)
          replace hvc := hvc h17 eh9
          refine xw_goto 58 dJ13_hashCode_50 rfl ?_
          refine xw_iload_n dJ13_hashCode_58 rfl ?_
          exact xw_iret dJ13_hashCode_59 rfl hvc

theorem vc_J13_isLatin1 {G : xG} {d K : Nat} {Q : xR → xH → Prop} {h : xH} {this : Nat}
    (hvc : ∃ n1 : Int32, G.2.1 3 = xi n1 ∧ ((n1 = 0 → Q (.inl (some (xi (0 : Int32)))) h) ∧ (¬ n1 = 0 → xcls h this = 12 ∧ ∃ n2 : Int32, xval h this 1 = xi n2 ∧ ((¬ n2 = 0 → Q (.inl (some (xi (0 : Int32)))) h) ∧ (n2 = 0 → Q (.inl (some (xi (1 : Int32)))) h))))) : xCn G mJ13_isLatin1 d K [xr (some this)] h Q := by
  refine xCn_of px_J13_isLatin1 rfl rfl (Nat.le_of_ble_eq_true rfl) ?_
  show xWp G mJ13_isLatin1 d K Q K 0 [some (xr (some this))] [] h
  obtain ⟨n1, he, hvc⟩ := hvc
  refine xw_gets (i := 3) dJ13_isLatin1_0 rfl q793 ?_
  rw [he]
  refine xw_if_eq 17 dJ13_isLatin1_3 rfl (fun hc => ?_) (fun hc => ?_)
  · replace hvc := hvc.1 hc
    refine xw_iconst (0 : Int32) dJ13_isLatin1_17 (by decide) ?_
    exact xw_zret dJ13_isLatin1_18 rfl rfl hvc
  · replace hvc := hvc.2 hc
    refine xw_aload_n dJ13_isLatin1_6 rfl ?_
    obtain ⟨hcK, n2, hvK, hvc⟩ := hvc
    refine xw_get dJ13_isLatin1_7 hcJ13 in_J13 (kf := 1) (by decide) q879 (fun _ _ _ _ z => z) hcK hvK ?_
    refine xw_if_ne 17 dJ13_isLatin1_10 rfl (fun hc => ?_) (fun hc => ?_)
    · replace hvc := hvc.1 hc
      refine xw_iconst (0 : Int32) dJ13_isLatin1_17 (by decide) ?_
      exact xw_zret dJ13_isLatin1_18 rfl rfl hvc
    · replace hvc := hvc.2 hc
      refine xw_iconst (1 : Int32) dJ13_isLatin1_13 (by decide) ?_
      refine xw_goto 18 dJ13_isLatin1_14 rfl ?_
      exact xw_zret dJ13_isLatin1_18 rfl rfl hvc

theorem vc_J13_equals {G : xG} {d K : Nat} {Q : xR → xH → Prop} {h : xH} {this : Nat} {o900 : Option Nat}
    (hvc : ((¬ (some this) = o900 → False) ∧ ((some this) = o900 → Q (.inl (some (xi (1 : Int32)))) h))) : xCn G mJ13_equals d K [xr (some this), xr o900] h Q := by
  refine xCn_of px_J13_equals rfl rfl (Nat.le_of_ble_eq_true rfl) ?_
  show xWp G mJ13_equals d K Q K 0 [some (xr (some this)), some (xr o900), none] [] h
  refine xw_aload_n dJ13_equals_0 rfl ?_
  refine xw_aload_n dJ13_equals_1 rfl ?_
  refine xw_acmp_ne 7 dJ13_equals_2 rfl (fun hc => ?_) (fun hc => ?_)
  · replace hvc := hvc.1 hc
    exact hvc.elim
  · replace hvc := hvc.2 hc
    refine xw_iconst (1 : Int32) dJ13_equals_5 (by decide) ?_
    exact xw_zret dJ13_equals_6 rfl rfl hvc

theorem vc_J13_checkIndex {G : xG} {d K : Nat} {Q : xR → xH → Prop} {h : xH} {x1 : Int32} {x2 : Int32}
    (hvc : ∃ o1 : Option Nat, G.2.1 4 = xr o1 ∧ xCall G d K mJ6_checkIndex [xi x1, xi x2, xr o1] h (xkI (fun n4 h2 k3 => Q (.inl none) h2) (fun q h _ => Q (.inr q) h))) : xCn G mJ13_checkIndex d K [xi x1, xi x2] h Q := by
  refine xCn_of px_J13_checkIndex rfl rfl (Nat.le_of_ble_eq_true rfl) ?_
  show xWp G mJ13_checkIndex d K Q K 0 [some (xi x1), some (xi x2)] [] h
  refine xw_iload_n dJ13_checkIndex_0 rfl ?_
  refine xw_iload_n dJ13_checkIndex_1 rfl ?_
  obtain ⟨o1, he, hvc⟩ := hvc
  refine xw_gets (i := 4) dJ13_checkIndex_2 rfl q771 ?_
  rw [he]
  obtain ⟨d9, k9, hd9, hk9, hC9⟩ := hvc
  refine xw_callS dJ13_checkIndex_5 px_J6_checkIndex pm_J6_checkIndex q2679 q517 (As := [xi x1, xi x2, xr o1]) (rest := []) rfl rfl (Nat.le_of_ble_eq_true rfl) hd9 hk9 hC9 (xkI_n fun n4 h2 hvc => ?_) (fun q h hq => xTh_out0 rfl hq)
  refine xw_pop dJ13_checkIndex_8 rfl ?_
  exact xw_vret dJ13_checkIndex_9 rfl hvc

theorem vc_J13_charAt {G : xG} {d K : Nat} {Q : xR → xH → Prop} {h : xH} {this : Nat} {x1 : Int32}
    (hvc : xcls h this = 12 ∧ xCall G d K mJ13_isLatin1 [xr (some this)] h (xkI (fun n3 h1 k2 => ((n3 = 0 → xcls h1 this = 12 ∧ ∃ o4 : Option Nat, xval h1 this 0 = xr o4 ∧ xCall G d k2 mJ14_charAt [xr o4, xi x1] h1 (xkI (fun n7 h5 k6 => narrow .char (.int n7) = .int n7 ∧ Q (.inl (some (xi n7))) h5) (fun q h _ => Q (.inr q) h))) ∧ (¬ n3 = 0 → xcls h1 this = 12 ∧ ∃ o8 : Option Nat, xval h1 this 0 = xr o8 ∧ xCall G d k2 mJ18_charAt [xr o8, xi x1] h1 (xkI (fun n11 h9 k10 => narrow .char (.int n11) = .int n11 ∧ Q (.inl (some (xi n11))) h9) (fun q h _ => Q (.inr q) h))))) (fun q h _ => Q (.inr q) h))) : xCn G mJ13_charAt d K [xr (some this), xi x1] h Q := by
  refine xCn_of px_J13_charAt rfl rfl (Nat.le_of_ble_eq_true rfl) ?_
  show xWp G mJ13_charAt d K Q K 0 [some (xr (some this)), some (xi x1)] [] h
  refine xw_aload_n dJ13_charAt_0 rfl ?_
  obtain ⟨hcK, hvc⟩ := hvc
  obtain ⟨d9, k9, hd9, hk9, hC9⟩ := hvc
  refine xw_callV dJ13_charAt_1 px_J13_isLatin1 pm_J13_isLatin1 q1700 q1701 q1702 hcJ13 hcK (As := []) (rest := []) rfl rfl (Nat.le_of_ble_eq_true rfl) hd9 hk9 hC9 (xkI_n fun n3 h1 hvc => ?_) (fun q h hq => xTh_out0 rfl hq)
  refine xw_if_eq 16 dJ13_charAt_4 rfl (fun hc => ?_) (fun hc => ?_)
  · replace hvc := hvc.1 hc
    refine xw_aload_n dJ13_charAt_16 rfl ?_
    obtain ⟨hcK, o4, hvK, hvc⟩ := hvc
    refine xw_get dJ13_charAt_17 hcJ13 in_J13 (kf := 0) (by decide) q878 (fun _ _ _ _ z => z) hcK hvK ?_
    refine xw_iload_n dJ13_charAt_20 rfl ?_
    obtain ⟨d9, k9, hd9, hk9, hC9⟩ := hvc
    refine xw_callS dJ13_charAt_21 px_J14_charAt pm_J14_charAt q2704 q2705 (As := [xr o4, xi x1]) (rest := []) rfl rfl (Nat.le_of_ble_eq_true rfl) hd9 hk9 hC9 (xkI_n fun n7 h5 hvc => ?_) (fun q h hq => xTh_out0 rfl hq)
    exact xw_zret dJ13_charAt_24 rfl hvc.1 hvc.2
  · replace hvc := hvc.2 hc
    refine xw_aload_n dJ13_charAt_7 rfl ?_
    obtain ⟨hcK, o8, hvK, hvc⟩ := hvc
    refine xw_get dJ13_charAt_8 hcJ13 in_J13 (kf := 0) (by decide) q878 (fun _ _ _ _ z => z) hcK hvK ?_
    refine xw_iload_n dJ13_charAt_11 rfl ?_
    obtain ⟨d9, k9, hd9, hk9, hC9⟩ := hvc
    refine xw_callS dJ13_charAt_12 px_J18_charAt pm_J18_charAt q2700 q2701 (As := [xr o8, xi x1]) (rest := []) rfl rfl (Nat.le_of_ble_eq_true rfl) hd9 hk9 hC9 (xkI_n fun n11 h9 hvc => ?_) (fun q h hq => xTh_out0 rfl hq)
    exact xw_zret dJ13_charAt_15 rfl hvc.1 hvc.2

theorem vc_J7_init {G : xG} {d K : Nat} {Q : xR → xH → Prop} {h : xH} {this : Nat}
    (hvc : 1 ≤ d ∧ (xcls h this = 15 ∨ xcls h this = 16 ∨ xcls h this = 48) ∧ ∀ h1 : xH, h1 = xput h this 0 (xr (some this)) → ∃ o2 : Option Nat, G.2.1 1 = xr o2 ∧ (xcls h1 this = 15 ∨ xcls h1 this = 16 ∨ xcls h1 this = 48) ∧ ∀ h3 : xH, h3 = xput h1 this 1 (xr o2) → ∃ o4 : Option Nat, G.2.1 2 = xr o4 ∧ (xcls h3 this = 15 ∨ xcls h3 this = 16 ∨ xcls h3 this = 48) ∧ ∀ h5 : xH, h5 = xput h3 this 2 (xr o4) → False) : xCn G mJ7_init d K [xr (some this)] h Q := by
  refine xCn_of px_J7_init rfl rfl (Nat.le_of_ble_eq_true rfl) ?_
  show xWp G mJ7_init d K Q K 0 [some (xr (some this))] [] h
  refine xw_aload_n dJ7_init_0 rfl ?_
  obtain ⟨hd9, hvc⟩ := hvc
  refine xw_objInit dJ7_init_1 q564 q196 q197 hd9 (Nat.le_of_ble_eq_true rfl) ?_
  refine xw_aload_n dJ7_init_4 rfl ?_
  refine xw_aload_n dJ7_init_5 rfl ?_
  obtain ⟨hcK, hvc⟩ := hvc
  refine xor_row hcK (fun hcz kk => xw_put dJ7_init_6 hcX9 in_X9 tyX9_ok xnmX9 (kf := 0) (by decide) q893 (fun _ _ _ _ z => z) rfl (xnar_r _ rfl _).1 (xnar_r _ rfl _).2 hcz (Or.inl rfl) kk) (fun hcz kk => xor_row hcz (fun hcz kk => xw_put dJ7_init_6 hcX10 in_X10 tyX10_ok xnmX10 (kf := 0) (by decide) q893 (fun _ _ _ _ z => z) rfl (xnar_r _ rfl _).1 (xnar_r _ rfl _).2 hcz (Or.inl rfl) kk) (fun hcz kk => xw_put dJ7_init_6 hcX34 in_X34 tyX34_ok xnmX34 (kf := 0) (by decide) q893 (fun _ _ _ _ z => z) rfl (xnar_r _ rfl _).1 (xnar_r _ rfl _).2 hcz (Or.inl rfl) kk) kk) (fun h1 eh9 => ?_)
  replace hvc := hvc h1 eh9
  refine xw_aload_n dJ7_init_9 rfl ?_
  obtain ⟨o2, he, hvc⟩ := hvc
  refine xw_gets (i := 1) dJ7_init_10 rfl q565 ?_
  rw [he]
  obtain ⟨hcK, hvc⟩ := hvc
  refine xor_row hcK (fun hcz kk => xw_put dJ7_init_13 hcX9 in_X9 tyX9_ok xnmX9 (kf := 1) (by decide) q894 (fun _ _ _ _ z => z) rfl (xnar_r _ rfl _).1 (xnar_r _ rfl _).2 hcz (Or.inl rfl) kk) (fun hcz kk => xor_row hcz (fun hcz kk => xw_put dJ7_init_13 hcX10 in_X10 tyX10_ok xnmX10 (kf := 1) (by decide) q894 (fun _ _ _ _ z => z) rfl (xnar_r _ rfl _).1 (xnar_r _ rfl _).2 hcz (Or.inl rfl) kk) (fun hcz kk => xw_put dJ7_init_13 hcX34 in_X34 tyX34_ok xnmX34 (kf := 1) (by decide) q894 (fun _ _ _ _ z => z) rfl (xnar_r _ rfl _).1 (xnar_r _ rfl _).2 hcz (Or.inl rfl) kk) kk) (fun h3 eh9 => ?_)
  replace hvc := hvc h3 eh9
  refine xw_aload_n dJ7_init_16 rfl ?_
  obtain ⟨o4, he, hvc⟩ := hvc
  refine xw_gets (i := 2) dJ7_init_17 rfl q567 ?_
  rw [he]
  obtain ⟨hcK, hvc⟩ := hvc
  refine xor_row hcK (fun hcz kk => xw_put dJ7_init_20 hcX9 in_X9 tyX9_ok xnmX9 (kf := 2) (by decide) q895 (fun _ _ _ _ z => z) rfl (xnar_r _ rfl _).1 (xnar_r _ rfl _).2 hcz (Or.inl rfl) kk) (fun hcz kk => xor_row hcz (fun hcz kk => xw_put dJ7_init_20 hcX10 in_X10 tyX10_ok xnmX10 (kf := 2) (by decide) q895 (fun _ _ _ _ z => z) rfl (xnar_r _ rfl _).1 (xnar_r _ rfl _).2 hcz (Or.inl rfl) kk) (fun hcz kk => xw_put dJ7_init_20 hcX34 in_X34 tyX34_ok xnmX34 (kf := 2) (by decide) q895 (fun _ _ _ _ z => z) rfl (xnar_r _ rfl _).1 (xnar_r _ rfl _).2 hcz (Or.inl rfl) kk) kk) (fun h5 eh9 => ?_)
  replace hvc := hvc h5 eh9
  refine xw_aload_n dJ7_init_23 rfl ?_
  exact hvc.elim

theorem vc_J7_init_2 {G : xG} {d K : Nat} {Q : xR → xH → Prop} {h : xH} {this : Nat} {o900 : Option Nat}
    (hvc : 1 ≤ d ∧ (xcls h this = 15 ∨ xcls h this = 16 ∨ xcls h this = 48) ∧ ∀ h1 : xH, h1 = xput h this 0 (xr (some this)) → ∃ o2 : Option Nat, G.2.1 1 = xr o2 ∧ (xcls h1 this = 15 ∨ xcls h1 this = 16 ∨ xcls h1 this = 48) ∧ ∀ h3 : xH, h3 = xput h1 this 1 (xr o2) → ∃ o4 : Option Nat, G.2.1 2 = xr o4 ∧ (xcls h3 this = 15 ∨ xcls h3 this = 16 ∨ xcls h3 this = 48) ∧ ∀ h5 : xH, h5 = xput h3 this 2 (xr o4) → False) : xCn G mJ7_init_2 d K [xr (some this), xr o900] h Q := by
  refine xCn_of px_J7_init_2 rfl rfl (Nat.le_of_ble_eq_true rfl) ?_
  show xWp G mJ7_init_2 d K Q K 0 [some (xr (some this)), some (xr o900)] [] h
  refine xw_aload_n dJ7_init_2_0 rfl ?_
  obtain ⟨hd9, hvc⟩ := hvc
  refine xw_objInit dJ7_init_2_1 q564 q196 q197 hd9 (Nat.le_of_ble_eq_true rfl) ?_
  refine xw_aload_n dJ7_init_2_4 rfl ?_
  refine xw_aload_n dJ7_init_2_5 rfl ?_
  obtain ⟨hcK, hvc⟩ := hvc
  refine xor_row hcK (fun hcz kk => xw_put dJ7_init_2_6 hcX9 in_X9 tyX9_ok xnmX9 (kf := 0) (by decide) q893 (fun _ _ _ _ z => z) rfl (xnar_r _ rfl _).1 (xnar_r _ rfl _).2 hcz (Or.inl rfl) kk) (fun hcz kk => xor_row hcz (fun hcz kk => xw_put dJ7_init_2_6 hcX10 in_X10 tyX10_ok xnmX10 (kf := 0) (by decide) q893 (fun _ _ _ _ z => z) rfl (xnar_r _ rfl _).1 (xnar_r _ rfl _).2 hcz (Or.inl rfl) kk) (fun hcz kk => xw_put dJ7_init_2_6 hcX34 in_X34 tyX34_ok xnmX34 (kf := 0) (by decide) q893 (fun _ _ _ _ z => z) rfl (xnar_r _ rfl _).1 (xnar_r _ rfl _).2 hcz (Or.inl rfl) kk) kk) (fun h1 eh9 => ?_)
  replace hvc := hvc h1 eh9
  refine xw_aload_n dJ7_init_2_9 rfl ?_
  obtain ⟨o2, he, hvc⟩ := hvc
  refine xw_gets (i := 1) dJ7_init_2_10 rfl q565 ?_
  rw [he]
  obtain ⟨hcK, hvc⟩ := hvc
  refine xor_row hcK (fun hcz kk => xw_put dJ7_init_2_13 hcX9 in_X9 tyX9_ok xnmX9 (kf := 1) (by decide) q894 (fun _ _ _ _ z => z) rfl (xnar_r _ rfl _).1 (xnar_r _ rfl _).2 hcz (Or.inl rfl) kk) (fun hcz kk => xor_row hcz (fun hcz kk => xw_put dJ7_init_2_13 hcX10 in_X10 tyX10_ok xnmX10 (kf := 1) (by decide) q894 (fun _ _ _ _ z => z) rfl (xnar_r _ rfl _).1 (xnar_r _ rfl _).2 hcz (Or.inl rfl) kk) (fun hcz kk => xw_put dJ7_init_2_13 hcX34 in_X34 tyX34_ok xnmX34 (kf := 1) (by decide) q894 (fun _ _ _ _ z => z) rfl (xnar_r _ rfl _).1 (xnar_r _ rfl _).2 hcz (Or.inl rfl) kk) kk) (fun h3 eh9 => ?_)
  replace hvc := hvc h3 eh9
  refine xw_aload_n dJ7_init_2_16 rfl ?_
  obtain ⟨o4, he, hvc⟩ := hvc
  refine xw_gets (i := 2) dJ7_init_2_17 rfl q567 ?_
  rw [he]
  obtain ⟨hcK, hvc⟩ := hvc
  refine xor_row hcK (fun hcz kk => xw_put dJ7_init_2_20 hcX9 in_X9 tyX9_ok xnmX9 (kf := 2) (by decide) q895 (fun _ _ _ _ z => z) rfl (xnar_r _ rfl _).1 (xnar_r _ rfl _).2 hcz (Or.inl rfl) kk) (fun hcz kk => xor_row hcz (fun hcz kk => xw_put dJ7_init_2_20 hcX10 in_X10 tyX10_ok xnmX10 (kf := 2) (by decide) q895 (fun _ _ _ _ z => z) rfl (xnar_r _ rfl _).1 (xnar_r _ rfl _).2 hcz (Or.inl rfl) kk) (fun hcz kk => xw_put dJ7_init_2_20 hcX34 in_X34 tyX34_ok xnmX34 (kf := 2) (by decide) q895 (fun _ _ _ _ z => z) rfl (xnar_r _ rfl _).1 (xnar_r _ rfl _).2 hcz (Or.inl rfl) kk) kk) (fun h5 eh9 => ?_)
  replace hvc := hvc h5 eh9
  refine xw_aload_n dJ7_init_2_23 rfl ?_
  exact hvc.elim

theorem vc_J7_toString {G : xG} {d K : Nat} {Q : xR → xH → Prop} {h : xH} {this : Nat}
    (hvc : False) : xCn G mJ7_toString d K [xr (some this)] h Q := by
  refine xCn_of px_J7_toString rfl rfl (Nat.le_of_ble_eq_true rfl) ?_
  show xWp G mJ7_toString d K Q K 0 [some (xr (some this)), none, none] [] h
  refine xw_aload_n dJ7_toString_0 rfl ?_
  exact hvc.elim

theorem rowd_J7_getLocalizedMessage_1 {G : xG} {d d' K k k' : Nat} {Q P : xR → xH → Prop} {L : List (Option xV)} {rest : List xV} {h : xH} {b : Nat} {MY : xM}  (hm : (xcls h b, MY) ∈ dsp_Throwable_getMessage) (hcat : (rest.map xcat).sum ≤ 8) (hdd : d' < d) (hk : k' ≤ k) (hC : xCn G MY d' k' (xr (some b) :: []) h P) (kn : ∀ (v : Option xV) (h' : xH), P (.inl v) h' → xWp G mJ7_getLocalizedMessage d K Q (k - k') 4 L (v.toList ++ rest) h') (kt : ∀ (q : Nat) (h' : xH), P (.inr q) h' → xTh G mJ7_getLocalizedMessage d K Q (k - k') 1 L h' q) : xWp G mJ7_getLocalizedMessage d K Q k 1 L (xr (some b) :: rest) h := by
  unfold dsp_Throwable_getMessage at hm
  simp only [List.mem_cons, List.not_mem_nil, or_false, Prod.mk.injEq] at hm
  rcases hm with ⟨hcK, rfl⟩ | ⟨hcK, rfl⟩ | ⟨hcK, rfl⟩ | ⟨hcK, rfl⟩
  · exact xw_callV dJ7_getLocalizedMessage_1 px_J7_getMessage pm_J7_getMessage q669 q670 q675 hcJ10 hcK (As := []) (rest := rest) rfl rfl hcat hdd hk hC kn kt
  · exact xw_callV dJ7_getLocalizedMessage_1 px_J7_getMessage pm_J7_getMessage q669 q670 q674 hcX9 hcK (As := []) (rest := rest) rfl rfl hcat hdd hk hC kn kt
  · exact xw_callV dJ7_getLocalizedMessage_1 px_J7_getMessage pm_J7_getMessage q669 q670 q673 hcX10 hcK (As := []) (rest := rest) rfl rfl hcat hdd hk hC kn kt
  · exact xw_callV dJ7_getLocalizedMessage_1 px_J7_getMessage pm_J7_getMessage q669 q670 q672 hcX34 hcK (As := []) (rest := rest) rfl rfl hcat hdd hk hC kn kt

theorem vc_J7_getLocalizedMessage {G : xG} {d K : Nat} {Q : xR → xH → Prop} {h : xH} {this : Nat}
    (hvc : ∃ Y4 : xM, (xcls h this, Y4) ∈ dsp_Throwable_getMessage ∧ xCall G d K Y4 [xr (some this)] h (xkR (fun o3 h1 k2 => Q (.inl (some (xr o3))) h1) (fun q h _ => Q (.inr q) h))) : xCn G mJ7_getLocalizedMessage d K [xr (some this)] h Q := by
  refine xCn_of px_J7_getLocalizedMessage rfl rfl (Nat.le_of_ble_eq_true rfl) ?_
  show xWp G mJ7_getLocalizedMessage d K Q K 0 [some (xr (some this))] [] h
  refine xw_aload_n dJ7_getLocalizedMessage_0 rfl ?_
  obtain ⟨Y4, hm9, d9, k9, hd9, hk9, hC9⟩ := hvc
  refine rowd_J7_getLocalizedMessage_1  hm9 (rest := []) (Nat.le_of_ble_eq_true rfl) hd9 hk9 hC9 (xkR_n fun o3 h1 hvc => ?_) (fun q h hq => xTh_out0 rfl hq)
  exact xw_aret dJ7_getLocalizedMessage_4 rfl rfl hvc

theorem vc_J7_getMessage {G : xG} {d K : Nat} {Q : xR → xH → Prop} {h : xH} {this : Nat}
    (hvc : (xcls h this = 15 ∨ xcls h this = 16 ∨ xcls h this = 48) ∧ ∃ o1 : Option Nat, xval h this 3 = xr o1 ∧ Q (.inl (some (xr o1))) h) : xCn G mJ7_getMessage d K [xr (some this)] h Q := by
  refine xCn_of px_J7_getMessage rfl rfl (Nat.le_of_ble_eq_true rfl) ?_
  show xWp G mJ7_getMessage d K Q K 0 [some (xr (some this))] [] h
  refine xw_aload_n dJ7_getMessage_0 rfl ?_
  obtain ⟨hcK, o1, hvK, hvc⟩ := hvc
  refine xor_row hcK (fun hcz kk => xw_get dJ7_getMessage_1 hcX9 in_X9 (kf := 3) (by decide) q892 (fun _ _ _ _ z => z) hcz hvK kk) (fun hcz kk => xor_row hcz (fun hcz kk => xw_get dJ7_getMessage_1 hcX10 in_X10 (kf := 3) (by decide) q892 (fun _ _ _ _ z => z) hcz hvK kk) (fun hcz kk => xw_get dJ7_getMessage_1 hcX34 in_X34 (kf := 3) (by decide) q892 (fun _ _ _ _ z => z) hcz hvK kk) kk) ?_
  exact xw_aret dJ7_getMessage_4 rfl rfl hvc

theorem vc_J7_init_3 {G : xG} {d K : Nat} {Q : xR → xH → Prop} {h : xH} {this : Nat} {o900 : Option Nat} {o901 : Option Nat} {x3 : Int32} {x4 : Int32}
    (hvc : 1 ≤ d ∧ (xcls h this = 15 ∨ xcls h this = 16 ∨ xcls h this = 48) ∧ ∀ h1 : xH, h1 = xput h this 0 (xr (some this)) → ∃ o2 : Option Nat, G.2.1 1 = xr o2 ∧ (xcls h1 this = 15 ∨ xcls h1 this = 16 ∨ xcls h1 this = 48) ∧ ∀ h3 : xH, h3 = xput h1 this 1 (xr o2) → ∃ o4 : Option Nat, G.2.1 2 = xr o4 ∧ (xcls h3 this = 15 ∨ xcls h3 this = 16 ∨ xcls h3 this = 48) ∧ ∀ h5 : xH, h5 = xput h3 this 2 (xr o4) → ((x4 = 0 → (xcls h5 this = 15 ∨ xcls h5 this = 16 ∨ xcls h5 this = 48) ∧ ∀ h6 : xH, h6 = xput h5 this 1 (xr none) → (xcls h6 this = 15 ∨ xcls h6 this = 16 ∨ xcls h6 this = 48) ∧ ∀ h7 : xH, h7 = xput h6 this 3 (xr o900) → (xcls h7 this = 15 ∨ xcls h7 this = 16 ∨ xcls h7 this = 48) ∧ ∀ h8 : xH, h8 = xput h7 this 0 (xr o901) → ((¬ x3 = 0 → Q (.inl none) h8) ∧ (x3 = 0 → (xcls h8 this = 15 ∨ xcls h8 this = 16 ∨ xcls h8 this = 48) ∧ ∀ h9 : xH, h9 = xput h8 this 2 (xr none) → Q (.inl none) h9))) ∧ (¬ x4 = 0 → False))) : xCn G mJ7_init_3 d K [xr (some this), xr o900, xr o901, xi x3, xi x4] h Q := by
  refine xCn_of px_J7_init_3 rfl rfl (Nat.le_of_ble_eq_true rfl) ?_
  show xWp G mJ7_init_3 d K Q K 0 [some (xr (some this)), some (xr o900), some (xr o901), some (xi x3), some (xi x4)] [] h
  refine xw_aload_n dJ7_init_3_0 rfl ?_
  obtain ⟨hd9, hvc⟩ := hvc
  refine xw_objInit dJ7_init_3_1 q564 q196 q197 hd9 (Nat.le_of_ble_eq_true rfl) ?_
  refine xw_aload_n dJ7_init_3_4 rfl ?_
  refine xw_aload_n dJ7_init_3_5 rfl ?_
  obtain ⟨hcK, hvc⟩ := hvc
  refine xor_row hcK (fun hcz kk => xw_put dJ7_init_3_6 hcX9 in_X9 tyX9_ok xnmX9 (kf := 0) (by decide) q893 (fun _ _ _ _ z => z) rfl (xnar_r _ rfl _).1 (xnar_r _ rfl _).2 hcz (Or.inl rfl) kk) (fun hcz kk => xor_row hcz (fun hcz kk => xw_put dJ7_init_3_6 hcX10 in_X10 tyX10_ok xnmX10 (kf := 0) (by decide) q893 (fun _ _ _ _ z => z) rfl (xnar_r _ rfl _).1 (xnar_r _ rfl _).2 hcz (Or.inl rfl) kk) (fun hcz kk => xw_put dJ7_init_3_6 hcX34 in_X34 tyX34_ok xnmX34 (kf := 0) (by decide) q893 (fun _ _ _ _ z => z) rfl (xnar_r _ rfl _).1 (xnar_r _ rfl _).2 hcz (Or.inl rfl) kk) kk) (fun h1 eh9 => ?_)
  replace hvc := hvc h1 eh9
  refine xw_aload_n dJ7_init_3_9 rfl ?_
  obtain ⟨o2, he, hvc⟩ := hvc
  refine xw_gets (i := 1) dJ7_init_3_10 rfl q565 ?_
  rw [he]
  obtain ⟨hcK, hvc⟩ := hvc
  refine xor_row hcK (fun hcz kk => xw_put dJ7_init_3_13 hcX9 in_X9 tyX9_ok xnmX9 (kf := 1) (by decide) q894 (fun _ _ _ _ z => z) rfl (xnar_r _ rfl _).1 (xnar_r _ rfl _).2 hcz (Or.inl rfl) kk) (fun hcz kk => xor_row hcz (fun hcz kk => xw_put dJ7_init_3_13 hcX10 in_X10 tyX10_ok xnmX10 (kf := 1) (by decide) q894 (fun _ _ _ _ z => z) rfl (xnar_r _ rfl _).1 (xnar_r _ rfl _).2 hcz (Or.inl rfl) kk) (fun hcz kk => xw_put dJ7_init_3_13 hcX34 in_X34 tyX34_ok xnmX34 (kf := 1) (by decide) q894 (fun _ _ _ _ z => z) rfl (xnar_r _ rfl _).1 (xnar_r _ rfl _).2 hcz (Or.inl rfl) kk) kk) (fun h3 eh9 => ?_)
  replace hvc := hvc h3 eh9
  refine xw_aload_n dJ7_init_3_16 rfl ?_
  obtain ⟨o4, he, hvc⟩ := hvc
  refine xw_gets (i := 2) dJ7_init_3_17 rfl q567 ?_
  rw [he]
  obtain ⟨hcK, hvc⟩ := hvc
  refine xor_row hcK (fun hcz kk => xw_put dJ7_init_3_20 hcX9 in_X9 tyX9_ok xnmX9 (kf := 2) (by decide) q895 (fun _ _ _ _ z => z) rfl (xnar_r _ rfl _).1 (xnar_r _ rfl _).2 hcz (Or.inl rfl) kk) (fun hcz kk => xor_row hcz (fun hcz kk => xw_put dJ7_init_3_20 hcX10 in_X10 tyX10_ok xnmX10 (kf := 2) (by decide) q895 (fun _ _ _ _ z => z) rfl (xnar_r _ rfl _).1 (xnar_r _ rfl _).2 hcz (Or.inl rfl) kk) (fun hcz kk => xw_put dJ7_init_3_20 hcX34 in_X34 tyX34_ok xnmX34 (kf := 2) (by decide) q895 (fun _ _ _ _ z => z) rfl (xnar_r _ rfl _).1 (xnar_r _ rfl _).2 hcz (Or.inl rfl) kk) kk) (fun h5 eh9 => ?_)
  replace hvc := hvc h5 eh9
  refine xw_iload dJ7_init_3_23 rfl ?_
  refine xw_if_eq 36 dJ7_init_3_25 rfl (fun hc => ?_) (fun hc => ?_)
  · replace hvc := hvc.1 hc
    refine xw_aload_n dJ7_init_3_36 rfl ?_
    refine xw_null dJ7_init_3_37 ?_
    obtain ⟨hcK, hvc⟩ := hvc
    refine xor_row hcK (fun hcz kk => xw_put dJ7_init_3_38 hcX9 in_X9 tyX9_ok xnmX9 (kf := 1) (by decide) q894 (fun _ _ _ _ z => z) rfl (xnar_r _ rfl _).1 (xnar_r _ rfl _).2 hcz (Or.inl rfl) kk) (fun hcz kk => xor_row hcz (fun hcz kk => xw_put dJ7_init_3_38 hcX10 in_X10 tyX10_ok xnmX10 (kf := 1) (by decide) q894 (fun _ _ _ _ z => z) rfl (xnar_r _ rfl _).1 (xnar_r _ rfl _).2 hcz (Or.inl rfl) kk) (fun hcz kk => xw_put dJ7_init_3_38 hcX34 in_X34 tyX34_ok xnmX34 (kf := 1) (by decide) q894 (fun _ _ _ _ z => z) rfl (xnar_r _ rfl _).1 (xnar_r _ rfl _).2 hcz (Or.inl rfl) kk) kk) (fun h6 eh9 => ?_)
    replace hvc := hvc h6 eh9
    refine xw_aload_n dJ7_init_3_41 rfl ?_
    refine xw_aload_n dJ7_init_3_42 rfl ?_
    obtain ⟨hcK, hvc⟩ := hvc
    refine xor_row hcK (fun hcz kk => xw_put dJ7_init_3_43 hcX9 in_X9 tyX9_ok xnmX9 (kf := 3) (by decide) q892 (fun _ _ _ _ z => z) rfl (xnar_r _ rfl _).1 (xnar_r _ rfl _).2 hcz (Or.inl rfl) kk) (fun hcz kk => xor_row hcz (fun hcz kk => xw_put dJ7_init_3_43 hcX10 in_X10 tyX10_ok xnmX10 (kf := 3) (by decide) q892 (fun _ _ _ _ z => z) rfl (xnar_r _ rfl _).1 (xnar_r _ rfl _).2 hcz (Or.inl rfl) kk) (fun hcz kk => xw_put dJ7_init_3_43 hcX34 in_X34 tyX34_ok xnmX34 (kf := 3) (by decide) q892 (fun _ _ _ _ z => z) rfl (xnar_r _ rfl _).1 (xnar_r _ rfl _).2 hcz (Or.inl rfl) kk) kk) (fun h7 eh9 => ?_)
    replace hvc := hvc h7 eh9
    refine xw_aload_n dJ7_init_3_46 rfl ?_
    refine xw_aload_n dJ7_init_3_47 rfl ?_
    obtain ⟨hcK, hvc⟩ := hvc
    refine xor_row hcK (fun hcz kk => xw_put dJ7_init_3_48 hcX9 in_X9 tyX9_ok xnmX9 (kf := 0) (by decide) q893 (fun _ _ _ _ z => z) rfl (xnar_r _ rfl _).1 (xnar_r _ rfl _).2 hcz (Or.inl rfl) kk) (fun hcz kk => xor_row hcz (fun hcz kk => xw_put dJ7_init_3_48 hcX10 in_X10 tyX10_ok xnmX10 (kf := 0) (by decide) q893 (fun _ _ _ _ z => z) rfl (xnar_r _ rfl _).1 (xnar_r _ rfl _).2 hcz (Or.inl rfl) kk) (fun hcz kk => xw_put dJ7_init_3_48 hcX34 in_X34 tyX34_ok xnmX34 (kf := 0) (by decide) q893 (fun _ _ _ _ z => z) rfl (xnar_r _ rfl _).1 (xnar_r _ rfl _).2 hcz (Or.inl rfl) kk) kk) (fun h8 eh9 => ?_)
    replace hvc := hvc h8 eh9
    refine xw_iload_n dJ7_init_3_51 rfl ?_
    refine xw_if_ne 60 dJ7_init_3_52 rfl (fun hc => ?_) (fun hc => ?_)
    · replace hvc := hvc.1 hc
      exact xw_vret dJ7_init_3_60 rfl hvc
    · replace hvc := hvc.2 hc
      refine xw_aload_n dJ7_init_3_55 rfl ?_
      refine xw_null dJ7_init_3_56 ?_
      obtain ⟨hcK, hvc⟩ := hvc
      refine xor_row hcK (fun hcz kk => xw_put dJ7_init_3_57 hcX9 in_X9 tyX9_ok xnmX9 (kf := 2) (by decide) q895 (fun _ _ _ _ z => z) rfl (xnar_r _ rfl _).1 (xnar_r _ rfl _).2 hcz (Or.inl rfl) kk) (fun hcz kk => xor_row hcz (fun hcz kk => xw_put dJ7_init_3_57 hcX10 in_X10 tyX10_ok xnmX10 (kf := 2) (by decide) q895 (fun _ _ _ _ z => z) rfl (xnar_r _ rfl _).1 (xnar_r _ rfl _).2 hcz (Or.inl rfl) kk) (fun hcz kk => xw_put dJ7_init_3_57 hcX34 in_X34 tyX34_ok xnmX34 (kf := 2) (by decide) q895 (fun _ _ _ _ z => z) rfl (xnar_r _ rfl _).1 (xnar_r _ rfl _).2 hcz (Or.inl rfl) kk) kk) (fun h9 eh9 => ?_)
      replace hvc := hvc h9 eh9
      exact xw_vret dJ7_init_3_60 rfl hvc
  · replace hvc := hvc.2 hc
    refine xw_aload_n dJ7_init_3_28 rfl ?_
    exact hvc.elim

theorem vc_J32_init {G : xG} {d K : Nat} {Q : xR → xH → Prop} {h : xH} {this : Nat} {o900 : Option Nat}
    (hvc : xCall G d K mJ32_init_2 [xr (some this), xi (11 : Int32), xr o900] h (xkV (fun h1 k2 => Q (.inl none) h1) (fun q h _ => Q (.inr q) h))) : xCn G mJ32_init d K [xr (some this), xr o900] h Q := by
  refine xCn_of px_J32_init rfl rfl (Nat.le_of_ble_eq_true rfl) ?_
  show xWp G mJ32_init d K Q K 0 [some (xr (some this)), some (xr o900)] [] h
  refine xw_aload_n dJ32_init_0 rfl ?_
  refine xw_bipush (11 : Int32) dJ32_init_1 (by decide) ?_
  refine xw_aload_n dJ32_init_3 rfl ?_
  obtain ⟨d9, k9, hd9, hk9, hC9⟩ := hvc
  refine xw_callI dJ32_init_4 px_J32_init_2 pm_J32_init_2 q2278 q2279 rfl rfl (As := [xi (11 : Int32), xr o900]) (rest := []) rfl rfl (Nat.le_of_ble_eq_true rfl) hd9 hk9 hC9 (xkV_n fun h1 hvc => ?_) (fun q h hq => xTh_out0 rfl hq)
  exact xw_vret dJ32_init_7 rfl hvc

theorem vc_J32_init_2 {G : xG} {d K : Nat} {Q : xR → xH → Prop} {h : xH} {this : Nat} {x1 : Int32} {o901 : Option Nat}
    (hvc : xCall G d K mJ31_init [xr (some this)] h (xkV (fun h1 k2 => (((1 : Int32) ≤ x1 → ∃ m5 : Nat, x1 = nI m5 ∧ m5 ≤ 65536 ∧ 1 + m5 ≤ k2 ∧ ∀ (h3 : xH) (a4 : Nat), a4 = xsz h1 → h3 = xnew h1 1006 m5 (fun _ => xr none) → xcls h3 this = 39 ∧ ∀ h6 : xH, h6 = xput h3 this 0 (xr (some a4)) → xcls h6 this = 39 ∧ ∀ h7 : xH, h7 = xput h6 this 2 (xr o901) → Q (.inl none) h7) ∧ (¬ (1 : Int32) ≤ x1 → False))) (fun q h _ => Q (.inr q) h))) : xCn G mJ32_init_2 d K [xr (some this), xi x1, xr o901] h Q := by
  refine xCn_of px_J32_init_2 rfl rfl (Nat.le_of_ble_eq_true rfl) ?_
  show xWp G mJ32_init_2 d K Q K 0 [some (xr (some this)), some (xi x1), some (xr o901)] [] h
  refine xw_aload_n dJ32_init_2_0 rfl ?_
  obtain ⟨d9, k9, hd9, hk9, hC9⟩ := hvc
  refine xw_callI dJ32_init_2_1 px_J31_init pm_J31_init q2281 q2282 rfl rfl (As := []) (rest := []) rfl rfl (Nat.le_of_ble_eq_true rfl) hd9 hk9 hC9 (xkV_n fun h1 hvc => ?_) (fun q h hq => xTh_out0 rfl hq)
  refine xw_iload_n dJ32_init_2_4 rfl ?_
  refine xw_iconst (1 : Int32) dJ32_init_2_5 (by decide) ?_
  refine xw_icmp_ge 17 dJ32_init_2_6 rfl (fun hc => ?_) (fun hc => ?_)
  · replace hvc := hvc.1 hc
    refine xw_aload_n dJ32_init_2_17 rfl ?_
    refine xw_iload_n dJ32_init_2_18 rfl ?_
    obtain ⟨m5, hx9, hn9, hle, hvc⟩ := hvc
    refine xw_anew (j := 6) dJ32_init_2_19 rfl (Or.inl rfl) q2285 hx9 hn9 hle (fun h3 a4 ea9 eh9 => ?_)
    replace hvc := hvc h3 a4 ea9 eh9
    obtain ⟨hcK, hvc⟩ := hvc
    refine xw_put dJ32_init_2_22 hcJ32 in_J32 tyJ32_ok xnmJ32 (kf := 0) (by decide) q2287 (fun _ _ _ _ z => z) rfl (xnar_r _ rfl _).1 (xnar_r _ rfl _).2 hcK (Or.inl rfl) (fun h6 eh9 => ?_)
    replace hvc := hvc h6 eh9
    refine xw_aload_n dJ32_init_2_25 rfl ?_
    refine xw_aload_n dJ32_init_2_26 rfl ?_
    obtain ⟨hcK, hvc⟩ := hvc
    refine xw_putF dJ32_init_2_27 hcJ32 in_J32 tyJ32_ok xnmJ32 (kf := 2) (by decide) q2290 (fun _ _ _ _ z => z) rfl rfl rfl (xnar_r _ rfl _).1 (xnar_r _ rfl _).2 hcK (Or.inl rfl) (fun h7 eh9 => ?_)
    replace hvc := hvc h7 eh9
    exact xw_vret dJ32_init_2_30 rfl hvc
  · replace hvc := hvc.2 hc
    exact hvc.elim

theorem vc_J32_add {G : xG} {d K : Nat} {Q : xR → xH → Prop} {h : xH} {this : Nat} {o900 : Option Nat}
    (hvc : xcls h this = 39 ∧ xCall G d K mJ32_offer [xr (some this), xr o900] h (xkI (fun n3 h1 k2 => (n3 = 0 ∨ n3 = 1) ∧ Q (.inl (some (xi n3))) h1) (fun q h _ => Q (.inr q) h))) : xCn G mJ32_add d K [xr (some this), xr o900] h Q := by
  refine xCn_of px_J32_add rfl rfl (Nat.le_of_ble_eq_true rfl) ?_
  show xWp G mJ32_add d K Q K 0 [some (xr (some this)), some (xr o900)] [] h
  refine xw_aload_n dJ32_add_0 rfl ?_
  refine xw_aload_n dJ32_add_1 rfl ?_
  obtain ⟨hcK, hvc⟩ := hvc
  obtain ⟨d9, k9, hd9, hk9, hC9⟩ := hvc
  refine xw_callV dJ32_add_2 px_J32_offer pm_J32_offer q2306 q2307 q2308 hcJ32 hcK (As := [xr o900]) (rest := []) rfl rfl (Nat.le_of_ble_eq_true rfl) hd9 hk9 hC9 (xkI_n fun n3 h1 hvc => ?_) (fun q h hq => xTh_out0 rfl hq)
  exact xw_zret dJ32_add_5 rfl (xnb hvc.1).1 hvc.2

theorem vc_J32_offer {G : xG} {d K : Nat} {Q : xR → xH → Prop} {h : xH} {this : Nat} {o900 : Option Nat}
    (hvc : ((∀ a1, o900 = some a1 → xcls h this = 39 ∧ ∃ n2 : Int32, xval h this 3 = xi n2 ∧ xcls h this = 39 ∧ ∀ h3 : xH, h3 = xput h this 3 (xi (n2 + (1 : Int32))) → xcls h3 this = 39 ∧ ∃ n4 : Int32, xval h3 this 1 = xi n4 ∧ xcls h3 this = 39 ∧ ∃ o5 : Option Nat, xval h3 this 0 = xr o5 ∧ ∃ a6, o5 = some a6 ∧ (∃ t7 ty, xty[t7]? = some ty ∧ xcls h3 a6 = 1000 + t7) ∧ ((n4 < (nI (xlen h3 a6)) → xcls h3 this = 39 ∧ xCall G d K mJ32_siftUp [xr (some this), xi n4, xr (some a1)] h3 (xkV (fun h8 k9 => xcls h8 this = 39 ∧ ∀ h10 : xH, h10 = xput h8 this 1 (xi (n4 + (1 : Int32))) → Q (.inl (some (xi (1 : Int32)))) h10) (fun q h _ => Q (.inr q) h))) ∧ (¬ n4 < (nI (xlen h3 a6)) → xcls h3 this = 39 ∧ xCall G d K mJ32_grow [xr (some this), xi (n4 + (1 : Int32))] h3 (xkV (fun h11 k12 => xcls h11 this = 39 ∧ xCall G d k12 mJ32_siftUp [xr (some this), xi n4, xr (some a1)] h11 (xkV (fun h13 k14 => xcls h13 this = 39 ∧ ∀ h15 : xH, h15 = xput h13 this 1 (xi (n4 + (1 : Int32))) → Q (.inl (some (xi (1 : Int32)))) h15) (fun q h _ => Q (.inr q) h))) (fun q h _ => Q (.inr q) h))))) ∧ (o900 = none → False))) : xCn G mJ32_offer d K [xr (some this), xr o900] h Q := by
  refine xCn_of px_J32_offer rfl rfl (Nat.le_of_ble_eq_true rfl) ?_
  show xWp G mJ32_offer d K Q K 0 [some (xr (some this)), some (xr o900), none] [] h
  refine xw_aload_n dJ32_offer_0 rfl ?_
  refine xw_ifnonnull 12 dJ32_offer_1 rfl (fun a1 hc => ?_) (fun hc => ?_)
  · replace hvc := hvc.1 _ hc
    subst hc
    refine xw_aload_n dJ32_offer_12 rfl ?_
    refine xw_dup dJ32_offer_13 rfl ?_
    obtain ⟨hcK, n2, hvK, hvc⟩ := hvc
    refine xw_get dJ32_offer_14 hcJ32 in_J32 (kf := 3) (by decide) q2292 (fun _ _ _ _ z => z) hcK hvK ?_
    refine xw_iconst (1 : Int32) dJ32_offer_17 (by decide) ?_
    refine xw_iadd dJ32_offer_18 ?_
    obtain ⟨hcK, hvc⟩ := hvc
    refine xw_put dJ32_offer_19 hcJ32 in_J32 tyJ32_ok xnmJ32 (kf := 3) (by decide) q2292 (fun _ _ _ _ z => z) rfl rfl rfl hcK (Or.inl rfl) (fun h3 eh9 => ?_)
    replace hvc := hvc h3 eh9
    refine xw_aload_n dJ32_offer_22 rfl ?_
    obtain ⟨hcK, n4, hvK, hvc⟩ := hvc
    refine xw_get dJ32_offer_23 hcJ32 in_J32 (kf := 1) (by decide) q2289 (fun _ _ _ _ z => z) hcK hvK ?_
    refine xw_istore_n dJ32_offer_26 (Nat.le_of_ble_eq_true rfl) (L9 := [some (xr (some this)), some (xr (some a1)), some (xi n4)]) rfl ?_
    refine xw_iload_n dJ32_offer_27 rfl ?_
    refine xw_aload_n dJ32_offer_28 rfl ?_
    obtain ⟨hcK, o5, hvK, hvc⟩ := hvc
    refine xw_get dJ32_offer_29 hcJ32 in_J32 (kf := 0) (by decide) q2287 (fun _ _ _ _ z => z) hcK hvK ?_
    obtain ⟨a6, ho, hvc⟩ := hvc
    subst ho
    obtain ⟨⟨t7, ty9, hty9, hcK⟩, hvc⟩ := hvc
    refine xw_alen dJ32_offer_32 hty9 hcK ?_
    refine xw_icmp_lt 43 dJ32_offer_33 rfl (fun hc => ?_) (fun hc => ?_)
    · replace hvc := hvc.1 hc
      refine xw_aload_n dJ32_offer_43 rfl ?_
      refine xw_iload_n dJ32_offer_44 rfl ?_
      refine xw_aload_n dJ32_offer_45 rfl ?_
      obtain ⟨hcK, hvc⟩ := hvc
      obtain ⟨d9, k9, hd9, hk9, hC9⟩ := hvc
      refine xw_callV dJ32_offer_46 px_J32_siftUp pm_J32_siftUp q2316 q2318 qs25 hcJ32 hcK (As := [xi n4, xr (some a1)]) (rest := []) rfl rfl (Nat.le_of_ble_eq_true rfl) hd9 hk9 hC9 (xkV_n fun h8 hvc => ?_) (fun q h hq => xTh_out0 rfl hq)
      refine xw_aload_n dJ32_offer_49 rfl ?_
      refine xw_iload_n dJ32_offer_50 rfl ?_
      refine xw_iconst (1 : Int32) dJ32_offer_51 (by decide) ?_
      refine xw_iadd dJ32_offer_52 ?_
      obtain ⟨hcK, hvc⟩ := hvc
      refine xw_put dJ32_offer_53 hcJ32 in_J32 tyJ32_ok xnmJ32 (kf := 1) (by decide) q2289 (fun _ _ _ _ z => z) rfl rfl rfl hcK (Or.inl rfl) (fun h10 eh9 => ?_)
      replace hvc := hvc h10 eh9
      refine xw_iconst (1 : Int32) dJ32_offer_56 (by decide) ?_
      exact xw_zret dJ32_offer_57 rfl rfl hvc
    · replace hvc := hvc.2 hc
      refine xw_aload_n dJ32_offer_36 rfl ?_
      refine xw_iload_n dJ32_offer_37 rfl ?_
      refine xw_iconst (1 : Int32) dJ32_offer_38 (by decide) ?_
      refine xw_iadd dJ32_offer_39 ?_
      obtain ⟨hcK, hvc⟩ := hvc
      obtain ⟨d9, k9, hd9, hk9, hC9⟩ := hvc
      refine xw_callV dJ32_offer_40 px_J32_grow pm_J32_grow q2310 q2312 qs24 hcJ32 hcK (As := [xi (n4 + (1 : Int32))]) (rest := []) rfl rfl (Nat.le_of_ble_eq_true rfl) hd9 hk9 hC9 (xkV_n fun h11 hvc => ?_) (fun q h hq => xTh_out0 rfl hq)
      refine xw_aload_n dJ32_offer_43 rfl ?_
      refine xw_iload_n dJ32_offer_44 rfl ?_
      refine xw_aload_n dJ32_offer_45 rfl ?_
      obtain ⟨hcK, hvc⟩ := hvc
      obtain ⟨d9, k9, hd9, hk9, hC9⟩ := hvc
      refine xw_callV dJ32_offer_46 px_J32_siftUp pm_J32_siftUp q2316 q2318 qs25 hcJ32 hcK (As := [xi n4, xr (some a1)]) (rest := []) rfl rfl (Nat.le_of_ble_eq_true rfl) hd9 hk9 hC9 (xkV_n fun h13 hvc => ?_) (fun q h hq => xTh_out0 rfl hq)
      refine xw_aload_n dJ32_offer_49 rfl ?_
      refine xw_iload_n dJ32_offer_50 rfl ?_
      refine xw_iconst (1 : Int32) dJ32_offer_51 (by decide) ?_
      refine xw_iadd dJ32_offer_52 ?_
      obtain ⟨hcK, hvc⟩ := hvc
      refine xw_put dJ32_offer_53 hcJ32 in_J32 tyJ32_ok xnmJ32 (kf := 1) (by decide) q2289 (fun _ _ _ _ z => z) rfl rfl rfl hcK (Or.inl rfl) (fun h15 eh9 => ?_)
      replace hvc := hvc h15 eh9
      refine xw_iconst (1 : Int32) dJ32_offer_56 (by decide) ?_
      exact xw_zret dJ32_offer_57 rfl rfl hvc
  · replace hvc := hvc.2 hc
    subst hc
    exact hvc.elim

theorem vc_J32_siftUp {G : xG} {d K : Nat} {Q : xR → xH → Prop} {h : xH} {this : Nat} {x1 : Int32} {o901 : Option Nat}
    (hvc : xcls h this = 39 ∧ ∃ o1 : Option Nat, xval h this 2 = xr o1 ∧ ((∀ a2, o1 = some a2 → xcls h this = 39 ∧ ∃ o3 : Option Nat, xval h this 0 = xr o3 ∧ xcls h this = 39 ∧ ∃ o4 : Option Nat, xval h this 2 = xr o4 ∧ xCall G d K mJ32_siftUpUsingComparator [xi x1, xr o901, xr o3, xr o4] h (xkV (fun h5 k6 => Q (.inl none) h5) (fun q h _ => Q (.inr q) h))) ∧ (o1 = none → xcls h this = 39 ∧ ∃ o7 : Option Nat, xval h this 0 = xr o7 ∧ xCall G d K mJ32_siftUpComparable [xi x1, xr o901, xr o7] h (xkV (fun h8 k9 => Q (.inl none) h8) (fun q h _ => Q (.inr q) h))))) : xCn G mJ32_siftUp d K [xr (some this), xi x1, xr o901] h Q := by
  refine xCn_of px_J32_siftUp rfl rfl (Nat.le_of_ble_eq_true rfl) ?_
  show xWp G mJ32_siftUp d K Q K 0 [some (xr (some this)), some (xi x1), some (xr o901)] [] h
  refine xw_aload_n dJ32_siftUp_0 rfl ?_
  obtain ⟨hcK, o1, hvK, hvc⟩ := hvc
  refine xw_get dJ32_siftUp_1 hcJ32 in_J32 (kf := 2) (by decide) q2290 (fun _ _ _ _ z => z) hcK hvK ?_
  refine xw_ifnull 23 dJ32_siftUp_4 rfl (fun hc => ?_) (fun a2 hc => ?_)
  · replace hvc := hvc.2 hc
    subst hc
    refine xw_iload_n dJ32_siftUp_23 rfl ?_
    refine xw_aload_n dJ32_siftUp_24 rfl ?_
    refine xw_aload_n dJ32_siftUp_25 rfl ?_
    obtain ⟨hcK, o7, hvK, hvc⟩ := hvc
    refine xw_get dJ32_siftUp_26 hcJ32 in_J32 (kf := 0) (by decide) q2287 (fun _ _ _ _ z => z) hcK hvK ?_
    obtain ⟨d9, k9, hd9, hk9, hC9⟩ := hvc
    refine xw_callS dJ32_siftUp_29 px_J32_siftUpComparable pm_J32_siftUpComparable q2356 q2357 (As := [xi x1, xr o901, xr o7]) (rest := []) rfl rfl (Nat.le_of_ble_eq_true rfl) hd9 hk9 hC9 (xkV_n fun h8 hvc => ?_) (fun q h hq => xTh_out0 rfl hq)
    exact xw_vret dJ32_siftUp_32 rfl hvc
  · replace hvc := hvc.1 _ hc
    subst hc
    refine xw_iload_n dJ32_siftUp_7 rfl ?_
    refine xw_aload_n dJ32_siftUp_8 rfl ?_
    refine xw_aload_n dJ32_siftUp_9 rfl ?_
    obtain ⟨hcK, o3, hvK, hvc⟩ := hvc
    refine xw_get dJ32_siftUp_10 hcJ32 in_J32 (kf := 0) (by decide) q2287 (fun _ _ _ _ z => z) hcK hvK ?_
    refine xw_aload_n dJ32_siftUp_13 rfl ?_
    obtain ⟨hcK, o4, hvK, hvc⟩ := hvc
    refine xw_get dJ32_siftUp_14 hcJ32 in_J32 (kf := 2) (by decide) q2290 (fun _ _ _ _ z => z) hcK hvK ?_
    obtain ⟨d9, k9, hd9, hk9, hC9⟩ := hvc
    refine xw_callS dJ32_siftUp_17 px_J32_siftUpUsingComparator pm_J32_siftUpUsingComparator q2320 q2321 (As := [xi x1, xr o901, xr o3, xr o4]) (rest := []) rfl rfl (Nat.le_of_ble_eq_true rfl) hd9 hk9 hC9 (xkV_n fun h5 hvc => ?_) (fun q h hq => xTh_out0 rfl hq)
    refine xw_goto 32 dJ32_siftUp_20 rfl ?_
    exact xw_vret dJ32_siftUp_32 rfl hvc

theorem rowd_J32_siftUpUsingComparator_21 {G : xG} {d d' K k k' : Nat} {Q P : xR → xH → Prop} {L : List (Option xV)} {rest : List xV} {h : xH} {b : Nat} {MY : xM} (y0 : Option Nat) (y1 : Option Nat) (hm : (xcls h b, MY) ∈ dsp_Comparator_compare) (hcat : (rest.map xcat).sum ≤ 8) (hdd : d' < d) (hk : k' ≤ k) (hC : xCn G MY d' k' (xr (some b) :: [xr y0, xr y1]) h P) (kn : ∀ (v : Option xV) (h' : xH), P (.inl v) h' → xWp G mJ32_siftUpUsingComparator d K Q (k - k') 26 L (v.toList ++ rest) h') (kt : ∀ (q : Nat) (h' : xH), P (.inr q) h' → xTh G mJ32_siftUpUsingComparator d K Q (k - k') 21 L h' q) : xWp G mJ32_siftUpUsingComparator d K Q k 21 L (xr y1 :: xr y0 :: xr (some b) :: rest) h := by
  unfold dsp_Comparator_compare at hm
  simp only [List.mem_cons, List.not_mem_nil, or_false, Prod.mk.injEq] at hm
  rcases hm with ⟨hcK, rfl⟩ | ⟨hcK, rfl⟩
  · exact xw_callF dJ32_siftUpUsingComparator_21 px_X25_compare pm_X25_compare q2324 (by decide +kernel) rfl q2346 q2348 hcX25 hcK (As := [xr y0, xr y1]) (rest := rest) rfl rfl hcat hdd hk hC kn kt
  · exact xw_callF dJ32_siftUpUsingComparator_21 px_X26_compare pm_X26_compare q2324 (by decide +kernel) rfl q2328 q2330 hcX26 hcK (As := [xr y0, xr y1]) (rest := rest) rfl rfl hcat hdd hk hC kn kt

theorem vc_J32_siftUpUsingComparator {G : xG} {d K : Nat} {Q : xR → xH → Prop} {h : xH} {x1 : Int32} {o901 : Option Nat} {o902 : Option Nat} {o903 : Option Nat}
    (hvc : ((x1 ≤ 0 → ∃ a1, o902 = some a1 ∧ xcls h a1 = 1006 ∧ ∃ i2 : Nat, x1 = nI i2 ∧ i2 < 2147483648 ∧ i2 < xlen h a1 ∧ ∃ a4, o901 = some a4 ∧ xcls h a4 ∈ cst_java_lang_Object ∧ ∀ h3 : xH, h3 = xput h a1 i2 (xr (some a4)) → Q (.inl none) h3) ∧ (¬ x1 ≤ 0 → (∀ n5 : Int32, n5 = (((x1 - (1 : Int32)).toUInt32 >>> ((1 : Int32).toUInt32 &&& Int32.toUInt32 31)).toInt32) → ∃ a6, o902 = some a6 ∧ xcls h a6 = 1006 ∧ ∃ i7 : Nat, n5 = nI i7 ∧ i7 < 2147483648 ∧ i7 < xlen h a6 ∧ ∃ o8 : Option Nat, xval h a6 i7 = xr o8 ∧ ∃ a9, o903 = some a9 ∧ ∃ Y19 : xM, (xcls h a9, Y19) ∈ dsp_Comparator_compare ∧ xCall G d K Y19 [xr (some a9), xr o901, xr o8] h (xkI (fun n12 h10 k11 => ((n12 < 0 → xcls h10 a6 = 1006 ∧ ∃ i13 : Nat, x1 = nI i13 ∧ i13 < 2147483648 ∧ i13 < xlen h10 a6 ∧ ∃ a15, o8 = some a15 ∧ xcls h10 a15 ∈ cst_java_lang_Object ∧ ∀ h14 : xH, h14 = xput h10 a6 i13 (xr (some a15)) → xWp G mJ32_siftUpUsingComparator d K Q k11 0 [some (xi n5), some (xr o901), some (xr (some a6)), some (xr (some a9)), none, none] [] h14) ∧ (¬ n12 < 0 → xcls h10 a6 = 1006 ∧ ∃ i16 : Nat, x1 = nI i16 ∧ i16 < 2147483648 ∧ i16 < xlen h10 a6 ∧ ∃ a18, o901 = some a18 ∧ xcls h10 a18 ∈ cst_java_lang_Object ∧ ∀ h17 : xH, h17 = xput h10 a6 i16 (xr (some a18)) → Q (.inl none) h17))) (fun q h _ => Q (.inr q) h)))))) : xCn G mJ32_siftUpUsingComparator d K [xi x1, xr o901, xr o902, xr o903] h Q := by
  refine xCn_of px_J32_siftUpUsingComparator rfl rfl (Nat.le_of_ble_eq_true rfl) ?_
  show xWp G mJ32_siftUpUsingComparator d K Q K 0 [some (xi x1), some (xr o901), some (xr o902), some (xr o903), none, none] [] h
  refine xw_iload_n dJ32_siftUpUsingComparator_0 rfl ?_
  refine xw_if_le 43 dJ32_siftUpUsingComparator_1 rfl (fun hc => ?_) (fun hc => ?_)
  · replace hvc := hvc.1 hc
    refine xw_aload_n dJ32_siftUpUsingComparator_43 rfl ?_
    refine xw_iload_n dJ32_siftUpUsingComparator_44 rfl ?_
    refine xw_aload_n dJ32_siftUpUsingComparator_45 rfl ?_
    obtain ⟨a1, ho, hvc⟩ := hvc
    subst ho
    obtain ⟨hcK, i2, hx9, hb9, hi9, hvc⟩ := hvc
    obtain ⟨a4, ho2, hvc⟩ := hvc
    subst ho2
    obtain ⟨hcst, hvc⟩ := hvc
    obtain ⟨ci9, r9, hcb9, hc9, hca9⟩ := cst_java_lang_Object_ok _ hcst
    refine xw_aast (j := 6) dJ32_siftUpUsingComparator_46 rfl hcK (Or.inl rfl) hx9 hb9 hi9 hc9 hcb9 hca9 (fun h3 eh9 => ?_)
    replace hvc := hvc h3 eh9
    exact xw_vret dJ32_siftUpUsingComparator_47 rfl hvc
  · replace hvc := hvc.2 hc
    refine xw_iload_n dJ32_siftUpUsingComparator_4 rfl ?_
    refine xw_iconst (1 : Int32) dJ32_siftUpUsingComparator_5 (by decide) ?_
    refine xw_isub dJ32_siftUpUsingComparator_6 ?_
    refine xw_iconst (1 : Int32) dJ32_siftUpUsingComparator_7 (by decide) ?_
    refine xw_iushr dJ32_siftUpUsingComparator_8 ?_
    obtain ⟨n5, he9⟩ : ∃ z, z = (((x1 - (1 : Int32)).toUInt32 >>> ((1 : Int32).toUInt32 &&& Int32.toUInt32 31)).toInt32) := ⟨_, rfl⟩
    rw [← he9]
    replace hvc := hvc n5 he9
    refine xw_istore dJ32_siftUpUsingComparator_9 (Nat.le_of_ble_eq_true rfl) (L9 := [some (xi x1), some (xr o901), some (xr o902), some (xr o903), some (xi n5), none]) rfl ?_
    refine xw_aload_n dJ32_siftUpUsingComparator_11 rfl ?_
    refine xw_iload dJ32_siftUpUsingComparator_12 rfl ?_
    obtain ⟨a6, ho, hvc⟩ := hvc
    subst ho
    obtain ⟨hcK, i7, hx9, hb9, hi9, o8, hv9, hvc⟩ := hvc
    refine xw_aald (j := 6) dJ32_siftUpUsingComparator_14 rfl hcK hx9 hb9 hi9 hv9 ?_
    refine xw_astore dJ32_siftUpUsingComparator_15 (Nat.le_of_ble_eq_true rfl) (L9 := [some (xi x1), some (xr o901), some (xr (some a6)), some (xr o903), some (xi n5), some (xr o8)]) rfl ?_
    refine xw_aload_n dJ32_siftUpUsingComparator_17 rfl ?_
    refine xw_aload_n dJ32_siftUpUsingComparator_18 rfl ?_
    refine xw_aload dJ32_siftUpUsingComparator_19 rfl ?_
    obtain ⟨a9, ho, hvc⟩ := hvc
    subst ho
    obtain ⟨Y19, hm9, d9, k9, hd9, hk9, hC9⟩ := hvc
    refine rowd_J32_siftUpUsingComparator_21 _ _ hm9 (rest := []) (Nat.le_of_ble_eq_true rfl) hd9 hk9 hC9 (xkI_n fun n12 h10 hvc => ?_) (fun q h hq => xTh_out0 rfl hq)
    refine xw_if_lt 32 dJ32_siftUpUsingComparator_26 rfl (fun hc => ?_) (fun hc => ?_)
    · replace hvc := hvc.1 hc
      refine xw_aload_n dJ32_siftUpUsingComparator_32 rfl ?_
      refine xw_iload_n dJ32_siftUpUsingComparator_33 rfl ?_
      refine xw_aload dJ32_siftUpUsingComparator_34 rfl ?_
      obtain ⟨hcK, i13, hx9, hb9, hi9, hvc⟩ := hvc
      obtain ⟨a15, ho2, hvc⟩ := hvc
      subst ho2
      obtain ⟨hcst, hvc⟩ := hvc
      obtain ⟨ci9, r9, hcb9, hc9, hca9⟩ := cst_java_lang_Object_ok _ hcst
      refine xw_aast (j := 6) dJ32_siftUpUsingComparator_36 rfl hcK (Or.inl rfl) hx9 hb9 hi9 hc9 hcb9 hca9 (fun h14 eh9 => ?_)
      replace hvc := hvc h14 eh9
      refine xw_iload dJ32_siftUpUsingComparator_37 rfl ?_
      refine xw_istore_n dJ32_siftUpUsingComparator_39 (Nat.le_of_ble_eq_true rfl) (L9 := [some (xi n5), some (xr o901), some (xr (some a6)), some (xr (some a9)), some (xi n5), some (xr (some a15))]) rfl ?_
      refine xw_goto 0 dJ32_siftUpUsingComparator_40 rfl ?_
      exact xWp_loc hvc (And.intro rfl (And.intro rfl (And.intro rfl (And.intro rfl trivial))))
    · replace hvc := hvc.2 hc
      refine xw_goto 43 dJ32_siftUpUsingComparator_29 rfl ?_
      refine xw_aload_n dJ32_siftUpUsingComparator_43 rfl ?_
      refine xw_iload_n dJ32_siftUpUsingComparator_44 rfl ?_
      refine xw_aload_n dJ32_siftUpUsingComparator_45 rfl ?_
      obtain ⟨hcK, i16, hx9, hb9, hi9, hvc⟩ := hvc
      obtain ⟨a18, ho2, hvc⟩ := hvc
      subst ho2
      obtain ⟨hcst, hvc⟩ := hvc
      obtain ⟨ci9, r9, hcb9, hc9, hca9⟩ := cst_java_lang_Object_ok _ hcst
      refine xw_aast (j := 6) dJ32_siftUpUsingComparator_46 rfl hcK (Or.inl rfl) hx9 hb9 hi9 hc9 hcb9 hca9 (fun h17 eh9 => ?_)
      replace hvc := hvc h17 eh9
      exact xw_vret dJ32_siftUpUsingComparator_47 rfl hvc

theorem vc_J32_siftUpUsingComparator_0 {G : xG} {d K k : Nat} {Q : xR → xH → Prop} {h : xH} {x0 : Int32} {o901 : Option Nat} {o902 : Option Nat} {o903 : Option Nat}
    (hvc : ((x0 ≤ 0 → ∃ a20, o902 = some a20 ∧ xcls h a20 = 1006 ∧ ∃ i21 : Nat, x0 = nI i21 ∧ i21 < 2147483648 ∧ i21 < xlen h a20 ∧ ∃ a23, o901 = some a23 ∧ xcls h a23 ∈ cst_java_lang_Object ∧ ∀ h22 : xH, h22 = xput h a20 i21 (xr (some a23)) → Q (.inl none) h22) ∧ (¬ x0 ≤ 0 → (∀ n24 : Int32, n24 = (((x0 - (1 : Int32)).toUInt32 >>> ((1 : Int32).toUInt32 &&& Int32.toUInt32 31)).toInt32) → ∃ a25, o902 = some a25 ∧ xcls h a25 = 1006 ∧ ∃ i26 : Nat, n24 = nI i26 ∧ i26 < 2147483648 ∧ i26 < xlen h a25 ∧ ∃ o27 : Option Nat, xval h a25 i26 = xr o27 ∧ ∃ a28, o903 = some a28 ∧ ∃ Y38 : xM, (xcls h a28, Y38) ∈ dsp_Comparator_compare ∧ xCall G d k Y38 [xr (some a28), xr o901, xr o27] h (xkI (fun n31 h29 k30 => ((n31 < 0 → xcls h29 a25 = 1006 ∧ ∃ i32 : Nat, x0 = nI i32 ∧ i32 < 2147483648 ∧ i32 < xlen h29 a25 ∧ ∃ a34, o27 = some a34 ∧ xcls h29 a34 ∈ cst_java_lang_Object ∧ ∀ h33 : xH, h33 = xput h29 a25 i32 (xr (some a34)) → xWp G mJ32_siftUpUsingComparator d K Q k30 0 [some (xi n24), some (xr o901), some (xr (some a25)), some (xr (some a28)), none, none] [] h33) ∧ (¬ n31 < 0 → xcls h29 a25 = 1006 ∧ ∃ i35 : Nat, x0 = nI i35 ∧ i35 < 2147483648 ∧ i35 < xlen h29 a25 ∧ ∃ a37, o901 = some a37 ∧ xcls h29 a37 ∈ cst_java_lang_Object ∧ ∀ h36 : xH, h36 = xput h29 a25 i35 (xr (some a37)) → Q (.inl none) h36))) (fun q h _ => Q (.inr q) h)))))) : xWp G mJ32_siftUpUsingComparator d K Q k 0 [some (xi x0), some (xr o901), some (xr o902), some (xr o903), none, none] [] h := by
  refine xw_iload_n dJ32_siftUpUsingComparator_0 rfl ?_
  refine xw_if_le 43 dJ32_siftUpUsingComparator_1 rfl (fun hc => ?_) (fun hc => ?_)
  · replace hvc := hvc.1 hc
    refine xw_aload_n dJ32_siftUpUsingComparator_43 rfl ?_
    refine xw_iload_n dJ32_siftUpUsingComparator_44 rfl ?_
    refine xw_aload_n dJ32_siftUpUsingComparator_45 rfl ?_
    obtain ⟨a20, ho, hvc⟩ := hvc
    subst ho
    obtain ⟨hcK, i21, hx9, hb9, hi9, hvc⟩ := hvc
    obtain ⟨a23, ho2, hvc⟩ := hvc
    subst ho2
    obtain ⟨hcst, hvc⟩ := hvc
    obtain ⟨ci9, r9, hcb9, hc9, hca9⟩ := cst_java_lang_Object_ok _ hcst
    refine xw_aast (j := 6) dJ32_siftUpUsingComparator_46 rfl hcK (Or.inl rfl) hx9 hb9 hi9 hc9 hcb9 hca9 (fun h22 eh9 => ?_)
    replace hvc := hvc h22 eh9
    exact xw_vret dJ32_siftUpUsingComparator_47 rfl hvc
  · replace hvc := hvc.2 hc
    refine xw_iload_n dJ32_siftUpUsingComparator_4 rfl ?_
    refine xw_iconst (1 : Int32) dJ32_siftUpUsingComparator_5 (by decide) ?_
    refine xw_isub dJ32_siftUpUsingComparator_6 ?_
    refine xw_iconst (1 : Int32) dJ32_siftUpUsingComparator_7 (by decide) ?_
    refine xw_iushr dJ32_siftUpUsingComparator_8 ?_
    obtain ⟨n24, he9⟩ : ∃ z, z = (((x0 - (1 : Int32)).toUInt32 >>> ((1 : Int32).toUInt32 &&& Int32.toUInt32 31)).toInt32) := ⟨_, rfl⟩
    rw [← he9]
    replace hvc := hvc n24 he9
    refine xw_istore dJ32_siftUpUsingComparator_9 (Nat.le_of_ble_eq_true rfl) (L9 := [some (xi x0), some (xr o901), some (xr o902), some (xr o903), some (xi n24), none]) rfl ?_
    refine xw_aload_n dJ32_siftUpUsingComparator_11 rfl ?_
    refine xw_iload dJ32_siftUpUsingComparator_12 rfl ?_
    obtain ⟨a25, ho, hvc⟩ := hvc
    subst ho
    obtain ⟨hcK, i26, hx9, hb9, hi9, o27, hv9, hvc⟩ := hvc
    refine xw_aald (j := 6) dJ32_siftUpUsingComparator_14 rfl hcK hx9 hb9 hi9 hv9 ?_
    refine xw_astore dJ32_siftUpUsingComparator_15 (Nat.le_of_ble_eq_true rfl) (L9 := [some (xi x0), some (xr o901), some (xr (some a25)), some (xr o903), some (xi n24), some (xr o27)]) rfl ?_
    refine xw_aload_n dJ32_siftUpUsingComparator_17 rfl ?_
    refine xw_aload_n dJ32_siftUpUsingComparator_18 rfl ?_
    refine xw_aload dJ32_siftUpUsingComparator_19 rfl ?_
    obtain ⟨a28, ho, hvc⟩ := hvc
    subst ho
    obtain ⟨Y38, hm9, d9, k9, hd9, hk9, hC9⟩ := hvc
    refine rowd_J32_siftUpUsingComparator_21 _ _ hm9 (rest := []) (Nat.le_of_ble_eq_true rfl) hd9 hk9 hC9 (xkI_n fun n31 h29 hvc => ?_) (fun q h hq => xTh_out0 rfl hq)
    refine xw_if_lt 32 dJ32_siftUpUsingComparator_26 rfl (fun hc => ?_) (fun hc => ?_)
    · replace hvc := hvc.1 hc
      refine xw_aload_n dJ32_siftUpUsingComparator_32 rfl ?_
      refine xw_iload_n dJ32_siftUpUsingComparator_33 rfl ?_
      refine xw_aload dJ32_siftUpUsingComparator_34 rfl ?_
      obtain ⟨hcK, i32, hx9, hb9, hi9, hvc⟩ := hvc
      obtain ⟨a34, ho2, hvc⟩ := hvc
      subst ho2
      obtain ⟨hcst, hvc⟩ := hvc
      obtain ⟨ci9, r9, hcb9, hc9, hca9⟩ := cst_java_lang_Object_ok _ hcst
      refine xw_aast (j := 6) dJ32_siftUpUsingComparator_36 rfl hcK (Or.inl rfl) hx9 hb9 hi9 hc9 hcb9 hca9 (fun h33 eh9 => ?_)
      replace hvc := hvc h33 eh9
      refine xw_iload dJ32_siftUpUsingComparator_37 rfl ?_
      refine xw_istore_n dJ32_siftUpUsingComparator_39 (Nat.le_of_ble_eq_true rfl) (L9 := [some (xi n24), some (xr o901), some (xr (some a25)), some (xr (some a28)), some (xi n24), some (xr (some a34))]) rfl ?_
      refine xw_goto 0 dJ32_siftUpUsingComparator_40 rfl ?_
      exact xWp_loc hvc (And.intro rfl (And.intro rfl (And.intro rfl (And.intro rfl trivial))))
    · replace hvc := hvc.2 hc
      refine xw_goto 43 dJ32_siftUpUsingComparator_29 rfl ?_
      refine xw_aload_n dJ32_siftUpUsingComparator_43 rfl ?_
      refine xw_iload_n dJ32_siftUpUsingComparator_44 rfl ?_
      refine xw_aload_n dJ32_siftUpUsingComparator_45 rfl ?_
      obtain ⟨hcK, i35, hx9, hb9, hi9, hvc⟩ := hvc
      obtain ⟨a37, ho2, hvc⟩ := hvc
      subst ho2
      obtain ⟨hcst, hvc⟩ := hvc
      obtain ⟨ci9, r9, hcb9, hc9, hca9⟩ := cst_java_lang_Object_ok _ hcst
      refine xw_aast (j := 6) dJ32_siftUpUsingComparator_46 rfl hcK (Or.inl rfl) hx9 hb9 hi9 hc9 hcb9 hca9 (fun h36 eh9 => ?_)
      replace hvc := hvc h36 eh9
      exact xw_vret dJ32_siftUpUsingComparator_47 rfl hvc

theorem vc_J32_poll {G : xG} {d K : Nat} {Q : xR → xH → Prop} {h : xH} {this : Nat}
    (hvc : xcls h this = 39 ∧ ∃ o1 : Option Nat, xval h this 0 = xr o1 ∧ ∃ a2, o1 = some a2 ∧ xcls h a2 = 1006 ∧ ∃ i3 : Nat, (0 : Int32) = nI i3 ∧ i3 < 2147483648 ∧ i3 < xlen h a2 ∧ ∃ o4 : Option Nat, xval h a2 i3 = xr o4 ∧ ((∀ a5, o4 = some a5 → xcls h this = 39 ∧ ∃ n6 : Int32, xval h this 3 = xi n6 ∧ xcls h this = 39 ∧ ∀ h7 : xH, h7 = xput h this 3 (xi (n6 + (1 : Int32))) → xcls h7 this = 39 ∧ ∃ n8 : Int32, xval h7 this 1 = xi n8 ∧ xcls h7 this = 39 ∧ ∀ h9 : xH, h9 = xput h7 this 1 (xi (n8 - (1 : Int32))) → xcls h9 a2 = 1006 ∧ ∃ i10 : Nat, (n8 - (1 : Int32)) = nI i10 ∧ i10 < 2147483648 ∧ i10 < xlen h9 a2 ∧ ∃ o11 : Option Nat, xval h9 a2 i10 = xr o11 ∧ xcls h9 a2 = 1006 ∧ ∃ i12 : Nat, (n8 - (1 : Int32)) = nI i12 ∧ i12 < 2147483648 ∧ i12 < xlen h9 a2 ∧ ∀ h13 : xH, h13 = xput h9 a2 i12 (xr none) → (((n8 - (1 : Int32)) ≤ 0 → Q (.inl (some (xr (some a5)))) h13) ∧ (¬ (n8 - (1 : Int32)) ≤ 0 → xcls h13 this = 39 ∧ ∃ o14 : Option Nat, xval h13 this 2 = xr o14 ∧ ((∀ a15, o14 = some a15 → xCall G d K mJ32_siftDownUsingComparator [xi (0 : Int32), xr o11, xr (some a2), xi (n8 - (1 : Int32)), xr (some a15)] h13 (xkV (fun h16 k17 => Q (.inl (some (xr (some a5)))) h16) (fun q h _ => Q (.inr q) h))) ∧ (o14 = none → xCall G d K mJ32_siftDownComparable [xi (0 : Int32), xr o11, xr (some a2), xi (n8 - (1 : Int32))] h13 (xkV (fun h18 k19 => Q (.inl (some (xr (some a5)))) h18) (fun q h _ => Q (.inr q) h))))))) ∧ (o4 = none → Q (.inl (some (xr none))) h))) : xCn G mJ32_poll d K [xr (some this)] h Q := by
  refine xCn_of px_J32_poll rfl rfl (Nat.le_of_ble_eq_true rfl) ?_
  show xWp G mJ32_poll d K Q K 0 [some (xr (some this)), none, none, none, none, none] [] h
  refine xw_aload_n dJ32_poll_0 rfl ?_
  obtain ⟨hcK, o1, hvK, hvc⟩ := hvc
  refine xw_get dJ32_poll_1 hcJ32 in_J32 (kf := 0) (by decide) q2287 (fun _ _ _ _ z => z) hcK hvK ?_
  refine xw_dup dJ32_poll_4 rfl ?_
  refine xw_astore_n dJ32_poll_5 (Nat.le_of_ble_eq_true rfl) (L9 := [some (xr (some this)), some (xr o1), none, none, none, none]) rfl ?_
  refine xw_iconst (0 : Int32) dJ32_poll_6 (by decide) ?_
  obtain ⟨a2, ho, hvc⟩ := hvc
  subst ho
  obtain ⟨hcK, i3, hx9, hb9, hi9, o4, hv9, hvc⟩ := hvc
  refine xw_aald (j := 6) dJ32_poll_7 rfl hcK hx9 hb9 hi9 hv9 ?_
  refine xw_dup dJ32_poll_8 rfl ?_
  refine xw_astore_n dJ32_poll_9 (Nat.le_of_ble_eq_true rfl) (L9 := [some (xr (some this)), some (xr (some a2)), some (xr o4), none, none, none]) rfl ?_
  refine xw_ifnull 79 dJ32_poll_10 rfl (fun hc => ?_) (fun a5 hc => ?_)
  · replace hvc := hvc.2 hc
    subst hc
    refine xw_aload_n dJ32_poll_79 rfl ?_
    exact xw_aret dJ32_poll_80 rfl rfl hvc
  · replace hvc := hvc.1 _ hc
    subst hc
    refine xw_aload_n dJ32_poll_13 rfl ?_
    refine xw_dup dJ32_poll_14 rfl ?_
    obtain ⟨hcK, n6, hvK, hvc⟩ := hvc
    refine xw_get dJ32_poll_15 hcJ32 in_J32 (kf := 3) (by decide) q2292 (fun _ _ _ _ z => z) hcK hvK ?_
    refine xw_iconst (1 : Int32) dJ32_poll_18 (by decide) ?_
    refine xw_iadd dJ32_poll_19 ?_
    obtain ⟨hcK, hvc⟩ := hvc
    refine xw_put dJ32_poll_20 hcJ32 in_J32 tyJ32_ok xnmJ32 (kf := 3) (by decide) q2292 (fun _ _ _ _ z => z) rfl rfl rfl hcK (Or.inl rfl) (fun h7 eh9 => ?_)
    replace hvc := hvc h7 eh9
    refine xw_aload_n dJ32_poll_23 rfl ?_
    refine xw_aload_n dJ32_poll_24 rfl ?_
    refine xw_dup dJ32_poll_25 rfl ?_
    obtain ⟨hcK, n8, hvK, hvc⟩ := hvc
    refine xw_get dJ32_poll_26 hcJ32 in_J32 (kf := 1) (by decide) q2289 (fun _ _ _ _ z => z) hcK hvK ?_
    refine xw_iconst (1 : Int32) dJ32_poll_29 (by decide) ?_
    refine xw_isub dJ32_poll_30 ?_
    refine xw_dup_x1 dJ32_poll_31 rfl rfl ?_
    obtain ⟨hcK, hvc⟩ := hvc
    refine xw_put dJ32_poll_32 hcJ32 in_J32 tyJ32_ok xnmJ32 (kf := 1) (by decide) q2289 (fun _ _ _ _ z => z) rfl rfl rfl hcK (Or.inl rfl) (fun h9 eh9 => ?_)
    replace hvc := hvc h9 eh9
    refine xw_dup dJ32_poll_35 rfl ?_
    refine xw_istore_n dJ32_poll_36 (Nat.le_of_ble_eq_true rfl) (L9 := [some (xr (some this)), some (xr (some a2)), some (xr (some a5)), some (xi (n8 - (1 : Int32))), none, none]) rfl ?_
    obtain ⟨hcK, i10, hx9, hb9, hi9, o11, hv9, hvc⟩ := hvc
    refine xw_aald (j := 6) dJ32_poll_37 rfl hcK hx9 hb9 hi9 hv9 ?_
    refine xw_astore dJ32_poll_38 (Nat.le_of_ble_eq_true rfl) (L9 := [some (xr (some this)), some (xr (some a2)), some (xr (some a5)), some (xi (n8 - (1 : Int32))), some (xr o11), none]) rfl ?_
    refine xw_aload_n dJ32_poll_40 rfl ?_
    refine xw_iload_n dJ32_poll_41 rfl ?_
    refine xw_null dJ32_poll_42 ?_
    obtain ⟨hcK, i12, hx9, hb9, hi9, hvc⟩ := hvc
    refine xw_aastN (j := 6) dJ32_poll_43 rfl hcK (Or.inl rfl) hx9 hb9 hi9 (fun h13 eh9 => ?_)
    replace hvc := hvc h13 eh9
    refine xw_iload_n dJ32_poll_44 rfl ?_
    refine xw_if_le 79 dJ32_poll_45 rfl (fun hc => ?_) (fun hc => ?_)
    · replace hvc := hvc.1 hc
      refine xw_aload_n dJ32_poll_79 rfl ?_
      exact xw_aret dJ32_poll_80 rfl rfl hvc
    · replace hvc := hvc.2 hc
      refine xw_aload_n dJ32_poll_48 rfl ?_
      obtain ⟨hcK, o14, hvK, hvc⟩ := hvc
      refine xw_get dJ32_poll_49 hcJ32 in_J32 (kf := 2) (by decide) q2290 (fun _ _ _ _ z => z) hcK hvK ?_
      refine xw_dup dJ32_poll_52 rfl ?_
      refine xw_astore dJ32_poll_53 (Nat.le_of_ble_eq_true rfl) (L9 := [some (xr (some this)), some (xr (some a2)), some (xr (some a5)), some (xi (n8 - (1 : Int32))), some (xr o11), some (xr o14)]) rfl ?_
      refine xw_ifnonnull 69 dJ32_poll_55 rfl (fun a15 hc => ?_) (fun hc => ?_)
      · replace hvc := hvc.1 _ hc
        subst hc
        refine xw_iconst (0 : Int32) dJ32_poll_69 (by decide) ?_
        refine xw_aload dJ32_poll_70 rfl ?_
        refine xw_aload_n dJ32_poll_72 rfl ?_
        refine xw_iload_n dJ32_poll_73 rfl ?_
        refine xw_aload dJ32_poll_74 rfl ?_
        obtain ⟨d9, k9, hd9, hk9, hC9⟩ := hvc
        refine xw_callS dJ32_poll_76 px_J32_siftDownUsingComparator pm_J32_siftDownUsingComparator q2543 q2544 (As := [xi (0 : Int32), xr o11, xr (some a2), xi (n8 - (1 : Int32)), xr (some a15)]) (rest := []) rfl rfl (Nat.le_of_ble_eq_true rfl) hd9 hk9 hC9 (xkV_n fun h16 hvc => ?_) (fun q h hq => xTh_out0 rfl hq)
        refine xw_aload_n dJ32_poll_79 rfl ?_
        exact xw_aret dJ32_poll_80 rfl rfl hvc
      · replace hvc := hvc.2 hc
        subst hc
        refine xw_iconst (0 : Int32) dJ32_poll_58 (by decide) ?_
        refine xw_aload dJ32_poll_59 rfl ?_
        refine xw_aload_n dJ32_poll_61 rfl ?_
        refine xw_iload_n dJ32_poll_62 rfl ?_
        obtain ⟨d9, k9, hd9, hk9, hC9⟩ := hvc
        refine xw_callS dJ32_poll_63 px_J32_siftDownComparable pm_J32_siftDownComparable q2540 q2541 (As := [xi (0 : Int32), xr o11, xr (some a2), xi (n8 - (1 : Int32))]) (rest := []) rfl rfl (Nat.le_of_ble_eq_true rfl) hd9 hk9 hC9 (xkV_n fun h18 hvc => ?_) (fun q h hq => xTh_out0 rfl hq)
        refine xw_goto 79 dJ32_poll_66 rfl ?_
        refine xw_aload_n dJ32_poll_79 rfl ?_
        exact xw_aret dJ32_poll_80 rfl rfl hvc

theorem rowd_J32_siftDownUsingComparator_66 {G : xG} {d d' K k k' : Nat} {Q P : xR → xH → Prop} {L : List (Option xV)} {rest : List xV} {h : xH} {b : Nat} {MY : xM} (y0 : Option Nat) (y1 : Option Nat) (hm : (xcls h b, MY) ∈ dsp_Comparator_compare) (hcat : (rest.map xcat).sum ≤ 8) (hdd : d' < d) (hk : k' ≤ k) (hC : xCn G MY d' k' (xr (some b) :: [xr y0, xr y1]) h P) (kn : ∀ (v : Option xV) (h' : xH), P (.inl v) h' → xWp G mJ32_siftDownUsingComparator d K Q (k - k') 71 L (v.toList ++ rest) h') (kt : ∀ (q : Nat) (h' : xH), P (.inr q) h' → xTh G mJ32_siftDownUsingComparator d K Q (k - k') 66 L h' q) : xWp G mJ32_siftDownUsingComparator d K Q k 66 L (xr y1 :: xr y0 :: xr (some b) :: rest) h := by
  unfold dsp_Comparator_compare at hm
  simp only [List.mem_cons, List.not_mem_nil, or_false, Prod.mk.injEq] at hm
  rcases hm with ⟨hcK, rfl⟩ | ⟨hcK, rfl⟩
  · exact xw_callF dJ32_siftDownUsingComparator_66 px_X25_compare pm_X25_compare q2324 (by decide +kernel) rfl q2346 q2348 hcX25 hcK (As := [xr y0, xr y1]) (rest := rest) rfl rfl hcat hdd hk hC kn kt
  · exact xw_callF dJ32_siftDownUsingComparator_66 px_X26_compare pm_X26_compare q2324 (by decide +kernel) rfl q2328 q2330 hcX26 hcK (As := [xr y0, xr y1]) (rest := rest) rfl rfl hcat hdd hk hC kn kt

theorem rowd_J32_siftDownUsingComparator_44 {G : xG} {d d' K k k' : Nat} {Q P : xR → xH → Prop} {L : List (Option xV)} {rest : List xV} {h : xH} {b : Nat} {MY : xM} (y0 : Option Nat) (y1 : Option Nat) (hm : (xcls h b, MY) ∈ dsp_Comparator_compare) (hcat : (rest.map xcat).sum ≤ 8) (hdd : d' < d) (hk : k' ≤ k) (hC : xCn G MY d' k' (xr (some b) :: [xr y0, xr y1]) h P) (kn : ∀ (v : Option xV) (h' : xH), P (.inl v) h' → xWp G mJ32_siftDownUsingComparator d K Q (k - k') 49 L (v.toList ++ rest) h') (kt : ∀ (q : Nat) (h' : xH), P (.inr q) h' → xTh G mJ32_siftDownUsingComparator d K Q (k - k') 44 L h' q) : xWp G mJ32_siftDownUsingComparator d K Q k 44 L (xr y1 :: xr y0 :: xr (some b) :: rest) h := by
  unfold dsp_Comparator_compare at hm
  simp only [List.mem_cons, List.not_mem_nil, or_false, Prod.mk.injEq] at hm
  rcases hm with ⟨hcK, rfl⟩ | ⟨hcK, rfl⟩
  · exact xw_callF dJ32_siftDownUsingComparator_44 px_X25_compare pm_X25_compare q2324 (by decide +kernel) rfl q2346 q2348 hcX25 hcK (As := [xr y0, xr y1]) (rest := rest) rfl rfl hcat hdd hk hC kn kt
  · exact xw_callF dJ32_siftDownUsingComparator_44 px_X26_compare pm_X26_compare q2324 (by decide +kernel) rfl q2328 q2330 hcX26 hcK (As := [xr y0, xr y1]) (rest := rest) rfl rfl hcat hdd hk hC kn kt

theorem vc_J32_siftDownUsingComparator {G : xG} {d K : Nat} {Q : xR → xH → Prop} {h : xH} {x1 : Int32} {o901 : Option Nat} {o902 : Option Nat} {x4 : Int32} {o904 : Option Nat}
    (hvc : (∀ n1 : Int32, n1 = ((x4.toUInt32 >>> ((1 : Int32).toUInt32 &&& Int32.toUInt32 31)).toInt32) → xWp G mJ32_siftDownUsingComparator d K Q K 5 [some (xi x1), some (xr o901), some (xr o902), some (xi x4), some (xr o904), some (xi n1), none, none, none] [] h)) : xCn G mJ32_siftDownUsingComparator d K [xi x1, xr o901, xr o902, xi x4, xr o904] h Q := by
  refine xCn_of px_J32_siftDownUsingComparator rfl rfl (Nat.le_of_ble_eq_true rfl) ?_
  show xWp G mJ32_siftDownUsingComparator d K Q K 0 [some (xi x1), some (xr o901), some (xr o902), some (xi x4), some (xr o904), none, none, none, none] [] h
  refine xw_iload_n dJ32_siftDownUsingComparator_0 rfl ?_
  refine xw_iconst (1 : Int32) dJ32_siftDownUsingComparator_1 (by decide) ?_
  refine xw_iushr dJ32_siftDownUsingComparator_2 ?_
  obtain ⟨n1, he9⟩ : ∃ z, z = ((x4.toUInt32 >>> ((1 : Int32).toUInt32 &&& Int32.toUInt32 31)).toInt32) := ⟨_, rfl⟩
  rw [← he9]
  replace hvc := hvc n1 he9
  refine xw_istore dJ32_siftDownUsingComparator_3 (Nat.le_of_ble_eq_true rfl) (L9 := [some (xi x1), some (xr o901), some (xr o902), some (xi x4), some (xr o904), some (xi n1), none, none, none]) rfl ?_
  exact hvc

theorem vc_J32_siftDownUsingComparator_5 {G : xG} {d K k : Nat} {Q : xR → xH → Prop} {h : xH} {x0 : Int32} {o901 : Option Nat} {o902 : Option Nat} {x3 : Int32} {o904 : Option Nat} {x5 : Int32}
    (hvc : ((x5 ≤ x0 → ∃ a2, o902 = some a2 ∧ xcls h a2 = 1006 ∧ ∃ i3 : Nat, x0 = nI i3 ∧ i3 < 2147483648 ∧ i3 < xlen h a2 ∧ ∃ a5, o901 = some a5 ∧ xcls h a5 ∈ cst_java_lang_Object ∧ ∀ h4 : xH, h4 = xput h a2 i3 (xr (some a5)) → Q (.inl none) h4) ∧ (¬ x5 ≤ x0 → ∃ a6, o902 = some a6 ∧ xcls h a6 = 1006 ∧ ∃ i7 : Nat, ((x0 <<< ((1 : Int32) &&& 31)) + (1 : Int32)) = nI i7 ∧ i7 < 2147483648 ∧ i7 < xlen h a6 ∧ ∃ o8 : Option Nat, xval h a6 i7 = xr o8 ∧ ((x3 ≤ (((x0 <<< ((1 : Int32) &&& 31)) + (1 : Int32)) + (1 : Int32)) → ∃ a9, o904 = some a9 ∧ ∃ Y19 : xM, (xcls h a9, Y19) ∈ dsp_Comparator_compare ∧ xCall G d k Y19 [xr (some a9), xr o901, xr o8] h (xkI (fun n12 h10 k11 => ((0 < n12 → xcls h10 a6 = 1006 ∧ ∃ i13 : Nat, x0 = nI i13 ∧ i13 < 2147483648 ∧ i13 < xlen h10 a6 ∧ ∃ a15, o8 = some a15 ∧ xcls h10 a15 ∈ cst_java_lang_Object ∧ ∀ h14 : xH, h14 = xput h10 a6 i13 (xr (some a15)) → xWp G mJ32_siftDownUsingComparator d K Q k11 5 [some (xi ((x0 <<< ((1 : Int32) &&& 31)) + (1 : Int32))), some (xr o901), some (xr (some a6)), some (xi x3), some (xr (some a9)), some (xi x5), none, none, none] [] h14) ∧ (¬ 0 < n12 → xcls h10 a6 = 1006 ∧ ∃ i16 : Nat, x0 = nI i16 ∧ i16 < 2147483648 ∧ i16 < xlen h10 a6 ∧ ∃ a18, o901 = some a18 ∧ xcls h10 a18 ∈ cst_java_lang_Object ∧ ∀ h17 : xH, h17 = xput h10 a6 i16 (xr (some a18)) → Q (.inl none) h17))) (fun q h _ => Q (.inr q) h))) ∧ (¬ x3 ≤ (((x0 <<< ((1 : Int32) &&& 31)) + (1 : Int32)) + (1 : Int32)) → xcls h a6 = 1006 ∧ ∃ i20 : Nat, (((x0 <<< ((1 : Int32) &&& 31)) + (1 : Int32)) + (1 : Int32)) = nI i20 ∧ i20 < 2147483648 ∧ i20 < xlen h a6 ∧ ∃ o21 : Option Nat, xval h a6 i20 = xr o21 ∧ ∃ a22, o904 = some a22 ∧ ∃ Y48 : xM, (xcls h a22, Y48) ∈ dsp_Comparator_compare ∧ xCall G d k Y48 [xr (some a22), xr o8, xr o21] h (xkI (fun n25 h23 k24 => ((n25 ≤ 0 → ∃ Y35 : xM, (xcls h23 a22, Y35) ∈ dsp_Comparator_compare ∧ xCall G d k24 Y35 [xr (some a22), xr o901, xr o8] h23 (xkI (fun n28 h26 k27 => ((0 < n28 → xcls h26 a6 = 1006 ∧ ∃ i29 : Nat, x0 = nI i29 ∧ i29 < 2147483648 ∧ i29 < xlen h26 a6 ∧ ∃ a31, o8 = some a31 ∧ xcls h26 a31 ∈ cst_java_lang_Object ∧ ∀ h30 : xH, h30 = xput h26 a6 i29 (xr (some a31)) → xWp G mJ32_siftDownUsingComparator d K Q k27 5 [some (xi ((x0 <<< ((1 : Int32) &&& 31)) + (1 : Int32))), some (xr o901), some (xr (some a6)), some (xi x3), some (xr (some a22)), some (xi x5), none, none, none] [] h30) ∧ (¬ 0 < n28 → xcls h26 a6 = 1006 ∧ ∃ i32 : Nat, x0 = nI i32 ∧ i32 < 2147483648 ∧ i32 < xlen h26 a6 ∧ ∃ a34, o901 = some a34 ∧ xcls h26 a34 ∈ cst_java_lang_Object ∧ ∀ h33 : xH, h33 = xput h26 a6 i32 (xr (some a34)) → Q (.inl none) h33))) (fun q h _ => Q (.inr q) h))) ∧ (¬ n25 ≤ 0 → xcls h23 a6 = 1006 ∧ ∃ i36 : Nat, (((x0 <<< ((1 : Int32) &&& 31)) + (1 : Int32)) + (1 : Int32)) = nI i36 ∧ i36 < 2147483648 ∧ i36 < xlen h23 a6 ∧ ∃ o37 : Option Nat, xval h23 a6 i36 = xr o37 ∧ ∃ Y47 : xM, (xcls h23 a22, Y47) ∈ dsp_Comparator_compare ∧ xCall G d k24 Y47 [xr (some a22), xr o901, xr o37] h23 (xkI (fun n40 h38 k39 => ((0 < n40 → xcls h38 a6 = 1006 ∧ ∃ i41 : Nat, x0 = nI i41 ∧ i41 < 2147483648 ∧ i41 < xlen h38 a6 ∧ ∃ a43, o37 = some a43 ∧ xcls h38 a43 ∈ cst_java_lang_Object ∧ ∀ h42 : xH, h42 = xput h38 a6 i41 (xr (some a43)) → xWp G mJ32_siftDownUsingComparator d K Q k39 5 [some (xi (((x0 <<< ((1 : Int32) &&& 31)) + (1 : Int32)) + (1 : Int32))), some (xr o901), some (xr (some a6)), some (xi x3), some (xr (some a22)), some (xi x5), none, none, none] [] h42) ∧ (¬ 0 < n40 → xcls h38 a6 = 1006 ∧ ∃ i44 : Nat, x0 = nI i44 ∧ i44 < 2147483648 ∧ i44 < xlen h38 a6 ∧ ∃ a46, o901 = some a46 ∧ xcls h38 a46 ∈ cst_java_lang_Object ∧ ∀ h45 : xH, h45 = xput h38 a6 i44 (xr (some a46)) → Q (.inl none) h45))) (fun q h _ => Q (.inr q) h))))) (fun q h _ => Q (.inr q) h))))))) : xWp G mJ32_siftDownUsingComparator d K Q k 5 [some (xi x0), some (xr o901), some (xr o902), some (xi x3), some (xr o904), some (xi x5), none, none, none] [] h := by
  refine xw_iload_n dJ32_siftDownUsingComparator_5 rfl ?_
  refine xw_iload dJ32_siftDownUsingComparator_6 rfl ?_
  refine xw_icmp_ge 88 dJ32_siftDownUsingComparator_8 rfl (fun hc => ?_) (fun hc => ?_)
  · replace hvc := hvc.1 hc
    refine xw_aload_n dJ32_siftDownUsingComparator_88 rfl ?_
    refine xw_iload_n dJ32_siftDownUsingComparator_89 rfl ?_
    refine xw_aload_n dJ32_siftDownUsingComparator_90 rfl ?_
    obtain ⟨a2, ho, hvc⟩ := hvc
    subst ho
    obtain ⟨hcK, i3, hx9, hb9, hi9, hvc⟩ := hvc
    obtain ⟨a5, ho2, hvc⟩ := hvc
    subst ho2
    obtain ⟨hcst, hvc⟩ := hvc
    obtain ⟨ci9, r9, hcb9, hc9, hca9⟩ := cst_java_lang_Object_ok _ hcst
    refine xw_aast (j := 6) dJ32_siftDownUsingComparator_91 rfl hcK (Or.inl rfl) hx9 hb9 hi9 hc9 hcb9 hca9 (fun h4 eh9 => ?_)
    replace hvc := hvc h4 eh9
    exact xw_vret dJ32_siftDownUsingComparator_92 rfl hvc
  · replace hvc := hvc.2 hc
    refine xw_iload_n dJ32_siftDownUsingComparator_11 rfl ?_
    refine xw_iconst (1 : Int32) dJ32_siftDownUsingComparator_12 (by decide) ?_
    refine xw_ishl dJ32_siftDownUsingComparator_13 ?_
    refine xw_iconst (1 : Int32) dJ32_siftDownUsingComparator_14 (by decide) ?_
    refine xw_iadd dJ32_siftDownUsingComparator_15 ?_
    refine xw_istore dJ32_siftDownUsingComparator_16 (Nat.le_of_ble_eq_true rfl) (L9 := [some (xi x0), some (xr o901), some (xr o902), some (xi x3), some (xr o904), some (xi x5), some (xi ((x0 <<< ((1 : Int32) &&& 31)) + (1 : Int32))), none, none]) rfl ?_
    refine xw_aload_n dJ32_siftDownUsingComparator_18 rfl ?_
    refine xw_iload dJ32_siftDownUsingComparator_19 rfl ?_
    obtain ⟨a6, ho, hvc⟩ := hvc
    subst ho
    obtain ⟨hcK, i7, hx9, hb9, hi9, o8, hv9, hvc⟩ := hvc
    refine xw_aald (j := 6) dJ32_siftDownUsingComparator_21 rfl hcK hx9 hb9 hi9 hv9 ?_
    refine xw_astore dJ32_siftDownUsingComparator_22 (Nat.le_of_ble_eq_true rfl) (L9 := [some (xi x0), some (xr o901), some (xr (some a6)), some (xi x3), some (xr o904), some (xi x5), some (xi ((x0 <<< ((1 : Int32) &&& 31)) + (1 : Int32))), some (xr o8), none]) rfl ?_
    refine xw_iload dJ32_siftDownUsingComparator_24 rfl ?_
    refine xw_iconst (1 : Int32) dJ32_siftDownUsingComparator_26 (by decide) ?_
    refine xw_iadd dJ32_siftDownUsingComparator_27 ?_
    refine xw_istore dJ32_siftDownUsingComparator_28 (Nat.le_of_ble_eq_true rfl) (L9 := [some (xi x0), some (xr o901), some (xr (some a6)), some (xi x3), some (xr o904), some (xi x5), some (xi ((x0 <<< ((1 : Int32) &&& 31)) + (1 : Int32))), some (xr o8), some (xi (((x0 <<< ((1 : Int32) &&& 31)) + (1 : Int32)) + (1 : Int32)))]) rfl ?_
    refine xw_iload dJ32_siftDownUsingComparator_30 rfl ?_
    refine xw_iload_n dJ32_siftDownUsingComparator_32 rfl ?_
    refine xw_icmp_ge 61 dJ32_siftDownUsingComparator_33 rfl (fun hc => ?_) (fun hc => ?_)
    · replace hvc := hvc.1 hc
      refine xw_aload dJ32_siftDownUsingComparator_61 rfl ?_
      refine xw_aload_n dJ32_siftDownUsingComparator_63 rfl ?_
      refine xw_aload dJ32_siftDownUsingComparator_64 rfl ?_
      obtain ⟨a9, ho, hvc⟩ := hvc
      subst ho
      obtain ⟨Y19, hm9, d9, k9, hd9, hk9, hC9⟩ := hvc
      refine rowd_J32_siftDownUsingComparator_66 _ _ hm9 (rest := []) (Nat.le_of_ble_eq_true rfl) hd9 hk9 hC9 (xkI_n fun n12 h10 hvc => ?_) (fun q h hq => xTh_out0 rfl hq)
      refine xw_if_gt 77 dJ32_siftDownUsingComparator_71 rfl (fun hc => ?_) (fun hc => ?_)
      · replace hvc := hvc.1 hc
        refine xw_aload_n dJ32_siftDownUsingComparator_77 rfl ?_
        refine xw_iload_n dJ32_siftDownUsingComparator_78 rfl ?_
        refine xw_aload dJ32_siftDownUsingComparator_79 rfl ?_
        obtain ⟨hcK, i13, hx9, hb9, hi9, hvc⟩ := hvc
        obtain ⟨a15, ho2, hvc⟩ := hvc
        subst ho2
        obtain ⟨hcst, hvc⟩ := hvc
        obtain ⟨ci9, r9, hcb9, hc9, hca9⟩ := cst_java_lang_Object_ok _ hcst
        refine xw_aast (j := 6) dJ32_siftDownUsingComparator_81 rfl hcK (Or.inl rfl) hx9 hb9 hi9 hc9 hcb9 hca9 (fun h14 eh9 => ?_)
        replace hvc := hvc h14 eh9
        refine xw_iload dJ32_siftDownUsingComparator_82 rfl ?_
        refine xw_istore_n dJ32_siftDownUsingComparator_84 (Nat.le_of_ble_eq_true rfl) (L9 := [some (xi ((x0 <<< ((1 : Int32) &&& 31)) + (1 : Int32))), some (xr o901), some (xr (some a6)), some (xi x3), some (xr (some a9)), some (xi x5), some (xi ((x0 <<< ((1 : Int32) &&& 31)) + (1 : Int32))), some (xr (some a15)), some (xi (((x0 <<< ((1 : Int32) &&& 31)) + (1 : Int32)) + (1 : Int32)))]) rfl ?_
        refine xw_goto 5 dJ32_siftDownUsingComparator_85 rfl ?_
        exact xWp_loc hvc (And.intro rfl (And.intro rfl (And.intro rfl (And.intro rfl (And.intro rfl (And.intro rfl trivial))))))
      · replace hvc := hvc.2 hc
        refine xw_goto 88 dJ32_siftDownUsingComparator_74 rfl ?_
        refine xw_aload_n dJ32_siftDownUsingComparator_88 rfl ?_
        refine xw_iload_n dJ32_siftDownUsingComparator_89 rfl ?_
        refine xw_aload_n dJ32_siftDownUsingComparator_90 rfl ?_
        obtain ⟨hcK, i16, hx9, hb9, hi9, hvc⟩ := hvc
        obtain ⟨a18, ho2, hvc⟩ := hvc
        subst ho2
        obtain ⟨hcst, hvc⟩ := hvc
        obtain ⟨ci9, r9, hcb9, hc9, hca9⟩ := cst_java_lang_Object_ok _ hcst
        refine xw_aast (j := 6) dJ32_siftDownUsingComparator_91 rfl hcK (Or.inl rfl) hx9 hb9 hi9 hc9 hcb9 hca9 (fun h17 eh9 => ?_)
        replace hvc := hvc h17 eh9
        exact xw_vret dJ32_siftDownUsingComparator_92 rfl hvc
    · replace hvc := hvc.2 hc
      refine xw_aload dJ32_siftDownUsingComparator_36 rfl ?_
      refine xw_aload dJ32_siftDownUsingComparator_38 rfl ?_
      refine xw_aload_n dJ32_siftDownUsingComparator_40 rfl ?_
      refine xw_iload dJ32_siftDownUsingComparator_41 rfl ?_
      obtain ⟨hcK, i20, hx9, hb9, hi9, o21, hv9, hvc⟩ := hvc
      refine xw_aald (j := 6) dJ32_siftDownUsingComparator_43 rfl hcK hx9 hb9 hi9 hv9 ?_
      obtain ⟨a22, ho, hvc⟩ := hvc
      subst ho
      obtain ⟨Y48, hm9, d9, k9, hd9, hk9, hC9⟩ := hvc
      refine rowd_J32_siftDownUsingComparator_44 _ _ hm9 (rest := []) (Nat.le_of_ble_eq_true rfl) hd9 hk9 hC9 (xkI_n fun n25 h23 hvc => ?_) (fun q h hq => xTh_out0 rfl hq)
      refine xw_if_le 61 dJ32_siftDownUsingComparator_49 rfl (fun hc => ?_) (fun hc => ?_)
      · replace hvc := hvc.1 hc
        refine xw_aload dJ32_siftDownUsingComparator_61 rfl ?_
        refine xw_aload_n dJ32_siftDownUsingComparator_63 rfl ?_
        refine xw_aload dJ32_siftDownUsingComparator_64 rfl ?_
        obtain ⟨Y35, hm9, d9, k9, hd9, hk9, hC9⟩ := hvc
        refine rowd_J32_siftDownUsingComparator_66 _ _ hm9 (rest := []) (Nat.le_of_ble_eq_true rfl) hd9 hk9 hC9 (xkI_n fun n28 h26 hvc => ?_) (fun q h hq => xTh_out0 rfl hq)
        refine xw_if_gt 77 dJ32_siftDownUsingComparator_71 rfl (fun hc => ?_) (fun hc => ?_)
        · replace hvc := hvc.1 hc
          refine xw_aload_n dJ32_siftDownUsingComparator_77 rfl ?_
          refine xw_iload_n dJ32_siftDownUsingComparator_78 rfl ?_
          refine xw_aload dJ32_siftDownUsingComparator_79 rfl ?_
          obtain ⟨hcK, i29, hx9, hb9, hi9, hvc⟩ := hvc
          obtain ⟨a31, ho2, hvc⟩ := hvc
          subst ho2
          obtain ⟨hcst, hvc⟩ := hvc
          obtain ⟨ci9, r9, hcb9, hc9, hca9⟩ := cst_java_lang_Object_ok _ hcst
          refine xw_aast (j := 6) dJ32_siftDownUsingComparator_81 rfl hcK (Or.inl rfl) hx9 hb9 hi9 hc9 hcb9 hca9 (fun h30 eh9 => ?_)
          replace hvc := hvc h30 eh9
          refine xw_iload dJ32_siftDownUsingComparator_82 rfl ?_
          refine xw_istore_n dJ32_siftDownUsingComparator_84 (Nat.le_of_ble_eq_true rfl) (L9 := [some (xi ((x0 <<< ((1 : Int32) &&& 31)) + (1 : Int32))), some (xr o901), some (xr (some a6)), some (xi x3), some (xr (some a22)), some (xi x5), some (xi ((x0 <<< ((1 : Int32) &&& 31)) + (1 : Int32))), some (xr (some a31)), some (xi (((x0 <<< ((1 : Int32) &&& 31)) + (1 : Int32)) + (1 : Int32)))]) rfl ?_
          refine xw_goto 5 dJ32_siftDownUsingComparator_85 rfl ?_
          exact xWp_loc hvc (And.intro rfl (And.intro rfl (And.intro rfl (And.intro rfl (And.intro rfl (And.intro rfl trivial))))))
        · replace hvc := hvc.2 hc
          refine xw_goto 88 dJ32_siftDownUsingComparator_74 rfl ?_
          refine xw_aload_n dJ32_siftDownUsingComparator_88 rfl ?_
          refine xw_iload_n dJ32_siftDownUsingComparator_89 rfl ?_
          refine xw_aload_n dJ32_siftDownUsingComparator_90 rfl ?_
          obtain ⟨hcK, i32, hx9, hb9, hi9, hvc⟩ := hvc
          obtain ⟨a34, ho2, hvc⟩ := hvc
          subst ho2
          obtain ⟨hcst, hvc⟩ := hvc
          obtain ⟨ci9, r9, hcb9, hc9, hca9⟩ := cst_java_lang_Object_ok _ hcst
          refine xw_aast (j := 6) dJ32_siftDownUsingComparator_91 rfl hcK (Or.inl rfl) hx9 hb9 hi9 hc9 hcb9 hca9 (fun h33 eh9 => ?_)
          replace hvc := hvc h33 eh9
          exact xw_vret dJ32_siftDownUsingComparator_92 rfl hvc
      · replace hvc := hvc.2 hc
        refine xw_aload_n dJ32_siftDownUsingComparator_52 rfl ?_
        refine xw_iload dJ32_siftDownUsingComparator_53 rfl ?_
        refine xw_dup dJ32_siftDownUsingComparator_55 rfl ?_
        refine xw_istore dJ32_siftDownUsingComparator_56 (Nat.le_of_ble_eq_true rfl) (L9 := [some (xi x0), some (xr o901), some (xr (some a6)), some (xi x3), some (xr (some a22)), some (xi x5), some (xi (((x0 <<< ((1 : Int32) &&& 31)) + (1 : Int32)) + (1 : Int32))), some (xr o8), some (xi (((x0 <<< ((1 : Int32) &&& 31)) + (1 : Int32)) + (1 : Int32)))]) rfl ?_
        obtain ⟨hcK, i36, hx9, hb9, hi9, o37, hv9, hvc⟩ := hvc
        refine xw_aald (j := 6) dJ32_siftDownUsingComparator_58 rfl hcK hx9 hb9 hi9 hv9 ?_
        refine xw_astore dJ32_siftDownUsingComparator_59 (Nat.le_of_ble_eq_true rfl) (L9 := [some (xi x0), some (xr o901), some (xr (some a6)), some (xi x3), some (xr (some a22)), some (xi x5), some (xi (((x0 <<< ((1 : Int32) &&& 31)) + (1 : Int32)) + (1 : Int32))), some (xr o37), some (xi (((x0 <<< ((1 : Int32) &&& 31)) + (1 : Int32)) + (1 : Int32)))]) rfl ?_
        refine xw_aload dJ32_siftDownUsingComparator_61 rfl ?_
        refine xw_aload_n dJ32_siftDownUsingComparator_63 rfl ?_
        refine xw_aload dJ32_siftDownUsingComparator_64 rfl ?_
        obtain ⟨Y47, hm9, d9, k9, hd9, hk9, hC9⟩ := hvc
        refine rowd_J32_siftDownUsingComparator_66 _ _ hm9 (rest := []) (Nat.le_of_ble_eq_true rfl) hd9 hk9 hC9 (xkI_n fun n40 h38 hvc => ?_) (fun q h hq => xTh_out0 rfl hq)
        refine xw_if_gt 77 dJ32_siftDownUsingComparator_71 rfl (fun hc => ?_) (fun hc => ?_)
        · replace hvc := hvc.1 hc
          refine xw_aload_n dJ32_siftDownUsingComparator_77 rfl ?_
          refine xw_iload_n dJ32_siftDownUsingComparator_78 rfl ?_
          refine xw_aload dJ32_siftDownUsingComparator_79 rfl ?_
          obtain ⟨hcK, i41, hx9, hb9, hi9, hvc⟩ := hvc
          obtain ⟨a43, ho2, hvc⟩ := hvc
          subst ho2
          obtain ⟨hcst, hvc⟩ := hvc
          obtain ⟨ci9, r9, hcb9, hc9, hca9⟩ := cst_java_lang_Object_ok _ hcst
          refine xw_aast (j := 6) dJ32_siftDownUsingComparator_81 rfl hcK (Or.inl rfl) hx9 hb9 hi9 hc9 hcb9 hca9 (fun h42 eh9 => ?_)
          replace hvc := hvc h42 eh9
          refine xw_iload dJ32_siftDownUsingComparator_82 rfl ?_
          refine xw_istore_n dJ32_siftDownUsingComparator_84 (Nat.le_of_ble_eq_true rfl) (L9 := [some (xi (((x0 <<< ((1 : Int32) &&& 31)) + (1 : Int32)) + (1 : Int32))), some (xr o901), some (xr (some a6)), some (xi x3), some (xr (some a22)), some (xi x5), some (xi (((x0 <<< ((1 : Int32) &&& 31)) + (1 : Int32)) + (1 : Int32))), some (xr (some a43)), some (xi (((x0 <<< ((1 : Int32) &&& 31)) + (1 : Int32)) + (1 : Int32)))]) rfl ?_
          refine xw_goto 5 dJ32_siftDownUsingComparator_85 rfl ?_
          exact xWp_loc hvc (And.intro rfl (And.intro rfl (And.intro rfl (And.intro rfl (And.intro rfl (And.intro rfl trivial))))))
        · replace hvc := hvc.2 hc
          refine xw_goto 88 dJ32_siftDownUsingComparator_74 rfl ?_
          refine xw_aload_n dJ32_siftDownUsingComparator_88 rfl ?_
          refine xw_iload_n dJ32_siftDownUsingComparator_89 rfl ?_
          refine xw_aload_n dJ32_siftDownUsingComparator_90 rfl ?_
          obtain ⟨hcK, i44, hx9, hb9, hi9, hvc⟩ := hvc
          obtain ⟨a46, ho2, hvc⟩ := hvc
          subst ho2
          obtain ⟨hcst, hvc⟩ := hvc
          obtain ⟨ci9, r9, hcb9, hc9, hca9⟩ := cst_java_lang_Object_ok _ hcst
          refine xw_aast (j := 6) dJ32_siftDownUsingComparator_91 rfl hcK (Or.inl rfl) hx9 hb9 hi9 hc9 hcb9 hca9 (fun h45 eh9 => ?_)
          replace hvc := hvc h45 eh9
          exact xw_vret dJ32_siftDownUsingComparator_92 rfl hvc

theorem vc_J29_numberOfTrailingZeros {G : xG} {d K : Nat} {Q : xR → xH → Prop} {h : xH} {x1 : Int32}
    (hvc : ((0 < ((x1 ^^^ (-1 : Int32)) &&& (x1 - (1 : Int32))) → ((((x1 ^^^ (-1 : Int32)) &&& (x1 - (1 : Int32))) ≤ (65536 : Int32) → ((((x1 ^^^ (-1 : Int32)) &&& (x1 - (1 : Int32))) ≤ (256 : Int32) → ((((x1 ^^^ (-1 : Int32)) &&& (x1 - (1 : Int32))) ≤ (16 : Int32) → ((((x1 ^^^ (-1 : Int32)) &&& (x1 - (1 : Int32))) ≤ (4 : Int32) → (∀ n1 : Int32, n1 = ((((x1 ^^^ (-1 : Int32)) &&& (x1 - (1 : Int32))).toUInt32 >>> ((1 : Int32).toUInt32 &&& Int32.toUInt32 31)).toInt32) → Q (.inl (some (xi ((1 : Int32) + n1)))) h)) ∧ (¬ ((x1 ^^^ (-1 : Int32)) &&& (x1 - (1 : Int32))) ≤ (4 : Int32) → (∀ n2 : Int32, n2 = ((((x1 ^^^ (-1 : Int32)) &&& (x1 - (1 : Int32))).toUInt32 >>> ((2 : Int32).toUInt32 &&& Int32.toUInt32 31)).toInt32) → (∀ n3 : Int32, n3 = ((n2.toUInt32 >>> ((1 : Int32).toUInt32 &&& Int32.toUInt32 31)).toInt32) → Q (.inl (some (xi (((1 : Int32) + (2 : Int32)) + n3)))) h))))) ∧ (¬ ((x1 ^^^ (-1 : Int32)) &&& (x1 - (1 : Int32))) ≤ (16 : Int32) → (∀ n4 : Int32, n4 = ((((x1 ^^^ (-1 : Int32)) &&& (x1 - (1 : Int32))).toUInt32 >>> ((4 : Int32).toUInt32 &&& Int32.toUInt32 31)).toInt32) → ((n4 ≤ (4 : Int32) → (∀ n5 : Int32, n5 = ((n4.toUInt32 >>> ((1 : Int32).toUInt32 &&& Int32.toUInt32 31)).toInt32) → Q (.inl (some (xi (((1 : Int32) + (4 : Int32)) + n5)))) h)) ∧ (¬ n4 ≤ (4 : Int32) → (∀ n6 : Int32, n6 = ((n4.toUInt32 >>> ((2 : Int32).toUInt32 &&& Int32.toUInt32 31)).toInt32) → (∀ n7 : Int32, n7 = ((n6.toUInt32 >>> ((1 : Int32).toUInt32 &&& Int32.toUInt32 31)).toInt32) → Q (.inl (some (xi ((((1 : Int32) + (4 : Int32)) + (2 : Int32)) + n7)))) h)))))))) ∧ (¬ ((x1 ^^^ (-1 : Int32)) &&& (x1 - (1 : Int32))) ≤ (256 : Int32) → (∀ n8 : Int32, n8 = ((((x1 ^^^ (-1 : Int32)) &&& (x1 - (1 : Int32))).toUInt32 >>> ((8 : Int32).toUInt32 &&& Int32.toUInt32 31)).toInt32) → ((n8 ≤ (16 : Int32) → ((n8 ≤ (4 : Int32) → (∀ n9 : Int32, n9 = ((n8.toUInt32 >>> ((1 : Int32).toUInt32 &&& Int32.toUInt32 31)).toInt32) → Q (.inl (some (xi (((1 : Int32) + (8 : Int32)) + n9)))) h)) ∧ (¬ n8 ≤ (4 : Int32) → (∀ n10 : Int32, n10 = ((n8.toUInt32 >>> ((2 : Int32).toUInt32 &&& Int32.toUInt32 31)).toInt32) → (∀ n11 : Int32, n11 = ((n10.toUInt32 >>> ((1 : Int32).toUInt32 &&& Int32.toUInt32 31)).toInt32) → Q (.inl (some (xi ((((1 : Int32) + (8 : Int32)) + (2 : Int32)) + n11)))) h))))) ∧ (¬ n8 ≤ (16 : Int32) → (∀ n12 : Int32, n12 = ((n8.toUInt32 >>> ((4 : Int32).toUInt32 &&& Int32.toUInt32 31)).toInt32) → ((n12 ≤ (4 : Int32) → (∀ n13 : Int32, n13 = ((n12.toUInt32 >>> ((1 : Int32).toUInt32 &&& Int32.toUInt32 31)).toInt32) → Q (.inl (some (xi ((((1 : Int32) + (8 : Int32)) + (4 : Int32)) + n13)))) h)) ∧ (¬ n12 ≤ (4 : Int32) → (∀ n14 : Int32, n14 = ((n12.toUInt32 >>> ((2 : Int32).toUInt32 &&& Int32.toUInt32 31)).toInt32) → (∀ n15 : Int32, n15 = ((n14.toUInt32 >>> ((1 : Int32).toUInt32 &&& Int32.toUInt32 31)).toInt32) → Q (.inl (some (xi (((((1 : Int32) + (8 : Int32)) + (4 : Int32)) + (2 : Int32)) + n15)))) h))))))))))) ∧ (¬ ((x1 ^^^ (-1 : Int32)) &&& (x1 - (1 : Int32))) ≤ (65536 : Int32) → (∀ n16 : Int32, n16 = ((((x1 ^^^ (-1 : Int32)) &&& (x1 - (1 : Int32))).toUInt32 >>> ((16 : Int32).toUInt32 &&& Int32.toUInt32 31)).toInt32) → ((n16 ≤ (256 : Int32) → ((n16 ≤ (16 : Int32) → ((n16 ≤ (4 : Int32) → (∀ n17 : Int32, n17 = ((n16.toUInt32 >>> ((1 : Int32).toUInt32 &&& Int32.toUInt32 31)).toInt32) → Q (.inl (some (xi (((1 : Int32) + (16 : Int32)) + n17)))) h)) ∧ (¬ n16 ≤ (4 : Int32) → (∀ n18 : Int32, n18 = ((n16.toUInt32 >>> ((2 : Int32).toUInt32 &&& Int32.toUInt32 31)).toInt32) → (∀ n19 : Int32, n19 = ((n18.toUInt32 >>> ((1 : Int32).toUInt32 &&& Int32.toUInt32 31)).toInt32) → Q (.inl (some (xi ((((1 : Int32) + (16 : Int32)) + (2 : Int32)) + n19)))) h))))) ∧ (¬ n16 ≤ (16 : Int32) → (∀ n20 : Int32, n20 = ((n16.toUInt32 >>> ((4 : Int32).toUInt32 &&& Int32.toUInt32 31)).toInt32) → ((n20 ≤ (4 : Int32) → (∀ n21 : Int32, n21 = ((n20.toUInt32 >>> ((1 : Int32).toUInt32 &&& Int32.toUInt32 31)).toInt32) → Q (.inl (some (xi ((((1 : Int32) + (16 : Int32)) + (4 : Int32)) + n21)))) h)) ∧ (¬ n20 ≤ (4 : Int32) → (∀ n22 : Int32, n22 = ((n20.toUInt32 >>> ((2 : Int32).toUInt32 &&& Int32.toUInt32 31)).toInt32) → (∀ n23 : Int32, n23 = ((n22.toUInt32 >>> ((1 : Int32).toUInt32 &&& Int32.toUInt32 31)).toInt32) → Q (.inl (some (xi (((((1 : Int32) + (16 : Int32)) + (4 : Int32)) + (2 : Int32)) + n23)))) h)))))))) ∧ (¬ n16 ≤ (256 : Int32) → (∀ n24 : Int32, n24 = ((n16.toUInt32 >>> ((8 : Int32).toUInt32 &&& Int32.toUInt32 31)).toInt32) → ((n24 ≤ (16 : Int32) → ((n24 ≤ (4 : Int32) → (∀ n25 : Int32, n25 = ((n24.toUInt32 >>> ((1 : Int32).toUInt32 &&& Int32.toUInt32 31)).toInt32) → Q (.inl (some (xi ((((1 : Int32) + (16 : Int32)) + (8 : Int32)) + n25)))) h)) ∧ (¬ n24 ≤ (4 : Int32) → (∀ n26 : Int32, n26 = ((n24.toUInt32 >>> ((2 : Int32).toUInt32 &&& Int32.toUInt32 31)).toInt32) → (∀ n27 : Int32, n27 = ((n26.toUInt32 >>> ((1 : Int32).toUInt32 &&& Int32.toUInt32 31)).toInt32) → Q (.inl (some (xi (((((1 : Int32) + (16 : Int32)) + (8 : Int32)) + (2 : Int32)) + n27)))) h))))) ∧ (¬ n24 ≤ (16 : Int32) → (∀ n28 : Int32, n28 = ((n24.toUInt32 >>> ((4 : Int32).toUInt32 &&& Int32.toUInt32 31)).toInt32) → ((n28 ≤ (4 : Int32) → (∀ n29 : Int32, n29 = ((n28.toUInt32 >>> ((1 : Int32).toUInt32 &&& Int32.toUInt32 31)).toInt32) → Q (.inl (some (xi (((((1 : Int32) + (16 : Int32)) + (8 : Int32)) + (4 : Int32)) + n29)))) h)) ∧ (¬ n28 ≤ (4 : Int32) → (∀ n30 : Int32, n30 = ((n28.toUInt32 >>> ((2 : Int32).toUInt32 &&& Int32.toUInt32 31)).toInt32) → (∀ n31 : Int32, n31 = ((n30.toUInt32 >>> ((1 : Int32).toUInt32 &&& Int32.toUInt32 31)).toInt32) → (∀ n32 : Int32, n32 = ((((((1 : Int32) + (16 : Int32)) + (8 : Int32)) + (4 : Int32)) + (2 : Int32)) + n31) → Q (.inl (some (xi n32))) h))))))))))))))) ∧ (¬ 0 < ((x1 ^^^ (-1 : Int32)) &&& (x1 - (1 : Int32))) → Q (.inl (some (xi (((x1 ^^^ (-1 : Int32)) &&& (x1 - (1 : Int32))) &&& (32 : Int32))))) h))) : xCn G mJ29_numberOfTrailingZeros d K [xi x1] h Q := by
  refine xCn_of px_J29_numberOfTrailingZeros rfl rfl (Nat.le_of_ble_eq_true rfl) ?_
  show xWp G mJ29_numberOfTrailingZeros d K Q K 0 [some (xi x1), none] [] h
  refine xw_iload_n dJ29_numberOfTrailingZeros_0 rfl ?_
  refine xw_iconst (-1 : Int32) dJ29_numberOfTrailingZeros_1 (by decide) ?_
  refine xw_ixor dJ29_numberOfTrailingZeros_2 ?_
  refine xw_iload_n dJ29_numberOfTrailingZeros_3 rfl ?_
  refine xw_iconst (1 : Int32) dJ29_numberOfTrailingZeros_4 (by decide) ?_
  refine xw_isub dJ29_numberOfTrailingZeros_5 ?_
  refine xw_iand dJ29_numberOfTrailingZeros_6 ?_
  refine xw_istore_n dJ29_numberOfTrailingZeros_7 (Nat.le_of_ble_eq_true rfl) (L9 := [some (xi ((x1 ^^^ (-1 : Int32)) &&& (x1 - (1 : Int32)))), none]) rfl ?_
  refine xw_iload_n dJ29_numberOfTrailingZeros_8 rfl ?_
  refine xw_if_gt 17 dJ29_numberOfTrailingZeros_9 rfl (fun hc => ?_) (fun hc => ?_)
  · replace hvc := hvc.1 hc
    refine xw_iconst (1 : Int32) dJ29_numberOfTrailingZeros_17 (by decide) ?_
    refine xw_istore_n dJ29_numberOfTrailingZeros_18 (Nat.le_of_ble_eq_true rfl) (L9 := [some (xi ((x1 ^^^ (-1 : Int32)) &&& (x1 - (1 : Int32)))), some (xi (1 : Int32))]) rfl ?_
    refine xw_iload_n dJ29_numberOfTrailingZeros_19 rfl ?_
    refine xw_ldcw dJ29_numberOfTrailingZeros_20 q2136 ?_
    refine xw_icmp_le 34 dJ29_numberOfTrailingZeros_23 rfl (fun hc => ?_) (fun hc => ?_)
    · replace hvc := hvc.1 hc
      refine xw_iload_n dJ29_numberOfTrailingZeros_34 rfl ?_
      refine xw_sipush (256 : Int32) dJ29_numberOfTrailingZeros_35 (by decide) ?_
      refine xw_icmp_le 49 dJ29_numberOfTrailingZeros_38 rfl (fun hc => ?_) (fun hc => ?_)
      · replace hvc := hvc.1 hc
        refine xw_iload_n dJ29_numberOfTrailingZeros_49 rfl ?_
        refine xw_bipush (16 : Int32) dJ29_numberOfTrailingZeros_50 (by decide) ?_
        refine xw_icmp_le 62 dJ29_numberOfTrailingZeros_52 rfl (fun hc => ?_) (fun hc => ?_)
        · replace hvc := hvc.1 hc
          refine xw_iload_n dJ29_numberOfTrailingZeros_62 rfl ?_
          refine xw_iconst (4 : Int32) dJ29_numberOfTrailingZeros_63 (by decide) ?_
          refine xw_icmp_le 74 dJ29_numberOfTrailingZeros_64 rfl (fun hc => ?_) (fun hc => ?_)
          · replace hvc := hvc.1 hc
            refine xw_iload_n dJ29_numberOfTrailingZeros_74 rfl ?_
            refine xw_iload_n dJ29_numberOfTrailingZeros_75 rfl ?_
            refine xw_iconst (1 : Int32) dJ29_numberOfTrailingZeros_76 (by decide) ?_
            refine xw_iushr dJ29_numberOfTrailingZeros_77 ?_
            obtain ⟨n1, he9⟩ : ∃ z, z = ((((x1 ^^^ (-1 : Int32)) &&& (x1 - (1 : Int32))).toUInt32 >>> ((1 : Int32).toUInt32 &&& Int32.toUInt32 31)).toInt32) := ⟨_, rfl⟩
            rw [← he9]
            replace hvc := hvc n1 he9
            refine xw_iadd dJ29_numberOfTrailingZeros_78 ?_
            exact xw_iret dJ29_numberOfTrailingZeros_79 rfl hvc
          · replace hvc := hvc.2 hc
            refine xw_iinc (2 : Int32) dJ29_numberOfTrailingZeros_67 rfl (by decide) (Nat.le_of_ble_eq_true rfl) (L9 := [some (xi ((x1 ^^^ (-1 : Int32)) &&& (x1 - (1 : Int32)))), some (xi ((1 : Int32) + (2 : Int32)))]) rfl ?_
            refine xw_iload_n dJ29_numberOfTrailingZeros_70 rfl ?_
            refine xw_iconst (2 : Int32) dJ29_numberOfTrailingZeros_71 (by decide) ?_
            refine xw_iushr dJ29_numberOfTrailingZeros_72 ?_
            obtain ⟨n2, he9⟩ : ∃ z, z = ((((x1 ^^^ (-1 : Int32)) &&& (x1 - (1 : Int32))).toUInt32 >>> ((2 : Int32).toUInt32 &&& Int32.toUInt32 31)).toInt32) := ⟨_, rfl⟩
            rw [← he9]
            replace hvc := hvc n2 he9
            refine xw_istore_n dJ29_numberOfTrailingZeros_73 (Nat.le_of_ble_eq_true rfl) (L9 := [some (xi n2), some (xi ((1 : Int32) + (2 : Int32)))]) rfl ?_
            refine xw_iload_n dJ29_numberOfTrailingZeros_74 rfl ?_
            refine xw_iload_n dJ29_numberOfTrailingZeros_75 rfl ?_
            refine xw_iconst (1 : Int32) dJ29_numberOfTrailingZeros_76 (by decide) ?_
            refine xw_iushr dJ29_numberOfTrailingZeros_77 ?_
            obtain ⟨n3, he9⟩ : ∃ z, z = ((n2.toUInt32 >>> ((1 : Int32).toUInt32 &&& Int32.toUInt32 31)).toInt32) := ⟨_, rfl⟩
            rw [← he9]
            replace hvc := hvc n3 he9
            refine xw_iadd dJ29_numberOfTrailingZeros_78 ?_
            exact xw_iret dJ29_numberOfTrailingZeros_79 rfl hvc
        · replace hvc := hvc.2 hc
          refine xw_iinc (4 : Int32) dJ29_numberOfTrailingZeros_55 rfl (by decide) (Nat.le_of_ble_eq_true rfl) (L9 := [some (xi ((x1 ^^^ (-1 : Int32)) &&& (x1 - (1 : Int32)))), some (xi ((1 : Int32) + (4 : Int32)))]) rfl ?_
          refine xw_iload_n dJ29_numberOfTrailingZeros_58 rfl ?_
          refine xw_iconst (4 : Int32) dJ29_numberOfTrailingZeros_59 (by decide) ?_
          refine xw_iushr dJ29_numberOfTrailingZeros_60 ?_
          obtain ⟨n4, he9⟩ : ∃ z, z = ((((x1 ^^^ (-1 : Int32)) &&& (x1 - (1 : Int32))).toUInt32 >>> ((4 : Int32).toUInt32 &&& Int32.toUInt32 31)).toInt32) := ⟨_, rfl⟩
          rw [← he9]
          replace hvc := hvc n4 he9
          refine xw_istore_n dJ29_numberOfTrailingZeros_61 (Nat.le_of_ble_eq_true rfl) (L9 := [some (xi n4), some (xi ((1 : Int32) + (4 : Int32)))]) rfl ?_
          refine xw_iload_n dJ29_numberOfTrailingZeros_62 rfl ?_
          refine xw_iconst (4 : Int32) dJ29_numberOfTrailingZeros_63 (by decide) ?_
          refine xw_icmp_le 74 dJ29_numberOfTrailingZeros_64 rfl (fun hc => ?_) (fun hc => ?_)
          · replace hvc := hvc.1 hc
            refine xw_iload_n dJ29_numberOfTrailingZeros_74 rfl ?_
            refine xw_iload_n dJ29_numberOfTrailingZeros_75 rfl ?_
            refine xw_iconst (1 : Int32) dJ29_numberOfTrailingZeros_76 (by decide) ?_
            refine xw_iushr dJ29_numberOfTrailingZeros_77 ?_
            obtain ⟨n5, he9⟩ : ∃ z, z = ((n4.toUInt32 >>> ((1 : Int32).toUInt32 &&& Int32.toUInt32 31)).toInt32) := ⟨_, rfl⟩
            rw [← he9]
            replace hvc := hvc n5 he9
            refine xw_iadd dJ29_numberOfTrailingZeros_78 ?_
            exact xw_iret dJ29_numberOfTrailingZeros_79 rfl hvc
          · replace hvc := hvc.2 hc
            refine xw_iinc (2 : Int32) dJ29_numberOfTrailingZeros_67 rfl (by decide) (Nat.le_of_ble_eq_true rfl) (L9 := [some (xi n4), some (xi (((1 : Int32) + (4 : Int32)) + (2 : Int32)))]) rfl ?_
            refine xw_iload_n dJ29_numberOfTrailingZeros_70 rfl ?_
            refine xw_iconst (2 : Int32) dJ29_numberOfTrailingZeros_71 (by decide) ?_
            refine xw_iushr dJ29_numberOfTrailingZeros_72 ?_
            obtain ⟨n6, he9⟩ : ∃ z, z = ((n4.toUInt32 >>> ((2 : Int32).toUInt32 &&& Int32.toUInt32 31)).toInt32) := ⟨_, rfl⟩
            rw [← he9]
            replace hvc := hvc n6 he9
            refine xw_istore_n dJ29_numberOfTrailingZeros_73 (Nat.le_of_ble_eq_true rfl) (L9 := [some (xi n6), some (xi (((1 : Int32) + (4 : Int32)) + (2 : Int32)))]) rfl ?_
            refine xw_iload_n dJ29_numberOfTrailingZeros_74 rfl ?_
            refine xw_iload_n dJ29_numberOfTrailingZeros_75 rfl ?_
            refine xw_iconst (1 : Int32) dJ29_numberOfTrailingZeros_76 (by decide) ?_
            refine xw_iushr dJ29_numberOfTrailingZeros_77 ?_
            obtain ⟨n7, he9⟩ : ∃ z, z = ((n6.toUInt32 >>> ((1 : Int32).toUInt32 &&& Int32.toUInt32 31)).toInt32) := ⟨_, rfl⟩
            rw [← he9]
            replace hvc := hvc n7 he9
            refine xw_iadd dJ29_numberOfTrailingZeros_78 ?_
            exact xw_iret dJ29_numberOfTrailingZeros_79 rfl hvc
      · replace hvc := hvc.2 hc
        refine xw_iinc (8 : Int32) dJ29_numberOfTrailingZeros_41 rfl (by decide) (Nat.le_of_ble_eq_true rfl) (L9 := [some (xi ((x1 ^^^ (-1 : Int32)) &&& (x1 - (1 : Int32)))), some (xi ((1 : Int32) + (8 : Int32)))]) rfl ?_
        refine xw_iload_n dJ29_numberOfTrailingZeros_44 rfl ?_
        refine xw_bipush (8 : Int32) dJ29_numberOfTrailingZeros_45 (by decide) ?_
        refine xw_iushr dJ29_numberOfTrailingZeros_47 ?_
        obtain ⟨n8, he9⟩ : ∃ z, z = ((((x1 ^^^ (-1 : Int32)) &&& (x1 - (1 : Int32))).toUInt32 >>> ((8 : Int32).toUInt32 &&& Int32.toUInt32 31)).toInt32) := ⟨_, rfl⟩
        rw [← he9]
        replace hvc := hvc n8 he9
        refine xw_istore_n dJ29_numberOfTrailingZeros_48 (Nat.le_of_ble_eq_true rfl) (L9 := [some (xi n8), some (xi ((1 : Int32) + (8 : Int32)))]) rfl ?_
        refine xw_iload_n dJ29_numberOfTrailingZeros_49 rfl ?_
        refine xw_bipush (16 : Int32) dJ29_numberOfTrailingZeros_50 (by decide) ?_
        refine xw_icmp_le 62 dJ29_numberOfTrailingZeros_52 rfl (fun hc => ?_) (fun hc => ?_)
        · replace hvc := hvc.1 hc
          refine xw_iload_n dJ29_numberOfTrailingZeros_62 rfl ?_
          refine xw_iconst (4 : Int32) dJ29_numberOfTrailingZeros_63 (by decide) ?_
          refine xw_icmp_le 74 dJ29_numberOfTrailingZeros_64 rfl (fun hc => ?_) (fun hc => ?_)
          · replace hvc := hvc.1 hc
            refine xw_iload_n dJ29_numberOfTrailingZeros_74 rfl ?_
            refine xw_iload_n dJ29_numberOfTrailingZeros_75 rfl ?_
            refine xw_iconst (1 : Int32) dJ29_numberOfTrailingZeros_76 (by decide) ?_
            refine xw_iushr dJ29_numberOfTrailingZeros_77 ?_
            obtain ⟨n9, he9⟩ : ∃ z, z = ((n8.toUInt32 >>> ((1 : Int32).toUInt32 &&& Int32.toUInt32 31)).toInt32) := ⟨_, rfl⟩
            rw [← he9]
            replace hvc := hvc n9 he9
            refine xw_iadd dJ29_numberOfTrailingZeros_78 ?_
            exact xw_iret dJ29_numberOfTrailingZeros_79 rfl hvc
          · replace hvc := hvc.2 hc
            refine xw_iinc (2 : Int32) dJ29_numberOfTrailingZeros_67 rfl (by decide) (Nat.le_of_ble_eq_true rfl) (L9 := [some (xi n8), some (xi (((1 : Int32) + (8 : Int32)) + (2 : Int32)))]) rfl ?_
            refine xw_iload_n dJ29_numberOfTrailingZeros_70 rfl ?_
            refine xw_iconst (2 : Int32) dJ29_numberOfTrailingZeros_71 (by decide) ?_
            refine xw_iushr dJ29_numberOfTrailingZeros_72 ?_
            obtain ⟨n10, he9⟩ : ∃ z, z = ((n8.toUInt32 >>> ((2 : Int32).toUInt32 &&& Int32.toUInt32 31)).toInt32) := ⟨_, rfl⟩
            rw [← he9]
            replace hvc := hvc n10 he9
            refine xw_istore_n dJ29_numberOfTrailingZeros_73 (Nat.le_of_ble_eq_true rfl) (L9 := [some (xi n10), some (xi (((1 : Int32) + (8 : Int32)) + (2 : Int32)))]) rfl ?_
            refine xw_iload_n dJ29_numberOfTrailingZeros_74 rfl ?_
            refine xw_iload_n dJ29_numberOfTrailingZeros_75 rfl ?_
            refine xw_iconst (1 : Int32) dJ29_numberOfTrailingZeros_76 (by decide) ?_
            refine xw_iushr dJ29_numberOfTrailingZeros_77 ?_
            obtain ⟨n11, he9⟩ : ∃ z, z = ((n10.toUInt32 >>> ((1 : Int32).toUInt32 &&& Int32.toUInt32 31)).toInt32) := ⟨_, rfl⟩
            rw [← he9]
            replace hvc := hvc n11 he9
            refine xw_iadd dJ29_numberOfTrailingZeros_78 ?_
            exact xw_iret dJ29_numberOfTrailingZeros_79 rfl hvc
        · replace hvc := hvc.2 hc
          refine xw_iinc (4 : Int32) dJ29_numberOfTrailingZeros_55 rfl (by decide) (Nat.le_of_ble_eq_true rfl) (L9 := [some (xi n8), some (xi (((1 : Int32) + (8 : Int32)) + (4 : Int32)))]) rfl ?_
          refine xw_iload_n dJ29_numberOfTrailingZeros_58 rfl ?_
          refine xw_iconst (4 : Int32) dJ29_numberOfTrailingZeros_59 (by decide) ?_
          refine xw_iushr dJ29_numberOfTrailingZeros_60 ?_
          obtain ⟨n12, he9⟩ : ∃ z, z = ((n8.toUInt32 >>> ((4 : Int32).toUInt32 &&& Int32.toUInt32 31)).toInt32) := ⟨_, rfl⟩
          rw [← he9]
          replace hvc := hvc n12 he9
          refine xw_istore_n dJ29_numberOfTrailingZeros_61 (Nat.le_of_ble_eq_true rfl) (L9 := [some (xi n12), some (xi (((1 : Int32) + (8 : Int32)) + (4 : Int32)))]) rfl ?_
          refine xw_iload_n dJ29_numberOfTrailingZeros_62 rfl ?_
          refine xw_iconst (4 : Int32) dJ29_numberOfTrailingZeros_63 (by decide) ?_
          refine xw_icmp_le 74 dJ29_numberOfTrailingZeros_64 rfl (fun hc => ?_) (fun hc => ?_)
          · replace hvc := hvc.1 hc
            refine xw_iload_n dJ29_numberOfTrailingZeros_74 rfl ?_
            refine xw_iload_n dJ29_numberOfTrailingZeros_75 rfl ?_
            refine xw_iconst (1 : Int32) dJ29_numberOfTrailingZeros_76 (by decide) ?_
            refine xw_iushr dJ29_numberOfTrailingZeros_77 ?_
            obtain ⟨n13, he9⟩ : ∃ z, z = ((n12.toUInt32 >>> ((1 : Int32).toUInt32 &&& Int32.toUInt32 31)).toInt32) := ⟨_, rfl⟩
            rw [← he9]
            replace hvc := hvc n13 he9
            refine xw_iadd dJ29_numberOfTrailingZeros_78 ?_
            exact xw_iret dJ29_numberOfTrailingZeros_79 rfl hvc
          · replace hvc := hvc.2 hc
            refine xw_iinc (2 : Int32) dJ29_numberOfTrailingZeros_67 rfl (by decide) (Nat.le_of_ble_eq_true rfl) (L9 := [some (xi n12), some (xi ((((1 : Int32) + (8 : Int32)) + (4 : Int32)) + (2 : Int32)))]) rfl ?_
            refine xw_iload_n dJ29_numberOfTrailingZeros_70 rfl ?_
            refine xw_iconst (2 : Int32) dJ29_numberOfTrailingZeros_71 (by decide) ?_
            refine xw_iushr dJ29_numberOfTrailingZeros_72 ?_
            obtain ⟨n14, he9⟩ : ∃ z, z = ((n12.toUInt32 >>> ((2 : Int32).toUInt32 &&& Int32.toUInt32 31)).toInt32) := ⟨_, rfl⟩
            rw [← he9]
            replace hvc := hvc n14 he9
            refine xw_istore_n dJ29_numberOfTrailingZeros_73 (Nat.le_of_ble_eq_true rfl) (L9 := [some (xi n14), some (xi ((((1 : Int32) + (8 : Int32)) + (4 : Int32)) + (2 : Int32)))]) rfl ?_
            refine xw_iload_n dJ29_numberOfTrailingZeros_74 rfl ?_
            refine xw_iload_n dJ29_numberOfTrailingZeros_75 rfl ?_
            refine xw_iconst (1 : Int32) dJ29_numberOfTrailingZeros_76 (by decide) ?_
            refine xw_iushr dJ29_numberOfTrailingZeros_77 ?_
            obtain ⟨n15, he9⟩ : ∃ z, z = ((n14.toUInt32 >>> ((1 : Int32).toUInt32 &&& Int32.toUInt32 31)).toInt32) := ⟨_, rfl⟩
            rw [← he9]
            replace hvc := hvc n15 he9
            refine xw_iadd dJ29_numberOfTrailingZeros_78 ?_
            exact xw_iret dJ29_numberOfTrailingZeros_79 rfl hvc
    · replace hvc := hvc.2 hc
      refine xw_iinc (16 : Int32) dJ29_numberOfTrailingZeros_26 rfl (by decide) (Nat.le_of_ble_eq_true rfl) (L9 := [some (xi ((x1 ^^^ (-1 : Int32)) &&& (x1 - (1 : Int32)))), some (xi ((1 : Int32) + (16 : Int32)))]) rfl ?_
      refine xw_iload_n dJ29_numberOfTrailingZeros_29 rfl ?_
      refine xw_bipush (16 : Int32) dJ29_numberOfTrailingZeros_30 (by decide) ?_
      refine xw_iushr dJ29_numberOfTrailingZeros_32 ?_
      obtain ⟨n16, he9⟩ : ∃ z, z = ((((x1 ^^^ (-1 : Int32)) &&& (x1 - (1 : Int32))).toUInt32 >>> ((16 : Int32).toUInt32 &&& Int32.toUInt32 31)).toInt32) := ⟨_, rfl⟩
      rw [← he9]
      replace hvc := hvc n16 he9
      refine xw_istore_n dJ29_numberOfTrailingZeros_33 (Nat.le_of_ble_eq_true rfl) (L9 := [some (xi n16), some (xi ((1 : Int32) + (16 : Int32)))]) rfl ?_
      refine xw_iload_n dJ29_numberOfTrailingZeros_34 rfl ?_
      refine xw_sipush (256 : Int32) dJ29_numberOfTrailingZeros_35 (by decide) ?_
      refine xw_icmp_le 49 dJ29_numberOfTrailingZeros_38 rfl (fun hc => ?_) (fun hc => ?_)
      · replace hvc := hvc.1 hc
        refine xw_iload_n dJ29_numberOfTrailingZeros_49 rfl ?_
        refine xw_bipush (16 : Int32) dJ29_numberOfTrailingZeros_50 (by decide) ?_
        refine xw_icmp_le 62 dJ29_numberOfTrailingZeros_52 rfl (fun hc => ?_) (fun hc => ?_)
        · replace hvc := hvc.1 hc
          refine xw_iload_n dJ29_numberOfTrailingZeros_62 rfl ?_
          refine xw_iconst (4 : Int32) dJ29_numberOfTrailingZeros_63 (by decide) ?_
          refine xw_icmp_le 74 dJ29_numberOfTrailingZeros_64 rfl (fun hc => ?_) (fun hc => ?_)
          · replace hvc := hvc.1 hc
            refine xw_iload_n dJ29_numberOfTrailingZeros_74 rfl ?_
            refine xw_iload_n dJ29_numberOfTrailingZeros_75 rfl ?_
            refine xw_iconst (1 : Int32) dJ29_numberOfTrailingZeros_76 (by decide) ?_
            refine xw_iushr dJ29_numberOfTrailingZeros_77 ?_
            obtain ⟨n17, he9⟩ : ∃ z, z = ((n16.toUInt32 >>> ((1 : Int32).toUInt32 &&& Int32.toUInt32 31)).toInt32) := ⟨_, rfl⟩
            rw [← he9]
            replace hvc := hvc n17 he9
            refine xw_iadd dJ29_numberOfTrailingZeros_78 ?_
            exact xw_iret dJ29_numberOfTrailingZeros_79 rfl hvc
          · replace hvc := hvc.2 hc
            refine xw_iinc (2 : Int32) dJ29_numberOfTrailingZeros_67 rfl (by decide) (Nat.le_of_ble_eq_true rfl) (L9 := [some (xi n16), some (xi (((1 : Int32) + (16 : Int32)) + (2 : Int32)))]) rfl ?_
            refine xw_iload_n dJ29_numberOfTrailingZeros_70 rfl ?_
            refine xw_iconst (2 : Int32) dJ29_numberOfTrailingZeros_71 (by decide) ?_
            refine xw_iushr dJ29_numberOfTrailingZeros_72 ?_
            obtain ⟨n18, he9⟩ : ∃ z, z = ((n16.toUInt32 >>> ((2 : Int32).toUInt32 &&& Int32.toUInt32 31)).toInt32) := ⟨_, rfl⟩
            rw [← he9]
            replace hvc := hvc n18 he9
            refine xw_istore_n dJ29_numberOfTrailingZeros_73 (Nat.le_of_ble_eq_true rfl) (L9 := [some (xi n18), some (xi (((1 : Int32) + (16 : Int32)) + (2 : Int32)))]) rfl ?_
            refine xw_iload_n dJ29_numberOfTrailingZeros_74 rfl ?_
            refine xw_iload_n dJ29_numberOfTrailingZeros_75 rfl ?_
            refine xw_iconst (1 : Int32) dJ29_numberOfTrailingZeros_76 (by decide) ?_
            refine xw_iushr dJ29_numberOfTrailingZeros_77 ?_
            obtain ⟨n19, he9⟩ : ∃ z, z = ((n18.toUInt32 >>> ((1 : Int32).toUInt32 &&& Int32.toUInt32 31)).toInt32) := ⟨_, rfl⟩
            rw [← he9]
            replace hvc := hvc n19 he9
            refine xw_iadd dJ29_numberOfTrailingZeros_78 ?_
            exact xw_iret dJ29_numberOfTrailingZeros_79 rfl hvc
        · replace hvc := hvc.2 hc
          refine xw_iinc (4 : Int32) dJ29_numberOfTrailingZeros_55 rfl (by decide) (Nat.le_of_ble_eq_true rfl) (L9 := [some (xi n16), some (xi (((1 : Int32) + (16 : Int32)) + (4 : Int32)))]) rfl ?_
          refine xw_iload_n dJ29_numberOfTrailingZeros_58 rfl ?_
          refine xw_iconst (4 : Int32) dJ29_numberOfTrailingZeros_59 (by decide) ?_
          refine xw_iushr dJ29_numberOfTrailingZeros_60 ?_
          obtain ⟨n20, he9⟩ : ∃ z, z = ((n16.toUInt32 >>> ((4 : Int32).toUInt32 &&& Int32.toUInt32 31)).toInt32) := ⟨_, rfl⟩
          rw [← he9]
          replace hvc := hvc n20 he9
          refine xw_istore_n dJ29_numberOfTrailingZeros_61 (Nat.le_of_ble_eq_true rfl) (L9 := [some (xi n20), some (xi (((1 : Int32) + (16 : Int32)) + (4 : Int32)))]) rfl ?_
          refine xw_iload_n dJ29_numberOfTrailingZeros_62 rfl ?_
          refine xw_iconst (4 : Int32) dJ29_numberOfTrailingZeros_63 (by decide) ?_
          refine xw_icmp_le 74 dJ29_numberOfTrailingZeros_64 rfl (fun hc => ?_) (fun hc => ?_)
          · replace hvc := hvc.1 hc
            refine xw_iload_n dJ29_numberOfTrailingZeros_74 rfl ?_
            refine xw_iload_n dJ29_numberOfTrailingZeros_75 rfl ?_
            refine xw_iconst (1 : Int32) dJ29_numberOfTrailingZeros_76 (by decide) ?_
            refine xw_iushr dJ29_numberOfTrailingZeros_77 ?_
            obtain ⟨n21, he9⟩ : ∃ z, z = ((n20.toUInt32 >>> ((1 : Int32).toUInt32 &&& Int32.toUInt32 31)).toInt32) := ⟨_, rfl⟩
            rw [← he9]
            replace hvc := hvc n21 he9
            refine xw_iadd dJ29_numberOfTrailingZeros_78 ?_
            exact xw_iret dJ29_numberOfTrailingZeros_79 rfl hvc
          · replace hvc := hvc.2 hc
            refine xw_iinc (2 : Int32) dJ29_numberOfTrailingZeros_67 rfl (by decide) (Nat.le_of_ble_eq_true rfl) (L9 := [some (xi n20), some (xi ((((1 : Int32) + (16 : Int32)) + (4 : Int32)) + (2 : Int32)))]) rfl ?_
            refine xw_iload_n dJ29_numberOfTrailingZeros_70 rfl ?_
            refine xw_iconst (2 : Int32) dJ29_numberOfTrailingZeros_71 (by decide) ?_
            refine xw_iushr dJ29_numberOfTrailingZeros_72 ?_
            obtain ⟨n22, he9⟩ : ∃ z, z = ((n20.toUInt32 >>> ((2 : Int32).toUInt32 &&& Int32.toUInt32 31)).toInt32) := ⟨_, rfl⟩
            rw [← he9]
            replace hvc := hvc n22 he9
            refine xw_istore_n dJ29_numberOfTrailingZeros_73 (Nat.le_of_ble_eq_true rfl) (L9 := [some (xi n22), some (xi ((((1 : Int32) + (16 : Int32)) + (4 : Int32)) + (2 : Int32)))]) rfl ?_
            refine xw_iload_n dJ29_numberOfTrailingZeros_74 rfl ?_
            refine xw_iload_n dJ29_numberOfTrailingZeros_75 rfl ?_
            refine xw_iconst (1 : Int32) dJ29_numberOfTrailingZeros_76 (by decide) ?_
            refine xw_iushr dJ29_numberOfTrailingZeros_77 ?_
            obtain ⟨n23, he9⟩ : ∃ z, z = ((n22.toUInt32 >>> ((1 : Int32).toUInt32 &&& Int32.toUInt32 31)).toInt32) := ⟨_, rfl⟩
            rw [← he9]
            replace hvc := hvc n23 he9
            refine xw_iadd dJ29_numberOfTrailingZeros_78 ?_
            exact xw_iret dJ29_numberOfTrailingZeros_79 rfl hvc
      · replace hvc := hvc.2 hc
        refine xw_iinc (8 : Int32) dJ29_numberOfTrailingZeros_41 rfl (by decide) (Nat.le_of_ble_eq_true rfl) (L9 := [some (xi n16), some (xi (((1 : Int32) + (16 : Int32)) + (8 : Int32)))]) rfl ?_
        refine xw_iload_n dJ29_numberOfTrailingZeros_44 rfl ?_
        refine xw_bipush (8 : Int32) dJ29_numberOfTrailingZeros_45 (by decide) ?_
        refine xw_iushr dJ29_numberOfTrailingZeros_47 ?_
        obtain ⟨n24, he9⟩ : ∃ z, z = ((n16.toUInt32 >>> ((8 : Int32).toUInt32 &&& Int32.toUInt32 31)).toInt32) := ⟨_, rfl⟩
        rw [← he9]
        replace hvc := hvc n24 he9
        refine xw_istore_n dJ29_numberOfTrailingZeros_48 (Nat.le_of_ble_eq_true rfl) (L9 := [some (xi n24), some (xi (((1 : Int32) + (16 : Int32)) + (8 : Int32)))]) rfl ?_
        refine xw_iload_n dJ29_numberOfTrailingZeros_49 rfl ?_
        refine xw_bipush (16 : Int32) dJ29_numberOfTrailingZeros_50 (by decide) ?_
        refine xw_icmp_le 62 dJ29_numberOfTrailingZeros_52 rfl (fun hc => ?_) (fun hc => ?_)
        · replace hvc := hvc.1 hc
          refine xw_iload_n dJ29_numberOfTrailingZeros_62 rfl ?_
          refine xw_iconst (4 : Int32) dJ29_numberOfTrailingZeros_63 (by decide) ?_
          refine xw_icmp_le 74 dJ29_numberOfTrailingZeros_64 rfl (fun hc => ?_) (fun hc => ?_)
          · replace hvc := hvc.1 hc
            refine xw_iload_n dJ29_numberOfTrailingZeros_74 rfl ?_
            refine xw_iload_n dJ29_numberOfTrailingZeros_75 rfl ?_
            refine xw_iconst (1 : Int32) dJ29_numberOfTrailingZeros_76 (by decide) ?_
            refine xw_iushr dJ29_numberOfTrailingZeros_77 ?_
            obtain ⟨n25, he9⟩ : ∃ z, z = ((n24.toUInt32 >>> ((1 : Int32).toUInt32 &&& Int32.toUInt32 31)).toInt32) := ⟨_, rfl⟩
            rw [← he9]
            replace hvc := hvc n25 he9
            refine xw_iadd dJ29_numberOfTrailingZeros_78 ?_
            exact xw_iret dJ29_numberOfTrailingZeros_79 rfl hvc
          · replace hvc := hvc.2 hc
            refine xw_iinc (2 : Int32) dJ29_numberOfTrailingZeros_67 rfl (by decide) (Nat.le_of_ble_eq_true rfl) (L9 := [some (xi n24), some (xi ((((1 : Int32) + (16 : Int32)) + (8 : Int32)) + (2 : Int32)))]) rfl ?_
            refine xw_iload_n dJ29_numberOfTrailingZeros_70 rfl ?_
            refine xw_iconst (2 : Int32) dJ29_numberOfTrailingZeros_71 (by decide) ?_
            refine xw_iushr dJ29_numberOfTrailingZeros_72 ?_
            obtain ⟨n26, he9⟩ : ∃ z, z = ((n24.toUInt32 >>> ((2 : Int32).toUInt32 &&& Int32.toUInt32 31)).toInt32) := ⟨_, rfl⟩
            rw [← he9]
            replace hvc := hvc n26 he9
            refine xw_istore_n dJ29_numberOfTrailingZeros_73 (Nat.le_of_ble_eq_true rfl) (L9 := [some (xi n26), some (xi ((((1 : Int32) + (16 : Int32)) + (8 : Int32)) + (2 : Int32)))]) rfl ?_
            refine xw_iload_n dJ29_numberOfTrailingZeros_74 rfl ?_
            refine xw_iload_n dJ29_numberOfTrailingZeros_75 rfl ?_
            refine xw_iconst (1 : Int32) dJ29_numberOfTrailingZeros_76 (by decide) ?_
            refine xw_iushr dJ29_numberOfTrailingZeros_77 ?_
            obtain ⟨n27, he9⟩ : ∃ z, z = ((n26.toUInt32 >>> ((1 : Int32).toUInt32 &&& Int32.toUInt32 31)).toInt32) := ⟨_, rfl⟩
            rw [← he9]
            replace hvc := hvc n27 he9
            refine xw_iadd dJ29_numberOfTrailingZeros_78 ?_
            exact xw_iret dJ29_numberOfTrailingZeros_79 rfl hvc
        · replace hvc := hvc.2 hc
          refine xw_iinc (4 : Int32) dJ29_numberOfTrailingZeros_55 rfl (by decide) (Nat.le_of_ble_eq_true rfl) (L9 := [some (xi n24), some (xi ((((1 : Int32) + (16 : Int32)) + (8 : Int32)) + (4 : Int32)))]) rfl ?_
          refine xw_iload_n dJ29_numberOfTrailingZeros_58 rfl ?_
          refine xw_iconst (4 : Int32) dJ29_numberOfTrailingZeros_59 (by decide) ?_
          refine xw_iushr dJ29_numberOfTrailingZeros_60 ?_
          obtain ⟨n28, he9⟩ : ∃ z, z = ((n24.toUInt32 >>> ((4 : Int32).toUInt32 &&& Int32.toUInt32 31)).toInt32) := ⟨_, rfl⟩
          rw [← he9]
          replace hvc := hvc n28 he9
          refine xw_istore_n dJ29_numberOfTrailingZeros_61 (Nat.le_of_ble_eq_true rfl) (L9 := [some (xi n28), some (xi ((((1 : Int32) + (16 : Int32)) + (8 : Int32)) + (4 : Int32)))]) rfl ?_
          refine xw_iload_n dJ29_numberOfTrailingZeros_62 rfl ?_
          refine xw_iconst (4 : Int32) dJ29_numberOfTrailingZeros_63 (by decide) ?_
          refine xw_icmp_le 74 dJ29_numberOfTrailingZeros_64 rfl (fun hc => ?_) (fun hc => ?_)
          · replace hvc := hvc.1 hc
            refine xw_iload_n dJ29_numberOfTrailingZeros_74 rfl ?_
            refine xw_iload_n dJ29_numberOfTrailingZeros_75 rfl ?_
            refine xw_iconst (1 : Int32) dJ29_numberOfTrailingZeros_76 (by decide) ?_
            refine xw_iushr dJ29_numberOfTrailingZeros_77 ?_
            obtain ⟨n29, he9⟩ : ∃ z, z = ((n28.toUInt32 >>> ((1 : Int32).toUInt32 &&& Int32.toUInt32 31)).toInt32) := ⟨_, rfl⟩
            rw [← he9]
            replace hvc := hvc n29 he9
            refine xw_iadd dJ29_numberOfTrailingZeros_78 ?_
            exact xw_iret dJ29_numberOfTrailingZeros_79 rfl hvc
          · replace hvc := hvc.2 hc
            refine xw_iinc (2 : Int32) dJ29_numberOfTrailingZeros_67 rfl (by decide) (Nat.le_of_ble_eq_true rfl) (L9 := [some (xi n28), some (xi (((((1 : Int32) + (16 : Int32)) + (8 : Int32)) + (4 : Int32)) + (2 : Int32)))]) rfl ?_
            refine xw_iload_n dJ29_numberOfTrailingZeros_70 rfl ?_
            refine xw_iconst (2 : Int32) dJ29_numberOfTrailingZeros_71 (by decide) ?_
            refine xw_iushr dJ29_numberOfTrailingZeros_72 ?_
            obtain ⟨n30, he9⟩ : ∃ z, z = ((n28.toUInt32 >>> ((2 : Int32).toUInt32 &&& Int32.toUInt32 31)).toInt32) := ⟨_, rfl⟩
            rw [← he9]
            replace hvc := hvc n30 he9
            refine xw_istore_n dJ29_numberOfTrailingZeros_73 (Nat.le_of_ble_eq_true rfl) (L9 := [some (xi n30), some (xi (((((1 : Int32) + (16 : Int32)) + (8 : Int32)) + (4 : Int32)) + (2 : Int32)))]) rfl ?_
            refine xw_iload_n dJ29_numberOfTrailingZeros_74 rfl ?_
            refine xw_iload_n dJ29_numberOfTrailingZeros_75 rfl ?_
            refine xw_iconst (1 : Int32) dJ29_numberOfTrailingZeros_76 (by decide) ?_
            refine xw_iushr dJ29_numberOfTrailingZeros_77 ?_
            obtain ⟨n31, he9⟩ : ∃ z, z = ((n30.toUInt32 >>> ((1 : Int32).toUInt32 &&& Int32.toUInt32 31)).toInt32) := ⟨_, rfl⟩
            rw [← he9]
            replace hvc := hvc n31 he9
            refine xw_iadd dJ29_numberOfTrailingZeros_78 ?_
            obtain ⟨n32, he9⟩ : ∃ z, z = ((((((1 : Int32) + (16 : Int32)) + (8 : Int32)) + (4 : Int32)) + (2 : Int32)) + n31) := ⟨_, rfl⟩
            rw [← he9]
            replace hvc := hvc n32 he9
            exact xw_iret dJ29_numberOfTrailingZeros_79 rfl hvc
  · replace hvc := hvc.2 hc
    refine xw_iload_n dJ29_numberOfTrailingZeros_12 rfl ?_
    refine xw_bipush (32 : Int32) dJ29_numberOfTrailingZeros_13 (by decide) ?_
    refine xw_iand dJ29_numberOfTrailingZeros_15 ?_
    exact xw_iret dJ29_numberOfTrailingZeros_16 rfl hvc

theorem vc_J29_stringSize {G : xG} {d K : Nat} {Q : xR → xH → Prop} {h : xH} {x1 : Int32}
    (hvc : ((x1 < 0 → xWp G mJ29_stringSize d K Q K 16 [some (xi x1), some (xi (1 : Int32)), some (xi (-10 : Int32)), some (xi (1 : Int32))] [] h) ∧ (¬ x1 < 0 → xWp G mJ29_stringSize d K Q K 16 [some (xi (-x1)), some (xi (0 : Int32)), some (xi (-10 : Int32)), some (xi (1 : Int32))] [] h))) : xCn G mJ29_stringSize d K [xi x1] h Q := by
  refine xCn_of px_J29_stringSize rfl rfl (Nat.le_of_ble_eq_true rfl) ?_
  show xWp G mJ29_stringSize d K Q K 0 [some (xi x1), none, none, none] [] h
  refine xw_iconst (1 : Int32) dJ29_stringSize_0 (by decide) ?_
  refine xw_istore_n dJ29_stringSize_1 (Nat.le_of_ble_eq_true rfl) (L9 := [some (xi x1), some (xi (1 : Int32)), none, none]) rfl ?_
  refine xw_iload_n dJ29_stringSize_2 rfl ?_
  refine xw_if_lt 11 dJ29_stringSize_3 rfl (fun hc => ?_) (fun hc => ?_)
  · replace hvc := hvc.1 hc
    refine xw_bipush (-10 : Int32) dJ29_stringSize_11 (by decide) ?_
    refine xw_istore_n dJ29_stringSize_13 (Nat.le_of_ble_eq_true rfl) (L9 := [some (xi x1), some (xi (1 : Int32)), some (xi (-10 : Int32)), none]) rfl ?_
    refine xw_iconst (1 : Int32) dJ29_stringSize_14 (by decide) ?_
    refine xw_istore_n dJ29_stringSize_15 (Nat.le_of_ble_eq_true rfl) (L9 := [some (xi x1), some (xi (1 : Int32)), some (xi (-10 : Int32)), some (xi (1 : Int32))]) rfl ?_
    exact hvc
  · replace hvc := hvc.2 hc
    refine xw_iconst (0 : Int32) dJ29_stringSize_6 (by decide) ?_
    refine xw_istore_n dJ29_stringSize_7 (Nat.le_of_ble_eq_true rfl) (L9 := [some (xi x1), some (xi (0 : Int32)), none, none]) rfl ?_
    refine xw_iload_n dJ29_stringSize_8 rfl ?_
    refine xw_ineg dJ29_stringSize_9 ?_
    refine xw_istore_n dJ29_stringSize_10 (Nat.le_of_ble_eq_true rfl) (L9 := [some (xi (-x1)), some (xi (0 : Int32)), none, none]) rfl ?_
    refine xw_bipush (-10 : Int32) dJ29_stringSize_11 (by decide) ?_
    refine xw_istore_n dJ29_stringSize_13 (Nat.le_of_ble_eq_true rfl) (L9 := [some (xi (-x1)), some (xi (0 : Int32)), some (xi (-10 : Int32)), none]) rfl ?_
    refine xw_iconst (1 : Int32) dJ29_stringSize_14 (by decide) ?_
    refine xw_istore_n dJ29_stringSize_15 (Nat.le_of_ble_eq_true rfl) (L9 := [some (xi (-x1)), some (xi (0 : Int32)), some (xi (-10 : Int32)), some (xi (1 : Int32))]) rfl ?_
    exact hvc

theorem vc_J29_stringSize_16 {G : xG} {d K k : Nat} {Q : xR → xH → Prop} {h : xH} {x0 : Int32} {x1 : Int32} {x2 : Int32} {x3 : Int32}
    (hvc : (((10 : Int32) ≤ x3 → Q (.inl (some (xi ((10 : Int32) + x1)))) h) ∧ (¬ (10 : Int32) ≤ x3 → ((x0 ≤ x2 → xWp G mJ29_stringSize d K Q k 16 [some (xi x0), some (xi x1), some (xi ((10 : Int32) * x2)), some (xi (x3 + (1 : Int32)))] [] h) ∧ (¬ x0 ≤ x2 → Q (.inl (some (xi (x3 + x1)))) h))))) : xWp G mJ29_stringSize d K Q k 16 [some (xi x0), some (xi x1), some (xi x2), some (xi x3)] [] h := by
  refine xw_iload_n dJ29_stringSize_16 rfl ?_
  refine xw_bipush (10 : Int32) dJ29_stringSize_17 (by decide) ?_
  refine xw_icmp_ge 42 dJ29_stringSize_19 rfl (fun hc => ?_) (fun hc => ?_)
  · replace hvc := hvc.1 hc
    refine xw_bipush (10 : Int32) dJ29_stringSize_42 (by decide) ?_
    refine xw_iload_n dJ29_stringSize_44 rfl ?_
    refine xw_iadd dJ29_stringSize_45 ?_
    exact xw_iret dJ29_stringSize_46 rfl hvc
  · replace hvc := hvc.2 hc
    refine xw_iload_n dJ29_stringSize_22 rfl ?_
    refine xw_iload_n dJ29_stringSize_23 rfl ?_
    refine xw_icmp_le 31 dJ29_stringSize_24 rfl (fun hc => ?_) (fun hc => ?_)
    · replace hvc := hvc.1 hc
      refine xw_bipush (10 : Int32) dJ29_stringSize_31 (by decide) ?_
      refine xw_iload_n dJ29_stringSize_33 rfl ?_
      refine xw_imul dJ29_stringSize_34 ?_
      refine xw_istore_n dJ29_stringSize_35 (Nat.le_of_ble_eq_true rfl) (L9 := [some (xi x0), some (xi x1), some (xi ((10 : Int32) * x2)), some (xi x3)]) rfl ?_
      refine xw_iinc (1 : Int32) dJ29_stringSize_36 rfl (by decide) (Nat.le_of_ble_eq_true rfl) (L9 := [some (xi x0), some (xi x1), some (xi ((10 : Int32) * x2)), some (xi (x3 + (1 : Int32)))]) rfl ?_
      refine xw_goto 16 dJ29_stringSize_39 rfl ?_
      exact hvc
    · replace hvc := hvc.2 hc
      refine xw_iload_n dJ29_stringSize_27 rfl ?_
      refine xw_iload_n dJ29_stringSize_28 rfl ?_
      refine xw_iadd dJ29_stringSize_29 ?_
      exact xw_iret dJ29_stringSize_30 rfl hvc

theorem vc_J29_getChars {G : xG} {d K : Nat} {Q : xR → xH → Prop} {h : xH} {x1 : Int32} {x2 : Int32} {o902 : Option Nat}
    (hvc : ((0 ≤ x1 → ((¬ (0 : Int32) = 0 → xWp G mJ29_getChars d K Q K 22 [some (xi x1), none, some (xr o902), none, none, some (xi x2), some (xi (0 : Int32))] [] h) ∧ ((0 : Int32) = 0 → xWp G mJ29_getChars d K Q K 22 [some (xi (-x1)), none, some (xr o902), none, none, some (xi x2), some (xi (0 : Int32))] [] h))) ∧ (¬ 0 ≤ x1 → ((¬ (1 : Int32) = 0 → xWp G mJ29_getChars d K Q K 22 [some (xi x1), none, some (xr o902), none, none, some (xi x2), some (xi (1 : Int32))] [] h) ∧ ((1 : Int32) = 0 → xWp G mJ29_getChars d K Q K 22 [some (xi (-x1)), none, some (xr o902), none, none, some (xi x2), some (xi (1 : Int32))] [] h))))) : xCn G mJ29_getChars d K [xi x1, xi x2, xr o902] h Q := by
  refine xCn_of px_J29_getChars rfl rfl (Nat.le_of_ble_eq_true rfl) ?_
  show xWp G mJ29_getChars d K Q K 0 [some (xi x1), some (xi x2), some (xr o902), none, none, none, none] [] h
  refine xw_iload_n dJ29_getChars_0 rfl ?_
  refine xw_istore dJ29_getChars_1 (Nat.le_of_ble_eq_true rfl) (L9 := [some (xi x1), some (xi x2), some (xr o902), none, none, some (xi x2), none]) rfl ?_
  refine xw_iload_n dJ29_getChars_3 rfl ?_
  refine xw_if_ge 11 dJ29_getChars_4 rfl (fun hc => ?_) (fun hc => ?_)
  · replace hvc := hvc.1 hc
    refine xw_iconst (0 : Int32) dJ29_getChars_11 (by decide) ?_
    refine xw_istore dJ29_getChars_12 (Nat.le_of_ble_eq_true rfl) (L9 := [some (xi x1), some (xi x2), some (xr o902), none, none, some (xi x2), some (xi (0 : Int32))]) rfl ?_
    refine xw_iload dJ29_getChars_14 rfl ?_
    refine xw_if_ne 22 dJ29_getChars_16 rfl (fun hc => ?_) (fun hc => ?_)
    · replace hvc := hvc.1 hc
      exact xWp_loc hvc (And.intro rfl (And.intro rfl (And.intro rfl (And.intro rfl trivial))))
    · replace hvc := hvc.2 hc
      refine xw_iload_n dJ29_getChars_19 rfl ?_
      refine xw_ineg dJ29_getChars_20 ?_
      refine xw_istore_n dJ29_getChars_21 (Nat.le_of_ble_eq_true rfl) (L9 := [some (xi (-x1)), some (xi x2), some (xr o902), none, none, some (xi x2), some (xi (0 : Int32))]) rfl ?_
      exact xWp_loc hvc (And.intro rfl (And.intro rfl (And.intro rfl (And.intro rfl trivial))))
  · replace hvc := hvc.2 hc
    refine xw_iconst (1 : Int32) dJ29_getChars_7 (by decide) ?_
    refine xw_goto 12 dJ29_getChars_8 rfl ?_
    refine xw_istore dJ29_getChars_12 (Nat.le_of_ble_eq_true rfl) (L9 := [some (xi x1), some (xi x2), some (xr o902), none, none, some (xi x2), some (xi (1 : Int32))]) rfl ?_
    refine xw_iload dJ29_getChars_14 rfl ?_
    refine xw_if_ne 22 dJ29_getChars_16 rfl (fun hc => ?_) (fun hc => ?_)
    · replace hvc := hvc.1 hc
      exact xWp_loc hvc (And.intro rfl (And.intro rfl (And.intro rfl (And.intro rfl trivial))))
    · replace hvc := hvc.2 hc
      refine xw_iload_n dJ29_getChars_19 rfl ?_
      refine xw_ineg dJ29_getChars_20 ?_
      refine xw_istore_n dJ29_getChars_21 (Nat.le_of_ble_eq_true rfl) (L9 := [some (xi (-x1)), some (xi x2), some (xr o902), none, none, some (xi x2), some (xi (1 : Int32))]) rfl ?_
      exact xWp_loc hvc (And.intro rfl (And.intro rfl (And.intro rfl (And.intro rfl trivial))))

theorem vc_J29_getChars_22 {G : xG} {d K k : Nat} {Q : xR → xH → Prop} {h : xH} {x0 : Int32} {o902 : Option Nat} {x5 : Int32} {x6 : Int32}
    (hvc : (((-100 : Int32) < x0 → ∃ o1 : Option Nat, G.2.1 18 = xr o1 ∧ ∃ a2, o1 = some a2 ∧ xcls h a2 = 1000 ∧ ∃ i3 : Nat, (-x0) = nI i3 ∧ i3 < 2147483648 ∧ i3 < xlen h a2 ∧ ∃ n4 : Int32, xval h a2 i3 = xi n4 ∧ ∃ a5, o902 = some a5 ∧ xcls h a5 = 1000 ∧ xlo h ≤ a5 ∧ ∃ i6 : Nat, (x5 + (-1 : Int32)) = nI i6 ∧ i6 < 2147483648 ∧ i6 < xlen h a5 ∧ ∀ n8 : Int32, narrow .byte (.int n4) = .int n8 → ∀ h7 : xH, h7 = xput h a5 i6 (xi n8) → (((-9 : Int32) ≤ x0 → ((x6 = 0 → Q (.inl (some (xi (x5 + (-1 : Int32))))) h7) ∧ (¬ x6 = 0 → xcls h7 a5 = 1000 ∧ xlo h7 ≤ a5 ∧ ∃ i9 : Nat, ((x5 + (-1 : Int32)) + (-1 : Int32)) = nI i9 ∧ i9 < 2147483648 ∧ i9 < xlen h7 a5 ∧ ∀ n11 : Int32, narrow .byte (.int (45 : Int32)) = .int n11 → ∀ h10 : xH, h10 = xput h7 a5 i9 (xi n11) → Q (.inl (some (xi ((x5 + (-1 : Int32)) + (-1 : Int32))))) h10))) ∧ (¬ (-9 : Int32) ≤ x0 → ∃ o12 : Option Nat, G.2.1 19 = xr o12 ∧ ∃ a13, o12 = some a13 ∧ xcls h7 a13 = 1000 ∧ ∃ i14 : Nat, (-x0) = nI i14 ∧ i14 < 2147483648 ∧ i14 < xlen h7 a13 ∧ ∃ n15 : Int32, xval h7 a13 i14 = xi n15 ∧ xcls h7 a5 = 1000 ∧ xlo h7 ≤ a5 ∧ ∃ i16 : Nat, ((x5 + (-1 : Int32)) + (-1 : Int32)) = nI i16 ∧ i16 < 2147483648 ∧ i16 < xlen h7 a5 ∧ ∀ n18 : Int32, narrow .byte (.int n15) = .int n18 → ∀ h17 : xH, h17 = xput h7 a5 i16 (xi n18) → ((x6 = 0 → Q (.inl (some (xi ((x5 + (-1 : Int32)) + (-1 : Int32))))) h17) ∧ (¬ x6 = 0 → xcls h17 a5 = 1000 ∧ xlo h17 ≤ a5 ∧ ∃ i19 : Nat, (((x5 + (-1 : Int32)) + (-1 : Int32)) + (-1 : Int32)) = nI i19 ∧ i19 < 2147483648 ∧ i19 < xlen h17 a5 ∧ ∀ n21 : Int32, narrow .byte (.int (45 : Int32)) = .int n21 → ∀ h20 : xH, h20 = xput h17 a5 i19 (xi n21) → Q (.inl (some (xi (((x5 + (-1 : Int32)) + (-1 : Int32)) + (-1 : Int32))))) h20))))) ∧ (¬ (-100 : Int32) < x0 → ∃ o22 : Option Nat, G.2.1 18 = xr o22 ∧ ∃ a23, o22 = some a23 ∧ xcls h a23 = 1000 ∧ ∃ i24 : Nat, (((x0 / (100 : Int32)) * (100 : Int32)) - x0) = nI i24 ∧ i24 < 2147483648 ∧ i24 < xlen h a23 ∧ ∃ n25 : Int32, xval h a23 i24 = xi n25 ∧ ∃ a26, o902 = some a26 ∧ xcls h a26 = 1000 ∧ xlo h ≤ a26 ∧ ∃ i27 : Nat, (x5 + (-1 : Int32)) = nI i27 ∧ i27 < 2147483648 ∧ i27 < xlen h a26 ∧ ∀ n29 : Int32, narrow .byte (.int n25) = .int n29 → ∀ h28 : xH, h28 = xput h a26 i27 (xi n29) → ∃ o30 : Option Nat, G.2.1 19 = xr o30 ∧ ∃ a31, o30 = some a31 ∧ xcls h28 a31 = 1000 ∧ ∃ i32 : Nat, (((x0 / (100 : Int32)) * (100 : Int32)) - x0) = nI i32 ∧ i32 < 2147483648 ∧ i32 < xlen h28 a31 ∧ ∃ n33 : Int32, xval h28 a31 i32 = xi n33 ∧ xcls h28 a26 = 1000 ∧ xlo h28 ≤ a26 ∧ ∃ i34 : Nat, ((x5 + (-1 : Int32)) + (-1 : Int32)) = nI i34 ∧ i34 < 2147483648 ∧ i34 < xlen h28 a26 ∧ ∀ n36 : Int32, narrow .byte (.int n33) = .int n36 → ∀ h35 : xH, h35 = xput h28 a26 i34 (xi n36) → xWp G mJ29_getChars d K Q k 22 [some (xi (x0 / (100 : Int32))), none, some (xr (some a26)), none, none, some (xi ((x5 + (-1 : Int32)) + (-1 : Int32))), some (xi x6)] [] h35))) : xWp G mJ29_getChars d K Q k 22 [some (xi x0), none, some (xr o902), none, none, some (xi x5), some (xi x6)] [] h := by
  refine xw_iload_n dJ29_getChars_22 rfl ?_
  refine xw_bipush (-100 : Int32) dJ29_getChars_23 (by decide) ?_
  refine xw_icmp_gt 72 dJ29_getChars_25 rfl (fun hc => ?_) (fun hc => ?_)
  · replace hvc := hvc.1 hc
    refine xw_aload_n dJ29_getChars_72 rfl ?_
    refine xw_iinc (-1 : Int32) dJ29_getChars_73 rfl (by decide) (Nat.le_of_ble_eq_true rfl) (L9 := [some (xi x0), none, some (xr o902), none, none, some (xi (x5 + (-1 : Int32))), some (xi x6)]) rfl ?_
    refine xw_iload dJ29_getChars_76 rfl ?_
    obtain ⟨o1, he, hvc⟩ := hvc
    refine xw_gets (i := 18) dJ29_getChars_78 rfl q2645 ?_
    rw [he]
    refine xw_iload_n dJ29_getChars_81 rfl ?_
    refine xw_ineg dJ29_getChars_82 ?_
    obtain ⟨a2, ho, hvc⟩ := hvc
    subst ho
    obtain ⟨hcK, i3, hx9, hb9, hi9, n4, hv9, hvc⟩ := hvc
    refine xw_bald (j := 0) dJ29_getChars_83 rfl hcK hx9 hb9 hi9 hv9 ?_
    obtain ⟨a5, ho, hvc⟩ := hvc
    subst ho
    obtain ⟨hcK, hlo9, i6, hx9, hb9, hi9, hvc⟩ := hvc
    replace hvc := hvc _ rfl
    refine xw_bast (j := 0) dJ29_getChars_84 rfl hcK (Or.inr hlo9) hx9 hb9 hi9 rfl (fun h7 eh9 => ?_)
    replace hvc := hvc h7 eh9
    refine xw_iload_n dJ29_getChars_85 rfl ?_
    refine xw_bipush (-9 : Int32) dJ29_getChars_86 (by decide) ?_
    refine xw_icmp_ge 104 dJ29_getChars_88 rfl (fun hc => ?_) (fun hc => ?_)
    · replace hvc := hvc.1 hc
      refine xw_iload dJ29_getChars_104 rfl ?_
      refine xw_if_eq 118 dJ29_getChars_106 rfl (fun hc => ?_) (fun hc => ?_)
      · replace hvc := hvc.1 hc
        refine xw_iload dJ29_getChars_118 rfl ?_
        exact xw_iret dJ29_getChars_120 rfl hvc
      · replace hvc := hvc.2 hc
        refine xw_aload_n dJ29_getChars_109 rfl ?_
        refine xw_iinc (-1 : Int32) dJ29_getChars_110 rfl (by decide) (Nat.le_of_ble_eq_true rfl) (L9 := [some (xi x0), none, some (xr (some a5)), none, none, some (xi ((x5 + (-1 : Int32)) + (-1 : Int32))), some (xi x6)]) rfl ?_
        refine xw_iload dJ29_getChars_113 rfl ?_
        refine xw_bipush (45 : Int32) dJ29_getChars_115 (by decide) ?_
        obtain ⟨hcK, hlo9, i9, hx9, hb9, hi9, hvc⟩ := hvc
        replace hvc := hvc _ rfl
        refine xw_bast (j := 0) dJ29_getChars_117 rfl hcK (Or.inr hlo9) hx9 hb9 hi9 rfl (fun h10 eh9 => ?_)
        replace hvc := hvc h10 eh9
        refine xw_iload dJ29_getChars_118 rfl ?_
        exact xw_iret dJ29_getChars_120 rfl hvc
    · replace hvc := hvc.2 hc
      refine xw_aload_n dJ29_getChars_91 rfl ?_
      refine xw_iinc (-1 : Int32) dJ29_getChars_92 rfl (by decide) (Nat.le_of_ble_eq_true rfl) (L9 := [some (xi x0), none, some (xr (some a5)), none, none, some (xi ((x5 + (-1 : Int32)) + (-1 : Int32))), some (xi x6)]) rfl ?_
      refine xw_iload dJ29_getChars_95 rfl ?_
      obtain ⟨o12, he, hvc⟩ := hvc
      refine xw_gets (i := 19) dJ29_getChars_97 rfl q2647 ?_
      rw [he]
      refine xw_iload_n dJ29_getChars_100 rfl ?_
      refine xw_ineg dJ29_getChars_101 ?_
      obtain ⟨a13, ho, hvc⟩ := hvc
      subst ho
      obtain ⟨hcK, i14, hx9, hb9, hi9, n15, hv9, hvc⟩ := hvc
      refine xw_bald (j := 0) dJ29_getChars_102 rfl hcK hx9 hb9 hi9 hv9 ?_
      obtain ⟨hcK, hlo9, i16, hx9, hb9, hi9, hvc⟩ := hvc
      replace hvc := hvc _ rfl
      refine xw_bast (j := 0) dJ29_getChars_103 rfl hcK (Or.inr hlo9) hx9 hb9 hi9 rfl (fun h17 eh9 => ?_)
      replace hvc := hvc h17 eh9
      refine xw_iload dJ29_getChars_104 rfl ?_
      refine xw_if_eq 118 dJ29_getChars_106 rfl (fun hc => ?_) (fun hc => ?_)
      · replace hvc := hvc.1 hc
        refine xw_iload dJ29_getChars_118 rfl ?_
        exact xw_iret dJ29_getChars_120 rfl hvc
      · replace hvc := hvc.2 hc
        refine xw_aload_n dJ29_getChars_109 rfl ?_
        refine xw_iinc (-1 : Int32) dJ29_getChars_110 rfl (by decide) (Nat.le_of_ble_eq_true rfl) (L9 := [some (xi x0), none, some (xr (some a5)), none, none, some (xi (((x5 + (-1 : Int32)) + (-1 : Int32)) + (-1 : Int32))), some (xi x6)]) rfl ?_
        refine xw_iload dJ29_getChars_113 rfl ?_
        refine xw_bipush (45 : Int32) dJ29_getChars_115 (by decide) ?_
        obtain ⟨hcK, hlo9, i19, hx9, hb9, hi9, hvc⟩ := hvc
        replace hvc := hvc _ rfl
        refine xw_bast (j := 0) dJ29_getChars_117 rfl hcK (Or.inr hlo9) hx9 hb9 hi9 rfl (fun h20 eh9 => ?_)
        replace hvc := hvc h20 eh9
        refine xw_iload dJ29_getChars_118 rfl ?_
        exact xw_iret dJ29_getChars_120 rfl hvc
  · replace hvc := hvc.2 hc
    refine xw_iload_n dJ29_getChars_28 rfl ?_
    refine xw_bipush (100 : Int32) dJ29_getChars_29 (by decide) ?_
    refine xw_idiv dJ29_getChars_31 (by decide) ?_
    refine xw_istore_n dJ29_getChars_32 (Nat.le_of_ble_eq_true rfl) (L9 := [some (xi x0), none, some (xr o902), some (xi (x0 / (100 : Int32))), none, some (xi x5), some (xi x6)]) rfl ?_
    refine xw_iload_n dJ29_getChars_33 rfl ?_
    refine xw_bipush (100 : Int32) dJ29_getChars_34 (by decide) ?_
    refine xw_imul dJ29_getChars_36 ?_
    refine xw_iload_n dJ29_getChars_37 rfl ?_
    refine xw_isub dJ29_getChars_38 ?_
    refine xw_istore dJ29_getChars_39 (Nat.le_of_ble_eq_true rfl) (L9 := [some (xi x0), none, some (xr o902), some (xi (x0 / (100 : Int32))), some (xi (((x0 / (100 : Int32)) * (100 : Int32)) - x0)), some (xi x5), some (xi x6)]) rfl ?_
    refine xw_iload_n dJ29_getChars_41 rfl ?_
    refine xw_istore_n dJ29_getChars_42 (Nat.le_of_ble_eq_true rfl) (L9 := [some (xi (x0 / (100 : Int32))), none, some (xr o902), some (xi (x0 / (100 : Int32))), some (xi (((x0 / (100 : Int32)) * (100 : Int32)) - x0)), some (xi x5), some (xi x6)]) rfl ?_
    refine xw_aload_n dJ29_getChars_43 rfl ?_
    refine xw_iinc (-1 : Int32) dJ29_getChars_44 rfl (by decide) (Nat.le_of_ble_eq_true rfl) (L9 := [some (xi (x0 / (100 : Int32))), none, some (xr o902), some (xi (x0 / (100 : Int32))), some (xi (((x0 / (100 : Int32)) * (100 : Int32)) - x0)), some (xi (x5 + (-1 : Int32))), some (xi x6)]) rfl ?_
    refine xw_iload dJ29_getChars_47 rfl ?_
    obtain ⟨o22, he, hvc⟩ := hvc
    refine xw_gets (i := 18) dJ29_getChars_49 rfl q2645 ?_
    rw [he]
    refine xw_iload dJ29_getChars_52 rfl ?_
    obtain ⟨a23, ho, hvc⟩ := hvc
    subst ho
    obtain ⟨hcK, i24, hx9, hb9, hi9, n25, hv9, hvc⟩ := hvc
    refine xw_bald (j := 0) dJ29_getChars_54 rfl hcK hx9 hb9 hi9 hv9 ?_
    obtain ⟨a26, ho, hvc⟩ := hvc
    subst ho
    obtain ⟨hcK, hlo9, i27, hx9, hb9, hi9, hvc⟩ := hvc
    replace hvc := hvc _ rfl
    refine xw_bast (j := 0) dJ29_getChars_55 rfl hcK (Or.inr hlo9) hx9 hb9 hi9 rfl (fun h28 eh9 => ?_)
    replace hvc := hvc h28 eh9
    refine xw_aload_n dJ29_getChars_56 rfl ?_
    refine xw_iinc (-1 : Int32) dJ29_getChars_57 rfl (by decide) (Nat.le_of_ble_eq_true rfl) (L9 := [some (xi (x0 / (100 : Int32))), none, some (xr (some a26)), some (xi (x0 / (100 : Int32))), some (xi (((x0 / (100 : Int32)) * (100 : Int32)) - x0)), some (xi ((x5 + (-1 : Int32)) + (-1 : Int32))), some (xi x6)]) rfl ?_
    refine xw_iload dJ29_getChars_60 rfl ?_
    obtain ⟨o30, he, hvc⟩ := hvc
    refine xw_gets (i := 19) dJ29_getChars_62 rfl q2647 ?_
    rw [he]
    refine xw_iload dJ29_getChars_65 rfl ?_
    obtain ⟨a31, ho, hvc⟩ := hvc
    subst ho
    obtain ⟨hcK, i32, hx9, hb9, hi9, n33, hv9, hvc⟩ := hvc
    refine xw_bald (j := 0) dJ29_getChars_67 rfl hcK hx9 hb9 hi9 hv9 ?_
    obtain ⟨hcK, hlo9, i34, hx9, hb9, hi9, hvc⟩ := hvc
    replace hvc := hvc _ rfl
    refine xw_bast (j := 0) dJ29_getChars_68 rfl hcK (Or.inr hlo9) hx9 hb9 hi9 rfl (fun h35 eh9 => ?_)
    replace hvc := hvc h35 eh9
    refine xw_goto 22 dJ29_getChars_69 rfl ?_
    exact xWp_loc hvc (And.intro rfl (And.intro rfl (And.intro rfl (And.intro rfl trivial))))

theorem vc_J18_inflate {G : xG} {d K : Nat} {Q : xR → xH → Prop} {h : xH} {o900 : Option Nat} {x2 : Int32} {o902 : Option Nat} {x4 : Int32} {x5 : Int32}
    (hvc : xCall G d K mJ14_inflate [xr o900, xi x2, xr o902, xi x4, xi x5] h (xkV (fun h1 k2 => Q (.inl none) h1) (fun q h _ => Q (.inr q) h))) : xCn G mJ18_inflate d K [xr o900, xi x2, xr o902, xi x4, xi x5] h Q := by
  refine xCn_of px_J18_inflate rfl rfl (Nat.le_of_ble_eq_true rfl) ?_
  show xWp G mJ18_inflate d K Q K 0 [some (xr o900), some (xi x2), some (xr o902), some (xi x4), some (xi x5)] [] h
  refine xw_aload_n dJ18_inflate_0 rfl ?_
  refine xw_iload_n dJ18_inflate_1 rfl ?_
  refine xw_aload_n dJ18_inflate_2 rfl ?_
  refine xw_iload_n dJ18_inflate_3 rfl ?_
  refine xw_iload dJ18_inflate_4 rfl ?_
  obtain ⟨d9, k9, hd9, hk9, hC9⟩ := hvc
  refine xw_callS dJ18_inflate_6 px_J14_inflate pm_J14_inflate q810 q811 (As := [xr o900, xi x2, xr o902, xi x4, xi x5]) (rest := []) rfl rfl (Nat.le_of_ble_eq_true rfl) hd9 hk9 hC9 (xkV_n fun h1 hvc => ?_) (fun q h hq => xTh_out0 rfl hq)
  exact xw_vret dJ18_inflate_9 rfl hvc

theorem vc_J18_hashCode {G : xG} {d K : Nat} {Q : xR → xH → Prop} {h : xH} {o900 : Option Nat}
    (hvc : ∃ a1, o900 = some a1 ∧ (∃ t2 ty, xty[t2]? = some ty ∧ xcls h a1 = 1000 + t2) ∧ (((nI (xlen h a1)) = (0 : Int32) → Q (.inl (some (xi (0 : Int32)))) h) ∧ ((nI (xlen h a1)) = (1 : Int32) → xcls h a1 = 1000 ∧ ∃ i3 : Nat, (0 : Int32) = nI i3 ∧ i3 < 2147483648 ∧ i3 < xlen h a1 ∧ ∃ n4 : Int32, xval h a1 i3 = xi n4 ∧ Q (.inl (some (xi (n4 &&& (255 : Int32))))) h) ∧ ((¬ (nI (xlen h a1)) = (0 : Int32) ∧ ¬ (nI (xlen h a1)) = (1 : Int32)) → (∃ t5 ty, xty[t5]? = some ty ∧ xcls h a1 = 1000 + t5) ∧ xCall G d K mJ15_vectorizedHashCode [xr (some a1), xi (0 : Int32), xi (nI (xlen h a1)), xi (0 : Int32), xi (4 : Int32)] h (xkI (fun n8 h6 k7 => Q (.inl (some (xi n8))) h6) (fun q h _ => Q (.inr q) h))))) : xCn G mJ18_hashCode d K [xr o900] h Q := by
  refine xCn_of px_J18_hashCode rfl rfl (Nat.le_of_ble_eq_true rfl) ?_
  show xWp G mJ18_hashCode d K Q K 0 [some (xr o900)] [] h
  refine xw_aload_n dJ18_hashCode_0 rfl ?_
  obtain ⟨a1, ho, hvc⟩ := hvc
  subst ho
  obtain ⟨⟨t2, ty9, hty9, hcK⟩, hvc⟩ := hvc
  refine xw_alen dJ18_hashCode_1 hty9 hcK ?_
  obtain ⟨hv1, hvc⟩ := hvc
  by_cases c0 : (nI (xlen h a1)) = (0 : Int32)
  · replace hvc := hv1 c0
    refine xw_lookup 28 dJ18_hashCode_2 (by decide) (off := 26) (by rw [c0]; decide) rfl ?_
    refine xw_iconst (0 : Int32) dJ18_hashCode_28 (by decide) ?_
    refine xw_goto 51 dJ18_hashCode_29 rfl ?_
    exact xw_iret dJ18_hashCode_51 rfl hvc
  obtain ⟨hv1, hvc⟩ := hvc
  by_cases c1 : (nI (xlen h a1)) = (1 : Int32)
  · replace hvc := hv1 c1
    refine xw_lookup 32 dJ18_hashCode_2 (by decide) (off := 30) (by rw [c1]; decide) rfl ?_
    refine xw_aload_n dJ18_hashCode_32 rfl ?_
    refine xw_iconst (0 : Int32) dJ18_hashCode_33 (by decide) ?_
    obtain ⟨hcK, i3, hx9, hb9, hi9, n4, hv9, hvc⟩ := hvc
    refine xw_bald (j := 0) dJ18_hashCode_34 rfl hcK hx9 hb9 hi9 hv9 ?_
    refine xw_sipush (255 : Int32) dJ18_hashCode_35 (by decide) ?_
    refine xw_iand dJ18_hashCode_38 ?_
    refine xw_goto 51 dJ18_hashCode_39 rfl ?_
    exact xw_iret dJ18_hashCode_51 rfl hvc
  replace hvc := hvc ⟨c0, c1⟩
  refine xw_lookup 42 dJ18_hashCode_2 (by decide) (off := 40) (by show Op.lookupswitch.offset _ _ _ = _; rw [lv_osw c0 (by decide)]; rw [lv_osw c1 (by decide)]; rfl) rfl ?_
  refine xw_aload_n dJ18_hashCode_42 rfl ?_
  refine xw_iconst (0 : Int32) dJ18_hashCode_43 (by decide) ?_
  refine xw_aload_n dJ18_hashCode_44 rfl ?_
  obtain ⟨⟨t5, ty9, hty9, hcK⟩, hvc⟩ := hvc
  refine xw_alen dJ18_hashCode_45 hty9 hcK ?_
  refine xw_iconst (0 : Int32) dJ18_hashCode_46 (by decide) ?_
  refine xw_iconst (4 : Int32) dJ18_hashCode_47 (by decide) ?_
  obtain ⟨d9, k9, hd9, hk9, hC9⟩ := hvc
  refine xw_callS dJ18_hashCode_48 px_J15_vectorizedHashCode pm_J15_vectorizedHashCode q1707 q1708 (As := [xr (some a1), xi (0 : Int32), xi (nI (xlen h a1)), xi (0 : Int32), xi (4 : Int32)]) (rest := []) rfl rfl (Nat.le_of_ble_eq_true rfl) hd9 hk9 hC9 (xkI_n fun n8 h6 hvc => ?_) (fun q h hq => xTh_out0 rfl hq)
  exact xw_iret dJ18_hashCode_51 rfl hvc

theorem vc_J18_equals {G : xG} {d K : Nat} {Q : xR → xH → Prop} {h : xH} {o900 : Option Nat} {o901 : Option Nat}
    (hvc : ∃ a1, o900 = some a1 ∧ (∃ t2 ty, xty[t2]? = some ty ∧ xcls h a1 = 1000 + t2) ∧ ∃ a3, o901 = some a3 ∧ (∃ t4 ty, xty[t4]? = some ty ∧ xcls h a3 = 1000 + t4) ∧ ((¬ (nI (xlen h a1)) = (nI (xlen h a3)) → Q (.inl (some (xi (0 : Int32)))) h) ∧ ((nI (xlen h a1)) = (nI (xlen h a3)) → xWp G mJ18_equals d K Q K 9 [some (xr (some a1)), some (xr (some a3)), some (xi (0 : Int32))] [] h))) : xCn G mJ18_equals d K [xr o900, xr o901] h Q := by
  refine xCn_of px_J18_equals rfl rfl (Nat.le_of_ble_eq_true rfl) ?_
  show xWp G mJ18_equals d K Q K 0 [some (xr o900), some (xr o901), none] [] h
  refine xw_aload_n dJ18_equals_0 rfl ?_
  obtain ⟨a1, ho, hvc⟩ := hvc
  subst ho
  obtain ⟨⟨t2, ty9, hty9, hcK⟩, hvc⟩ := hvc
  refine xw_alen dJ18_equals_1 hty9 hcK ?_
  refine xw_aload_n dJ18_equals_2 rfl ?_
  obtain ⟨a3, ho, hvc⟩ := hvc
  subst ho
  obtain ⟨⟨t4, ty9, hty9, hcK⟩, hvc⟩ := hvc
  refine xw_alen dJ18_equals_3 hty9 hcK ?_
  refine xw_icmp_ne 34 dJ18_equals_4 rfl (fun hc => ?_) (fun hc => ?_)
  · replace hvc := hvc.1 hc
    refine xw_iconst (0 : Int32) dJ18_equals_34 (by decide) ?_
    exact xw_zret dJ18_equals_35 rfl rfl hvc
  · replace hvc := hvc.2 hc
    refine xw_iconst (0 : Int32) dJ18_equals_7 (by decide) ?_
    refine xw_istore_n dJ18_equals_8 (Nat.le_of_ble_eq_true rfl) (L9 := [some (xr (some a1)), some (xr (some a3)), some (xi (0 : Int32))]) rfl ?_
    exact hvc

theorem vc_J18_equals_9 {G : xG} {d K k : Nat} {Q : xR → xH → Prop} {h : xH} {o900 : Option Nat} {o901 : Option Nat} {x2 : Int32}
    (hvc : ∃ a5, o900 = some a5 ∧ (∃ t6 ty, xty[t6]? = some ty ∧ xcls h a5 = 1000 + t6) ∧ (((nI (xlen h a5)) ≤ x2 → Q (.inl (some (xi (1 : Int32)))) h) ∧ (¬ (nI (xlen h a5)) ≤ x2 → xcls h a5 = 1000 ∧ ∃ i7 : Nat, x2 = nI i7 ∧ i7 < 2147483648 ∧ i7 < xlen h a5 ∧ ∃ n8 : Int32, xval h a5 i7 = xi n8 ∧ ∃ a9, o901 = some a9 ∧ xcls h a9 = 1000 ∧ ∃ i10 : Nat, x2 = nI i10 ∧ i10 < 2147483648 ∧ i10 < xlen h a9 ∧ ∃ n11 : Int32, xval h a9 i10 = xi n11 ∧ ((n8 = n11 → xWp G mJ18_equals d K Q k 9 [some (xr (some a5)), some (xr (some a9)), some (xi (x2 + (1 : Int32)))] [] h) ∧ (¬ n8 = n11 → Q (.inl (some (xi (0 : Int32)))) h))))) : xWp G mJ18_equals d K Q k 9 [some (xr o900), some (xr o901), some (xi x2)] [] h := by
  refine xw_iload_n dJ18_equals_9 rfl ?_
  refine xw_aload_n dJ18_equals_10 rfl ?_
  obtain ⟨a5, ho, hvc⟩ := hvc
  subst ho
  obtain ⟨⟨t6, ty9, hty9, hcK⟩, hvc⟩ := hvc
  refine xw_alen dJ18_equals_11 hty9 hcK ?_
  refine xw_icmp_ge 32 dJ18_equals_12 rfl (fun hc => ?_) (fun hc => ?_)
  · replace hvc := hvc.1 hc
    refine xw_iconst (1 : Int32) dJ18_equals_32 (by decide) ?_
    exact xw_zret dJ18_equals_33 rfl rfl hvc
  · replace hvc := hvc.2 hc
    refine xw_aload_n dJ18_equals_15 rfl ?_
    refine xw_iload_n dJ18_equals_16 rfl ?_
    obtain ⟨hcK, i7, hx9, hb9, hi9, n8, hv9, hvc⟩ := hvc
    refine xw_bald (j := 0) dJ18_equals_17 rfl hcK hx9 hb9 hi9 hv9 ?_
    refine xw_aload_n dJ18_equals_18 rfl ?_
    refine xw_iload_n dJ18_equals_19 rfl ?_
    obtain ⟨a9, ho, hvc⟩ := hvc
    subst ho
    obtain ⟨hcK, i10, hx9, hb9, hi9, n11, hv9, hvc⟩ := hvc
    refine xw_bald (j := 0) dJ18_equals_20 rfl hcK hx9 hb9 hi9 hv9 ?_
    refine xw_icmp_eq 26 dJ18_equals_21 rfl (fun hc => ?_) (fun hc => ?_)
    · replace hvc := hvc.1 hc
      refine xw_iinc (1 : Int32) dJ18_equals_26 rfl (by decide) (Nat.le_of_ble_eq_true rfl) (L9 := [some (xr (some a5)), some (xr (some a9)), some (xi (x2 + (1 : Int32)))]) rfl ?_
      refine xw_goto 9 dJ18_equals_29 rfl ?_
      exact hvc
    · replace hvc := hvc.2 hc
      refine xw_iconst (0 : Int32) dJ18_equals_24 (by decide) ?_
      exact xw_zret dJ18_equals_25 rfl rfl hvc

theorem vc_J18_compareTo {G : xG} {d K : Nat} {Q : xR → xH → Prop} {h : xH} {o900 : Option Nat} {o901 : Option Nat}
    (hvc : ∃ a1, o900 = some a1 ∧ (∃ t2 ty, xty[t2]? = some ty ∧ xcls h a1 = 1000 + t2) ∧ ∃ a3, o901 = some a3 ∧ (∃ t4 ty, xty[t4]? = some ty ∧ xcls h a3 = 1000 + t4) ∧ xCall G d K mJ18_compareTo_2 [xr (some a1), xr (some a3), xi (nI (xlen h a1)), xi (nI (xlen h a3))] h (xkI (fun n7 h5 k6 => Q (.inl (some (xi n7))) h5) (fun q h _ => Q (.inr q) h))) : xCn G mJ18_compareTo d K [xr o900, xr o901] h Q := by
  refine xCn_of px_J18_compareTo rfl rfl (Nat.le_of_ble_eq_true rfl) ?_
  show xWp G mJ18_compareTo d K Q K 0 [some (xr o900), some (xr o901), none, none] [] h
  refine xw_aload_n dJ18_compareTo_0 rfl ?_
  obtain ⟨a1, ho, hvc⟩ := hvc
  subst ho
  obtain ⟨⟨t2, ty9, hty9, hcK⟩, hvc⟩ := hvc
  refine xw_alen dJ18_compareTo_1 hty9 hcK ?_
  refine xw_istore_n dJ18_compareTo_2 (Nat.le_of_ble_eq_true rfl) (L9 := [some (xr (some a1)), some (xr o901), some (xi (nI (xlen h a1))), none]) rfl ?_
  refine xw_aload_n dJ18_compareTo_3 rfl ?_
  obtain ⟨a3, ho, hvc⟩ := hvc
  subst ho
  obtain ⟨⟨t4, ty9, hty9, hcK⟩, hvc⟩ := hvc
  refine xw_alen dJ18_compareTo_4 hty9 hcK ?_
  refine xw_istore_n dJ18_compareTo_5 (Nat.le_of_ble_eq_true rfl) (L9 := [some (xr (some a1)), some (xr (some a3)), some (xi (nI (xlen h a1))), some (xi (nI (xlen h a3)))]) rfl ?_
  refine xw_aload_n dJ18_compareTo_6 rfl ?_
  refine xw_aload_n dJ18_compareTo_7 rfl ?_
  refine xw_iload_n dJ18_compareTo_8 rfl ?_
  refine xw_iload_n dJ18_compareTo_9 rfl ?_
  obtain ⟨d9, k9, hd9, hk9, hC9⟩ := hvc
  refine xw_callS dJ18_compareTo_10 px_J18_compareTo_2 pm_J18_compareTo_2 q2377 q2378 (As := [xr (some a1), xr (some a3), xi (nI (xlen h a1)), xi (nI (xlen h a3))]) (rest := []) rfl rfl (Nat.le_of_ble_eq_true rfl) hd9 hk9 hC9 (xkI_n fun n7 h5 hvc => ?_) (fun q h hq => xTh_out0 rfl hq)
  exact xw_iret dJ18_compareTo_13 rfl hvc

theorem vc_J18_compareTo_2 {G : xG} {d K : Nat} {Q : xR → xH → Prop} {h : xH} {o900 : Option Nat} {o901 : Option Nat} {x3 : Int32} {x4 : Int32}
    (hvc : 1 ≤ d ∧ ∀ n1 : Int32, n1 = (if x4 < x3 then x4 else x3) → xCall G d K mJ15_mismatch [xr o900, xr o901, xi n1] h (xkI (fun n4 h2 k3 => ((0 ≤ n4 → xCall G d k3 mJ18_getChar [xr o900, xi n4] h2 (xkI (fun n7 h5 k6 => xCall G d k6 mJ18_getChar [xr o901, xi n4] h5 (xkI (fun n10 h8 k9 => Q (.inl (some (xi (n7 - n10)))) h8) (fun q h _ => Q (.inr q) h))) (fun q h _ => Q (.inr q) h))) ∧ (¬ 0 ≤ n4 → Q (.inl (some (xi (x3 - x4)))) h2))) (fun q h _ => Q (.inr q) h))) : xCn G mJ18_compareTo_2 d K [xr o900, xr o901, xi x3, xi x4] h Q := by
  refine xCn_of px_J18_compareTo_2 rfl rfl (Nat.le_of_ble_eq_true rfl) ?_
  show xWp G mJ18_compareTo_2 d K Q K 0 [some (xr o900), some (xr o901), some (xi x3), some (xi x4), none, none] [] h
  refine xw_iload_n dJ18_compareTo_2_0 rfl ?_
  refine xw_iload_n dJ18_compareTo_2_1 rfl ?_
  obtain ⟨hd9, hvc⟩ := hvc
  refine xw_mmin dJ18_compareTo_2_2 q2380 q749 q132 q750 hd9 (Nat.le_of_ble_eq_true rfl) ?_
  obtain ⟨n1, he9⟩ : ∃ z, z = (if x4 < x3 then x4 else x3) := ⟨_, rfl⟩
  rw [← he9]
  replace hvc := hvc n1 he9
  refine xw_istore dJ18_compareTo_2_5 (Nat.le_of_ble_eq_true rfl) (L9 := [some (xr o900), some (xr o901), some (xi x3), some (xi x4), some (xi n1), none]) rfl ?_
  refine xw_aload_n dJ18_compareTo_2_7 rfl ?_
  refine xw_aload_n dJ18_compareTo_2_8 rfl ?_
  refine xw_iload dJ18_compareTo_2_9 rfl ?_
  obtain ⟨d9, k9, hd9, hk9, hC9⟩ := hvc
  refine xw_callS dJ18_compareTo_2_11 px_J15_mismatch pm_J15_mismatch q2381 q2382 (As := [xr o900, xr o901, xi n1]) (rest := []) rfl rfl (Nat.le_of_ble_eq_true rfl) hd9 hk9 hC9 (xkI_n fun n4 h2 hvc => ?_) (fun q h hq => xTh_out0 rfl hq)
  refine xw_istore dJ18_compareTo_2_14 (Nat.le_of_ble_eq_true rfl) (L9 := [some (xr o900), some (xr o901), some (xi x3), some (xi x4), some (xi n1), some (xi n4)]) rfl ?_
  refine xw_iload dJ18_compareTo_2_16 rfl ?_
  refine xw_if_ge 27 dJ18_compareTo_2_18 rfl (fun hc => ?_) (fun hc => ?_)
  · replace hvc := hvc.1 hc
    refine xw_aload_n dJ18_compareTo_2_27 rfl ?_
    refine xw_iload dJ18_compareTo_2_28 rfl ?_
    obtain ⟨d9, k9, hd9, hk9, hC9⟩ := hvc
    refine xw_callS dJ18_compareTo_2_30 px_J18_getChar pm_J18_getChar q2479 q2480 (As := [xr o900, xi n4]) (rest := []) rfl rfl (Nat.le_of_ble_eq_true rfl) hd9 hk9 hC9 (xkI_n fun n7 h5 hvc => ?_) (fun q h hq => xTh_out0 rfl hq)
    refine xw_aload_n dJ18_compareTo_2_33 rfl ?_
    refine xw_iload dJ18_compareTo_2_34 rfl ?_
    obtain ⟨d9, k9, hd9, hk9, hC9⟩ := hvc
    refine xw_callS dJ18_compareTo_2_36 px_J18_getChar pm_J18_getChar q2479 q2480 (As := [xr o901, xi n4]) (rest := [xi n7]) rfl rfl (Nat.le_of_ble_eq_true rfl) hd9 hk9 hC9 (xkI_n fun n10 h8 hvc => ?_) (fun q h hq => xTh_out0 rfl hq)
    refine xw_isub dJ18_compareTo_2_39 ?_
    exact xw_iret dJ18_compareTo_2_40 rfl hvc
  · replace hvc := hvc.2 hc
    refine xw_iload_n dJ18_compareTo_2_21 rfl ?_
    refine xw_iload_n dJ18_compareTo_2_22 rfl ?_
    refine xw_isub dJ18_compareTo_2_23 ?_
    refine xw_goto 40 dJ18_compareTo_2_24 rfl ?_
    exact xw_iret dJ18_compareTo_2_40 rfl hvc

theorem vc_J18_getChar {G : xG} {d K : Nat} {Q : xR → xH → Prop} {h : xH} {o900 : Option Nat} {x2 : Int32}
    (hvc : ∃ a1, o900 = some a1 ∧ xcls h a1 = 1000 ∧ ∃ i2 : Nat, x2 = nI i2 ∧ i2 < 2147483648 ∧ i2 < xlen h a1 ∧ ∃ n3 : Int32, xval h a1 i2 = xi n3 ∧ narrow .char (.int ((n3 &&& (255 : Int32)).toUInt32 % 65536).toInt32) = .int ((n3 &&& (255 : Int32)).toUInt32 % 65536).toInt32 ∧ Q (.inl (some (xi ((n3 &&& (255 : Int32)).toUInt32 % 65536).toInt32))) h) : xCn G mJ18_getChar d K [xr o900, xi x2] h Q := by
  refine xCn_of px_J18_getChar rfl rfl (Nat.le_of_ble_eq_true rfl) ?_
  show xWp G mJ18_getChar d K Q K 0 [some (xr o900), some (xi x2)] [] h
  refine xw_aload_n dJ18_getChar_0 rfl ?_
  refine xw_iload_n dJ18_getChar_1 rfl ?_
  obtain ⟨a1, ho, hvc⟩ := hvc
  subst ho
  obtain ⟨hcK, i2, hx9, hb9, hi9, n3, hv9, hvc⟩ := hvc
  refine xw_bald (j := 0) dJ18_getChar_2 rfl hcK hx9 hb9 hi9 hv9 ?_
  refine xw_sipush (255 : Int32) dJ18_getChar_3 (by decide) ?_
  refine xw_iand dJ18_getChar_6 ?_
  refine xw_i2c dJ18_getChar_7 ?_
  exact xw_zret dJ18_getChar_8 rfl hvc.1 hvc.2

theorem vc_J18_compareToUTF16 {G : xG} {d K : Nat} {Q : xR → xH → Prop} {h : xH} {o900 : Option Nat} {o901 : Option Nat}
    (hvc : xCall G d K mJ18_length [xr o900] h (xkI (fun n3 h1 k2 => xCall G d k2 mJ14_length [xr o901] h1 (xkI (fun n6 h4 k5 => xCall G d k5 mJ18_compareToUTF16Values [xr o900, xr o901, xi n3, xi n6] h4 (xkI (fun n9 h7 k8 => Q (.inl (some (xi n9))) h7) (fun q h _ => Q (.inr q) h))) (fun q h _ => Q (.inr q) h))) (fun q h _ => Q (.inr q) h))) : xCn G mJ18_compareToUTF16 d K [xr o900, xr o901] h Q := by
  refine xCn_of px_J18_compareToUTF16 rfl rfl (Nat.le_of_ble_eq_true rfl) ?_
  show xWp G mJ18_compareToUTF16 d K Q K 0 [some (xr o900), some (xr o901), none, none] [] h
  refine xw_aload_n dJ18_compareToUTF16_0 rfl ?_
  obtain ⟨d9, k9, hd9, hk9, hC9⟩ := hvc
  refine xw_callS dJ18_compareToUTF16_1 px_J18_length pm_J18_length q2492 q2493 (As := [xr o900]) (rest := []) rfl rfl (Nat.le_of_ble_eq_true rfl) hd9 hk9 hC9 (xkI_n fun n3 h1 hvc => ?_) (fun q h hq => xTh_out0 rfl hq)
  refine xw_istore_n dJ18_compareToUTF16_4 (Nat.le_of_ble_eq_true rfl) (L9 := [some (xr o900), some (xr o901), some (xi n3), none]) rfl ?_
  refine xw_aload_n dJ18_compareToUTF16_5 rfl ?_
  obtain ⟨d9, k9, hd9, hk9, hC9⟩ := hvc
  refine xw_callS dJ18_compareToUTF16_6 px_J14_length pm_J14_length q2495 q766 (As := [xr o901]) (rest := []) rfl rfl (Nat.le_of_ble_eq_true rfl) hd9 hk9 hC9 (xkI_n fun n6 h4 hvc => ?_) (fun q h hq => xTh_out0 rfl hq)
  refine xw_istore_n dJ18_compareToUTF16_9 (Nat.le_of_ble_eq_true rfl) (L9 := [some (xr o900), some (xr o901), some (xi n3), some (xi n6)]) rfl ?_
  refine xw_aload_n dJ18_compareToUTF16_10 rfl ?_
  refine xw_aload_n dJ18_compareToUTF16_11 rfl ?_
  refine xw_iload_n dJ18_compareToUTF16_12 rfl ?_
  refine xw_iload_n dJ18_compareToUTF16_13 rfl ?_
  obtain ⟨d9, k9, hd9, hk9, hC9⟩ := hvc
  refine xw_callS dJ18_compareToUTF16_14 px_J18_compareToUTF16Values pm_J18_compareToUTF16Values q2496 q2497 (As := [xr o900, xr o901, xi n3, xi n6]) (rest := []) rfl rfl (Nat.le_of_ble_eq_true rfl) hd9 hk9 hC9 (xkI_n fun n9 h7 hvc => ?_) (fun q h hq => xTh_out0 rfl hq)
  exact xw_iret dJ18_compareToUTF16_17 rfl hvc

theorem vc_J18_length {G : xG} {d K : Nat} {Q : xR → xH → Prop} {h : xH} {o900 : Option Nat}
    (hvc : ∃ a1, o900 = some a1 ∧ (∃ t2 ty, xty[t2]? = some ty ∧ xcls h a1 = 1000 + t2) ∧ Q (.inl (some (xi (nI (xlen h a1))))) h) : xCn G mJ18_length d K [xr o900] h Q := by
  refine xCn_of px_J18_length rfl rfl (Nat.le_of_ble_eq_true rfl) ?_
  show xWp G mJ18_length d K Q K 0 [some (xr o900)] [] h
  refine xw_aload_n dJ18_length_0 rfl ?_
  obtain ⟨a1, ho, hvc⟩ := hvc
  subst ho
  obtain ⟨⟨t2, ty9, hty9, hcK⟩, hvc⟩ := hvc
  refine xw_alen dJ18_length_1 hty9 hcK ?_
  exact xw_iret dJ18_length_2 rfl hvc

theorem vc_J18_compareToUTF16Values {G : xG} {d K : Nat} {Q : xR → xH → Prop} {h : xH} {o900 : Option Nat} {o901 : Option Nat} {x3 : Int32} {x4 : Int32}
    (hvc : 1 ≤ d ∧ ∀ n1 : Int32, n1 = (if x4 < x3 then x4 else x3) → xWp G mJ18_compareToUTF16Values d K Q K 10 [some (xr o900), some (xr o901), some (xi x3), some (xi x4), some (xi n1), some (xi (0 : Int32)), none, none] [] h) : xCn G mJ18_compareToUTF16Values d K [xr o900, xr o901, xi x3, xi x4] h Q := by
  refine xCn_of px_J18_compareToUTF16Values rfl rfl (Nat.le_of_ble_eq_true rfl) ?_
  show xWp G mJ18_compareToUTF16Values d K Q K 0 [some (xr o900), some (xr o901), some (xi x3), some (xi x4), none, none, none, none] [] h
  refine xw_iload_n dJ18_compareToUTF16Values_0 rfl ?_
  refine xw_iload_n dJ18_compareToUTF16Values_1 rfl ?_
  obtain ⟨hd9, hvc⟩ := hvc
  refine xw_mmin dJ18_compareToUTF16Values_2 q2380 q749 q132 q750 hd9 (Nat.le_of_ble_eq_true rfl) ?_
  obtain ⟨n1, he9⟩ : ∃ z, z = (if x4 < x3 then x4 else x3) := ⟨_, rfl⟩
  rw [← he9]
  replace hvc := hvc n1 he9
  refine xw_istore dJ18_compareToUTF16Values_5 (Nat.le_of_ble_eq_true rfl) (L9 := [some (xr o900), some (xr o901), some (xi x3), some (xi x4), some (xi n1), none, none, none]) rfl ?_
  refine xw_iconst (0 : Int32) dJ18_compareToUTF16Values_7 (by decide) ?_
  refine xw_istore dJ18_compareToUTF16Values_8 (Nat.le_of_ble_eq_true rfl) (L9 := [some (xr o900), some (xr o901), some (xi x3), some (xi x4), some (xi n1), some (xi (0 : Int32)), none, none]) rfl ?_
  exact hvc

theorem vc_J18_compareToUTF16Values_10 {G : xG} {d K k : Nat} {Q : xR → xH → Prop} {h : xH} {o900 : Option Nat} {o901 : Option Nat} {x2 : Int32} {x3 : Int32} {x4 : Int32} {x5 : Int32}
    (hvc : ((x4 ≤ x5 → Q (.inl (some (xi (x2 - x3)))) h) ∧ (¬ x4 ≤ x5 → xCall G d k mJ18_getChar [xr o900, xi x5] h (xkI (fun n4 h2 k3 => xCall G d k3 mJ14_getChar [xr o901, xi x5] h2 (xkI (fun n7 h5 k6 => ((n4 = n7 → xWp G mJ18_compareToUTF16Values d K Q k6 10 [some (xr o900), some (xr o901), some (xi x2), some (xi x3), some (xi x4), some (xi (x5 + (1 : Int32))), none, none] [] h5) ∧ (¬ n4 = n7 → Q (.inl (some (xi (n4 - n7)))) h5))) (fun q h _ => Q (.inr q) h))) (fun q h _ => Q (.inr q) h))))) : xWp G mJ18_compareToUTF16Values d K Q k 10 [some (xr o900), some (xr o901), some (xi x2), some (xi x3), some (xi x4), some (xi x5), none, none] [] h := by
  refine xw_iload dJ18_compareToUTF16Values_10 rfl ?_
  refine xw_iload dJ18_compareToUTF16Values_12 rfl ?_
  refine xw_icmp_ge 52 dJ18_compareToUTF16Values_14 rfl (fun hc => ?_) (fun hc => ?_)
  · replace hvc := hvc.1 hc
    refine xw_iload_n dJ18_compareToUTF16Values_52 rfl ?_
    refine xw_iload_n dJ18_compareToUTF16Values_53 rfl ?_
    refine xw_isub dJ18_compareToUTF16Values_54 ?_
    exact xw_iret dJ18_compareToUTF16Values_55 rfl hvc
  · replace hvc := hvc.2 hc
    refine xw_aload_n dJ18_compareToUTF16Values_17 rfl ?_
    refine xw_iload dJ18_compareToUTF16Values_18 rfl ?_
    obtain ⟨d9, k9, hd9, hk9, hC9⟩ := hvc
    refine xw_callS dJ18_compareToUTF16Values_20 px_J18_getChar pm_J18_getChar q2479 q2480 (As := [xr o900, xi x5]) (rest := []) rfl rfl (Nat.le_of_ble_eq_true rfl) hd9 hk9 hC9 (xkI_n fun n4 h2 hvc => ?_) (fun q h hq => xTh_out0 rfl hq)
    refine xw_istore dJ18_compareToUTF16Values_23 (Nat.le_of_ble_eq_true rfl) (L9 := [some (xr o900), some (xr o901), some (xi x2), some (xi x3), some (xi x4), some (xi x5), some (xi n4), none]) rfl ?_
    refine xw_aload_n dJ18_compareToUTF16Values_25 rfl ?_
    refine xw_iload dJ18_compareToUTF16Values_26 rfl ?_
    obtain ⟨d9, k9, hd9, hk9, hC9⟩ := hvc
    refine xw_callS dJ18_compareToUTF16Values_28 px_J14_getChar pm_J14_getChar q2499 q872 (As := [xr o901, xi x5]) (rest := []) rfl rfl (Nat.le_of_ble_eq_true rfl) hd9 hk9 hC9 (xkI_n fun n7 h5 hvc => ?_) (fun q h hq => xTh_out0 rfl hq)
    refine xw_istore dJ18_compareToUTF16Values_31 (Nat.le_of_ble_eq_true rfl) (L9 := [some (xr o900), some (xr o901), some (xi x2), some (xi x3), some (xi x4), some (xi x5), some (xi n4), some (xi n7)]) rfl ?_
    refine xw_iload dJ18_compareToUTF16Values_33 rfl ?_
    refine xw_iload dJ18_compareToUTF16Values_35 rfl ?_
    refine xw_icmp_eq 46 dJ18_compareToUTF16Values_37 rfl (fun hc => ?_) (fun hc => ?_)
    · replace hvc := hvc.1 hc
      refine xw_iinc (1 : Int32) dJ18_compareToUTF16Values_46 rfl (by decide) (Nat.le_of_ble_eq_true rfl) (L9 := [some (xr o900), some (xr o901), some (xi x2), some (xi x3), some (xi x4), some (xi (x5 + (1 : Int32))), some (xi n4), some (xi n7)]) rfl ?_
      refine xw_goto 10 dJ18_compareToUTF16Values_49 rfl ?_
      exact xWp_loc hvc (And.intro rfl (And.intro rfl (And.intro rfl (And.intro rfl (And.intro rfl (And.intro rfl trivial))))))
    · replace hvc := hvc.2 hc
      refine xw_iload dJ18_compareToUTF16Values_40 rfl ?_
      refine xw_iload dJ18_compareToUTF16Values_42 rfl ?_
      refine xw_isub dJ18_compareToUTF16Values_44 ?_
      exact xw_iret dJ18_compareToUTF16Values_45 rfl hvc

theorem vc_J18_compareToUTF16_2 {G : xG} {d K : Nat} {Q : xR → xH → Prop} {h : xH} {o900 : Option Nat} {o901 : Option Nat} {x3 : Int32} {x4 : Int32}
    (hvc : xCall G d K mJ18_length [xr o900] h (xkI (fun n3 h1 k2 => xCall G d k2 mJ13_checkOffset [xi x3, xi n3] h1 (xkV (fun h4 k5 => xCall G d k5 mJ14_length [xr o901] h4 (xkI (fun n8 h6 k7 => xCall G d k7 mJ13_checkOffset [xi x4, xi n8] h6 (xkV (fun h9 k10 => xCall G d k10 mJ18_compareToUTF16Values [xr o900, xr o901, xi x3, xi x4] h9 (xkI (fun n13 h11 k12 => Q (.inl (some (xi n13))) h11) (fun q h _ => Q (.inr q) h))) (fun q h _ => Q (.inr q) h))) (fun q h _ => Q (.inr q) h))) (fun q h _ => Q (.inr q) h))) (fun q h _ => Q (.inr q) h))) : xCn G mJ18_compareToUTF16_2 d K [xr o900, xr o901, xi x3, xi x4] h Q := by
  refine xCn_of px_J18_compareToUTF16_2 rfl rfl (Nat.le_of_ble_eq_true rfl) ?_
  show xWp G mJ18_compareToUTF16_2 d K Q K 0 [some (xr o900), some (xr o901), some (xi x3), some (xi x4)] [] h
  refine xw_iload_n dJ18_compareToUTF16_2_0 rfl ?_
  refine xw_aload_n dJ18_compareToUTF16_2_1 rfl ?_
  obtain ⟨d9, k9, hd9, hk9, hC9⟩ := hvc
  refine xw_callS dJ18_compareToUTF16_2_2 px_J18_length pm_J18_length q2492 q2493 (As := [xr o900]) (rest := [xi x3]) rfl rfl (Nat.le_of_ble_eq_true rfl) hd9 hk9 hC9 (xkI_n fun n3 h1 hvc => ?_) (fun q h hq => xTh_out0 rfl hq)
  obtain ⟨d9, k9, hd9, hk9, hC9⟩ := hvc
  refine xw_callS dJ18_compareToUTF16_2_5 px_J13_checkOffset pm_J13_checkOffset q2531 q2526 (As := [xi x3, xi n3]) (rest := []) rfl rfl (Nat.le_of_ble_eq_true rfl) hd9 hk9 hC9 (xkV_n fun h4 hvc => ?_) (fun q h hq => xTh_out0 rfl hq)
  refine xw_iload_n dJ18_compareToUTF16_2_8 rfl ?_
  refine xw_aload_n dJ18_compareToUTF16_2_9 rfl ?_
  obtain ⟨d9, k9, hd9, hk9, hC9⟩ := hvc
  refine xw_callS dJ18_compareToUTF16_2_10 px_J14_length pm_J14_length q2495 q766 (As := [xr o901]) (rest := [xi x4]) rfl rfl (Nat.le_of_ble_eq_true rfl) hd9 hk9 hC9 (xkI_n fun n8 h6 hvc => ?_) (fun q h hq => xTh_out0 rfl hq)
  obtain ⟨d9, k9, hd9, hk9, hC9⟩ := hvc
  refine xw_callS dJ18_compareToUTF16_2_13 px_J13_checkOffset pm_J13_checkOffset q2531 q2526 (As := [xi x4, xi n8]) (rest := []) rfl rfl (Nat.le_of_ble_eq_true rfl) hd9 hk9 hC9 (xkV_n fun h9 hvc => ?_) (fun q h hq => xTh_out0 rfl hq)
  refine xw_aload_n dJ18_compareToUTF16_2_16 rfl ?_
  refine xw_aload_n dJ18_compareToUTF16_2_17 rfl ?_
  refine xw_iload_n dJ18_compareToUTF16_2_18 rfl ?_
  refine xw_iload_n dJ18_compareToUTF16_2_19 rfl ?_
  obtain ⟨d9, k9, hd9, hk9, hC9⟩ := hvc
  refine xw_callS dJ18_compareToUTF16_2_20 px_J18_compareToUTF16Values pm_J18_compareToUTF16Values q2496 q2497 (As := [xr o900, xr o901, xi x3, xi x4]) (rest := []) rfl rfl (Nat.le_of_ble_eq_true rfl) hd9 hk9 hC9 (xkI_n fun n13 h11 hvc => ?_) (fun q h hq => xTh_out0 rfl hq)
  exact xw_iret dJ18_compareToUTF16_2_23 rfl hvc

theorem vc_J18_canEncode {G : xG} {d K : Nat} {Q : xR → xH → Prop} {h : xH} {x1 : Int32}
    (hvc : (((255 : Int32) < x1 → Q (.inl (some (xi (0 : Int32)))) h) ∧ (¬ (255 : Int32) < x1 → Q (.inl (some (xi (1 : Int32)))) h))) : xCn G mJ18_canEncode d K [xi x1] h Q := by
  refine xCn_of px_J18_canEncode rfl rfl (Nat.le_of_ble_eq_true rfl) ?_
  show xWp G mJ18_canEncode d K Q K 0 [some (xi x1)] [] h
  refine xw_iload_n dJ18_canEncode_0 rfl ?_
  refine xw_sipush (255 : Int32) dJ18_canEncode_1 (by decide) ?_
  refine xw_icmp_gt 11 dJ18_canEncode_4 rfl (fun hc => ?_) (fun hc => ?_)
  · replace hvc := hvc.1 hc
    refine xw_iconst (0 : Int32) dJ18_canEncode_11 (by decide) ?_
    exact xw_zret dJ18_canEncode_12 rfl rfl hvc
  · replace hvc := hvc.2 hc
    refine xw_iconst (1 : Int32) dJ18_canEncode_7 (by decide) ?_
    refine xw_goto 12 dJ18_canEncode_8 rfl ?_
    exact xw_zret dJ18_canEncode_12 rfl rfl hvc

theorem vc_J18_charAt {G : xG} {d K : Nat} {Q : xR → xH → Prop} {h : xH} {o900 : Option Nat} {x2 : Int32}
    (hvc : ∃ a1, o900 = some a1 ∧ (∃ t2 ty, xty[t2]? = some ty ∧ xcls h a1 = 1000 + t2) ∧ xCall G d K mJ13_checkIndex [xi x2, xi (nI (xlen h a1))] h (xkV (fun h3 k4 => xcls h3 a1 = 1000 ∧ ∃ i5 : Nat, x2 = nI i5 ∧ i5 < 2147483648 ∧ i5 < xlen h3 a1 ∧ ∃ n6 : Int32, xval h3 a1 i5 = xi n6 ∧ narrow .char (.int ((n6 &&& (255 : Int32)).toUInt32 % 65536).toInt32) = .int ((n6 &&& (255 : Int32)).toUInt32 % 65536).toInt32 ∧ Q (.inl (some (xi ((n6 &&& (255 : Int32)).toUInt32 % 65536).toInt32))) h3) (fun q h _ => Q (.inr q) h))) : xCn G mJ18_charAt d K [xr o900, xi x2] h Q := by
  refine xCn_of px_J18_charAt rfl rfl (Nat.le_of_ble_eq_true rfl) ?_
  show xWp G mJ18_charAt d K Q K 0 [some (xr o900), some (xi x2)] [] h
  refine xw_iload_n dJ18_charAt_0 rfl ?_
  refine xw_aload_n dJ18_charAt_1 rfl ?_
  obtain ⟨a1, ho, hvc⟩ := hvc
  subst ho
  obtain ⟨⟨t2, ty9, hty9, hcK⟩, hvc⟩ := hvc
  refine xw_alen dJ18_charAt_2 hty9 hcK ?_
  obtain ⟨d9, k9, hd9, hk9, hC9⟩ := hvc
  refine xw_callS dJ18_charAt_3 px_J13_checkIndex pm_J13_checkIndex q2703 q2677 (As := [xi x2, xi (nI (xlen h a1))]) (rest := []) rfl rfl (Nat.le_of_ble_eq_true rfl) hd9 hk9 hC9 (xkV_n fun h3 hvc => ?_) (fun q h hq => xTh_out0 rfl hq)
  refine xw_aload_n dJ18_charAt_6 rfl ?_
  refine xw_iload_n dJ18_charAt_7 rfl ?_
  obtain ⟨hcK, i5, hx9, hb9, hi9, n6, hv9, hvc⟩ := hvc
  refine xw_bald (j := 0) dJ18_charAt_8 rfl hcK hx9 hb9 hi9 hv9 ?_
  refine xw_sipush (255 : Int32) dJ18_charAt_9 (by decide) ?_
  refine xw_iand dJ18_charAt_12 ?_
  refine xw_i2c dJ18_charAt_13 ?_
  exact xw_zret dJ18_charAt_14 rfl hvc.1 hvc.2

theorem vc_J1_init {G : xG} {d K : Nat} {Q : xR → xH → Prop} {h : xH} {this : Nat}
    (hvc : xCall G d K mJ0_init [xr (some this)] h (xkV (fun h1 k2 => (xcls h1 this = 4 ∨ xcls h1 this = 17) ∧ ∀ h3 : xH, h3 = xput h1 this 0 (xi (0 : Int32)) → Q (.inl none) h3) (fun q h _ => Q (.inr q) h))) : xCn G mJ1_init d K [xr (some this)] h Q := by
  refine xCn_of px_J1_init rfl rfl (Nat.le_of_ble_eq_true rfl) ?_
  show xWp G mJ1_init d K Q K 0 [some (xr (some this))] [] h
  refine xw_aload_n dJ1_init_0 rfl ?_
  obtain ⟨d9, k9, hd9, hk9, hC9⟩ := hvc
  refine xw_callI dJ1_init_1 px_J0_init pm_J0_init q218 q219 rfl rfl (As := []) (rest := []) rfl rfl (Nat.le_of_ble_eq_true rfl) hd9 hk9 hC9 (xkV_n fun h1 hvc => ?_) (fun q h hq => xTh_out0 rfl hq)
  refine xw_aload_n dJ1_init_4 rfl ?_
  refine xw_iconst (0 : Int32) dJ1_init_5 (by decide) ?_
  obtain ⟨hcK, hvc⟩ := hvc
  refine xor_row hcK (fun hcz kk => xw_put dJ1_init_6 hcJ2 in_J2 tyJ2_ok xnmJ2 (kf := 0) (by decide) q228 (fun _ _ _ _ z => z) rfl rfl rfl hcz (Or.inl rfl) kk) (fun hcz kk => xw_put dJ1_init_6 hcJ20 in_J20 tyJ20_ok xnmJ20 (kf := 0) (by decide) q228 (fun _ _ _ _ z => z) rfl rfl rfl hcz (Or.inl rfl) kk) (fun h3 eh9 => ?_)
  replace hvc := hvc h3 eh9
  exact xw_vret dJ1_init_9 rfl hvc

theorem rowd_J1_listIterator_2 {G : xG} {d d' K k k' : Nat} {Q P : xR → xH → Prop} {L : List (Option xV)} {rest : List xV} {h : xH} {b : Nat} {MY : xM} (y0 : Int32) (hm : (xcls h b, MY) ∈ dsp_AbstractList_listIterator) (hcat : (rest.map xcat).sum ≤ 8) (hdd : d' < d) (hk : k' ≤ k) (hC : xCn G MY d' k' (xr (some b) :: [xi y0]) h P) (kn : ∀ (v : Option xV) (h' : xH), P (.inl v) h' → xWp G mJ1_listIterator d K Q (k - k') 5 L (v.toList ++ rest) h') (kt : ∀ (q : Nat) (h' : xH), P (.inr q) h' → xTh G mJ1_listIterator d K Q (k - k') 2 L h' q) : xWp G mJ1_listIterator d K Q k 2 L (xi y0 :: xr (some b) :: rest) h := by
  unfold dsp_AbstractList_listIterator at hm
  simp only [List.mem_cons, List.not_mem_nil, or_false, Prod.mk.injEq] at hm
  rcases hm with ⟨hcK, rfl⟩ | ⟨hcK, rfl⟩
  · exact xw_callU dJ1_listIterator_2 px_J2_listIterator pm_J2_listIterator q1393 q1395 q1451 (by decide) rfl q1396 q1397 hcJ2 hcK (As := [xi y0]) (rest := rest) rfl rfl hcat hdd hk hC kn kt
  · exact xw_callU dJ1_listIterator_2 px_J20_listIterator pm_J20_listIterator q1393 q1395 q1451 (by decide) rfl q1417 q1418 hcJ20 hcK (As := [xi y0]) (rest := rest) rfl rfl hcat hdd hk hC kn kt

theorem vc_J1_listIterator {G : xG} {d K : Nat} {Q : xR → xH → Prop} {h : xH} {this : Nat}
    (hvc : ∃ Y4 : xM, (xcls h this, Y4) ∈ dsp_AbstractList_listIterator ∧ xCall G d K Y4 [xr (some this), xi (0 : Int32)] h (xkR (fun o3 h1 k2 => Q (.inl (some (xr o3))) h1) (fun q h _ => Q (.inr q) h))) : xCn G mJ1_listIterator d K [xr (some this)] h Q := by
  refine xCn_of px_J1_listIterator rfl rfl (Nat.le_of_ble_eq_true rfl) ?_
  show xWp G mJ1_listIterator d K Q K 0 [some (xr (some this))] [] h
  refine xw_aload_n dJ1_listIterator_0 rfl ?_
  refine xw_iconst (0 : Int32) dJ1_listIterator_1 (by decide) ?_
  obtain ⟨Y4, hm9, d9, k9, hd9, hk9, hC9⟩ := hvc
  refine rowd_J1_listIterator_2 _ hm9 (rest := []) (Nat.le_of_ble_eq_true rfl) hd9 hk9 hC9 (xkR_n fun o3 h1 hvc => ?_) (fun q h hq => xTh_out0 rfl hq)
  exact xw_aret dJ1_listIterator_5 rfl rfl hvc

theorem vc_J11_init {G : xG} {d K : Nat} {Q : xR → xH → Prop} {h : xH} {this : Nat} {x1 : Int32}
    (hvc : 1 ≤ d ∧ ∃ n1 : Int32, G.2.1 3 = xi n1 ∧ ((n1 = 0 → xCall G d K mJ14_newBytesFor [xi x1] h (xkR (fun o4 h2 k3 => xcls h2 this = 11 ∧ ∀ h5 : xH, h5 = xput h2 this 0 (xr o4) → xcls h5 this = 11 ∧ ∀ h6 : xH, h6 = xput h5 this 1 (xi (1 : Int32)) → Q (.inl none) h6) (fun q h _ => Q (.inr q) h))) ∧ (¬ n1 = 0 → ∃ m9 : Nat, x1 = nI m9 ∧ m9 ≤ 65536 ∧ 1 + m9 ≤ K ∧ ∀ (h7 : xH) (a8 : Nat), a8 = xsz h → h7 = xnew h 1000 m9 (fun _ => xdf FieldType.byte) → xcls h7 this = 11 ∧ ∀ h10 : xH, h10 = xput h7 this 0 (xr (some a8)) → xcls h10 this = 11 ∧ ∀ h11 : xH, h11 = xput h10 this 1 (xi (0 : Int32)) → Q (.inl none) h11))) : xCn G mJ11_init d K [xr (some this), xi x1] h Q := by
  refine xCn_of px_J11_init rfl rfl (Nat.le_of_ble_eq_true rfl) ?_
  show xWp G mJ11_init d K Q K 0 [some (xr (some this)), some (xi x1)] [] h
  refine xw_aload_n dJ11_init_0 rfl ?_
  obtain ⟨hd9, hvc⟩ := hvc
  refine xw_objInit dJ11_init_1 q685 q196 q197 hd9 (Nat.le_of_ble_eq_true rfl) ?_
  obtain ⟨n1, he, hvc⟩ := hvc
  refine xw_gets (i := 3) dJ11_init_4 rfl q686 ?_
  rw [he]
  refine xw_if_eq 25 dJ11_init_7 rfl (fun hc => ?_) (fun hc => ?_)
  · replace hvc := hvc.1 hc
    refine xw_aload_n dJ11_init_25 rfl ?_
    refine xw_iload_n dJ11_init_26 rfl ?_
    obtain ⟨d9, k9, hd9, hk9, hC9⟩ := hvc
    refine xw_callS dJ11_init_27 px_J14_newBytesFor pm_J14_newBytesFor q688 q689 (As := [xi x1]) (rest := [xr (some this)]) rfl rfl (Nat.le_of_ble_eq_true rfl) hd9 hk9 hC9 (xkR_n fun o4 h2 hvc => ?_) (fun q h hq => xTh_out0 rfl hq)
    obtain ⟨hcK, hvc⟩ := hvc
    refine xw_put dJ11_init_30 hcJ12 in_J12 tyJ12_ok xnmJ12 (kf := 0) (by decide) q695 (fun _ _ _ _ z => z) rfl (xnar_r _ rfl _).1 (xnar_r _ rfl _).2 hcK (Or.inl rfl) (fun h5 eh9 => ?_)
    replace hvc := hvc h5 eh9
    refine xw_aload_n dJ11_init_33 rfl ?_
    refine xw_iconst (1 : Int32) dJ11_init_34 (by decide) ?_
    obtain ⟨hcK, hvc⟩ := hvc
    refine xw_put dJ11_init_35 hcJ12 in_J12 tyJ12_ok xnmJ12 (kf := 1) (by decide) q696 (fun _ _ _ _ z => z) rfl (by decide) (by decide) hcK (Or.inl rfl) (fun h6 eh9 => ?_)
    replace hvc := hvc h6 eh9
    exact xw_vret dJ11_init_38 rfl hvc
  · replace hvc := hvc.2 hc
    refine xw_aload_n dJ11_init_10 rfl ?_
    refine xw_iload_n dJ11_init_11 rfl ?_
    obtain ⟨m9, hx9, hn9, hle, hvc⟩ := hvc
    refine xw_newa (j := 0) (atype := .byte) dJ11_init_12 rfl q350 hx9 hn9 hle (fun h7 a8 ea9 eh9 => ?_)
    replace hvc := hvc h7 a8 ea9 eh9
    obtain ⟨hcK, hvc⟩ := hvc
    refine xw_put dJ11_init_14 hcJ12 in_J12 tyJ12_ok xnmJ12 (kf := 0) (by decide) q695 (fun _ _ _ _ z => z) rfl (xnar_r _ rfl _).1 (xnar_r _ rfl _).2 hcK (Or.inl rfl) (fun h10 eh9 => ?_)
    replace hvc := hvc h10 eh9
    refine xw_aload_n dJ11_init_17 rfl ?_
    refine xw_iconst (0 : Int32) dJ11_init_18 (by decide) ?_
    obtain ⟨hcK, hvc⟩ := hvc
    refine xw_put dJ11_init_19 hcJ12 in_J12 tyJ12_ok xnmJ12 (kf := 1) (by decide) q696 (fun _ _ _ _ z => z) rfl (by decide) (by decide) hcK (Or.inl rfl) (fun h11 eh9 => ?_)
    replace hvc := hvc h11 eh9
    refine xw_goto 38 dJ11_init_22 rfl ?_
    exact xw_vret dJ11_init_38 rfl hvc

theorem vc_J11_append {G : xG} {d K : Nat} {Q : xR → xH → Prop} {h : xH} {this : Nat} {o900 : Option Nat}
    (hvc : ((∀ a1, o900 = some a1 → xcls h a1 = 12 ∧ xCall G d K mJ13_length [xr (some a1)] h (xkI (fun n4 h2 k3 => xcls h2 this = 11 ∧ ∃ n5 : Int32, xval h2 this 3 = xi n5 ∧ xcls h2 this = 11 ∧ xCall G d k3 mJ11_ensureCapacityInternal [xr (some this), xi (n5 + n4)] h2 (xkV (fun h6 k7 => xcls h6 this = 11 ∧ ∃ n8 : Int32, xval h6 this 3 = xi n8 ∧ xcls h6 this = 11 ∧ xCall G d k7 mJ11_putStringAt [xr (some this), xi n8, xr (some a1)] h6 (xkV (fun h9 k10 => xcls h9 this = 11 ∧ ∃ n11 : Int32, xval h9 this 3 = xi n11 ∧ xcls h9 this = 11 ∧ ∀ h12 : xH, h12 = xput h9 this 3 (xi (n11 + n4)) → Q (.inl (some (xr (some this)))) h12) (fun q h _ => Q (.inr q) h))) (fun q h _ => Q (.inr q) h))) (fun q h _ => Q (.inr q) h))) ∧ (o900 = none → xcls h this = 11 ∧ xCall G d K mJ11_appendNull [xr (some this)] h (xkR (fun o15 h13 k14 => Q (.inl (some (xr o15))) h13) (fun q h _ => Q (.inr q) h))))) : xCn G mJ11_append d K [xr (some this), xr o900] h Q := by
  refine xCn_of px_J11_append rfl rfl (Nat.le_of_ble_eq_true rfl) ?_
  show xWp G mJ11_append d K Q K 0 [some (xr (some this)), some (xr o900), none] [] h
  refine xw_aload_n dJ11_append_0 rfl ?_
  refine xw_ifnonnull 9 dJ11_append_1 rfl (fun a1 hc => ?_) (fun hc => ?_)
  · replace hvc := hvc.1 _ hc
    subst hc
    refine xw_aload_n dJ11_append_9 rfl ?_
    obtain ⟨hcK, hvc⟩ := hvc
    obtain ⟨d9, k9, hd9, hk9, hC9⟩ := hvc
    refine xw_callV dJ11_append_10 px_J13_length pm_J13_length q785 q786 q787 hcJ13 hcK (As := []) (rest := []) rfl rfl (Nat.le_of_ble_eq_true rfl) hd9 hk9 hC9 (xkI_n fun n4 h2 hvc => ?_) (fun q h hq => xTh_out0 rfl hq)
    refine xw_istore_n dJ11_append_13 (Nat.le_of_ble_eq_true rfl) (L9 := [some (xr (some this)), some (xr (some a1)), some (xi n4)]) rfl ?_
    refine xw_aload_n dJ11_append_14 rfl ?_
    refine xw_aload_n dJ11_append_15 rfl ?_
    obtain ⟨hcK, n5, hvK, hvc⟩ := hvc
    refine xw_get dJ11_append_16 hcJ12 in_J12 (kf := 3) (by decide) q698 (fun _ _ _ _ z => z) hcK hvK ?_
    refine xw_iload_n dJ11_append_19 rfl ?_
    refine xw_iadd dJ11_append_20 ?_
    obtain ⟨hcK, hvc⟩ := hvc
    obtain ⟨d9, k9, hd9, hk9, hC9⟩ := hvc
    refine xw_callVP dJ11_append_21 px_J11_ensureCapacityInternal pm_J11_ensureCapacityInternal q719 q721 (y' := yJ11_isLatin1) q757 rfl q720 hcJ12 hcK (As := [xi (n5 + n4)]) (rest := []) rfl rfl (Nat.le_of_ble_eq_true rfl) hd9 hk9 hC9 (xkV_n fun h6 hvc => ?_) (fun q h hq => xTh_out0 rfl hq)
    refine xw_aload_n dJ11_append_24 rfl ?_
    refine xw_aload_n dJ11_append_25 rfl ?_
    obtain ⟨hcK, n8, hvK, hvc⟩ := hvc
    refine xw_get dJ11_append_26 hcJ12 in_J12 (kf := 3) (by decide) q698 (fun _ _ _ _ z => z) hcK hvK ?_
    refine xw_aload_n dJ11_append_29 rfl ?_
    obtain ⟨hcK, hvc⟩ := hvc
    obtain ⟨d9, k9, hd9, hk9, hC9⟩ := hvc
    refine xw_callVP dJ11_append_30 px_J11_putStringAt pm_J11_putStringAt q794 q796 (y' := yJ11_isLatin1) q757 rfl q795 hcJ12 hcK (As := [xi n8, xr (some a1)]) (rest := []) rfl rfl (Nat.le_of_ble_eq_true rfl) hd9 hk9 hC9 (xkV_n fun h9 hvc => ?_) (fun q h hq => xTh_out0 rfl hq)
    refine xw_aload_n dJ11_append_33 rfl ?_
    refine xw_dup dJ11_append_34 rfl ?_
    obtain ⟨hcK, n11, hvK, hvc⟩ := hvc
    refine xw_get dJ11_append_35 hcJ12 in_J12 (kf := 3) (by decide) q698 (fun _ _ _ _ z => z) hcK hvK ?_
    refine xw_iload_n dJ11_append_38 rfl ?_
    refine xw_iadd dJ11_append_39 ?_
    obtain ⟨hcK, hvc⟩ := hvc
    refine xw_put dJ11_append_40 hcJ12 in_J12 tyJ12_ok xnmJ12 (kf := 3) (by decide) q698 (fun _ _ _ _ z => z) rfl rfl rfl hcK (Or.inl rfl) (fun h12 eh9 => ?_)
    replace hvc := hvc h12 eh9
    refine xw_aload_n dJ11_append_43 rfl ?_
    exact xw_aret dJ11_append_44 rfl rfl hvc
  · replace hvc := hvc.2 hc
    subst hc
    refine xw_aload_n dJ11_append_4 rfl ?_
    obtain ⟨hcK, hvc⟩ := hvc
    obtain ⟨d9, k9, hd9, hk9, hC9⟩ := hvc
    refine xw_callVP dJ11_append_5 px_J11_appendNull pm_J11_appendNull q715 q717 (y' := yJ11_isLatin1) q757 rfl q716 hcJ12 hcK (As := []) (rest := []) rfl rfl (Nat.le_of_ble_eq_true rfl) hd9 hk9 hC9 (xkR_n fun o15 h13 hvc => ?_) (fun q h hq => xTh_out0 rfl hq)
    exact xw_aret dJ11_append_8 rfl rfl hvc

theorem vc_J11_appendNull {G : xG} {d K : Nat} {Q : xR → xH → Prop} {h : xH} {this : Nat}
    (hvc : xcls h this = 11 ∧ ∃ n1 : Int32, xval h this 3 = xi n1 ∧ xcls h this = 11 ∧ xCall G d K mJ11_ensureCapacityInternal [xr (some this), xi (n1 + (4 : Int32))] h (xkV (fun h2 k3 => xcls h2 this = 11 ∧ ∃ n4 : Int32, xval h2 this 3 = xi n4 ∧ xcls h2 this = 11 ∧ ∃ o5 : Option Nat, xval h2 this 0 = xr o5 ∧ xcls h2 this = 11 ∧ xCall G d k3 mJ11_isLatin1 [xr (some this)] h2 (xkI (fun n8 h6 k7 => ((n8 = 0 → xCall G d k7 mJ14_putCharsAt [xr o5, xi n4, xi (110 : Int32), xi (117 : Int32), xi (108 : Int32), xi (108 : Int32)] h6 (xkI (fun n11 h9 k10 => xcls h9 this = 11 ∧ ∀ h12 : xH, h12 = xput h9 this 3 (xi n11) → Q (.inl (some (xr (some this)))) h12) (fun q h _ => Q (.inr q) h))) ∧ (¬ n8 = 0 → ∃ a13, o5 = some a13 ∧ xcls h6 a13 = 1000 ∧ xlo h6 ≤ a13 ∧ ∃ i14 : Nat, n4 = nI i14 ∧ i14 < 2147483648 ∧ i14 < xlen h6 a13 ∧ ∀ n16 : Int32, narrow .byte (.int (110 : Int32)) = .int n16 → ∀ h15 : xH, h15 = xput h6 a13 i14 (xi n16) → xcls h15 a13 = 1000 ∧ xlo h15 ≤ a13 ∧ ∃ i17 : Nat, (n4 + (1 : Int32)) = nI i17 ∧ i17 < 2147483648 ∧ i17 < xlen h15 a13 ∧ ∀ n19 : Int32, narrow .byte (.int (117 : Int32)) = .int n19 → ∀ h18 : xH, h18 = xput h15 a13 i17 (xi n19) → xcls h18 a13 = 1000 ∧ xlo h18 ≤ a13 ∧ ∃ i20 : Nat, ((n4 + (1 : Int32)) + (1 : Int32)) = nI i20 ∧ i20 < 2147483648 ∧ i20 < xlen h18 a13 ∧ ∀ n22 : Int32, narrow .byte (.int (108 : Int32)) = .int n22 → ∀ h21 : xH, h21 = xput h18 a13 i20 (xi n22) → xcls h21 a13 = 1000 ∧ xlo h21 ≤ a13 ∧ ∃ i23 : Nat, (((n4 + (1 : Int32)) + (1 : Int32)) + (1 : Int32)) = nI i23 ∧ i23 < 2147483648 ∧ i23 < xlen h21 a13 ∧ ∀ n25 : Int32, narrow .byte (.int (108 : Int32)) = .int n25 → ∀ h24 : xH, h24 = xput h21 a13 i23 (xi n25) → xcls h24 this = 11 ∧ ∀ h26 : xH, h26 = xput h24 this 3 (xi ((((n4 + (1 : Int32)) + (1 : Int32)) + (1 : Int32)) + (1 : Int32))) → Q (.inl (some (xr (some this)))) h26))) (fun q h _ => Q (.inr q) h))) (fun q h _ => Q (.inr q) h))) : xCn G mJ11_appendNull d K [xr (some this)] h Q := by
  refine xCn_of px_J11_appendNull rfl rfl (Nat.le_of_ble_eq_true rfl) ?_
  show xWp G mJ11_appendNull d K Q K 0 [some (xr (some this)), none, none] [] h
  refine xw_aload_n dJ11_appendNull_0 rfl ?_
  refine xw_aload_n dJ11_appendNull_1 rfl ?_
  obtain ⟨hcK, n1, hvK, hvc⟩ := hvc
  refine xw_get dJ11_appendNull_2 hcJ12 in_J12 (kf := 3) (by decide) q698 (fun _ _ _ _ z => z) hcK hvK ?_
  refine xw_iconst (4 : Int32) dJ11_appendNull_5 (by decide) ?_
  refine xw_iadd dJ11_appendNull_6 ?_
  obtain ⟨hcK, hvc⟩ := hvc
  obtain ⟨d9, k9, hd9, hk9, hC9⟩ := hvc
  refine xw_callVP dJ11_appendNull_7 px_J11_ensureCapacityInternal pm_J11_ensureCapacityInternal q719 q721 (y' := yJ11_isLatin1) q757 rfl q720 hcJ12 hcK (As := [xi (n1 + (4 : Int32))]) (rest := []) rfl rfl (Nat.le_of_ble_eq_true rfl) hd9 hk9 hC9 (xkV_n fun h2 hvc => ?_) (fun q h hq => xTh_out0 rfl hq)
  refine xw_aload_n dJ11_appendNull_10 rfl ?_
  obtain ⟨hcK, n4, hvK, hvc⟩ := hvc
  refine xw_get dJ11_appendNull_11 hcJ12 in_J12 (kf := 3) (by decide) q698 (fun _ _ _ _ z => z) hcK hvK ?_
  refine xw_istore_n dJ11_appendNull_14 (Nat.le_of_ble_eq_true rfl) (L9 := [some (xr (some this)), some (xi n4), none]) rfl ?_
  refine xw_aload_n dJ11_appendNull_15 rfl ?_
  obtain ⟨hcK, o5, hvK, hvc⟩ := hvc
  refine xw_get dJ11_appendNull_16 hcJ12 in_J12 (kf := 0) (by decide) q695 (fun _ _ _ _ z => z) hcK hvK ?_
  refine xw_astore_n dJ11_appendNull_19 (Nat.le_of_ble_eq_true rfl) (L9 := [some (xr (some this)), some (xi n4), some (xr o5)]) rfl ?_
  refine xw_aload_n dJ11_appendNull_20 rfl ?_
  obtain ⟨hcK, hvc⟩ := hvc
  obtain ⟨d9, k9, hd9, hk9, hC9⟩ := hvc
  refine xw_callV dJ11_appendNull_21 px_J11_isLatin1 pm_J11_isLatin1 q754 q755 q757 hcJ12 hcK (As := []) (rest := []) rfl rfl (Nat.le_of_ble_eq_true rfl) hd9 hk9 hC9 (xkI_n fun n8 h6 hvc => ?_) (fun q h hq => xTh_out0 rfl hq)
  refine xw_if_eq 62 dJ11_appendNull_24 rfl (fun hc => ?_) (fun hc => ?_)
  · replace hvc := hvc.1 hc
    refine xw_aload_n dJ11_appendNull_62 rfl ?_
    refine xw_iload_n dJ11_appendNull_63 rfl ?_
    refine xw_bipush (110 : Int32) dJ11_appendNull_64 (by decide) ?_
    refine xw_bipush (117 : Int32) dJ11_appendNull_66 (by decide) ?_
    refine xw_bipush (108 : Int32) dJ11_appendNull_68 (by decide) ?_
    refine xw_bipush (108 : Int32) dJ11_appendNull_70 (by decide) ?_
    obtain ⟨d9, k9, hd9, hk9, hC9⟩ := hvc
    refine xw_callS dJ11_appendNull_72 px_J14_putCharsAt pm_J14_putCharsAt q759 q760 (As := [xr o5, xi n4, xi (110 : Int32), xi (117 : Int32), xi (108 : Int32), xi (108 : Int32)]) (rest := []) rfl rfl (Nat.le_of_ble_eq_true rfl) hd9 hk9 hC9 (xkI_n fun n11 h9 hvc => ?_) (fun q h hq => xTh_out0 rfl hq)
    refine xw_istore_n dJ11_appendNull_75 (Nat.le_of_ble_eq_true rfl) (L9 := [some (xr (some this)), some (xi n11), some (xr o5)]) rfl ?_
    refine xw_aload_n dJ11_appendNull_76 rfl ?_
    refine xw_iload_n dJ11_appendNull_77 rfl ?_
    obtain ⟨hcK, hvc⟩ := hvc
    refine xw_put dJ11_appendNull_78 hcJ12 in_J12 tyJ12_ok xnmJ12 (kf := 3) (by decide) q698 (fun _ _ _ _ z => z) rfl rfl rfl hcK (Or.inl rfl) (fun h12 eh9 => ?_)
    replace hvc := hvc h12 eh9
    refine xw_aload_n dJ11_appendNull_81 rfl ?_
    exact xw_aret dJ11_appendNull_82 rfl rfl hvc
  · replace hvc := hvc.2 hc
    refine xw_aload_n dJ11_appendNull_27 rfl ?_
    refine xw_iload_n dJ11_appendNull_28 rfl ?_
    refine xw_iinc (1 : Int32) dJ11_appendNull_29 rfl (by decide) (Nat.le_of_ble_eq_true rfl) (L9 := [some (xr (some this)), some (xi (n4 + (1 : Int32))), some (xr o5)]) rfl ?_
    refine xw_bipush (110 : Int32) dJ11_appendNull_32 (by decide) ?_
    obtain ⟨a13, ho, hvc⟩ := hvc
    subst ho
    obtain ⟨hcK, hlo9, i14, hx9, hb9, hi9, hvc⟩ := hvc
    replace hvc := hvc _ rfl
    refine xw_bast (j := 0) dJ11_appendNull_34 rfl hcK (Or.inr hlo9) hx9 hb9 hi9 rfl (fun h15 eh9 => ?_)
    replace hvc := hvc h15 eh9
    refine xw_aload_n dJ11_appendNull_35 rfl ?_
    refine xw_iload_n dJ11_appendNull_36 rfl ?_
    refine xw_iinc (1 : Int32) dJ11_appendNull_37 rfl (by decide) (Nat.le_of_ble_eq_true rfl) (L9 := [some (xr (some this)), some (xi ((n4 + (1 : Int32)) + (1 : Int32))), some (xr (some a13))]) rfl ?_
    refine xw_bipush (117 : Int32) dJ11_appendNull_40 (by decide) ?_
    obtain ⟨hcK, hlo9, i17, hx9, hb9, hi9, hvc⟩ := hvc
    replace hvc := hvc _ rfl
    refine xw_bast (j := 0) dJ11_appendNull_42 rfl hcK (Or.inr hlo9) hx9 hb9 hi9 rfl (fun h18 eh9 => ?_)
    replace hvc := hvc h18 eh9
    refine xw_aload_n dJ11_appendNull_43 rfl ?_
    refine xw_iload_n dJ11_appendNull_44 rfl ?_
    refine xw_iinc (1 : Int32) dJ11_appendNull_45 rfl (by decide) (Nat.le_of_ble_eq_true rfl) (L9 := [some (xr (some this)), some (xi (((n4 + (1 : Int32)) + (1 : Int32)) + (1 : Int32))), some (xr (some a13))]) rfl ?_
    refine xw_bipush (108 : Int32) dJ11_appendNull_48 (by decide) ?_
    obtain ⟨hcK, hlo9, i20, hx9, hb9, hi9, hvc⟩ := hvc
    replace hvc := hvc _ rfl
    refine xw_bast (j := 0) dJ11_appendNull_50 rfl hcK (Or.inr hlo9) hx9 hb9 hi9 rfl (fun h21 eh9 => ?_)
    replace hvc := hvc h21 eh9
    refine xw_aload_n dJ11_appendNull_51 rfl ?_
    refine xw_iload_n dJ11_appendNull_52 rfl ?_
    refine xw_iinc (1 : Int32) dJ11_appendNull_53 rfl (by decide) (Nat.le_of_ble_eq_true rfl) (L9 := [some (xr (some this)), some (xi ((((n4 + (1 : Int32)) + (1 : Int32)) + (1 : Int32)) + (1 : Int32))), some (xr (some a13))]) rfl ?_
    refine xw_bipush (108 : Int32) dJ11_appendNull_56 (by decide) ?_
    obtain ⟨hcK, hlo9, i23, hx9, hb9, hi9, hvc⟩ := hvc
    replace hvc := hvc _ rfl
    refine xw_bast (j := 0) dJ11_appendNull_58 rfl hcK (Or.inr hlo9) hx9 hb9 hi9 rfl (fun h24 eh9 => ?_)
    replace hvc := hvc h24 eh9
    refine xw_goto 76 dJ11_appendNull_59 rfl ?_
    refine xw_aload_n dJ11_appendNull_76 rfl ?_
    refine xw_iload_n dJ11_appendNull_77 rfl ?_
    obtain ⟨hcK, hvc⟩ := hvc
    refine xw_put dJ11_appendNull_78 hcJ12 in_J12 tyJ12_ok xnmJ12 (kf := 3) (by decide) q698 (fun _ _ _ _ z => z) rfl rfl rfl hcK (Or.inl rfl) (fun h26 eh9 => ?_)
    replace hvc := hvc h26 eh9
    refine xw_aload_n dJ11_appendNull_81 rfl ?_
    exact xw_aret dJ11_appendNull_82 rfl rfl hvc

theorem vc_J11_ensureCapacityInternal {G : xG} {d K : Nat} {Q : xR → xH → Prop} {h : xH} {this : Nat} {x1 : Int32}
    (hvc : xcls h this = 11 ∧ ∃ o1 : Option Nat, xval h this 0 = xr o1 ∧ ∃ a2, o1 = some a2 ∧ (∃ t3 ty, xty[t3]? = some ty ∧ xcls h a2 = 1000 + t3) ∧ xcls h this = 11 ∧ ∃ n4 : Int32, xval h this 1 = xi n4 ∧ (((x1 - ((nI (xlen h a2)) >>> (n4 &&& 31))) ≤ 0 → Q (.inl none) h) ∧ (¬ (x1 - ((nI (xlen h a2)) >>> (n4 &&& 31))) ≤ 0 → xcls h this = 11 ∧ ∃ o5 : Option Nat, xval h this 0 = xr o5 ∧ xcls h this = 11 ∧ xCall G d K mJ11_newCapacity [xr (some this), xi x1] h (xkI (fun n8 h6 k7 => xcls h6 this = 11 ∧ ∃ n9 : Int32, xval h6 this 1 = xi n9 ∧ xCall G d k7 mJ17_copyOf [xr o5, xi (n8 <<< (n9 &&& 31))] h6 (xkR (fun o12 h10 k11 => xcls h10 this = 11 ∧ ∀ h13 : xH, h13 = xput h10 this 0 (xr o12) → Q (.inl none) h13) (fun q h _ => Q (.inr q) h))) (fun q h _ => Q (.inr q) h))))) : xCn G mJ11_ensureCapacityInternal d K [xr (some this), xi x1] h Q := by
  refine xCn_of px_J11_ensureCapacityInternal rfl rfl (Nat.le_of_ble_eq_true rfl) ?_
  show xWp G mJ11_ensureCapacityInternal d K Q K 0 [some (xr (some this)), some (xi x1), none] [] h
  refine xw_aload_n dJ11_ensureCapacityInternal_0 rfl ?_
  obtain ⟨hcK, o1, hvK, hvc⟩ := hvc
  refine xw_get dJ11_ensureCapacityInternal_1 hcJ12 in_J12 (kf := 0) (by decide) q695 (fun _ _ _ _ z => z) hcK hvK ?_
  obtain ⟨a2, ho, hvc⟩ := hvc
  subst ho
  obtain ⟨⟨t3, ty9, hty9, hcK⟩, hvc⟩ := hvc
  refine xw_alen dJ11_ensureCapacityInternal_4 hty9 hcK ?_
  refine xw_aload_n dJ11_ensureCapacityInternal_5 rfl ?_
  obtain ⟨hcK, n4, hvK, hvc⟩ := hvc
  refine xw_get dJ11_ensureCapacityInternal_6 hcJ12 in_J12 (kf := 1) (by decide) q696 (fun _ _ _ _ z => z) hcK hvK ?_
  refine xw_ishr dJ11_ensureCapacityInternal_9 ?_
  refine xw_istore_n dJ11_ensureCapacityInternal_10 (Nat.le_of_ble_eq_true rfl) (L9 := [some (xr (some this)), some (xi x1), some (xi ((nI (xlen h a2)) >>> (n4 &&& 31)))]) rfl ?_
  refine xw_iload_n dJ11_ensureCapacityInternal_11 rfl ?_
  refine xw_iload_n dJ11_ensureCapacityInternal_12 rfl ?_
  refine xw_isub dJ11_ensureCapacityInternal_13 ?_
  refine xw_if_le 38 dJ11_ensureCapacityInternal_14 rfl (fun hc => ?_) (fun hc => ?_)
  · replace hvc := hvc.1 hc
    exact xw_vret dJ11_ensureCapacityInternal_38 rfl hvc
  · replace hvc := hvc.2 hc
    refine xw_aload_n dJ11_ensureCapacityInternal_17 rfl ?_
    refine xw_aload_n dJ11_ensureCapacityInternal_18 rfl ?_
    obtain ⟨hcK, o5, hvK, hvc⟩ := hvc
    refine xw_get dJ11_ensureCapacityInternal_19 hcJ12 in_J12 (kf := 0) (by decide) q695 (fun _ _ _ _ z => z) hcK hvK ?_
    refine xw_aload_n dJ11_ensureCapacityInternal_22 rfl ?_
    refine xw_iload_n dJ11_ensureCapacityInternal_23 rfl ?_
    obtain ⟨hcK, hvc⟩ := hvc
    obtain ⟨d9, k9, hd9, hk9, hC9⟩ := hvc
    refine xw_callVP dJ11_ensureCapacityInternal_24 px_J11_newCapacity pm_J11_newCapacity q723 q725 (y' := yJ11_isLatin1) q757 rfl q724 hcJ12 hcK (As := [xi x1]) (rest := [xr o5, xr (some this)]) rfl rfl (Nat.le_of_ble_eq_true rfl) hd9 hk9 hC9 (xkI_n fun n8 h6 hvc => ?_) (fun q h hq => xTh_out0 rfl hq)
    refine xw_aload_n dJ11_ensureCapacityInternal_27 rfl ?_
    obtain ⟨hcK, n9, hvK, hvc⟩ := hvc
    refine xw_get dJ11_ensureCapacityInternal_28 hcJ12 in_J12 (kf := 1) (by decide) q696 (fun _ _ _ _ z => z) hcK hvK ?_
    refine xw_ishl dJ11_ensureCapacityInternal_31 ?_
    obtain ⟨d9, k9, hd9, hk9, hC9⟩ := hvc
    refine xw_callS dJ11_ensureCapacityInternal_32 px_J17_copyOf pm_J17_copyOf q738 q739 (As := [xr o5, xi (n8 <<< (n9 &&& 31))]) (rest := [xr (some this)]) rfl rfl (Nat.le_of_ble_eq_true rfl) hd9 hk9 hC9 (xkR_n fun o12 h10 hvc => ?_) (fun q h hq => xTh_out0 rfl hq)
    obtain ⟨hcK, hvc⟩ := hvc
    refine xw_put dJ11_ensureCapacityInternal_35 hcJ12 in_J12 tyJ12_ok xnmJ12 (kf := 0) (by decide) q695 (fun _ _ _ _ z => z) rfl (xnar_r _ rfl _).1 (xnar_r _ rfl _).2 hcK (Or.inl rfl) (fun h13 eh9 => ?_)
    replace hvc := hvc h13 eh9
    exact xw_vret dJ11_ensureCapacityInternal_38 rfl hvc

theorem vc_J11_newCapacity {G : xG} {d K : Nat} {Q : xR → xH → Prop} {h : xH} {this : Nat} {x1 : Int32}
    (hvc : xcls h this = 11 ∧ ∃ o1 : Option Nat, xval h this 0 = xr o1 ∧ ∃ a2, o1 = some a2 ∧ (∃ t3 ty, xty[t3]? = some ty ∧ xcls h a2 = 1000 + t3) ∧ xcls h this = 11 ∧ ∃ n4 : Int32, xval h this 1 = xi n4 ∧ xcls h this = 11 ∧ ∃ n5 : Int32, xval h this 1 = xi n5 ∧ xCall G d K mJ15_newLength [xi (nI (xlen h a2)), xi ((x1 <<< (n4 &&& 31)) - (nI (xlen h a2))), xi ((nI (xlen h a2)) + ((2 : Int32) <<< (n5 &&& 31)))] h (xkI (fun n8 h6 k7 => ((¬ n8 = (2147483647 : Int32) → xcls h6 this = 11 ∧ ∃ n9 : Int32, xval h6 this 1 = xi n9 ∧ Q (.inl (some (xi (n8 >>> (n9 &&& 31))))) h6) ∧ (n8 = (2147483647 : Int32) → False))) (fun q h _ => Q (.inr q) h))) : xCn G mJ11_newCapacity d K [xr (some this), xi x1] h Q := by
  refine xCn_of px_J11_newCapacity rfl rfl (Nat.le_of_ble_eq_true rfl) ?_
  show xWp G mJ11_newCapacity d K Q K 0 [some (xr (some this)), some (xi x1), none, none, none, none] [] h
  refine xw_aload_n dJ11_newCapacity_0 rfl ?_
  obtain ⟨hcK, o1, hvK, hvc⟩ := hvc
  refine xw_get dJ11_newCapacity_1 hcJ12 in_J12 (kf := 0) (by decide) q695 (fun _ _ _ _ z => z) hcK hvK ?_
  obtain ⟨a2, ho, hvc⟩ := hvc
  subst ho
  obtain ⟨⟨t3, ty9, hty9, hcK⟩, hvc⟩ := hvc
  refine xw_alen dJ11_newCapacity_4 hty9 hcK ?_
  refine xw_istore_n dJ11_newCapacity_5 (Nat.le_of_ble_eq_true rfl) (L9 := [some (xr (some this)), some (xi x1), some (xi (nI (xlen h a2))), none, none, none]) rfl ?_
  refine xw_iload_n dJ11_newCapacity_6 rfl ?_
  refine xw_aload_n dJ11_newCapacity_7 rfl ?_
  obtain ⟨hcK, n4, hvK, hvc⟩ := hvc
  refine xw_get dJ11_newCapacity_8 hcJ12 in_J12 (kf := 1) (by decide) q696 (fun _ _ _ _ z => z) hcK hvK ?_
  refine xw_ishl dJ11_newCapacity_11 ?_
  refine xw_istore_n dJ11_newCapacity_12 (Nat.le_of_ble_eq_true rfl) (L9 := [some (xr (some this)), some (xi x1), some (xi (nI (xlen h a2))), some (xi (x1 <<< (n4 &&& 31))), none, none]) rfl ?_
  refine xw_iload_n dJ11_newCapacity_13 rfl ?_
  refine xw_iload_n dJ11_newCapacity_14 rfl ?_
  refine xw_isub dJ11_newCapacity_15 ?_
  refine xw_istore dJ11_newCapacity_16 (Nat.le_of_ble_eq_true rfl) (L9 := [some (xr (some this)), some (xi x1), some (xi (nI (xlen h a2))), some (xi (x1 <<< (n4 &&& 31))), some (xi ((x1 <<< (n4 &&& 31)) - (nI (xlen h a2)))), none]) rfl ?_
  refine xw_iload_n dJ11_newCapacity_18 rfl ?_
  refine xw_iload dJ11_newCapacity_19 rfl ?_
  refine xw_iload_n dJ11_newCapacity_21 rfl ?_
  refine xw_iconst (2 : Int32) dJ11_newCapacity_22 (by decide) ?_
  refine xw_aload_n dJ11_newCapacity_23 rfl ?_
  obtain ⟨hcK, n5, hvK, hvc⟩ := hvc
  refine xw_get dJ11_newCapacity_24 hcJ12 in_J12 (kf := 1) (by decide) q696 (fun _ _ _ _ z => z) hcK hvK ?_
  refine xw_ishl dJ11_newCapacity_27 ?_
  refine xw_iadd dJ11_newCapacity_28 ?_
  obtain ⟨d9, k9, hd9, hk9, hC9⟩ := hvc
  refine xw_callS dJ11_newCapacity_29 px_J15_newLength pm_J15_newLength q727 q728 (As := [xi (nI (xlen h a2)), xi ((x1 <<< (n4 &&& 31)) - (nI (xlen h a2))), xi ((nI (xlen h a2)) + ((2 : Int32) <<< (n5 &&& 31)))]) (rest := []) rfl rfl (Nat.le_of_ble_eq_true rfl) hd9 hk9 hC9 (xkI_n fun n8 h6 hvc => ?_) (fun q h hq => xTh_out0 rfl hq)
  refine xw_istore dJ11_newCapacity_32 (Nat.le_of_ble_eq_true rfl) (L9 := [some (xr (some this)), some (xi x1), some (xi (nI (xlen h a2))), some (xi (x1 <<< (n4 &&& 31))), some (xi ((x1 <<< (n4 &&& 31)) - (nI (xlen h a2)))), some (xi n8)]) rfl ?_
  refine xw_iload dJ11_newCapacity_34 rfl ?_
  refine xw_ldc dJ11_newCapacity_36 q737 ?_
  refine xw_icmp_ne 51 dJ11_newCapacity_38 rfl (fun hc => ?_) (fun hc => ?_)
  · replace hvc := hvc.1 hc
    refine xw_iload dJ11_newCapacity_51 rfl ?_
    refine xw_aload_n dJ11_newCapacity_53 rfl ?_
    obtain ⟨hcK, n9, hvK, hvc⟩ := hvc
    refine xw_get dJ11_newCapacity_54 hcJ12 in_J12 (kf := 1) (by decide) q696 (fun _ _ _ _ z => z) hcK hvK ?_
    refine xw_ishr dJ11_newCapacity_57 ?_
    exact xw_iret dJ11_newCapacity_58 rfl hvc
  · replace hvc := hvc.2 hc
    exact hvc.elim

theorem vc_J11_isLatin1 {G : xG} {d K : Nat} {Q : xR → xH → Prop} {h : xH} {this : Nat}
    (hvc : ∃ n1 : Int32, G.2.1 3 = xi n1 ∧ ((n1 = 0 → Q (.inl (some (xi (0 : Int32)))) h) ∧ (¬ n1 = 0 → xcls h this = 11 ∧ ∃ n2 : Int32, xval h this 1 = xi n2 ∧ ((¬ n2 = 0 → Q (.inl (some (xi (0 : Int32)))) h) ∧ (n2 = 0 → Q (.inl (some (xi (1 : Int32)))) h))))) : xCn G mJ11_isLatin1 d K [xr (some this)] h Q := by
  refine xCn_of px_J11_isLatin1 rfl rfl (Nat.le_of_ble_eq_true rfl) ?_
  show xWp G mJ11_isLatin1 d K Q K 0 [some (xr (some this))] [] h
  obtain ⟨n1, he, hvc⟩ := hvc
  refine xw_gets (i := 3) dJ11_isLatin1_0 rfl q686 ?_
  rw [he]
  refine xw_if_eq 17 dJ11_isLatin1_3 rfl (fun hc => ?_) (fun hc => ?_)
  · replace hvc := hvc.1 hc
    refine xw_iconst (0 : Int32) dJ11_isLatin1_17 (by decide) ?_
    exact xw_zret dJ11_isLatin1_18 rfl rfl hvc
  · replace hvc := hvc.2 hc
    refine xw_aload_n dJ11_isLatin1_6 rfl ?_
    obtain ⟨hcK, n2, hvK, hvc⟩ := hvc
    refine xw_get dJ11_isLatin1_7 hcJ12 in_J12 (kf := 1) (by decide) q696 (fun _ _ _ _ z => z) hcK hvK ?_
    refine xw_if_ne 17 dJ11_isLatin1_10 rfl (fun hc => ?_) (fun hc => ?_)
    · replace hvc := hvc.1 hc
      refine xw_iconst (0 : Int32) dJ11_isLatin1_17 (by decide) ?_
      exact xw_zret dJ11_isLatin1_18 rfl rfl hvc
    · replace hvc := hvc.2 hc
      refine xw_iconst (1 : Int32) dJ11_isLatin1_13 (by decide) ?_
      refine xw_goto 18 dJ11_isLatin1_14 rfl ?_
      exact xw_zret dJ11_isLatin1_18 rfl rfl hvc

theorem vc_J11_putStringAt {G : xG} {d K : Nat} {Q : xR → xH → Prop} {h : xH} {this : Nat} {x1 : Int32} {o901 : Option Nat}
    (hvc : xcls h this = 11 ∧ xCall G d K mJ11_inflateIfNeededFor [xr (some this), xr o901] h (xkV (fun h1 k2 => xcls h1 this = 11 ∧ ∃ o3 : Option Nat, xval h1 this 0 = xr o3 ∧ xcls h1 this = 11 ∧ ∃ n4 : Int32, xval h1 this 1 = xi n4 ∧ ∃ a5, o901 = some a5 ∧ xcls h1 a5 = 12 ∧ xCall G d k2 mJ13_getBytes [xr (some a5), xr o3, xi x1, xi n4] h1 (xkV (fun h6 k7 => Q (.inl none) h6) (fun q h _ => Q (.inr q) h))) (fun q h _ => Q (.inr q) h))) : xCn G mJ11_putStringAt d K [xr (some this), xi x1, xr o901] h Q := by
  refine xCn_of px_J11_putStringAt rfl rfl (Nat.le_of_ble_eq_true rfl) ?_
  show xWp G mJ11_putStringAt d K Q K 0 [some (xr (some this)), some (xi x1), some (xr o901)] [] h
  refine xw_aload_n dJ11_putStringAt_0 rfl ?_
  refine xw_aload_n dJ11_putStringAt_1 rfl ?_
  obtain ⟨hcK, hvc⟩ := hvc
  obtain ⟨d9, k9, hd9, hk9, hC9⟩ := hvc
  refine xw_callVP dJ11_putStringAt_2 px_J11_inflateIfNeededFor pm_J11_inflateIfNeededFor q798 q800 (y' := yJ11_isLatin1) q757 rfl q799 hcJ12 hcK (As := [xr o901]) (rest := []) rfl rfl (Nat.le_of_ble_eq_true rfl) hd9 hk9 hC9 (xkV_n fun h1 hvc => ?_) (fun q h hq => xTh_out0 rfl hq)
  refine xw_aload_n dJ11_putStringAt_5 rfl ?_
  refine xw_aload_n dJ11_putStringAt_6 rfl ?_
  obtain ⟨hcK, o3, hvK, hvc⟩ := hvc
  refine xw_get dJ11_putStringAt_7 hcJ12 in_J12 (kf := 0) (by decide) q695 (fun _ _ _ _ z => z) hcK hvK ?_
  refine xw_iload_n dJ11_putStringAt_10 rfl ?_
  refine xw_aload_n dJ11_putStringAt_11 rfl ?_
  obtain ⟨hcK, n4, hvK, hvc⟩ := hvc
  refine xw_get dJ11_putStringAt_12 hcJ12 in_J12 (kf := 1) (by decide) q696 (fun _ _ _ _ z => z) hcK hvK ?_
  obtain ⟨a5, ho, hvc⟩ := hvc
  subst ho
  obtain ⟨hcK, hvc⟩ := hvc
  obtain ⟨d9, k9, hd9, hk9, hC9⟩ := hvc
  refine xw_callV dJ11_putStringAt_15 px_J13_getBytes pm_J13_getBytes q822 q823 q824 hcJ13 hcK (As := [xr o3, xi x1, xi n4]) (rest := []) rfl rfl (Nat.le_of_ble_eq_true rfl) hd9 hk9 hC9 (xkV_n fun h6 hvc => ?_) (fun q h hq => xTh_out0 rfl hq)
  exact xw_vret dJ11_putStringAt_18 rfl hvc

theorem vc_J11_inflateIfNeededFor {G : xG} {d K : Nat} {Q : xR → xH → Prop} {h : xH} {this : Nat} {o900 : Option Nat}
    (hvc : ∃ n1 : Int32, G.2.1 3 = xi n1 ∧ ((n1 = 0 → Q (.inl none) h) ∧ (¬ n1 = 0 → xcls h this = 11 ∧ ∃ n2 : Int32, xval h this 1 = xi n2 ∧ ∃ a3, o900 = some a3 ∧ xcls h a3 = 12 ∧ xCall G d K mJ13_coder [xr (some a3)] h (xkI (fun n6 h4 k5 => ((n2 = n6 → Q (.inl none) h4) ∧ (¬ n2 = n6 → xcls h4 this = 11 ∧ xCall G d k5 mJ11_inflate [xr (some this)] h4 (xkV (fun h7 k8 => Q (.inl none) h7) (fun q h _ => Q (.inr q) h))))) (fun q h _ => Q (.inr q) h))))) : xCn G mJ11_inflateIfNeededFor d K [xr (some this), xr o900] h Q := by
  refine xCn_of px_J11_inflateIfNeededFor rfl rfl (Nat.le_of_ble_eq_true rfl) ?_
  show xWp G mJ11_inflateIfNeededFor d K Q K 0 [some (xr (some this)), some (xr o900)] [] h
  obtain ⟨n1, he, hvc⟩ := hvc
  refine xw_gets (i := 3) dJ11_inflateIfNeededFor_0 rfl q686 ?_
  rw [he]
  refine xw_if_eq 21 dJ11_inflateIfNeededFor_3 rfl (fun hc => ?_) (fun hc => ?_)
  · replace hvc := hvc.1 hc
    exact xw_vret dJ11_inflateIfNeededFor_21 rfl hvc
  · replace hvc := hvc.2 hc
    refine xw_aload_n dJ11_inflateIfNeededFor_6 rfl ?_
    obtain ⟨hcK, n2, hvK, hvc⟩ := hvc
    refine xw_get dJ11_inflateIfNeededFor_7 hcJ12 in_J12 (kf := 1) (by decide) q696 (fun _ _ _ _ z => z) hcK hvK ?_
    refine xw_aload_n dJ11_inflateIfNeededFor_10 rfl ?_
    obtain ⟨a3, ho, hvc⟩ := hvc
    subst ho
    obtain ⟨hcK, hvc⟩ := hvc
    obtain ⟨d9, k9, hd9, hk9, hC9⟩ := hvc
    refine xw_callV dJ11_inflateIfNeededFor_11 px_J13_coder pm_J13_coder q802 q790 q791 hcJ13 hcK (As := []) (rest := [xi n2]) rfl rfl (Nat.le_of_ble_eq_true rfl) hd9 hk9 hC9 (xkI_n fun n6 h4 hvc => ?_) (fun q h hq => xTh_out0 rfl hq)
    refine xw_icmp_eq 21 dJ11_inflateIfNeededFor_14 rfl (fun hc => ?_) (fun hc => ?_)
    · replace hvc := hvc.1 hc
      exact xw_vret dJ11_inflateIfNeededFor_21 rfl hvc
    · replace hvc := hvc.2 hc
      refine xw_aload_n dJ11_inflateIfNeededFor_17 rfl ?_
      obtain ⟨hcK, hvc⟩ := hvc
      obtain ⟨d9, k9, hd9, hk9, hC9⟩ := hvc
      refine xw_callVP dJ11_inflateIfNeededFor_18 px_J11_inflate pm_J11_inflate q803 q805 (y' := yJ11_isLatin1) q757 rfl q804 hcJ12 hcK (As := []) (rest := []) rfl rfl (Nat.le_of_ble_eq_true rfl) hd9 hk9 hC9 (xkV_n fun h7 hvc => ?_) (fun q h hq => xTh_out0 rfl hq)
      exact xw_vret dJ11_inflateIfNeededFor_21 rfl hvc

theorem vc_J11_inflate {G : xG} {d K : Nat} {Q : xR → xH → Prop} {h : xH} {this : Nat}
    (hvc : xcls h this = 11 ∧ xCall G d K mJ11_isLatin1 [xr (some this)] h (xkI (fun n3 h1 k2 => ((¬ n3 = 0 → xcls h1 this = 11 ∧ ∃ o4 : Option Nat, xval h1 this 0 = xr o4 ∧ ∃ a5, o4 = some a5 ∧ (∃ t6 ty, xty[t6]? = some ty ∧ xcls h1 a5 = 1000 + t6) ∧ xCall G d k2 mJ14_newBytesFor [xi (nI (xlen h1 a5))] h1 (xkR (fun o9 h7 k8 => xcls h7 this = 11 ∧ ∃ o10 : Option Nat, xval h7 this 0 = xr o10 ∧ xcls h7 this = 11 ∧ ∃ n11 : Int32, xval h7 this 3 = xi n11 ∧ xCall G d k8 mJ18_inflate [xr o10, xi (0 : Int32), xr o9, xi (0 : Int32), xi n11] h7 (xkV (fun h12 k13 => xcls h12 this = 11 ∧ ∀ h14 : xH, h14 = xput h12 this 0 (xr o9) → xcls h14 this = 11 ∧ ∀ h15 : xH, h15 = xput h14 this 1 (xi (1 : Int32)) → Q (.inl none) h15) (fun q h _ => Q (.inr q) h))) (fun q h _ => Q (.inr q) h))) ∧ (n3 = 0 → Q (.inl none) h1))) (fun q h _ => Q (.inr q) h))) : xCn G mJ11_inflate d K [xr (some this)] h Q := by
  refine xCn_of px_J11_inflate rfl rfl (Nat.le_of_ble_eq_true rfl) ?_
  show xWp G mJ11_inflate d K Q K 0 [some (xr (some this)), none] [] h
  refine xw_aload_n dJ11_inflate_0 rfl ?_
  obtain ⟨hcK, hvc⟩ := hvc
  obtain ⟨d9, k9, hd9, hk9, hC9⟩ := hvc
  refine xw_callV dJ11_inflate_1 px_J11_isLatin1 pm_J11_isLatin1 q754 q755 q757 hcJ12 hcK (As := []) (rest := []) rfl rfl (Nat.le_of_ble_eq_true rfl) hd9 hk9 hC9 (xkI_n fun n3 h1 hvc => ?_) (fun q h hq => xTh_out0 rfl hq)
  refine xw_if_ne 8 dJ11_inflate_4 rfl (fun hc => ?_) (fun hc => ?_)
  · replace hvc := hvc.1 hc
    refine xw_aload_n dJ11_inflate_8 rfl ?_
    obtain ⟨hcK, o4, hvK, hvc⟩ := hvc
    refine xw_get dJ11_inflate_9 hcJ12 in_J12 (kf := 0) (by decide) q695 (fun _ _ _ _ z => z) hcK hvK ?_
    obtain ⟨a5, ho, hvc⟩ := hvc
    subst ho
    obtain ⟨⟨t6, ty9, hty9, hcK⟩, hvc⟩ := hvc
    refine xw_alen dJ11_inflate_12 hty9 hcK ?_
    obtain ⟨d9, k9, hd9, hk9, hC9⟩ := hvc
    refine xw_callS dJ11_inflate_13 px_J14_newBytesFor pm_J14_newBytesFor q688 q689 (As := [xi (nI (xlen h1 a5))]) (rest := []) rfl rfl (Nat.le_of_ble_eq_true rfl) hd9 hk9 hC9 (xkR_n fun o9 h7 hvc => ?_) (fun q h hq => xTh_out0 rfl hq)
    refine xw_astore_n dJ11_inflate_16 (Nat.le_of_ble_eq_true rfl) (L9 := [some (xr (some this)), some (xr o9)]) rfl ?_
    refine xw_aload_n dJ11_inflate_17 rfl ?_
    obtain ⟨hcK, o10, hvK, hvc⟩ := hvc
    refine xw_get dJ11_inflate_18 hcJ12 in_J12 (kf := 0) (by decide) q695 (fun _ _ _ _ z => z) hcK hvK ?_
    refine xw_iconst (0 : Int32) dJ11_inflate_21 (by decide) ?_
    refine xw_aload_n dJ11_inflate_22 rfl ?_
    refine xw_iconst (0 : Int32) dJ11_inflate_23 (by decide) ?_
    refine xw_aload_n dJ11_inflate_24 rfl ?_
    obtain ⟨hcK, n11, hvK, hvc⟩ := hvc
    refine xw_get dJ11_inflate_25 hcJ12 in_J12 (kf := 3) (by decide) q698 (fun _ _ _ _ z => z) hcK hvK ?_
    obtain ⟨d9, k9, hd9, hk9, hC9⟩ := hvc
    refine xw_callS dJ11_inflate_28 px_J18_inflate pm_J18_inflate q807 q808 (As := [xr o10, xi (0 : Int32), xr o9, xi (0 : Int32), xi n11]) (rest := []) rfl rfl (Nat.le_of_ble_eq_true rfl) hd9 hk9 hC9 (xkV_n fun h12 hvc => ?_) (fun q h hq => xTh_out0 rfl hq)
    refine xw_aload_n dJ11_inflate_31 rfl ?_
    refine xw_aload_n dJ11_inflate_32 rfl ?_
    obtain ⟨hcK, hvc⟩ := hvc
    refine xw_put dJ11_inflate_33 hcJ12 in_J12 tyJ12_ok xnmJ12 (kf := 0) (by decide) q695 (fun _ _ _ _ z => z) rfl (xnar_r _ rfl _).1 (xnar_r _ rfl _).2 hcK (Or.inl rfl) (fun h14 eh9 => ?_)
    replace hvc := hvc h14 eh9
    refine xw_aload_n dJ11_inflate_36 rfl ?_
    refine xw_iconst (1 : Int32) dJ11_inflate_37 (by decide) ?_
    obtain ⟨hcK, hvc⟩ := hvc
    refine xw_put dJ11_inflate_38 hcJ12 in_J12 tyJ12_ok xnmJ12 (kf := 1) (by decide) q696 (fun _ _ _ _ z => z) rfl (by decide) (by decide) hcK (Or.inl rfl) (fun h15 eh9 => ?_)
    replace hvc := hvc h15 eh9
    exact xw_vret dJ11_inflate_41 rfl hvc
  · replace hvc := hvc.2 hc
    exact xw_vret dJ11_inflate_7 rfl hvc

theorem vc_J11_getValue {G : xG} {d K : Nat} {Q : xR → xH → Prop} {h : xH} {this : Nat}
    (hvc : xcls h this = 11 ∧ ∃ o1 : Option Nat, xval h this 0 = xr o1 ∧ Q (.inl (some (xr o1))) h) : xCn G mJ11_getValue d K [xr (some this)] h Q := by
  refine xCn_of px_J11_getValue rfl rfl (Nat.le_of_ble_eq_true rfl) ?_
  show xWp G mJ11_getValue d K Q K 0 [some (xr (some this))] [] h
  refine xw_aload_n dJ11_getValue_0 rfl ?_
  obtain ⟨hcK, o1, hvK, hvc⟩ := hvc
  refine xw_get dJ11_getValue_1 hcJ12 in_J12 (kf := 0) (by decide) q695 (fun _ _ _ _ z => z) hcK hvK ?_
  exact xw_aret dJ11_getValue_4 rfl rfl hvc

theorem vc_J11_length {G : xG} {d K : Nat} {Q : xR → xH → Prop} {h : xH} {this : Nat}
    (hvc : xcls h this = 11 ∧ ∃ n1 : Int32, xval h this 3 = xi n1 ∧ Q (.inl (some (xi n1))) h) : xCn G mJ11_length d K [xr (some this)] h Q := by
  refine xCn_of px_J11_length rfl rfl (Nat.le_of_ble_eq_true rfl) ?_
  show xWp G mJ11_length d K Q K 0 [some (xr (some this))] [] h
  refine xw_aload_n dJ11_length_0 rfl ?_
  obtain ⟨hcK, n1, hvK, hvc⟩ := hvc
  refine xw_get dJ11_length_1 hcJ12 in_J12 (kf := 3) (by decide) q698 (fun _ _ _ _ z => z) hcK hvK ?_
  exact xw_iret dJ11_length_4 rfl hvc

theorem vc_J11_compareTo {G : xG} {d K : Nat} {Q : xR → xH → Prop} {h : xH} {this : Nat} {o900 : Option Nat}
    (hvc : ((¬ (some this) = o900 → xcls h this = 11 ∧ ∃ o1 : Option Nat, xval h this 0 = xr o1 ∧ ∃ a2, o900 = some a2 ∧ xcls h a2 = 11 ∧ ∃ o3 : Option Nat, xval h a2 0 = xr o3 ∧ xcls h this = 11 ∧ ∃ n4 : Int32, xval h this 3 = xi n4 ∧ xcls h a2 = 11 ∧ ∃ n5 : Int32, xval h a2 3 = xi n5 ∧ xcls h this = 11 ∧ ∃ n6 : Int32, xval h this 1 = xi n6 ∧ xcls h a2 = 11 ∧ ∃ n7 : Int32, xval h a2 1 = xi n7 ∧ ((¬ n6 = n7 → xcls h this = 11 ∧ xCall G d K mJ11_isLatin1 [xr (some this)] h (xkI (fun n10 h8 k9 => ((n10 = 0 → xCall G d k9 mJ14_compareToLatin1_2 [xr o1, xr o3, xi n4, xi n5] h8 (xkI (fun n13 h11 k12 => Q (.inl (some (xi n13))) h11) (fun q h _ => Q (.inr q) h))) ∧ (¬ n10 = 0 → xCall G d k9 mJ18_compareToUTF16_2 [xr o1, xr o3, xi n4, xi n5] h8 (xkI (fun n16 h14 k15 => Q (.inl (some (xi n16))) h14) (fun q h _ => Q (.inr q) h))))) (fun q h _ => Q (.inr q) h))) ∧ (n6 = n7 → xcls h this = 11 ∧ xCall G d K mJ11_isLatin1 [xr (some this)] h (xkI (fun n19 h17 k18 => ((n19 = 0 → xCall G d k18 mJ14_compareTo_2 [xr o1, xr o3, xi n4, xi n5] h17 (xkI (fun n22 h20 k21 => Q (.inl (some (xi n22))) h20) (fun q h _ => Q (.inr q) h))) ∧ (¬ n19 = 0 → xCall G d k18 mJ18_compareTo_2 [xr o1, xr o3, xi n4, xi n5] h17 (xkI (fun n25 h23 k24 => Q (.inl (some (xi n25))) h23) (fun q h _ => Q (.inr q) h))))) (fun q h _ => Q (.inr q) h))))) ∧ ((some this) = o900 → Q (.inl (some (xi (0 : Int32)))) h))) : xCn G mJ11_compareTo d K [xr (some this), xr o900] h Q := by
  refine xCn_of px_J11_compareTo rfl rfl (Nat.le_of_ble_eq_true rfl) ?_
  show xWp G mJ11_compareTo d K Q K 0 [some (xr (some this)), some (xr o900), none, none, none, none] [] h
  refine xw_aload_n dJ11_compareTo_0 rfl ?_
  refine xw_aload_n dJ11_compareTo_1 rfl ?_
  refine xw_acmp_ne 7 dJ11_compareTo_2 rfl (fun hc => ?_) (fun hc => ?_)
  · replace hvc := hvc.1 hc
    refine xw_aload_n dJ11_compareTo_7 rfl ?_
    obtain ⟨hcK, o1, hvK, hvc⟩ := hvc
    refine xw_get dJ11_compareTo_8 hcJ12 in_J12 (kf := 0) (by decide) q695 (fun _ _ _ _ z => z) hcK hvK ?_
    refine xw_astore_n dJ11_compareTo_11 (Nat.le_of_ble_eq_true rfl) (L9 := [some (xr (some this)), some (xr o900), some (xr o1), none, none, none]) rfl ?_
    refine xw_aload_n dJ11_compareTo_12 rfl ?_
    obtain ⟨a2, ho, hvc⟩ := hvc
    subst ho
    obtain ⟨hcK, o3, hvK, hvc⟩ := hvc
    refine xw_get dJ11_compareTo_13 hcJ12 in_J12 (kf := 0) (by decide) q695 (fun _ _ _ _ z => z) hcK hvK ?_
    refine xw_astore_n dJ11_compareTo_16 (Nat.le_of_ble_eq_true rfl) (L9 := [some (xr (some this)), some (xr (some a2)), some (xr o1), some (xr o3), none, none]) rfl ?_
    refine xw_aload_n dJ11_compareTo_17 rfl ?_
    obtain ⟨hcK, n4, hvK, hvc⟩ := hvc
    refine xw_get dJ11_compareTo_18 hcJ12 in_J12 (kf := 3) (by decide) q698 (fun _ _ _ _ z => z) hcK hvK ?_
    refine xw_istore dJ11_compareTo_21 (Nat.le_of_ble_eq_true rfl) (L9 := [some (xr (some this)), some (xr (some a2)), some (xr o1), some (xr o3), some (xi n4), none]) rfl ?_
    refine xw_aload_n dJ11_compareTo_23 rfl ?_
    obtain ⟨hcK, n5, hvK, hvc⟩ := hvc
    refine xw_get dJ11_compareTo_24 hcJ12 in_J12 (kf := 3) (by decide) q698 (fun _ _ _ _ z => z) hcK hvK ?_
    refine xw_istore dJ11_compareTo_27 (Nat.le_of_ble_eq_true rfl) (L9 := [some (xr (some this)), some (xr (some a2)), some (xr o1), some (xr o3), some (xi n4), some (xi n5)]) rfl ?_
    refine xw_aload_n dJ11_compareTo_29 rfl ?_
    obtain ⟨hcK, n6, hvK, hvc⟩ := hvc
    refine xw_get dJ11_compareTo_30 hcJ12 in_J12 (kf := 1) (by decide) q696 (fun _ _ _ _ z => z) hcK hvK ?_
    refine xw_aload_n dJ11_compareTo_33 rfl ?_
    obtain ⟨hcK, n7, hvK, hvc⟩ := hvc
    refine xw_get dJ11_compareTo_34 hcJ12 in_J12 (kf := 1) (by decide) q696 (fun _ _ _ _ z => z) hcK hvK ?_
    refine xw_icmp_ne 69 dJ11_compareTo_37 rfl (fun hc => ?_) (fun hc => ?_)
    · replace hvc := hvc.1 hc
      refine xw_aload_n dJ11_compareTo_69 rfl ?_
      obtain ⟨hcK, hvc⟩ := hvc
      obtain ⟨d9, k9, hd9, hk9, hC9⟩ := hvc
      refine xw_callV dJ11_compareTo_70 px_J11_isLatin1 pm_J11_isLatin1 q754 q755 q757 hcJ12 hcK (As := []) (rest := []) rfl rfl (Nat.le_of_ble_eq_true rfl) hd9 hk9 hC9 (xkI_n fun n10 h8 hvc => ?_) (fun q h hq => xTh_out0 rfl hq)
      refine xw_if_eq 88 dJ11_compareTo_73 rfl (fun hc => ?_) (fun hc => ?_)
      · replace hvc := hvc.1 hc
        refine xw_aload_n dJ11_compareTo_88 rfl ?_
        refine xw_aload_n dJ11_compareTo_89 rfl ?_
        refine xw_iload dJ11_compareTo_90 rfl ?_
        refine xw_iload dJ11_compareTo_92 rfl ?_
        obtain ⟨d9, k9, hd9, hk9, hC9⟩ := hvc
        refine xw_callS dJ11_compareTo_94 px_J14_compareToLatin1_2 pm_J14_compareToLatin1_2 q2532 q2533 (As := [xr o1, xr o3, xi n4, xi n5]) (rest := []) rfl rfl (Nat.le_of_ble_eq_true rfl) hd9 hk9 hC9 (xkI_n fun n13 h11 hvc => ?_) (fun q h hq => xTh_out0 rfl hq)
        exact xw_iret dJ11_compareTo_97 rfl hvc
      · replace hvc := hvc.2 hc
        refine xw_aload_n dJ11_compareTo_76 rfl ?_
        refine xw_aload_n dJ11_compareTo_77 rfl ?_
        refine xw_iload dJ11_compareTo_78 rfl ?_
        refine xw_iload dJ11_compareTo_80 rfl ?_
        obtain ⟨d9, k9, hd9, hk9, hC9⟩ := hvc
        refine xw_callS dJ11_compareTo_82 px_J18_compareToUTF16_2 pm_J18_compareToUTF16_2 q2528 q2529 (As := [xr o1, xr o3, xi n4, xi n5]) (rest := []) rfl rfl (Nat.le_of_ble_eq_true rfl) hd9 hk9 hC9 (xkI_n fun n16 h14 hvc => ?_) (fun q h hq => xTh_out0 rfl hq)
        refine xw_goto 97 dJ11_compareTo_85 rfl ?_
        exact xw_iret dJ11_compareTo_97 rfl hvc
    · replace hvc := hvc.2 hc
      refine xw_aload_n dJ11_compareTo_40 rfl ?_
      obtain ⟨hcK, hvc⟩ := hvc
      obtain ⟨d9, k9, hd9, hk9, hC9⟩ := hvc
      refine xw_callV dJ11_compareTo_41 px_J11_isLatin1 pm_J11_isLatin1 q754 q755 q757 hcJ12 hcK (As := []) (rest := []) rfl rfl (Nat.le_of_ble_eq_true rfl) hd9 hk9 hC9 (xkI_n fun n19 h17 hvc => ?_) (fun q h hq => xTh_out0 rfl hq)
      refine xw_if_eq 59 dJ11_compareTo_44 rfl (fun hc => ?_) (fun hc => ?_)
      · replace hvc := hvc.1 hc
        refine xw_aload_n dJ11_compareTo_59 rfl ?_
        refine xw_aload_n dJ11_compareTo_60 rfl ?_
        refine xw_iload dJ11_compareTo_61 rfl ?_
        refine xw_iload dJ11_compareTo_63 rfl ?_
        obtain ⟨d9, k9, hd9, hk9, hC9⟩ := hvc
        refine xw_callS dJ11_compareTo_65 px_J14_compareTo_2 pm_J14_compareTo_2 q2519 q2520 (As := [xr o1, xr o3, xi n4, xi n5]) (rest := []) rfl rfl (Nat.le_of_ble_eq_true rfl) hd9 hk9 hC9 (xkI_n fun n22 h20 hvc => ?_) (fun q h hq => xTh_out0 rfl hq)
        exact xw_iret dJ11_compareTo_68 rfl hvc
      · replace hvc := hvc.2 hc
        refine xw_aload_n dJ11_compareTo_47 rfl ?_
        refine xw_aload_n dJ11_compareTo_48 rfl ?_
        refine xw_iload dJ11_compareTo_49 rfl ?_
        refine xw_iload dJ11_compareTo_51 rfl ?_
        obtain ⟨d9, k9, hd9, hk9, hC9⟩ := hvc
        refine xw_callS dJ11_compareTo_53 px_J18_compareTo_2 pm_J18_compareTo_2 q2518 q2378 (As := [xr o1, xr o3, xi n4, xi n5]) (rest := []) rfl rfl (Nat.le_of_ble_eq_true rfl) hd9 hk9 hC9 (xkI_n fun n25 h23 hvc => ?_) (fun q h hq => xTh_out0 rfl hq)
        refine xw_goto 68 dJ11_compareTo_56 rfl ?_
        exact xw_iret dJ11_compareTo_68 rfl hvc
  · replace hvc := hvc.2 hc
    refine xw_iconst (0 : Int32) dJ11_compareTo_5 (by decide) ?_
    exact xw_iret dJ11_compareTo_6 rfl hvc

theorem vc_J11_append_2 {G : xG} {d K : Nat} {Q : xR → xH → Prop} {h : xH} {this : Nat} {x1 : Int32}
    (hvc : xcls h this = 11 ∧ ∃ n1 : Int32, xval h this 3 = xi n1 ∧ xCall G d K mJ29_stringSize [xi x1] h (xkI (fun n4 h2 k3 => xcls h2 this = 11 ∧ xCall G d k3 mJ11_ensureCapacityInternal [xr (some this), xi (n1 + n4)] h2 (xkV (fun h5 k6 => xcls h5 this = 11 ∧ xCall G d k6 mJ11_isLatin1 [xr (some this)] h5 (xkI (fun n9 h7 k8 => ((n9 = 0 → xcls h7 this = 11 ∧ ∃ o10 : Option Nat, xval h7 this 0 = xr o10 ∧ xCall G d k8 mJ14_getChars [xi x1, xi n1, xi (n1 + n4), xr o10] h7 (xkI (fun n13 h11 k12 => xcls h11 this = 11 ∧ ∀ h14 : xH, h14 = xput h11 this 3 (xi (n1 + n4)) → Q (.inl (some (xr (some this)))) h14) (fun q h _ => Q (.inr q) h))) ∧ (¬ n9 = 0 → xcls h7 this = 11 ∧ ∃ o15 : Option Nat, xval h7 this 0 = xr o15 ∧ xCall G d k8 mJ29_getChars [xi x1, xi (n1 + n4), xr o15] h7 (xkI (fun n18 h16 k17 => xcls h16 this = 11 ∧ ∀ h19 : xH, h19 = xput h16 this 3 (xi (n1 + n4)) → Q (.inl (some (xr (some this)))) h19) (fun q h _ => Q (.inr q) h))))) (fun q h _ => Q (.inr q) h))) (fun q h _ => Q (.inr q) h))) (fun q h _ => Q (.inr q) h))) : xCn G mJ11_append_2 d K [xr (some this), xi x1] h Q := by
  refine xCn_of px_J11_append_2 rfl rfl (Nat.le_of_ble_eq_true rfl) ?_
  show xWp G mJ11_append_2 d K Q K 0 [some (xr (some this)), some (xi x1), none, none] [] h
  refine xw_aload_n dJ11_append_2_0 rfl ?_
  obtain ⟨hcK, n1, hvK, hvc⟩ := hvc
  refine xw_get dJ11_append_2_1 hcJ12 in_J12 (kf := 3) (by decide) q698 (fun _ _ _ _ z => z) hcK hvK ?_
  refine xw_istore_n dJ11_append_2_4 (Nat.le_of_ble_eq_true rfl) (L9 := [some (xr (some this)), some (xi x1), some (xi n1), none]) rfl ?_
  refine xw_iload_n dJ11_append_2_5 rfl ?_
  refine xw_iload_n dJ11_append_2_6 rfl ?_
  obtain ⟨d9, k9, hd9, hk9, hC9⟩ := hvc
  refine xw_callS dJ11_append_2_7 px_J29_stringSize pm_J29_stringSize q2639 q2640 (As := [xi x1]) (rest := [xi n1]) rfl rfl (Nat.le_of_ble_eq_true rfl) hd9 hk9 hC9 (xkI_n fun n4 h2 hvc => ?_) (fun q h hq => xTh_out0 rfl hq)
  refine xw_iadd dJ11_append_2_10 ?_
  refine xw_istore_n dJ11_append_2_11 (Nat.le_of_ble_eq_true rfl) (L9 := [some (xr (some this)), some (xi x1), some (xi n1), some (xi (n1 + n4))]) rfl ?_
  refine xw_aload_n dJ11_append_2_12 rfl ?_
  refine xw_iload_n dJ11_append_2_13 rfl ?_
  obtain ⟨hcK, hvc⟩ := hvc
  obtain ⟨d9, k9, hd9, hk9, hC9⟩ := hvc
  refine xw_callVP dJ11_append_2_14 px_J11_ensureCapacityInternal pm_J11_ensureCapacityInternal q719 q721 (y' := yJ11_isLatin1) q757 rfl q720 hcJ12 hcK (As := [xi (n1 + n4)]) (rest := []) rfl rfl (Nat.le_of_ble_eq_true rfl) hd9 hk9 hC9 (xkV_n fun h5 hvc => ?_) (fun q h hq => xTh_out0 rfl hq)
  refine xw_aload_n dJ11_append_2_17 rfl ?_
  obtain ⟨hcK, hvc⟩ := hvc
  obtain ⟨d9, k9, hd9, hk9, hC9⟩ := hvc
  refine xw_callV dJ11_append_2_18 px_J11_isLatin1 pm_J11_isLatin1 q754 q755 q757 hcJ12 hcK (As := []) (rest := []) rfl rfl (Nat.le_of_ble_eq_true rfl) hd9 hk9 hC9 (xkI_n fun n9 h7 hvc => ?_) (fun q h hq => xTh_out0 rfl hq)
  refine xw_if_eq 37 dJ11_append_2_21 rfl (fun hc => ?_) (fun hc => ?_)
  · replace hvc := hvc.1 hc
    refine xw_iload_n dJ11_append_2_37 rfl ?_
    refine xw_iload_n dJ11_append_2_38 rfl ?_
    refine xw_iload_n dJ11_append_2_39 rfl ?_
    refine xw_aload_n dJ11_append_2_40 rfl ?_
    obtain ⟨hcK, o10, hvK, hvc⟩ := hvc
    refine xw_get dJ11_append_2_41 hcJ12 in_J12 (kf := 0) (by decide) q695 (fun _ _ _ _ z => z) hcK hvK ?_
    obtain ⟨d9, k9, hd9, hk9, hC9⟩ := hvc
    refine xw_callS dJ11_append_2_44 px_J14_getChars pm_J14_getChars q2649 q2650 (As := [xi x1, xi n1, xi (n1 + n4), xr o10]) (rest := []) rfl rfl (Nat.le_of_ble_eq_true rfl) hd9 hk9 hC9 (xkI_n fun n13 h11 hvc => ?_) (fun q h hq => xTh_out0 rfl hq)
    refine xw_pop dJ11_append_2_47 rfl ?_
    refine xw_aload_n dJ11_append_2_48 rfl ?_
    refine xw_iload_n dJ11_append_2_49 rfl ?_
    obtain ⟨hcK, hvc⟩ := hvc
    refine xw_put dJ11_append_2_50 hcJ12 in_J12 tyJ12_ok xnmJ12 (kf := 3) (by decide) q698 (fun _ _ _ _ z => z) rfl rfl rfl hcK (Or.inl rfl) (fun h14 eh9 => ?_)
    replace hvc := hvc h14 eh9
    refine xw_aload_n dJ11_append_2_53 rfl ?_
    exact xw_aret dJ11_append_2_54 rfl rfl hvc
  · replace hvc := hvc.2 hc
    refine xw_iload_n dJ11_append_2_24 rfl ?_
    refine xw_iload_n dJ11_append_2_25 rfl ?_
    refine xw_aload_n dJ11_append_2_26 rfl ?_
    obtain ⟨hcK, o15, hvK, hvc⟩ := hvc
    refine xw_get dJ11_append_2_27 hcJ12 in_J12 (kf := 0) (by decide) q695 (fun _ _ _ _ z => z) hcK hvK ?_
    obtain ⟨d9, k9, hd9, hk9, hC9⟩ := hvc
    refine xw_callS dJ11_append_2_30 px_J29_getChars pm_J29_getChars q2642 q2643 (As := [xi x1, xi (n1 + n4), xr o15]) (rest := []) rfl rfl (Nat.le_of_ble_eq_true rfl) hd9 hk9 hC9 (xkI_n fun n18 h16 hvc => ?_) (fun q h hq => xTh_out0 rfl hq)
    refine xw_pop dJ11_append_2_33 rfl ?_
    refine xw_goto 48 dJ11_append_2_34 rfl ?_
    refine xw_aload_n dJ11_append_2_48 rfl ?_
    refine xw_iload_n dJ11_append_2_49 rfl ?_
    obtain ⟨hcK, hvc⟩ := hvc
    refine xw_put dJ11_append_2_50 hcJ12 in_J12 tyJ12_ok xnmJ12 (kf := 3) (by decide) q698 (fun _ _ _ _ z => z) rfl rfl rfl hcK (Or.inl rfl) (fun h19 eh9 => ?_)
    replace hvc := hvc h19 eh9
    refine xw_aload_n dJ11_append_2_53 rfl ?_
    exact xw_aret dJ11_append_2_54 rfl rfl hvc

theorem vc_J11_append_3 {G : xG} {d K : Nat} {Q : xR → xH → Prop} {h : xH} {this : Nat} {x1 : Int32}
    (hvc : xcls h this = 11 ∧ ∃ n1 : Int32, xval h this 3 = xi n1 ∧ xcls h this = 11 ∧ xCall G d K mJ11_ensureCapacityInternal [xr (some this), xi (n1 + (1 : Int32))] h (xkV (fun h2 k3 => xcls h2 this = 11 ∧ xCall G d k3 mJ11_isLatin1 [xr (some this)] h2 (xkI (fun n6 h4 k5 => ((n6 = 0 → xcls h4 this = 11 ∧ xCall G d k5 mJ11_isLatin1 [xr (some this)] h4 (xkI (fun n9 h7 k8 => ((n9 = 0 → xcls h7 this = 11 ∧ ∃ o10 : Option Nat, xval h7 this 0 = xr o10 ∧ xcls h7 this = 11 ∧ ∃ n11 : Int32, xval h7 this 3 = xi n11 ∧ xcls h7 this = 11 ∧ ∀ h12 : xH, h12 = xput h7 this 3 (xi (n11 + (1 : Int32))) → xCall G d k8 mJ14_putCharSB [xr o10, xi n11, xi x1] h12 (xkV (fun h13 k14 => Q (.inl (some (xr (some this)))) h13) (fun q h _ => Q (.inr q) h))) ∧ (¬ n9 = 0 → xcls h7 this = 11 ∧ xCall G d k8 mJ11_inflate [xr (some this)] h7 (xkV (fun h15 k16 => xcls h15 this = 11 ∧ ∃ o17 : Option Nat, xval h15 this 0 = xr o17 ∧ xcls h15 this = 11 ∧ ∃ n18 : Int32, xval h15 this 3 = xi n18 ∧ xcls h15 this = 11 ∧ ∀ h19 : xH, h19 = xput h15 this 3 (xi (n18 + (1 : Int32))) → xCall G d k16 mJ14_putCharSB [xr o17, xi n18, xi x1] h19 (xkV (fun h20 k21 => Q (.inl (some (xr (some this)))) h20) (fun q h _ => Q (.inr q) h))) (fun q h _ => Q (.inr q) h))))) (fun q h _ => Q (.inr q) h))) ∧ (¬ n6 = 0 → xCall G d k5 mJ18_canEncode [xi x1] h4 (xkI (fun n24 h22 k23 => ((n24 = 0 → xcls h22 this = 11 ∧ xCall G d k23 mJ11_isLatin1 [xr (some this)] h22 (xkI (fun n27 h25 k26 => ((n27 = 0 → xcls h25 this = 11 ∧ ∃ o28 : Option Nat, xval h25 this 0 = xr o28 ∧ xcls h25 this = 11 ∧ ∃ n29 : Int32, xval h25 this 3 = xi n29 ∧ xcls h25 this = 11 ∧ ∀ h30 : xH, h30 = xput h25 this 3 (xi (n29 + (1 : Int32))) → xCall G d k26 mJ14_putCharSB [xr o28, xi n29, xi x1] h30 (xkV (fun h31 k32 => Q (.inl (some (xr (some this)))) h31) (fun q h _ => Q (.inr q) h))) ∧ (¬ n27 = 0 → xcls h25 this = 11 ∧ xCall G d k26 mJ11_inflate [xr (some this)] h25 (xkV (fun h33 k34 => xcls h33 this = 11 ∧ ∃ o35 : Option Nat, xval h33 this 0 = xr o35 ∧ xcls h33 this = 11 ∧ ∃ n36 : Int32, xval h33 this 3 = xi n36 ∧ xcls h33 this = 11 ∧ ∀ h37 : xH, h37 = xput h33 this 3 (xi (n36 + (1 : Int32))) → xCall G d k34 mJ14_putCharSB [xr o35, xi n36, xi x1] h37 (xkV (fun h38 k39 => Q (.inl (some (xr (some this)))) h38) (fun q h _ => Q (.inr q) h))) (fun q h _ => Q (.inr q) h))))) (fun q h _ => Q (.inr q) h))) ∧ (¬ n24 = 0 → xcls h22 this = 11 ∧ ∃ o40 : Option Nat, xval h22 this 0 = xr o40 ∧ xcls h22 this = 11 ∧ ∃ n41 : Int32, xval h22 this 3 = xi n41 ∧ xcls h22 this = 11 ∧ ∀ h42 : xH, h42 = xput h22 this 3 (xi (n41 + (1 : Int32))) → ∃ a43, o40 = some a43 ∧ xcls h42 a43 = 1000 ∧ xlo h42 ≤ a43 ∧ ∃ i44 : Nat, n41 = nI i44 ∧ i44 < 2147483648 ∧ i44 < xlen h42 a43 ∧ ∀ n46 : Int32, narrow .byte (.int x1.toInt8.toInt32) = .int n46 → ∀ h45 : xH, h45 = xput h42 a43 i44 (xi n46) → Q (.inl (some (xr (some this)))) h45))) (fun q h _ => Q (.inr q) h))))) (fun q h _ => Q (.inr q) h))) (fun q h _ => Q (.inr q) h))) : xCn G mJ11_append_3 d K [xr (some this), xi x1] h Q := by
  refine xCn_of px_J11_append_3 rfl rfl (Nat.le_of_ble_eq_true rfl) ?_
  show xWp G mJ11_append_3 d K Q K 0 [some (xr (some this)), some (xi x1)] [] h
  refine xw_aload_n dJ11_append_3_0 rfl ?_
  refine xw_aload_n dJ11_append_3_1 rfl ?_
  obtain ⟨hcK, n1, hvK, hvc⟩ := hvc
  refine xw_get dJ11_append_3_2 hcJ12 in_J12 (kf := 3) (by decide) q698 (fun _ _ _ _ z => z) hcK hvK ?_
  refine xw_iconst (1 : Int32) dJ11_append_3_5 (by decide) ?_
  refine xw_iadd dJ11_append_3_6 ?_
  obtain ⟨hcK, hvc⟩ := hvc
  obtain ⟨d9, k9, hd9, hk9, hC9⟩ := hvc
  refine xw_callVP dJ11_append_3_7 px_J11_ensureCapacityInternal pm_J11_ensureCapacityInternal q719 q721 (y' := yJ11_isLatin1) q757 rfl q720 hcJ12 hcK (As := [xi (n1 + (1 : Int32))]) (rest := []) rfl rfl (Nat.le_of_ble_eq_true rfl) hd9 hk9 hC9 (xkV_n fun h2 hvc => ?_) (fun q h hq => xTh_out0 rfl hq)
  refine xw_aload_n dJ11_append_3_10 rfl ?_
  obtain ⟨hcK, hvc⟩ := hvc
  obtain ⟨d9, k9, hd9, hk9, hC9⟩ := hvc
  refine xw_callV dJ11_append_3_11 px_J11_isLatin1 pm_J11_isLatin1 q754 q755 q757 hcJ12 hcK (As := []) (rest := []) rfl rfl (Nat.le_of_ble_eq_true rfl) hd9 hk9 hC9 (xkI_n fun n6 h4 hvc => ?_) (fun q h hq => xTh_out0 rfl hq)
  refine xw_if_eq 45 dJ11_append_3_14 rfl (fun hc => ?_) (fun hc => ?_)
  · replace hvc := hvc.1 hc
    refine xw_aload_n dJ11_append_3_45 rfl ?_
    obtain ⟨hcK, hvc⟩ := hvc
    obtain ⟨d9, k9, hd9, hk9, hC9⟩ := hvc
    refine xw_callV dJ11_append_3_46 px_J11_isLatin1 pm_J11_isLatin1 q754 q755 q757 hcJ12 hcK (As := []) (rest := []) rfl rfl (Nat.le_of_ble_eq_true rfl) hd9 hk9 hC9 (xkI_n fun n9 h7 hvc => ?_) (fun q h hq => xTh_out0 rfl hq)
    refine xw_if_eq 56 dJ11_append_3_49 rfl (fun hc => ?_) (fun hc => ?_)
    · replace hvc := hvc.1 hc
      refine xw_aload_n dJ11_append_3_56 rfl ?_
      obtain ⟨hcK, o10, hvK, hvc⟩ := hvc
      refine xw_get dJ11_append_3_57 hcJ12 in_J12 (kf := 0) (by decide) q695 (fun _ _ _ _ z => z) hcK hvK ?_
      refine xw_aload_n dJ11_append_3_60 rfl ?_
      refine xw_dup dJ11_append_3_61 rfl ?_
      obtain ⟨hcK, n11, hvK, hvc⟩ := hvc
      refine xw_get dJ11_append_3_62 hcJ12 in_J12 (kf := 3) (by decide) q698 (fun _ _ _ _ z => z) hcK hvK ?_
      refine xw_dup_x1 dJ11_append_3_65 rfl rfl ?_
      refine xw_iconst (1 : Int32) dJ11_append_3_66 (by decide) ?_
      refine xw_iadd dJ11_append_3_67 ?_
      obtain ⟨hcK, hvc⟩ := hvc
      refine xw_put dJ11_append_3_68 hcJ12 in_J12 tyJ12_ok xnmJ12 (kf := 3) (by decide) q698 (fun _ _ _ _ z => z) rfl rfl rfl hcK (Or.inl rfl) (fun h12 eh9 => ?_)
      replace hvc := hvc h12 eh9
      refine xw_iload_n dJ11_append_3_71 rfl ?_
      obtain ⟨d9, k9, hd9, hk9, hC9⟩ := hvc
      refine xw_callS dJ11_append_3_72 px_J14_putCharSB pm_J14_putCharSB q2670 q2671 (As := [xr o10, xi n11, xi x1]) (rest := []) rfl rfl (Nat.le_of_ble_eq_true rfl) hd9 hk9 hC9 (xkV_n fun h13 hvc => ?_) (fun q h hq => xTh_out0 rfl hq)
      refine xw_aload_n dJ11_append_3_75 rfl ?_
      exact xw_aret dJ11_append_3_76 rfl rfl hvc
    · replace hvc := hvc.2 hc
      refine xw_aload_n dJ11_append_3_52 rfl ?_
      obtain ⟨hcK, hvc⟩ := hvc
      obtain ⟨d9, k9, hd9, hk9, hC9⟩ := hvc
      refine xw_callVP dJ11_append_3_53 px_J11_inflate pm_J11_inflate q803 q805 (y' := yJ11_isLatin1) q757 rfl q804 hcJ12 hcK (As := []) (rest := []) rfl rfl (Nat.le_of_ble_eq_true rfl) hd9 hk9 hC9 (xkV_n fun h15 hvc => ?_) (fun q h hq => xTh_out0 rfl hq)
      refine xw_aload_n dJ11_append_3_56 rfl ?_
      obtain ⟨hcK, o17, hvK, hvc⟩ := hvc
      refine xw_get dJ11_append_3_57 hcJ12 in_J12 (kf := 0) (by decide) q695 (fun _ _ _ _ z => z) hcK hvK ?_
      refine xw_aload_n dJ11_append_3_60 rfl ?_
      refine xw_dup dJ11_append_3_61 rfl ?_
      obtain ⟨hcK, n18, hvK, hvc⟩ := hvc
      refine xw_get dJ11_append_3_62 hcJ12 in_J12 (kf := 3) (by decide) q698 (fun _ _ _ _ z => z) hcK hvK ?_
      refine xw_dup_x1 dJ11_append_3_65 rfl rfl ?_
      refine xw_iconst (1 : Int32) dJ11_append_3_66 (by decide) ?_
      refine xw_iadd dJ11_append_3_67 ?_
      obtain ⟨hcK, hvc⟩ := hvc
      refine xw_put dJ11_append_3_68 hcJ12 in_J12 tyJ12_ok xnmJ12 (kf := 3) (by decide) q698 (fun _ _ _ _ z => z) rfl rfl rfl hcK (Or.inl rfl) (fun h19 eh9 => ?_)
      replace hvc := hvc h19 eh9
      refine xw_iload_n dJ11_append_3_71 rfl ?_
      obtain ⟨d9, k9, hd9, hk9, hC9⟩ := hvc
      refine xw_callS dJ11_append_3_72 px_J14_putCharSB pm_J14_putCharSB q2670 q2671 (As := [xr o17, xi n18, xi x1]) (rest := []) rfl rfl (Nat.le_of_ble_eq_true rfl) hd9 hk9 hC9 (xkV_n fun h20 hvc => ?_) (fun q h hq => xTh_out0 rfl hq)
      refine xw_aload_n dJ11_append_3_75 rfl ?_
      exact xw_aret dJ11_append_3_76 rfl rfl hvc
  · replace hvc := hvc.2 hc
    refine xw_iload_n dJ11_append_3_17 rfl ?_
    obtain ⟨d9, k9, hd9, hk9, hC9⟩ := hvc
    refine xw_callS dJ11_append_3_18 px_J18_canEncode pm_J18_canEncode q2667 q2668 (As := [xi x1]) (rest := []) rfl rfl (Nat.le_of_ble_eq_true rfl) hd9 hk9 hC9 (xkI_n fun n24 h22 hvc => ?_) (fun q h hq => xTh_out0 rfl hq)
    refine xw_if_eq 45 dJ11_append_3_21 rfl (fun hc => ?_) (fun hc => ?_)
    · replace hvc := hvc.1 hc
      refine xw_aload_n dJ11_append_3_45 rfl ?_
      obtain ⟨hcK, hvc⟩ := hvc
      obtain ⟨d9, k9, hd9, hk9, hC9⟩ := hvc
      refine xw_callV dJ11_append_3_46 px_J11_isLatin1 pm_J11_isLatin1 q754 q755 q757 hcJ12 hcK (As := []) (rest := []) rfl rfl (Nat.le_of_ble_eq_true rfl) hd9 hk9 hC9 (xkI_n fun n27 h25 hvc => ?_) (fun q h hq => xTh_out0 rfl hq)
      refine xw_if_eq 56 dJ11_append_3_49 rfl (fun hc => ?_) (fun hc => ?_)
      · replace hvc := hvc.1 hc
        refine xw_aload_n dJ11_append_3_56 rfl ?_
        obtain ⟨hcK, o28, hvK, hvc⟩ := hvc
        refine xw_get dJ11_append_3_57 hcJ12 in_J12 (kf := 0) (by decide) q695 (fun _ _ _ _ z => z) hcK hvK ?_
        refine xw_aload_n dJ11_append_3_60 rfl ?_
        refine xw_dup dJ11_append_3_61 rfl ?_
        obtain ⟨hcK, n29, hvK, hvc⟩ := hvc
        refine xw_get dJ11_append_3_62 hcJ12 in_J12 (kf := 3) (by decide) q698 (fun _ _ _ _ z => z) hcK hvK ?_
        refine xw_dup_x1 dJ11_append_3_65 rfl rfl ?_
        refine xw_iconst (1 : Int32) dJ11_append_3_66 (by decide) ?_
        refine xw_iadd dJ11_append_3_67 ?_
        obtain ⟨hcK, hvc⟩ := hvc
        refine xw_put dJ11_append_3_68 hcJ12 in_J12 tyJ12_ok xnmJ12 (kf := 3) (by decide) q698 (fun _ _ _ _ z => z) rfl rfl rfl hcK (Or.inl rfl) (fun h30 eh9 => ?_)
        replace hvc := hvc h30 eh9
        refine xw_iload_n dJ11_append_3_71 rfl ?_
        obtain ⟨d9, k9, hd9, hk9, hC9⟩ := hvc
        refine xw_callS dJ11_append_3_72 px_J14_putCharSB pm_J14_putCharSB q2670 q2671 (As := [xr o28, xi n29, xi x1]) (rest := []) rfl rfl (Nat.le_of_ble_eq_true rfl) hd9 hk9 hC9 (xkV_n fun h31 hvc => ?_) (fun q h hq => xTh_out0 rfl hq)
        refine xw_aload_n dJ11_append_3_75 rfl ?_
        exact xw_aret dJ11_append_3_76 rfl rfl hvc
      · replace hvc := hvc.2 hc
        refine xw_aload_n dJ11_append_3_52 rfl ?_
        obtain ⟨hcK, hvc⟩ := hvc
        obtain ⟨d9, k9, hd9, hk9, hC9⟩ := hvc
        refine xw_callVP dJ11_append_3_53 px_J11_inflate pm_J11_inflate q803 q805 (y' := yJ11_isLatin1) q757 rfl q804 hcJ12 hcK (As := []) (rest := []) rfl rfl (Nat.le_of_ble_eq_true rfl) hd9 hk9 hC9 (xkV_n fun h33 hvc => ?_) (fun q h hq => xTh_out0 rfl hq)
        refine xw_aload_n dJ11_append_3_56 rfl ?_
        obtain ⟨hcK, o35, hvK, hvc⟩ := hvc
        refine xw_get dJ11_append_3_57 hcJ12 in_J12 (kf := 0) (by decide) q695 (fun _ _ _ _ z => z) hcK hvK ?_
        refine xw_aload_n dJ11_append_3_60 rfl ?_
        refine xw_dup dJ11_append_3_61 rfl ?_
        obtain ⟨hcK, n36, hvK, hvc⟩ := hvc
        refine xw_get dJ11_append_3_62 hcJ12 in_J12 (kf := 3) (by decide) q698 (fun _ _ _ _ z => z) hcK hvK ?_
        refine xw_dup_x1 dJ11_append_3_65 rfl rfl ?_
        refine xw_iconst (1 : Int32) dJ11_append_3_66 (by decide) ?_
        refine xw_iadd dJ11_append_3_67 ?_
        obtain ⟨hcK, hvc⟩ := hvc
        refine xw_put dJ11_append_3_68 hcJ12 in_J12 tyJ12_ok xnmJ12 (kf := 3) (by decide) q698 (fun _ _ _ _ z => z) rfl rfl rfl hcK (Or.inl rfl) (fun h37 eh9 => ?_)
        replace hvc := hvc h37 eh9
        refine xw_iload_n dJ11_append_3_71 rfl ?_
        obtain ⟨d9, k9, hd9, hk9, hC9⟩ := hvc
        refine xw_callS dJ11_append_3_72 px_J14_putCharSB pm_J14_putCharSB q2670 q2671 (As := [xr o35, xi n36, xi x1]) (rest := []) rfl rfl (Nat.le_of_ble_eq_true rfl) hd9 hk9 hC9 (xkV_n fun h38 hvc => ?_) (fun q h hq => xTh_out0 rfl hq)
        refine xw_aload_n dJ11_append_3_75 rfl ?_
        exact xw_aret dJ11_append_3_76 rfl rfl hvc
    · replace hvc := hvc.2 hc
      refine xw_aload_n dJ11_append_3_24 rfl ?_
      obtain ⟨hcK, o40, hvK, hvc⟩ := hvc
      refine xw_get dJ11_append_3_25 hcJ12 in_J12 (kf := 0) (by decide) q695 (fun _ _ _ _ z => z) hcK hvK ?_
      refine xw_aload_n dJ11_append_3_28 rfl ?_
      refine xw_dup dJ11_append_3_29 rfl ?_
      obtain ⟨hcK, n41, hvK, hvc⟩ := hvc
      refine xw_get dJ11_append_3_30 hcJ12 in_J12 (kf := 3) (by decide) q698 (fun _ _ _ _ z => z) hcK hvK ?_
      refine xw_dup_x1 dJ11_append_3_33 rfl rfl ?_
      refine xw_iconst (1 : Int32) dJ11_append_3_34 (by decide) ?_
      refine xw_iadd dJ11_append_3_35 ?_
      obtain ⟨hcK, hvc⟩ := hvc
      refine xw_put dJ11_append_3_36 hcJ12 in_J12 tyJ12_ok xnmJ12 (kf := 3) (by decide) q698 (fun _ _ _ _ z => z) rfl rfl rfl hcK (Or.inl rfl) (fun h42 eh9 => ?_)
      replace hvc := hvc h42 eh9
      refine xw_iload_n dJ11_append_3_39 rfl ?_
      refine xw_i2b dJ11_append_3_40 ?_
      obtain ⟨a43, ho, hvc⟩ := hvc
      subst ho
      obtain ⟨hcK, hlo9, i44, hx9, hb9, hi9, hvc⟩ := hvc
      replace hvc := hvc _ rfl
      refine xw_bast (j := 0) dJ11_append_3_41 rfl hcK (Or.inr hlo9) hx9 hb9 hi9 rfl (fun h45 eh9 => ?_)
      replace hvc := hvc h45 eh9
      refine xw_goto 75 dJ11_append_3_42 rfl ?_
      refine xw_aload_n dJ11_append_3_75 rfl ?_
      exact xw_aret dJ11_append_3_76 rfl rfl hvc

theorem vc_J0_init {G : xG} {d K : Nat} {Q : xR → xH → Prop} {h : xH} {this : Nat}
    (hvc : 1 ≤ d ∧ Q (.inl none) h) : xCn G mJ0_init d K [xr (some this)] h Q := by
  refine xCn_of px_J0_init rfl rfl (Nat.le_of_ble_eq_true rfl) ?_
  show xWp G mJ0_init d K Q K 0 [some (xr (some this))] [] h
  refine xw_aload_n dJ0_init_0 rfl ?_
  obtain ⟨hd9, hvc⟩ := hvc
  refine xw_objInit dJ0_init_1 q221 q196 q197 hd9 (Nat.le_of_ble_eq_true rfl) ?_
  exact xw_vret dJ0_init_4 rfl hvc

theorem vc_J12_init {G : xG} {d K : Nat} {Q : xR → xH → Prop} {h : xH} {this : Nat}
    (hvc : xCall G d K mJ11_init [xr (some this), xi (16 : Int32)] h (xkV (fun h1 k2 => Q (.inl none) h1) (fun q h _ => Q (.inr q) h))) : xCn G mJ12_init d K [xr (some this)] h Q := by
  refine xCn_of px_J12_init rfl rfl (Nat.le_of_ble_eq_true rfl) ?_
  show xWp G mJ12_init d K Q K 0 [some (xr (some this))] [] h
  refine xw_aload_n dJ12_init_0 rfl ?_
  refine xw_bipush (16 : Int32) dJ12_init_1 (by decide) ?_
  obtain ⟨d9, k9, hd9, hk9, hC9⟩ := hvc
  refine xw_callI dJ12_init_3 px_J11_init pm_J11_init q682 q683 rfl rfl (As := [xi (16 : Int32)]) (rest := []) rfl rfl (Nat.le_of_ble_eq_true rfl) hd9 hk9 hC9 (xkV_n fun h1 hvc => ?_) (fun q h hq => xTh_out0 rfl hq)
  exact xw_vret dJ12_init_6 rfl hvc

theorem vc_J12_append {G : xG} {d K : Nat} {Q : xR → xH → Prop} {h : xH} {this : Nat} {o900 : Option Nat}
    (hvc : xcls h this = 11 ∧ xCall G d K mJ11_append [xr (some this), xr o900] h (xkR (fun o3 h1 k2 => Q (.inl (some (xr (some this)))) h1) (fun q h _ => Q (.inr q) h))) : xCn G mJ12_append d K [xr (some this), xr o900] h Q := by
  refine xCn_of px_J12_append rfl rfl (Nat.le_of_ble_eq_true rfl) ?_
  show xWp G mJ12_append d K Q K 0 [some (xr (some this)), some (xr o900)] [] h
  refine xw_aload_n dJ12_append_0 rfl ?_
  refine xw_aload_n dJ12_append_1 rfl ?_
  obtain ⟨hcK, hvc⟩ := hvc
  obtain ⟨d9, k9, hd9, hk9, hC9⟩ := hvc
  refine xw_callSU dJ12_append_2 px_J11_append pm_J11_append q712 q3476 q707 q713 (by decide) hcJ12 hcK (As := [xr o900]) (rest := []) rfl rfl (Nat.le_of_ble_eq_true rfl) hd9 hk9 hC9 (xkR_n fun o3 h1 hvc => ?_) (fun q h hq => xTh_out0 rfl hq)
  refine xw_pop dJ12_append_5 rfl ?_
  refine xw_aload_n dJ12_append_6 rfl ?_
  exact xw_aret dJ12_append_7 rfl rfl hvc

theorem vc_J12_toString {G : xG} {d K : Nat} {Q : xR → xH → Prop} {h : xH} {this : Nat}
    (hvc : 5 ≤ K ∧ ∀ (h1 : xH) (a2 : Nat), a2 = xsz h → h1 = xnew h 12 4 (fun j => xdf (tyJ13 j)) → xCall G d (K - 5) mJ13_init [xr (some a2), xr (some this)] h1 (xkV (fun h3 k4 => Q (.inl (some (xr (some a2)))) h3) (fun q h _ => Q (.inr q) h))) : xCn G mJ12_toString d K [xr (some this)] h Q := by
  refine xCn_of px_J12_toString rfl rfl (Nat.le_of_ble_eq_true rfl) ?_
  show xWp G mJ12_toString d K Q K 0 [some (xr (some this))] [] h
  obtain ⟨hle, hvc⟩ := hvc
  refine xw_new dJ12_toString_0 hcJ13 in_J13 tyJ13_ok q833 q834 q129 hle (fun h1 a2 ea9 eh9 => ?_)
  replace hvc := hvc h1 a2 ea9 eh9
  refine xw_dup dJ12_toString_3 rfl ?_
  refine xw_aload_n dJ12_toString_4 rfl ?_
  obtain ⟨d9, k9, hd9, hk9, hC9⟩ := hvc
  refine xw_callI dJ12_toString_5 px_J13_init pm_J13_init q835 q836 rfl rfl (As := [xr (some this)]) (rest := [xr (some a2)]) rfl rfl (Nat.le_of_ble_eq_true rfl) hd9 hk9 hC9 (xkV_n fun h3 hvc => ?_) (fun q h hq => xTh_out0 rfl hq)
  exact xw_aret dJ12_toString_8 rfl rfl hvc

theorem vc_J12_length {G : xG} {d K : Nat} {Q : xR → xH → Prop} {h : xH} {this : Nat}
    (hvc : xcls h this = 11 ∧ xCall G d K mJ11_length [xr (some this)] h (xkI (fun n3 h1 k2 => Q (.inl (some (xi n3))) h1) (fun q h _ => Q (.inr q) h))) : xCn G mJ12_length d K [xr (some this)] h Q := by
  refine xCn_of px_J12_length rfl rfl (Nat.le_of_ble_eq_true rfl) ?_
  show xWp G mJ12_length d K Q K 0 [some (xr (some this))] [] h
  refine xw_aload_n dJ12_length_0 rfl ?_
  obtain ⟨hcK, hvc⟩ := hvc
  obtain ⟨d9, k9, hd9, hk9, hC9⟩ := hvc
  refine xw_callSU dJ12_length_1 px_J11_length pm_J11_length q853 q849 q707 q848 (by decide) hcJ12 hcK (As := []) (rest := []) rfl rfl (Nat.le_of_ble_eq_true rfl) hd9 hk9 hC9 (xkI_n fun n3 h1 hvc => ?_) (fun q h hq => xTh_out0 rfl hq)
  exact xw_iret dJ12_length_4 rfl hvc

theorem vc_J12_compareTo {G : xG} {d K : Nat} {Q : xR → xH → Prop} {h : xH} {this : Nat} {o900 : Option Nat}
    (hvc : (∀ b, o900 = some b → xcls h b ∈ cst_java_lang_StringBuilder) ∧ xcls h this = 11 ∧ xCall G d K mJ12_compareTo_2 [xr (some this), xr o900] h (xkI (fun n3 h1 k2 => Q (.inl (some (xi n3))) h1) (fun q h _ => Q (.inr q) h))) : xCn G mJ12_compareTo d K [xr (some this), xr o900] h Q := by
  refine xCn_of px_J12_compareTo rfl rfl (Nat.le_of_ble_eq_true rfl) ?_
  show xWp G mJ12_compareTo d K Q K 0 [some (xr (some this)), some (xr o900)] [] h
  refine xw_aload_n dJ12_compareTo_0 rfl ?_
  refine xw_aload_n dJ12_compareTo_1 rfl ?_
  obtain ⟨hcs, hvc⟩ := hvc
  refine xw_castC dJ12_compareTo_2 q2510 (fun b hb => cst_java_lang_StringBuilder_ok _ (hcs b hb)) ?_
  obtain ⟨hcK, hvc⟩ := hvc
  obtain ⟨d9, k9, hd9, hk9, hC9⟩ := hvc
  refine xw_callV dJ12_compareTo_5 px_J12_compareTo_2 pm_J12_compareTo_2 q2511 q2512 q2513 hcJ12 hcK (As := [xr o900]) (rest := []) rfl rfl (Nat.le_of_ble_eq_true rfl) hd9 hk9 hC9 (xkI_n fun n3 h1 hvc => ?_) (fun q h hq => xTh_out0 rfl hq)
  exact xw_iret dJ12_compareTo_8 rfl hvc

theorem vc_J12_compareTo_2 {G : xG} {d K : Nat} {Q : xR → xH → Prop} {h : xH} {this : Nat} {o900 : Option Nat}
    (hvc : xcls h this = 11 ∧ xCall G d K mJ11_compareTo [xr (some this), xr o900] h (xkI (fun n3 h1 k2 => Q (.inl (some (xi n3))) h1) (fun q h _ => Q (.inr q) h))) : xCn G mJ12_compareTo_2 d K [xr (some this), xr o900] h Q := by
  refine xCn_of px_J12_compareTo_2 rfl rfl (Nat.le_of_ble_eq_true rfl) ?_
  show xWp G mJ12_compareTo_2 d K Q K 0 [some (xr (some this)), some (xr o900)] [] h
  refine xw_aload_n dJ12_compareTo_2_0 rfl ?_
  refine xw_aload_n dJ12_compareTo_2_1 rfl ?_
  obtain ⟨hcK, hvc⟩ := hvc
  obtain ⟨d9, k9, hd9, hk9, hC9⟩ := hvc
  refine xw_callSU dJ12_compareTo_2_2 px_J11_compareTo pm_J11_compareTo q2515 q3488 q707 q2516 (by decide) hcJ12 hcK (As := [xr o900]) (rest := []) rfl rfl (Nat.le_of_ble_eq_true rfl) hd9 hk9 hC9 (xkI_n fun n3 h1 hvc => ?_) (fun q h hq => xTh_out0 rfl hq)
  exact xw_iret dJ12_compareTo_2_5 rfl hvc

theorem vc_J12_append_2 {G : xG} {d K : Nat} {Q : xR → xH → Prop} {h : xH} {this : Nat} {x1 : Int32}
    (hvc : xcls h this = 11 ∧ xCall G d K mJ11_append_2 [xr (some this), xi x1] h (xkR (fun o3 h1 k2 => Q (.inl (some (xr (some this)))) h1) (fun q h _ => Q (.inr q) h))) : xCn G mJ12_append_2 d K [xr (some this), xi x1] h Q := by
  refine xCn_of px_J12_append_2 rfl rfl (Nat.le_of_ble_eq_true rfl) ?_
  show xWp G mJ12_append_2 d K Q K 0 [some (xr (some this)), some (xi x1)] [] h
  refine xw_aload_n dJ12_append_2_0 rfl ?_
  refine xw_iload_n dJ12_append_2_1 rfl ?_
  obtain ⟨hcK, hvc⟩ := hvc
  obtain ⟨d9, k9, hd9, hk9, hC9⟩ := hvc
  refine xw_callSU dJ12_append_2_2 px_J11_append_2 pm_J11_append_2 q2636 q3489 q707 q2637 (by decide) hcJ12 hcK (As := [xi x1]) (rest := []) rfl rfl (Nat.le_of_ble_eq_true rfl) hd9 hk9 hC9 (xkR_n fun o3 h1 hvc => ?_) (fun q h hq => xTh_out0 rfl hq)
  refine xw_pop dJ12_append_2_5 rfl ?_
  refine xw_aload_n dJ12_append_2_6 rfl ?_
  exact xw_aret dJ12_append_2_7 rfl rfl hvc

theorem vc_J12_append_3 {G : xG} {d K : Nat} {Q : xR → xH → Prop} {h : xH} {this : Nat} {x1 : Int32}
    (hvc : xcls h this = 11 ∧ xCall G d K mJ11_append_3 [xr (some this), xi x1] h (xkR (fun o3 h1 k2 => Q (.inl (some (xr (some this)))) h1) (fun q h _ => Q (.inr q) h))) : xCn G mJ12_append_3 d K [xr (some this), xi x1] h Q := by
  refine xCn_of px_J12_append_3 rfl rfl (Nat.le_of_ble_eq_true rfl) ?_
  show xWp G mJ12_append_3 d K Q K 0 [some (xr (some this)), some (xi x1)] [] h
  refine xw_aload_n dJ12_append_3_0 rfl ?_
  refine xw_iload_n dJ12_append_3_1 rfl ?_
  obtain ⟨hcK, hvc⟩ := hvc
  obtain ⟨d9, k9, hd9, hk9, hC9⟩ := hvc
  refine xw_callSU dJ12_append_3_2 px_J11_append_3 pm_J11_append_3 q2664 q3490 q707 q2665 (by decide) hcJ12 hcK (As := [xi x1]) (rest := []) rfl rfl (Nat.le_of_ble_eq_true rfl) hd9 hk9 hC9 (xkR_n fun o3 h1 hvc => ?_) (fun q h hq => xTh_out0 rfl hq)
  refine xw_pop dJ12_append_3_5 rfl ?_
  refine xw_aload_n dJ12_append_3_6 rfl ?_
  exact xw_aret dJ12_append_3_7 rfl rfl hvc

theorem vc_J5_checkIndex {G : xG} {d K : Nat} {Q : xR → xH → Prop} {h : xH} {x1 : Int32} {x2 : Int32}
    (hvc : xCall G d K mJ6_checkIndex [xi x1, xi x2, xr none] h (xkI (fun n3 h1 k2 => Q (.inl (some (xi n3))) h1) (fun q h _ => Q (.inr q) h))) : xCn G mJ5_checkIndex d K [xi x1, xi x2] h Q := by
  refine xCn_of px_J5_checkIndex rfl rfl (Nat.le_of_ble_eq_true rfl) ?_
  show xWp G mJ5_checkIndex d K Q K 0 [some (xi x1), some (xi x2)] [] h
  refine xw_iload_n dJ5_checkIndex_0 rfl ?_
  refine xw_iload_n dJ5_checkIndex_1 rfl ?_
  refine xw_null dJ5_checkIndex_2 ?_
  obtain ⟨d9, k9, hd9, hk9, hC9⟩ := hvc
  refine xw_callS dJ5_checkIndex_3 px_J6_checkIndex pm_J6_checkIndex q516 q517 (As := [xi x1, xi x2, xr none]) (rest := []) rfl rfl (Nat.le_of_ble_eq_true rfl) hd9 hk9 hC9 (xkI_n fun n3 h1 hvc => ?_) (fun q h hq => xTh_out0 rfl hq)
  exact xw_iret dJ5_checkIndex_6 rfl hvc

theorem vc_J19_init {G : xG} {d K : Nat} {Q : xR → xH → Prop} {h : xH} {this : Nat}
    (hvc : xCall G d K mJ1_init [xr (some this)] h (xkV (fun h1 k2 => Q (.inl none) h1) (fun q h _ => Q (.inr q) h))) : xCn G mJ19_init d K [xr (some this)] h Q := by
  refine xCn_of px_J19_init rfl rfl (Nat.le_of_ble_eq_true rfl) ?_
  show xWp G mJ19_init d K Q K 0 [some (xr (some this))] [] h
  refine xw_aload_n dJ19_init_0 rfl ?_
  obtain ⟨d9, k9, hd9, hk9, hC9⟩ := hvc
  refine xw_callI dJ19_init_1 px_J1_init pm_J1_init q1289 q216 rfl rfl (As := []) (rest := []) rfl rfl (Nat.le_of_ble_eq_true rfl) hd9 hk9 hC9 (xkV_n fun h1 hvc => ?_) (fun q h hq => xTh_out0 rfl hq)
  exact xw_vret dJ19_init_4 rfl hvc

theorem vc_J19_iterator {G : xG} {d K : Nat} {Q : xR → xH → Prop} {h : xH} {this : Nat}
    (hvc : xcls h this = 17 ∧ xCall G d K mJ1_listIterator [xr (some this)] h (xkR (fun o3 h1 k2 => Q (.inl (some (xr o3))) h1) (fun q h _ => Q (.inr q) h))) : xCn G mJ19_iterator d K [xr (some this)] h Q := by
  refine xCn_of px_J19_iterator rfl rfl (Nat.le_of_ble_eq_true rfl) ?_
  show xWp G mJ19_iterator d K Q K 0 [some (xr (some this))] [] h
  refine xw_aload_n dJ19_iterator_0 rfl ?_
  obtain ⟨hcK, hvc⟩ := hvc
  obtain ⟨d9, k9, hd9, hk9, hC9⟩ := hvc
  refine xw_callU dJ19_iterator_1 px_J1_listIterator pm_J1_listIterator q1387 q1388 q1389 (by decide) rfl q1390 q1391 hcJ20 hcK (As := []) (rest := []) rfl rfl (Nat.le_of_ble_eq_true rfl) hd9 hk9 hC9 (xkR_n fun o3 h1 hvc => ?_) (fun q h hq => xTh_out0 rfl hq)
  exact xw_aret dJ19_iterator_4 rfl rfl hvc

theorem vc_J24_hasNext {G : xG} {d K : Nat} {Q : xR → xH → Prop} {h : xH} {this : Nat}
    (hvc : xcls h this = 22 ∧ ∃ n1 : Int32, xval h this 2 = xi n1 ∧ xcls h this = 22 ∧ ∃ o2 : Option Nat, xval h this 4 = xr o2 ∧ ∃ a3, o2 = some a3 ∧ xcls h a3 = 17 ∧ ∃ n4 : Int32, xval h a3 1 = xi n4 ∧ ((n4 ≤ n1 → Q (.inl (some (xi (0 : Int32)))) h) ∧ (¬ n4 ≤ n1 → Q (.inl (some (xi (1 : Int32)))) h))) : xCn G mJ24_hasNext d K [xr (some this)] h Q := by
  refine xCn_of px_J24_hasNext rfl rfl (Nat.le_of_ble_eq_true rfl) ?_
  show xWp G mJ24_hasNext d K Q K 0 [some (xr (some this))] [] h
  refine xw_aload_n dJ24_hasNext_0 rfl ?_
  obtain ⟨hcK, n1, hvK, hvc⟩ := hvc
  refine xw_get dJ24_hasNext_1 hcJ24 in_J24 (kf := 2) (by decide) q1437 (fun _ _ _ _ z => z) hcK hvK ?_
  refine xw_aload_n dJ24_hasNext_4 rfl ?_
  obtain ⟨hcK, o2, hvK, hvc⟩ := hvc
  refine xw_get dJ24_hasNext_5 hcJ24 in_J24 (kf := 4) (by decide) q1439 (fun _ _ _ _ z => z) hcK hvK ?_
  obtain ⟨a3, ho, hvc⟩ := hvc
  subst ho
  obtain ⟨hcK, n4, hvK, hvc⟩ := hvc
  refine xw_get dJ24_hasNext_8 hcJ20 in_J20 (kf := 1) (by decide) q1291 (fun _ _ _ _ z => z) hcK hvK ?_
  refine xw_icmp_ge 18 dJ24_hasNext_11 rfl (fun hc => ?_) (fun hc => ?_)
  · replace hvc := hvc.1 hc
    refine xw_iconst (0 : Int32) dJ24_hasNext_18 (by decide) ?_
    exact xw_zret dJ24_hasNext_19 rfl rfl hvc
  · replace hvc := hvc.2 hc
    refine xw_iconst (1 : Int32) dJ24_hasNext_14 (by decide) ?_
    refine xw_goto 19 dJ24_hasNext_15 rfl ?_
    exact xw_zret dJ24_hasNext_19 rfl rfl hvc

theorem vc_J24_next {G : xG} {d K : Nat} {Q : xR → xH → Prop} {h : xH} {this : Nat}
    (hvc : xcls h this = 22 ∧ xCall G d K mJ24_checkForComodification [xr (some this)] h (xkV (fun h1 k2 => xcls h1 this = 22 ∧ xCall G d k2 mJ24_hasNext [xr (some this)] h1 (xkI (fun n5 h3 k4 => ((¬ n5 = 0 → xcls h3 this = 22 ∧ ∃ o6 : Option Nat, xval h3 this 1 = xr o6 ∧ xcls h3 this = 22 ∧ ∀ h7 : xH, h7 = xput h3 this 0 (xr o6) → xcls h7 this = 22 ∧ ∃ o8 : Option Nat, xval h7 this 1 = xr o8 ∧ ∃ a9, o8 = some a9 ∧ xcls h7 a9 = 25 ∧ ∃ o10 : Option Nat, xval h7 a9 1 = xr o10 ∧ xcls h7 this = 22 ∧ ∀ h11 : xH, h11 = xput h7 this 1 (xr o10) → xcls h11 this = 22 ∧ ∃ n12 : Int32, xval h11 this 2 = xi n12 ∧ xcls h11 this = 22 ∧ ∀ h13 : xH, h13 = xput h11 this 2 (xi (n12 + (1 : Int32))) → xcls h13 this = 22 ∧ ∃ o14 : Option Nat, xval h13 this 0 = xr o14 ∧ ∃ a15, o14 = some a15 ∧ xcls h13 a15 = 25 ∧ ∃ o16 : Option Nat, xval h13 a15 0 = xr o16 ∧ Q (.inl (some (xr o16))) h13) ∧ (n5 = 0 → False))) (fun q h _ => Q (.inr q) h))) (fun q h _ => Q (.inr q) h))) : xCn G mJ24_next d K [xr (some this)] h Q := by
  refine xCn_of px_J24_next rfl rfl (Nat.le_of_ble_eq_true rfl) ?_
  show xWp G mJ24_next d K Q K 0 [some (xr (some this))] [] h
  refine xw_aload_n dJ24_next_0 rfl ?_
  obtain ⟨hcK, hvc⟩ := hvc
  obtain ⟨d9, k9, hd9, hk9, hC9⟩ := hvc
  refine xw_callV dJ24_next_1 px_J24_checkForComodification pm_J24_checkForComodification q933 q934 q935 hcJ24 hcK (As := []) (rest := []) rfl rfl (Nat.le_of_ble_eq_true rfl) hd9 hk9 hC9 (xkV_n fun h1 hvc => ?_) (fun q h hq => xTh_out0 rfl hq)
  refine xw_aload_n dJ24_next_4 rfl ?_
  obtain ⟨hcK, hvc⟩ := hvc
  obtain ⟨d9, k9, hd9, hk9, hC9⟩ := hvc
  refine xw_callV dJ24_next_5 px_J24_hasNext pm_J24_hasNext q937 q480 q3483 hcJ24 hcK (As := []) (rest := []) rfl rfl (Nat.le_of_ble_eq_true rfl) hd9 hk9 hC9 (xkI_n fun n5 h3 hvc => ?_) (fun q h hq => xTh_out0 rfl hq)
  refine xw_if_ne 19 dJ24_next_8 rfl (fun hc => ?_) (fun hc => ?_)
  · replace hvc := hvc.1 hc
    refine xw_aload_n dJ24_next_19 rfl ?_
    refine xw_aload_n dJ24_next_20 rfl ?_
    obtain ⟨hcK, o6, hvK, hvc⟩ := hvc
    refine xw_get dJ24_next_21 hcJ24 in_J24 (kf := 1) (by decide) q1436 (fun _ _ _ _ z => z) hcK hvK ?_
    obtain ⟨hcK, hvc⟩ := hvc
    refine xw_put dJ24_next_24 hcJ24 in_J24 tyJ24_ok xnmJ24 (kf := 0) (by decide) q1435 (fun _ _ _ _ z => z) rfl (xnar_r _ rfl _).1 (xnar_r _ rfl _).2 hcK (Or.inl rfl) (fun h7 eh9 => ?_)
    replace hvc := hvc h7 eh9
    refine xw_aload_n dJ24_next_27 rfl ?_
    refine xw_aload_n dJ24_next_28 rfl ?_
    obtain ⟨hcK, o8, hvK, hvc⟩ := hvc
    refine xw_get dJ24_next_29 hcJ24 in_J24 (kf := 1) (by decide) q1436 (fun _ _ _ _ z => z) hcK hvK ?_
    obtain ⟨a9, ho, hvc⟩ := hvc
    subst ho
    obtain ⟨hcK, o10, hvK, hvc⟩ := hvc
    refine xw_get dJ24_next_32 hcJ27 in_J27 (kf := 1) (by decide) q1666 (fun _ _ _ _ z => z) hcK hvK ?_
    obtain ⟨hcK, hvc⟩ := hvc
    refine xw_put dJ24_next_35 hcJ24 in_J24 tyJ24_ok xnmJ24 (kf := 1) (by decide) q1436 (fun _ _ _ _ z => z) rfl (xnar_r _ rfl _).1 (xnar_r _ rfl _).2 hcK (Or.inl rfl) (fun h11 eh9 => ?_)
    replace hvc := hvc h11 eh9
    refine xw_aload_n dJ24_next_38 rfl ?_
    refine xw_dup dJ24_next_39 rfl ?_
    obtain ⟨hcK, n12, hvK, hvc⟩ := hvc
    refine xw_get dJ24_next_40 hcJ24 in_J24 (kf := 2) (by decide) q1437 (fun _ _ _ _ z => z) hcK hvK ?_
    refine xw_iconst (1 : Int32) dJ24_next_43 (by decide) ?_
    refine xw_iadd dJ24_next_44 ?_
    obtain ⟨hcK, hvc⟩ := hvc
    refine xw_put dJ24_next_45 hcJ24 in_J24 tyJ24_ok xnmJ24 (kf := 2) (by decide) q1437 (fun _ _ _ _ z => z) rfl rfl rfl hcK (Or.inl rfl) (fun h13 eh9 => ?_)
    replace hvc := hvc h13 eh9
    refine xw_aload_n dJ24_next_48 rfl ?_
    obtain ⟨hcK, o14, hvK, hvc⟩ := hvc
    refine xw_get dJ24_next_49 hcJ24 in_J24 (kf := 0) (by decide) q1435 (fun _ _ _ _ z => z) hcK hvK ?_
    obtain ⟨a15, ho, hvc⟩ := hvc
    subst ho
    obtain ⟨hcK, o16, hvK, hvc⟩ := hvc
    refine xw_get dJ24_next_52 hcJ27 in_J27 (kf := 0) (by decide) q1663 (fun _ _ _ _ z => z) hcK hvK ?_
    exact xw_aret dJ24_next_55 rfl rfl hvc
  · replace hvc := hvc.2 hc
    exact hvc.elim

theorem vc_J24_checkForComodification {G : xG} {d K : Nat} {Q : xR → xH → Prop} {h : xH} {this : Nat}
    (hvc : xcls h this = 22 ∧ ∃ o1 : Option Nat, xval h this 4 = xr o1 ∧ ∃ a2, o1 = some a2 ∧ xcls h a2 = 17 ∧ ∃ n3 : Int32, xval h a2 0 = xi n3 ∧ xcls h this = 22 ∧ ∃ n4 : Int32, xval h this 3 = xi n4 ∧ ((n3 = n4 → Q (.inl none) h) ∧ (¬ n3 = n4 → False))) : xCn G mJ24_checkForComodification d K [xr (some this)] h Q := by
  refine xCn_of px_J24_checkForComodification rfl rfl (Nat.le_of_ble_eq_true rfl) ?_
  show xWp G mJ24_checkForComodification d K Q K 0 [some (xr (some this))] [] h
  refine xw_aload_n dJ24_checkForComodification_0 rfl ?_
  obtain ⟨hcK, o1, hvK, hvc⟩ := hvc
  refine xw_get dJ24_checkForComodification_1 hcJ24 in_J24 (kf := 4) (by decide) q1439 (fun _ _ _ _ z => z) hcK hvK ?_
  obtain ⟨a2, ho, hvc⟩ := hvc
  subst ho
  obtain ⟨hcK, n3, hvK, hvc⟩ := hvc
  refine xw_get dJ24_checkForComodification_4 hcJ20 in_J20 (kf := 0) (by decide) q229 (fun _ _ hw _ z => u_same (hw _ q230) _ z) hcK hvK ?_
  refine xw_aload_n dJ24_checkForComodification_7 rfl ?_
  obtain ⟨hcK, n4, hvK, hvc⟩ := hvc
  refine xw_get dJ24_checkForComodification_8 hcJ24 in_J24 (kf := 3) (by decide) q1438 (fun _ _ _ _ z => z) hcK hvK ?_
  refine xw_icmp_eq 22 dJ24_checkForComodification_11 rfl (fun hc => ?_) (fun hc => ?_)
  · replace hvc := hvc.1 hc
    exact xw_vret dJ24_checkForComodification_22 rfl hvc
  · replace hvc := hvc.2 hc
    exact hvc.elim

theorem vc_J24_init {G : xG} {d K : Nat} {Q : xR → xH → Prop} {h : xH} {this : Nat} {o900 : Option Nat} {x2 : Int32}
    (hvc : xcls h this = 22 ∧ ∀ h1 : xH, h1 = xput h this 4 (xr o900) → 1 ≤ d ∧ xcls h1 this = 22 ∧ ∃ o2 : Option Nat, xval h1 this 4 = xr o2 ∧ ∃ a3, o2 = some a3 ∧ xcls h1 a3 = 17 ∧ ∃ n4 : Int32, xval h1 a3 0 = xi n4 ∧ xcls h1 this = 22 ∧ ∀ h5 : xH, h5 = xput h1 this 3 (xi n4) → ∃ a6, o900 = some a6 ∧ xcls h5 a6 = 17 ∧ ∃ n7 : Int32, xval h5 a6 1 = xi n7 ∧ ((¬ x2 = n7 → xcls h5 a6 = 17 ∧ xCall G d K mJ20_node [xr (some a6), xi x2] h5 (xkR (fun o10 h8 k9 => xcls h8 this = 22 ∧ ∀ h11 : xH, h11 = xput h8 this 1 (xr o10) → xcls h11 this = 22 ∧ ∀ h12 : xH, h12 = xput h11 this 2 (xi x2) → Q (.inl none) h12) (fun q h _ => Q (.inr q) h))) ∧ (x2 = n7 → xcls h5 this = 22 ∧ ∀ h13 : xH, h13 = xput h5 this 1 (xr none) → xcls h13 this = 22 ∧ ∀ h14 : xH, h14 = xput h13 this 2 (xi x2) → Q (.inl none) h14))) : xCn G mJ24_init d K [xr (some this), xr o900, xi x2] h Q := by
  refine xCn_of px_J24_init rfl rfl (Nat.le_of_ble_eq_true rfl) ?_
  show xWp G mJ24_init d K Q K 0 [some (xr (some this)), some (xr o900), some (xi x2)] [] h
  refine xw_aload_n dJ24_init_0 rfl ?_
  refine xw_aload_n dJ24_init_1 rfl ?_
  obtain ⟨hcK, hvc⟩ := hvc
  refine xw_putF dJ24_init_2 hcJ24 in_J24 tyJ24_ok xnmJ24 (kf := 4) (by decide) q1439 (fun _ _ _ _ z => z) rfl rfl rfl (xnar_r _ rfl _).1 (xnar_r _ rfl _).2 hcK (Or.inl rfl) (fun h1 eh9 => ?_)
  replace hvc := hvc h1 eh9
  refine xw_aload_n dJ24_init_5 rfl ?_
  obtain ⟨hd9, hvc⟩ := hvc
  refine xw_objInit dJ24_init_6 q1433 q196 q197 hd9 (Nat.le_of_ble_eq_true rfl) ?_
  refine xw_aload_n dJ24_init_9 rfl ?_
  refine xw_aload_n dJ24_init_10 rfl ?_
  obtain ⟨hcK, o2, hvK, hvc⟩ := hvc
  refine xw_get dJ24_init_11 hcJ24 in_J24 (kf := 4) (by decide) q1439 (fun _ _ _ _ z => z) hcK hvK ?_
  obtain ⟨a3, ho, hvc⟩ := hvc
  subst ho
  obtain ⟨hcK, n4, hvK, hvc⟩ := hvc
  refine xw_get dJ24_init_14 hcJ20 in_J20 (kf := 0) (by decide) q229 (fun _ _ hw _ z => u_same (hw _ q230) _ z) hcK hvK ?_
  obtain ⟨hcK, hvc⟩ := hvc
  refine xw_put dJ24_init_17 hcJ24 in_J24 tyJ24_ok xnmJ24 (kf := 3) (by decide) q1438 (fun _ _ _ _ z => z) rfl rfl rfl hcK (Or.inl rfl) (fun h5 eh9 => ?_)
  replace hvc := hvc h5 eh9
  refine xw_aload_n dJ24_init_20 rfl ?_
  refine xw_iload_n dJ24_init_21 rfl ?_
  refine xw_aload_n dJ24_init_22 rfl ?_
  obtain ⟨a6, ho, hvc⟩ := hvc
  subst ho
  obtain ⟨hcK, n7, hvK, hvc⟩ := hvc
  refine xw_get dJ24_init_23 hcJ20 in_J20 (kf := 1) (by decide) q1291 (fun _ _ _ _ z => z) hcK hvK ?_
  refine xw_icmp_ne 33 dJ24_init_26 rfl (fun hc => ?_) (fun hc => ?_)
  · replace hvc := hvc.1 hc
    refine xw_aload_n dJ24_init_33 rfl ?_
    refine xw_iload_n dJ24_init_34 rfl ?_
    obtain ⟨hcK, hvc⟩ := hvc
    obtain ⟨d9, k9, hd9, hk9, hC9⟩ := hvc
    refine xw_callV dJ24_init_35 px_J20_node pm_J20_node q1434 q536 q537 hcJ20 hcK (As := [xi x2]) (rest := [xr (some this)]) rfl rfl (Nat.le_of_ble_eq_true rfl) hd9 hk9 hC9 (xkR_n fun o10 h8 hvc => ?_) (fun q h hq => xTh_out0 rfl hq)
    obtain ⟨hcK, hvc⟩ := hvc
    refine xw_put dJ24_init_38 hcJ24 in_J24 tyJ24_ok xnmJ24 (kf := 1) (by decide) q1436 (fun _ _ _ _ z => z) rfl (xnar_r _ rfl _).1 (xnar_r _ rfl _).2 hcK (Or.inl rfl) (fun h11 eh9 => ?_)
    replace hvc := hvc h11 eh9
    refine xw_aload_n dJ24_init_41 rfl ?_
    refine xw_iload_n dJ24_init_42 rfl ?_
    obtain ⟨hcK, hvc⟩ := hvc
    refine xw_put dJ24_init_43 hcJ24 in_J24 tyJ24_ok xnmJ24 (kf := 2) (by decide) q1437 (fun _ _ _ _ z => z) rfl rfl rfl hcK (Or.inl rfl) (fun h12 eh9 => ?_)
    replace hvc := hvc h12 eh9
    exact xw_vret dJ24_init_46 rfl hvc
  · replace hvc := hvc.2 hc
    refine xw_null dJ24_init_29 ?_
    refine xw_goto 38 dJ24_init_30 rfl ?_
    obtain ⟨hcK, hvc⟩ := hvc
    refine xw_put dJ24_init_38 hcJ24 in_J24 tyJ24_ok xnmJ24 (kf := 1) (by decide) q1436 (fun _ _ _ _ z => z) rfl (xnar_r _ rfl _).1 (xnar_r _ rfl _).2 hcK (Or.inl rfl) (fun h13 eh9 => ?_)
    replace hvc := hvc h13 eh9
    refine xw_aload_n dJ24_init_41 rfl ?_
    refine xw_iload_n dJ24_init_42 rfl ?_
    obtain ⟨hcK, hvc⟩ := hvc
    refine xw_put dJ24_init_43 hcJ24 in_J24 tyJ24_ok xnmJ24 (kf := 2) (by decide) q1437 (fun _ _ _ _ z => z) rfl rfl rfl hcK (Or.inl rfl) (fun h14 eh9 => ?_)
    replace hvc := hvc h14 eh9
    exact xw_vret dJ24_init_46 rfl hvc

theorem vc_J8_init {G : xG} {d K : Nat} {Q : xR → xH → Prop} {h : xH} {this : Nat} {o900 : Option Nat}
    (hvc : xCall G d K mJ7_init_2 [xr (some this), xr o900] h (xkV (fun h1 k2 => Q (.inl none) h1) (fun q h _ => Q (.inr q) h))) : xCn G mJ8_init d K [xr (some this), xr o900] h Q := by
  refine xCn_of px_J8_init rfl rfl (Nat.le_of_ble_eq_true rfl) ?_
  show xWp G mJ8_init d K Q K 0 [some (xr (some this)), some (xr o900)] [] h
  refine xw_aload_n dJ8_init_0 rfl ?_
  refine xw_aload_n dJ8_init_1 rfl ?_
  obtain ⟨d9, k9, hd9, hk9, hC9⟩ := hvc
  refine xw_callI dJ8_init_2 px_J7_init_2 pm_J7_init_2 q590 q591 rfl rfl (As := [xr o900]) (rest := []) rfl rfl (Nat.le_of_ble_eq_true rfl) hd9 hk9 hC9 (xkV_n fun h1 hvc => ?_) (fun q h hq => xTh_out0 rfl hq)
  exact xw_vret dJ8_init_5 rfl hvc

theorem vc_J8_init_2 {G : xG} {d K : Nat} {Q : xR → xH → Prop} {h : xH} {this : Nat} {o900 : Option Nat} {o901 : Option Nat} {x3 : Int32} {x4 : Int32}
    (hvc : xCall G d K mJ7_init_3 [xr (some this), xr o900, xr o901, xi x3, xi x4] h (xkV (fun h1 k2 => Q (.inl none) h1) (fun q h _ => Q (.inr q) h))) : xCn G mJ8_init_2 d K [xr (some this), xr o900, xr o901, xi x3, xi x4] h Q := by
  refine xCn_of px_J8_init_2 rfl rfl (Nat.le_of_ble_eq_true rfl) ?_
  show xWp G mJ8_init_2 d K Q K 0 [some (xr (some this)), some (xr o900), some (xr o901), some (xi x3), some (xi x4)] [] h
  refine xw_aload_n dJ8_init_2_0 rfl ?_
  refine xw_aload_n dJ8_init_2_1 rfl ?_
  refine xw_aload_n dJ8_init_2_2 rfl ?_
  refine xw_iload_n dJ8_init_2_3 rfl ?_
  refine xw_iload dJ8_init_2_4 rfl ?_
  obtain ⟨d9, k9, hd9, hk9, hC9⟩ := hvc
  refine xw_callI dJ8_init_2_6 px_J7_init_3 pm_J7_init_3 q1140 q1141 rfl rfl (As := [xr o900, xr o901, xi x3, xi x4]) (rest := []) rfl rfl (Nat.le_of_ble_eq_true rfl) hd9 hk9 hC9 (xkV_n fun h1 hvc => ?_) (fun q h hq => xTh_out0 rfl hq)
  exact xw_vret dJ8_init_2_9 rfl hvc

theorem vc_J2_init {G : xG} {d K : Nat} {Q : xR → xH → Prop} {h : xH} {this : Nat}
    (hvc : xCall G d K mJ1_init [xr (some this)] h (xkV (fun h1 k2 => ∃ o3 : Option Nat, G.2.1 0 = xr o3 ∧ xcls h1 this = 4 ∧ ∀ h4 : xH, h4 = xput h1 this 1 (xr o3) → Q (.inl none) h4) (fun q h _ => Q (.inr q) h))) : xCn G mJ2_init d K [xr (some this)] h Q := by
  refine xCn_of px_J2_init rfl rfl (Nat.le_of_ble_eq_true rfl) ?_
  show xWp G mJ2_init d K Q K 0 [some (xr (some this))] [] h
  refine xw_aload_n dJ2_init_0 rfl ?_
  obtain ⟨d9, k9, hd9, hk9, hC9⟩ := hvc
  refine xw_callI dJ2_init_1 px_J1_init pm_J1_init q215 q216 rfl rfl (As := []) (rest := []) rfl rfl (Nat.le_of_ble_eq_true rfl) hd9 hk9 hC9 (xkV_n fun h1 hvc => ?_) (fun q h hq => xTh_out0 rfl hq)
  refine xw_aload_n dJ2_init_4 rfl ?_
  obtain ⟨o3, he, hvc⟩ := hvc
  refine xw_gets (i := 0) dJ2_init_5 rfl q222 ?_
  rw [he]
  obtain ⟨hcK, hvc⟩ := hvc
  refine xw_put dJ2_init_8 hcJ2 in_J2 tyJ2_ok xnmJ2 (kf := 1) (by decide) q224 (fun _ _ _ _ z => z) rfl (xnar_r _ rfl _).1 (xnar_r _ rfl _).2 hcK (Or.inl rfl) (fun h4 eh9 => ?_)
  replace hvc := hvc h4 eh9
  exact xw_vret dJ2_init_11 rfl hvc

theorem vc_J2_iterator {G : xG} {d K : Nat} {Q : xR → xH → Prop} {h : xH} {this : Nat}
    (hvc : 5 ≤ K ∧ ∀ (h1 : xH) (a2 : Nat), a2 = xsz h → h1 = xnew h 8 4 (fun j => xdf (tyJ4 j)) → xCall G d (K - 5) mJ4_init [xr (some a2), xr (some this)] h1 (xkV (fun h3 k4 => Q (.inl (some (xr (some a2)))) h3) (fun q h _ => Q (.inr q) h))) : xCn G mJ2_iterator d K [xr (some this)] h Q := by
  refine xCn_of px_J2_iterator rfl rfl (Nat.le_of_ble_eq_true rfl) ?_
  show xWp G mJ2_iterator d K Q K 0 [some (xr (some this))] [] h
  obtain ⟨hle, hvc⟩ := hvc
  refine xw_new dJ2_iterator_0 hcJ4 in_J4 tyJ4_ok q422 q423 q120 hle (fun h1 a2 ea9 eh9 => ?_)
  replace hvc := hvc h1 a2 ea9 eh9
  refine xw_dup dJ2_iterator_3 rfl ?_
  refine xw_aload_n dJ2_iterator_4 rfl ?_
  obtain ⟨d9, k9, hd9, hk9, hC9⟩ := hvc
  refine xw_callI dJ2_iterator_5 px_J4_init pm_J4_init q424 q425 rfl rfl (As := [xr (some this)]) (rest := [xr (some a2)]) rfl rfl (Nat.le_of_ble_eq_true rfl) hd9 hk9 hC9 (xkV_n fun h3 hvc => ?_) (fun q h hq => xTh_out0 rfl hq)
  exact xw_aret dJ2_iterator_8 rfl rfl hvc

theorem vc_J2_size {G : xG} {d K : Nat} {Q : xR → xH → Prop} {h : xH} {this : Nat}
    (hvc : xcls h this = 4 ∧ ∃ n1 : Int32, xval h this 2 = xi n1 ∧ Q (.inl (some (xi n1))) h) : xCn G mJ2_size d K [xr (some this)] h Q := by
  refine xCn_of px_J2_size rfl rfl (Nat.le_of_ble_eq_true rfl) ?_
  show xWp G mJ2_size d K Q K 0 [some (xr (some this))] [] h
  refine xw_aload_n dJ2_size_0 rfl ?_
  obtain ⟨hcK, n1, hvK, hvc⟩ := hvc
  refine xw_get dJ2_size_1 hcJ2 in_J2 (kf := 2) (by decide) q227 (fun _ _ _ _ z => z) hcK hvK ?_
  exact xw_iret dJ2_size_4 rfl hvc

theorem vc_J2_get {G : xG} {d K : Nat} {Q : xR → xH → Prop} {h : xH} {this : Nat} {x1 : Int32}
    (hvc : xcls h this = 4 ∧ ∃ n1 : Int32, xval h this 2 = xi n1 ∧ xCall G d K mJ5_checkIndex [xi x1, xi n1] h (xkI (fun n4 h2 k3 => xcls h2 this = 4 ∧ xCall G d k3 mJ2_elementData [xr (some this), xi x1] h2 (xkR (fun o7 h5 k6 => Q (.inl (some (xr o7))) h5) (fun q h _ => Q (.inr q) h))) (fun q h _ => Q (.inr q) h))) : xCn G mJ2_get d K [xr (some this), xi x1] h Q := by
  refine xCn_of px_J2_get rfl rfl (Nat.le_of_ble_eq_true rfl) ?_
  show xWp G mJ2_get d K Q K 0 [some (xr (some this)), some (xi x1)] [] h
  refine xw_iload_n dJ2_get_0 rfl ?_
  refine xw_aload_n dJ2_get_1 rfl ?_
  obtain ⟨hcK, n1, hvK, hvc⟩ := hvc
  refine xw_get dJ2_get_2 hcJ2 in_J2 (kf := 2) (by decide) q227 (fun _ _ _ _ z => z) hcK hvK ?_
  obtain ⟨d9, k9, hd9, hk9, hC9⟩ := hvc
  refine xw_callS dJ2_get_5 px_J5_checkIndex pm_J5_checkIndex q513 q514 (As := [xi x1, xi n1]) (rest := []) rfl rfl (Nat.le_of_ble_eq_true rfl) hd9 hk9 hC9 (xkI_n fun n4 h2 hvc => ?_) (fun q h hq => xTh_out0 rfl hq)
  refine xw_pop dJ2_get_8 rfl ?_
  refine xw_aload_n dJ2_get_9 rfl ?_
  refine xw_iload_n dJ2_get_10 rfl ?_
  obtain ⟨hcK, hvc⟩ := hvc
  obtain ⟨d9, k9, hd9, hk9, hC9⟩ := hvc
  refine xw_callV dJ2_get_11 px_J2_elementData pm_J2_elementData q519 q520 q521 hcJ2 hcK (As := [xi x1]) (rest := []) rfl rfl (Nat.le_of_ble_eq_true rfl) hd9 hk9 hC9 (xkR_n fun o7 h5 hvc => ?_) (fun q h hq => xTh_out0 rfl hq)
  exact xw_aret dJ2_get_14 rfl rfl hvc

theorem vc_J2_elementData {G : xG} {d K : Nat} {Q : xR → xH → Prop} {h : xH} {this : Nat} {x1 : Int32}
    (hvc : xcls h this = 4 ∧ ∃ o1 : Option Nat, xval h this 1 = xr o1 ∧ ∃ a2, o1 = some a2 ∧ xcls h a2 = 1006 ∧ ∃ i3 : Nat, x1 = nI i3 ∧ i3 < 2147483648 ∧ i3 < xlen h a2 ∧ ∃ o4 : Option Nat, xval h a2 i3 = xr o4 ∧ Q (.inl (some (xr o4))) h) : xCn G mJ2_elementData d K [xr (some this), xi x1] h Q := by
  refine xCn_of px_J2_elementData rfl rfl (Nat.le_of_ble_eq_true rfl) ?_
  show xWp G mJ2_elementData d K Q K 0 [some (xr (some this)), some (xi x1)] [] h
  refine xw_aload_n dJ2_elementData_0 rfl ?_
  obtain ⟨hcK, o1, hvK, hvc⟩ := hvc
  refine xw_get dJ2_elementData_1 hcJ2 in_J2 (kf := 1) (by decide) q224 (fun _ _ _ _ z => z) hcK hvK ?_
  refine xw_iload_n dJ2_elementData_4 rfl ?_
  obtain ⟨a2, ho, hvc⟩ := hvc
  subst ho
  obtain ⟨hcK, i3, hx9, hb9, hi9, o4, hv9, hvc⟩ := hvc
  refine xw_aald (j := 6) dJ2_elementData_5 rfl hcK hx9 hb9 hi9 hv9 ?_
  exact xw_aret dJ2_elementData_6 rfl rfl hvc

theorem vc_J2_add {G : xG} {d K : Nat} {Q : xR → xH → Prop} {h : xH} {this : Nat} {o900 : Option Nat}
    (hvc : xcls h this = 4 ∧ ∃ n1 : Int32, xval h this 0 = xi n1 ∧ xcls h this = 4 ∧ ∀ h2 : xH, h2 = xput h this 0 (xi (n1 + (1 : Int32))) → xcls h2 this = 4 ∧ ∃ o3 : Option Nat, xval h2 this 1 = xr o3 ∧ xcls h2 this = 4 ∧ ∃ n4 : Int32, xval h2 this 2 = xi n4 ∧ xcls h2 this = 4 ∧ xCall G d K mJ2_add_2 [xr (some this), xr o900, xr o3, xi n4] h2 (xkV (fun h5 k6 => Q (.inl (some (xi (1 : Int32)))) h5) (fun q h _ => Q (.inr q) h))) : xCn G mJ2_add d K [xr (some this), xr o900] h Q := by
  refine xCn_of px_J2_add rfl rfl (Nat.le_of_ble_eq_true rfl) ?_
  show xWp G mJ2_add d K Q K 0 [some (xr (some this)), some (xr o900)] [] h
  refine xw_aload_n dJ2_add_0 rfl ?_
  refine xw_dup dJ2_add_1 rfl ?_
  obtain ⟨hcK, n1, hvK, hvc⟩ := hvc
  refine xw_get dJ2_add_2 hcJ2 in_J2 (kf := 0) (by decide) q235 (fun _ _ hw _ z => u_same (hw _ q232) _ z) hcK hvK ?_
  refine xw_iconst (1 : Int32) dJ2_add_5 (by decide) ?_
  refine xw_iadd dJ2_add_6 ?_
  obtain ⟨hcK, hvc⟩ := hvc
  refine xw_put dJ2_add_7 hcJ2 in_J2 tyJ2_ok xnmJ2 (kf := 0) (by decide) q235 (fun _ _ hw _ z => u_same (hw _ q232) _ z) rfl rfl rfl hcK (Or.inl rfl) (fun h2 eh9 => ?_)
  replace hvc := hvc h2 eh9
  refine xw_aload_n dJ2_add_10 rfl ?_
  refine xw_aload_n dJ2_add_11 rfl ?_
  refine xw_aload_n dJ2_add_12 rfl ?_
  obtain ⟨hcK, o3, hvK, hvc⟩ := hvc
  refine xw_get dJ2_add_13 hcJ2 in_J2 (kf := 1) (by decide) q224 (fun _ _ _ _ z => z) hcK hvK ?_
  refine xw_aload_n dJ2_add_16 rfl ?_
  obtain ⟨hcK, n4, hvK, hvc⟩ := hvc
  refine xw_get dJ2_add_17 hcJ2 in_J2 (kf := 2) (by decide) q227 (fun _ _ _ _ z => z) hcK hvK ?_
  obtain ⟨hcK, hvc⟩ := hvc
  obtain ⟨d9, k9, hd9, hk9, hC9⟩ := hvc
  refine xw_callV dJ2_add_20 px_J2_add_2 pm_J2_add_2 q1038 q1040 qs3 hcJ2 hcK (As := [xr o900, xr o3, xi n4]) (rest := []) rfl rfl (Nat.le_of_ble_eq_true rfl) hd9 hk9 hC9 (xkV_n fun h5 hvc => ?_) (fun q h hq => xTh_out0 rfl hq)
  refine xw_iconst (1 : Int32) dJ2_add_23 (by decide) ?_
  exact xw_zret dJ2_add_24 rfl rfl hvc

theorem vc_J2_add_2 {G : xG} {d K : Nat} {Q : xR → xH → Prop} {h : xH} {this : Nat} {o900 : Option Nat} {o901 : Option Nat} {x3 : Int32}
    (hvc : ∃ a1, o901 = some a1 ∧ (∃ t2 ty, xty[t2]? = some ty ∧ xcls h a1 = 1000 + t2) ∧ ((¬ x3 = (nI (xlen h a1)) → xcls h a1 = 1006 ∧ ∃ i3 : Nat, x3 = nI i3 ∧ i3 < 2147483648 ∧ i3 < xlen h a1 ∧ ∃ a5, o900 = some a5 ∧ xcls h a5 ∈ cst_java_lang_Object ∧ ∀ h4 : xH, h4 = xput h a1 i3 (xr (some a5)) → xcls h4 this = 4 ∧ ∀ h6 : xH, h6 = xput h4 this 2 (xi (x3 + (1 : Int32))) → Q (.inl none) h6) ∧ (x3 = (nI (xlen h a1)) → xcls h this = 4 ∧ xCall G d K mJ2_grow [xr (some this)] h (xkR (fun o9 h7 k8 => ∃ a10, o9 = some a10 ∧ xcls h7 a10 = 1006 ∧ ∃ i11 : Nat, x3 = nI i11 ∧ i11 < 2147483648 ∧ i11 < xlen h7 a10 ∧ ∃ a13, o900 = some a13 ∧ xcls h7 a13 ∈ cst_java_lang_Object ∧ ∀ h12 : xH, h12 = xput h7 a10 i11 (xr (some a13)) → xcls h12 this = 4 ∧ ∀ h14 : xH, h14 = xput h12 this 2 (xi (x3 + (1 : Int32))) → Q (.inl none) h14) (fun q h _ => Q (.inr q) h))))) : xCn G mJ2_add_2 d K [xr (some this), xr o900, xr o901, xi x3] h Q := by
  refine xCn_of px_J2_add_2 rfl rfl (Nat.le_of_ble_eq_true rfl) ?_
  show xWp G mJ2_add_2 d K Q K 0 [some (xr (some this)), some (xr o900), some (xr o901), some (xi x3)] [] h
  refine xw_iload_n dJ2_add_2_0 rfl ?_
  refine xw_aload_n dJ2_add_2_1 rfl ?_
  obtain ⟨a1, ho, hvc⟩ := hvc
  subst ho
  obtain ⟨⟨t2, ty9, hty9, hcK⟩, hvc⟩ := hvc
  refine xw_alen dJ2_add_2_2 hty9 hcK ?_
  refine xw_icmp_ne 11 dJ2_add_2_3 rfl (fun hc => ?_) (fun hc => ?_)
  · replace hvc := hvc.1 hc
    refine xw_aload_n dJ2_add_2_11 rfl ?_
    refine xw_iload_n dJ2_add_2_12 rfl ?_
    refine xw_aload_n dJ2_add_2_13 rfl ?_
    obtain ⟨hcK, i3, hx9, hb9, hi9, hvc⟩ := hvc
    obtain ⟨a5, ho2, hvc⟩ := hvc
    subst ho2
    obtain ⟨hcst, hvc⟩ := hvc
    obtain ⟨ci9, r9, hcb9, hc9, hca9⟩ := cst_java_lang_Object_ok _ hcst
    refine xw_aast (j := 6) dJ2_add_2_14 rfl hcK (Or.inl rfl) hx9 hb9 hi9 hc9 hcb9 hca9 (fun h4 eh9 => ?_)
    replace hvc := hvc h4 eh9
    refine xw_aload_n dJ2_add_2_15 rfl ?_
    refine xw_iload_n dJ2_add_2_16 rfl ?_
    refine xw_iconst (1 : Int32) dJ2_add_2_17 (by decide) ?_
    refine xw_iadd dJ2_add_2_18 ?_
    obtain ⟨hcK, hvc⟩ := hvc
    refine xw_put dJ2_add_2_19 hcJ2 in_J2 tyJ2_ok xnmJ2 (kf := 2) (by decide) q227 (fun _ _ _ _ z => z) rfl rfl rfl hcK (Or.inl rfl) (fun h6 eh9 => ?_)
    replace hvc := hvc h6 eh9
    exact xw_vret dJ2_add_2_22 rfl hvc
  · replace hvc := hvc.2 hc
    refine xw_aload_n dJ2_add_2_6 rfl ?_
    obtain ⟨hcK, hvc⟩ := hvc
    obtain ⟨d9, k9, hd9, hk9, hC9⟩ := hvc
    refine xw_callV dJ2_add_2_7 px_J2_grow pm_J2_grow q1042 q1044 qs4 hcJ2 hcK (As := []) (rest := []) rfl rfl (Nat.le_of_ble_eq_true rfl) hd9 hk9 hC9 (xkR_n fun o9 h7 hvc => ?_) (fun q h hq => xTh_out0 rfl hq)
    refine xw_astore_n dJ2_add_2_10 (Nat.le_of_ble_eq_true rfl) (L9 := [some (xr (some this)), some (xr o900), some (xr o9), some (xi x3)]) rfl ?_
    refine xw_aload_n dJ2_add_2_11 rfl ?_
    refine xw_iload_n dJ2_add_2_12 rfl ?_
    refine xw_aload_n dJ2_add_2_13 rfl ?_
    obtain ⟨a10, ho, hvc⟩ := hvc
    subst ho
    obtain ⟨hcK, i11, hx9, hb9, hi9, hvc⟩ := hvc
    obtain ⟨a13, ho2, hvc⟩ := hvc
    subst ho2
    obtain ⟨hcst, hvc⟩ := hvc
    obtain ⟨ci9, r9, hcb9, hc9, hca9⟩ := cst_java_lang_Object_ok _ hcst
    refine xw_aast (j := 6) dJ2_add_2_14 rfl hcK (Or.inl rfl) hx9 hb9 hi9 hc9 hcb9 hca9 (fun h12 eh9 => ?_)
    replace hvc := hvc h12 eh9
    refine xw_aload_n dJ2_add_2_15 rfl ?_
    refine xw_iload_n dJ2_add_2_16 rfl ?_
    refine xw_iconst (1 : Int32) dJ2_add_2_17 (by decide) ?_
    refine xw_iadd dJ2_add_2_18 ?_
    obtain ⟨hcK, hvc⟩ := hvc
    refine xw_put dJ2_add_2_19 hcJ2 in_J2 tyJ2_ok xnmJ2 (kf := 2) (by decide) q227 (fun _ _ _ _ z => z) rfl rfl rfl hcK (Or.inl rfl) (fun h14 eh9 => ?_)
    replace hvc := hvc h14 eh9
    exact xw_vret dJ2_add_2_22 rfl hvc

theorem vc_J2_grow {G : xG} {d K : Nat} {Q : xR → xH → Prop} {h : xH} {this : Nat}
    (hvc : xcls h this = 4 ∧ ∃ n1 : Int32, xval h this 2 = xi n1 ∧ xcls h this = 4 ∧ xCall G d K mJ2_grow_2 [xr (some this), xi (n1 + (1 : Int32))] h (xkR (fun o4 h2 k3 => Q (.inl (some (xr o4))) h2) (fun q h _ => Q (.inr q) h))) : xCn G mJ2_grow d K [xr (some this)] h Q := by
  refine xCn_of px_J2_grow rfl rfl (Nat.le_of_ble_eq_true rfl) ?_
  show xWp G mJ2_grow d K Q K 0 [some (xr (some this))] [] h
  refine xw_aload_n dJ2_grow_0 rfl ?_
  refine xw_aload_n dJ2_grow_1 rfl ?_
  obtain ⟨hcK, n1, hvK, hvc⟩ := hvc
  refine xw_get dJ2_grow_2 hcJ2 in_J2 (kf := 2) (by decide) q227 (fun _ _ _ _ z => z) hcK hvK ?_
  refine xw_iconst (1 : Int32) dJ2_grow_5 (by decide) ?_
  refine xw_iadd dJ2_grow_6 ?_
  obtain ⟨hcK, hvc⟩ := hvc
  obtain ⟨d9, k9, hd9, hk9, hC9⟩ := hvc
  refine xw_callV dJ2_grow_7 px_J2_grow_2 pm_J2_grow_2 q1046 q1048 qs5 hcJ2 hcK (As := [xi (n1 + (1 : Int32))]) (rest := []) rfl rfl (Nat.le_of_ble_eq_true rfl) hd9 hk9 hC9 (xkR_n fun o4 h2 hvc => ?_) (fun q h hq => xTh_out0 rfl hq)
  exact xw_aret dJ2_grow_10 rfl rfl hvc

theorem vc_J2_grow_2 {G : xG} {d K : Nat} {Q : xR → xH → Prop} {h : xH} {this : Nat} {x1 : Int32}
    (hvc : xcls h this = 4 ∧ ∃ o1 : Option Nat, xval h this 1 = xr o1 ∧ ∃ a2, o1 = some a2 ∧ (∃ t3 ty, xty[t3]? = some ty ∧ xcls h a2 = 1000 + t3) ∧ ((0 < (nI (xlen h a2)) → xCall G d K mJ15_newLength [xi (nI (xlen h a2)), xi (x1 - (nI (xlen h a2))), xi ((nI (xlen h a2)) >>> ((1 : Int32) &&& 31))] h (xkI (fun n6 h4 k5 => xcls h4 this = 4 ∧ ∃ o7 : Option Nat, xval h4 this 1 = xr o7 ∧ xCall G d k5 mJ17_copyOf_2 [xr o7, xi n6] h4 (xkR (fun o10 h8 k9 => xcls h8 this = 4 ∧ ∀ h11 : xH, h11 = xput h8 this 1 (xr o10) → Q (.inl (some (xr o10))) h11) (fun q h _ => Q (.inr q) h))) (fun q h _ => Q (.inr q) h))) ∧ (¬ 0 < (nI (xlen h a2)) → xcls h this = 4 ∧ ∃ o12 : Option Nat, xval h this 1 = xr o12 ∧ ∃ o13 : Option Nat, G.2.1 0 = xr o13 ∧ ((o12 = o13 → 1 ≤ d ∧ ∀ n14 : Int32, n14 = (if (10 : Int32) < x1 then x1 else (10 : Int32)) → ∃ m17 : Nat, n14 = nI m17 ∧ m17 ≤ 65536 ∧ 1 + m17 ≤ K ∧ ∀ (h15 : xH) (a16 : Nat), a16 = xsz h → h15 = xnew h 1006 m17 (fun _ => xr none) → xcls h15 this = 4 ∧ ∀ h18 : xH, h18 = xput h15 this 1 (xr (some a16)) → Q (.inl (some (xr (some a16)))) h18) ∧ (¬ o12 = o13 → xCall G d K mJ15_newLength [xi (nI (xlen h a2)), xi (x1 - (nI (xlen h a2))), xi ((nI (xlen h a2)) >>> ((1 : Int32) &&& 31))] h (xkI (fun n21 h19 k20 => xcls h19 this = 4 ∧ ∃ o22 : Option Nat, xval h19 this 1 = xr o22 ∧ xCall G d k20 mJ17_copyOf_2 [xr o22, xi n21] h19 (xkR (fun o25 h23 k24 => xcls h23 this = 4 ∧ ∀ h26 : xH, h26 = xput h23 this 1 (xr o25) → Q (.inl (some (xr o25))) h26) (fun q h _ => Q (.inr q) h))) (fun q h _ => Q (.inr q) h))))))) : xCn G mJ2_grow_2 d K [xr (some this), xi x1] h Q := by
  refine xCn_of px_J2_grow_2 rfl rfl (Nat.le_of_ble_eq_true rfl) ?_
  show xWp G mJ2_grow_2 d K Q K 0 [some (xr (some this)), some (xi x1), none, none] [] h
  refine xw_aload_n dJ2_grow_2_0 rfl ?_
  obtain ⟨hcK, o1, hvK, hvc⟩ := hvc
  refine xw_get dJ2_grow_2_1 hcJ2 in_J2 (kf := 1) (by decide) q224 (fun _ _ _ _ z => z) hcK hvK ?_
  obtain ⟨a2, ho, hvc⟩ := hvc
  subst ho
  obtain ⟨⟨t3, ty9, hty9, hcK⟩, hvc⟩ := hvc
  refine xw_alen dJ2_grow_2_4 hty9 hcK ?_
  refine xw_istore_n dJ2_grow_2_5 (Nat.le_of_ble_eq_true rfl) (L9 := [some (xr (some this)), some (xi x1), some (xi (nI (xlen h a2))), none]) rfl ?_
  refine xw_iload_n dJ2_grow_2_6 rfl ?_
  refine xw_if_gt 20 dJ2_grow_2_7 rfl (fun hc => ?_) (fun hc => ?_)
  · replace hvc := hvc.1 hc
    refine xw_iload_n dJ2_grow_2_20 rfl ?_
    refine xw_iload_n dJ2_grow_2_21 rfl ?_
    refine xw_iload_n dJ2_grow_2_22 rfl ?_
    refine xw_isub dJ2_grow_2_23 ?_
    refine xw_iload_n dJ2_grow_2_24 rfl ?_
    refine xw_iconst (1 : Int32) dJ2_grow_2_25 (by decide) ?_
    refine xw_ishr dJ2_grow_2_26 ?_
    obtain ⟨d9, k9, hd9, hk9, hC9⟩ := hvc
    refine xw_callS dJ2_grow_2_27 px_J15_newLength pm_J15_newLength q1050 q728 (As := [xi (nI (xlen h a2)), xi (x1 - (nI (xlen h a2))), xi ((nI (xlen h a2)) >>> ((1 : Int32) &&& 31))]) (rest := []) rfl rfl (Nat.le_of_ble_eq_true rfl) hd9 hk9 hC9 (xkI_n fun n6 h4 hvc => ?_) (fun q h hq => xTh_out0 rfl hq)
    refine xw_istore_n dJ2_grow_2_30 (Nat.le_of_ble_eq_true rfl) (L9 := [some (xr (some this)), some (xi x1), some (xi (nI (xlen h a2))), some (xi n6)]) rfl ?_
    refine xw_aload_n dJ2_grow_2_31 rfl ?_
    refine xw_aload_n dJ2_grow_2_32 rfl ?_
    obtain ⟨hcK, o7, hvK, hvc⟩ := hvc
    refine xw_get dJ2_grow_2_33 hcJ2 in_J2 (kf := 1) (by decide) q224 (fun _ _ _ _ z => z) hcK hvK ?_
    refine xw_iload_n dJ2_grow_2_36 rfl ?_
    obtain ⟨d9, k9, hd9, hk9, hC9⟩ := hvc
    refine xw_callS dJ2_grow_2_37 px_J17_copyOf_2 pm_J17_copyOf_2 q1051 q1052 (As := [xr o7, xi n6]) (rest := [xr (some this)]) rfl rfl (Nat.le_of_ble_eq_true rfl) hd9 hk9 hC9 (xkR_n fun o10 h8 hvc => ?_) (fun q h hq => xTh_out0 rfl hq)
    refine xw_dup_x1 dJ2_grow_2_40 rfl rfl ?_
    obtain ⟨hcK, hvc⟩ := hvc
    refine xw_put dJ2_grow_2_41 hcJ2 in_J2 tyJ2_ok xnmJ2 (kf := 1) (by decide) q224 (fun _ _ _ _ z => z) rfl (xnar_r _ rfl _).1 (xnar_r _ rfl _).2 hcK (Or.inl rfl) (fun h11 eh9 => ?_)
    replace hvc := hvc h11 eh9
    exact xw_aret dJ2_grow_2_44 rfl rfl hvc
  · replace hvc := hvc.2 hc
    refine xw_aload_n dJ2_grow_2_10 rfl ?_
    obtain ⟨hcK, o12, hvK, hvc⟩ := hvc
    refine xw_get dJ2_grow_2_11 hcJ2 in_J2 (kf := 1) (by decide) q224 (fun _ _ _ _ z => z) hcK hvK ?_
    obtain ⟨o13, he, hvc⟩ := hvc
    refine xw_gets (i := 0) dJ2_grow_2_14 rfl q222 ?_
    rw [he]
    refine xw_acmp_eq 45 dJ2_grow_2_17 rfl (fun hc => ?_) (fun hc => ?_)
    · replace hvc := hvc.1 hc
      refine xw_aload_n dJ2_grow_2_45 rfl ?_
      refine xw_bipush (10 : Int32) dJ2_grow_2_46 (by decide) ?_
      refine xw_iload_n dJ2_grow_2_48 rfl ?_
      obtain ⟨hd9, hvc⟩ := hvc
      refine xw_mmax dJ2_grow_2_49 q1060 q731 q132 q732 hd9 (Nat.le_of_ble_eq_true rfl) ?_
      obtain ⟨n14, he9⟩ : ∃ z, z = (if (10 : Int32) < x1 then x1 else (10 : Int32)) := ⟨_, rfl⟩
      rw [← he9]
      replace hvc := hvc n14 he9
      obtain ⟨m17, hx9, hn9, hle, hvc⟩ := hvc
      refine xw_anew (j := 6) dJ2_grow_2_52 rfl (Or.inl rfl) q1061 hx9 hn9 hle (fun h15 a16 ea9 eh9 => ?_)
      replace hvc := hvc h15 a16 ea9 eh9
      refine xw_dup_x1 dJ2_grow_2_55 rfl rfl ?_
      obtain ⟨hcK, hvc⟩ := hvc
      refine xw_put dJ2_grow_2_56 hcJ2 in_J2 tyJ2_ok xnmJ2 (kf := 1) (by decide) q224 (fun _ _ _ _ z => z) rfl (xnar_r _ rfl _).1 (xnar_r _ rfl _).2 hcK (Or.inl rfl) (fun h18 eh9 => ?_)
      replace hvc := hvc h18 eh9
      exact xw_aret dJ2_grow_2_59 rfl rfl hvc
    · replace hvc := hvc.2 hc
      refine xw_iload_n dJ2_grow_2_20 rfl ?_
      refine xw_iload_n dJ2_grow_2_21 rfl ?_
      refine xw_iload_n dJ2_grow_2_22 rfl ?_
      refine xw_isub dJ2_grow_2_23 ?_
      refine xw_iload_n dJ2_grow_2_24 rfl ?_
      refine xw_iconst (1 : Int32) dJ2_grow_2_25 (by decide) ?_
      refine xw_ishr dJ2_grow_2_26 ?_
      obtain ⟨d9, k9, hd9, hk9, hC9⟩ := hvc
      refine xw_callS dJ2_grow_2_27 px_J15_newLength pm_J15_newLength q1050 q728 (As := [xi (nI (xlen h a2)), xi (x1 - (nI (xlen h a2))), xi ((nI (xlen h a2)) >>> ((1 : Int32) &&& 31))]) (rest := []) rfl rfl (Nat.le_of_ble_eq_true rfl) hd9 hk9 hC9 (xkI_n fun n21 h19 hvc => ?_) (fun q h hq => xTh_out0 rfl hq)
      refine xw_istore_n dJ2_grow_2_30 (Nat.le_of_ble_eq_true rfl) (L9 := [some (xr (some this)), some (xi x1), some (xi (nI (xlen h a2))), some (xi n21)]) rfl ?_
      refine xw_aload_n dJ2_grow_2_31 rfl ?_
      refine xw_aload_n dJ2_grow_2_32 rfl ?_
      obtain ⟨hcK, o22, hvK, hvc⟩ := hvc
      refine xw_get dJ2_grow_2_33 hcJ2 in_J2 (kf := 1) (by decide) q224 (fun _ _ _ _ z => z) hcK hvK ?_
      refine xw_iload_n dJ2_grow_2_36 rfl ?_
      obtain ⟨d9, k9, hd9, hk9, hC9⟩ := hvc
      refine xw_callS dJ2_grow_2_37 px_J17_copyOf_2 pm_J17_copyOf_2 q1051 q1052 (As := [xr o22, xi n21]) (rest := [xr (some this)]) rfl rfl (Nat.le_of_ble_eq_true rfl) hd9 hk9 hC9 (xkR_n fun o25 h23 hvc => ?_) (fun q h hq => xTh_out0 rfl hq)
      refine xw_dup_x1 dJ2_grow_2_40 rfl rfl ?_
      obtain ⟨hcK, hvc⟩ := hvc
      refine xw_put dJ2_grow_2_41 hcJ2 in_J2 tyJ2_ok xnmJ2 (kf := 1) (by decide) q224 (fun _ _ _ _ z => z) rfl (xnar_r _ rfl _).1 (xnar_r _ rfl _).2 hcK (Or.inl rfl) (fun h26 eh9 => ?_)
      replace hvc := hvc h26 eh9
      exact xw_aret dJ2_grow_2_44 rfl rfl hvc

theorem vc_J28_bitCount {G : xG} {d K : Nat} {Q : xR → xH → Prop} {h : xH} {l1 : Int64}
    (hvc : (∀ j1 : Int64, j1 = ((l1.toUInt64 >>> ((1 : Int32).toInt64.toUInt64 &&& Int64.toUInt64 63)).toInt64) → (∀ j2 : Int64, j2 = ((l1 - (j1 &&& (6148914691236517205 : Int64))) &&& (3689348814741910323 : Int64)) → (∀ j3 : Int64, j3 = (((l1 - (j1 &&& (6148914691236517205 : Int64))).toUInt64 >>> ((2 : Int32).toInt64.toUInt64 &&& Int64.toUInt64 63)).toInt64) → (∀ j4 : Int64, j4 = (((j2 + (j3 &&& (3689348814741910323 : Int64))).toUInt64 >>> ((4 : Int32).toInt64.toUInt64 &&& Int64.toUInt64 63)).toInt64) → (∀ j5 : Int64, j5 = (((j2 + (j3 &&& (3689348814741910323 : Int64))) + j4) &&& (1085102592571150095 : Int64)) → (∀ j6 : Int64, j6 = ((j5.toUInt64 >>> ((8 : Int32).toInt64.toUInt64 &&& Int64.toUInt64 63)).toInt64) → (∀ j7 : Int64, j7 = (((j5 + j6).toUInt64 >>> ((16 : Int32).toInt64.toUInt64 &&& Int64.toUInt64 63)).toInt64) → (∀ j8 : Int64, j8 = ((((j5 + j6) + j7).toUInt64 >>> ((32 : Int32).toInt64.toUInt64 &&& Int64.toUInt64 63)).toInt64) → Q (.inl (some (xi ((((j5 + j6) + j7) + j8).toInt32 &&& (127 : Int32))))) h))))))))) : xCn G mJ28_bitCount d K [xj l1] h Q := by
  refine xCn_of px_J28_bitCount rfl rfl (Nat.le_of_ble_eq_true rfl) ?_
  show xWp G mJ28_bitCount d K Q K 0 [some (xj l1), none] [] h
  refine xw_lload_n dJ28_bitCount_0 rfl ?_
  refine xw_lload_n dJ28_bitCount_1 rfl ?_
  refine xw_iconst (1 : Int32) dJ28_bitCount_2 (by decide) ?_
  refine xw_lushr dJ28_bitCount_3 ?_
  obtain ⟨j1, he9⟩ : ∃ z, z = ((l1.toUInt64 >>> ((1 : Int32).toInt64.toUInt64 &&& Int64.toUInt64 63)).toInt64) := ⟨_, rfl⟩
  rw [← he9]
  replace hvc := hvc j1 he9
  refine xw_ldc2 dJ28_bitCount_4 q1842 ?_
  refine xw_land dJ28_bitCount_7 ?_
  refine xw_lsub dJ28_bitCount_8 ?_
  refine xw_lstore_n dJ28_bitCount_9 (Nat.le_of_ble_eq_true rfl) (L9 := [some (xj (l1 - (j1 &&& (6148914691236517205 : Int64)))), none]) rfl ?_
  refine xw_lload_n dJ28_bitCount_10 rfl ?_
  refine xw_ldc2 dJ28_bitCount_11 q1843 ?_
  refine xw_land dJ28_bitCount_14 ?_
  obtain ⟨j2, he9⟩ : ∃ z, z = ((l1 - (j1 &&& (6148914691236517205 : Int64))) &&& (3689348814741910323 : Int64)) := ⟨_, rfl⟩
  rw [← he9]
  replace hvc := hvc j2 he9
  refine xw_lload_n dJ28_bitCount_15 rfl ?_
  refine xw_iconst (2 : Int32) dJ28_bitCount_16 (by decide) ?_
  refine xw_lushr dJ28_bitCount_17 ?_
  obtain ⟨j3, he9⟩ : ∃ z, z = (((l1 - (j1 &&& (6148914691236517205 : Int64))).toUInt64 >>> ((2 : Int32).toInt64.toUInt64 &&& Int64.toUInt64 63)).toInt64) := ⟨_, rfl⟩
  rw [← he9]
  replace hvc := hvc j3 he9
  refine xw_ldc2 dJ28_bitCount_18 q1843 ?_
  refine xw_land dJ28_bitCount_21 ?_
  refine xw_ladd dJ28_bitCount_22 ?_
  refine xw_lstore_n dJ28_bitCount_23 (Nat.le_of_ble_eq_true rfl) (L9 := [some (xj (j2 + (j3 &&& (3689348814741910323 : Int64)))), none]) rfl ?_
  refine xw_lload_n dJ28_bitCount_24 rfl ?_
  refine xw_lload_n dJ28_bitCount_25 rfl ?_
  refine xw_iconst (4 : Int32) dJ28_bitCount_26 (by decide) ?_
  refine xw_lushr dJ28_bitCount_27 ?_
  obtain ⟨j4, he9⟩ : ∃ z, z = (((j2 + (j3 &&& (3689348814741910323 : Int64))).toUInt64 >>> ((4 : Int32).toInt64.toUInt64 &&& Int64.toUInt64 63)).toInt64) := ⟨_, rfl⟩
  rw [← he9]
  replace hvc := hvc j4 he9
  refine xw_ladd dJ28_bitCount_28 ?_
  refine xw_ldc2 dJ28_bitCount_29 q1844 ?_
  refine xw_land dJ28_bitCount_32 ?_
  obtain ⟨j5, he9⟩ : ∃ z, z = (((j2 + (j3 &&& (3689348814741910323 : Int64))) + j4) &&& (1085102592571150095 : Int64)) := ⟨_, rfl⟩
  rw [← he9]
  replace hvc := hvc j5 he9
  refine xw_lstore_n dJ28_bitCount_33 (Nat.le_of_ble_eq_true rfl) (L9 := [some (xj j5), none]) rfl ?_
  refine xw_lload_n dJ28_bitCount_34 rfl ?_
  refine xw_lload_n dJ28_bitCount_35 rfl ?_
  refine xw_bipush (8 : Int32) dJ28_bitCount_36 (by decide) ?_
  refine xw_lushr dJ28_bitCount_38 ?_
  obtain ⟨j6, he9⟩ : ∃ z, z = ((j5.toUInt64 >>> ((8 : Int32).toInt64.toUInt64 &&& Int64.toUInt64 63)).toInt64) := ⟨_, rfl⟩
  rw [← he9]
  replace hvc := hvc j6 he9
  refine xw_ladd dJ28_bitCount_39 ?_
  refine xw_lstore_n dJ28_bitCount_40 (Nat.le_of_ble_eq_true rfl) (L9 := [some (xj (j5 + j6)), none]) rfl ?_
  refine xw_lload_n dJ28_bitCount_41 rfl ?_
  refine xw_lload_n dJ28_bitCount_42 rfl ?_
  refine xw_bipush (16 : Int32) dJ28_bitCount_43 (by decide) ?_
  refine xw_lushr dJ28_bitCount_45 ?_
  obtain ⟨j7, he9⟩ : ∃ z, z = (((j5 + j6).toUInt64 >>> ((16 : Int32).toInt64.toUInt64 &&& Int64.toUInt64 63)).toInt64) := ⟨_, rfl⟩
  rw [← he9]
  replace hvc := hvc j7 he9
  refine xw_ladd dJ28_bitCount_46 ?_
  refine xw_lstore_n dJ28_bitCount_47 (Nat.le_of_ble_eq_true rfl) (L9 := [some (xj ((j5 + j6) + j7)), none]) rfl ?_
  refine xw_lload_n dJ28_bitCount_48 rfl ?_
  refine xw_lload_n dJ28_bitCount_49 rfl ?_
  refine xw_bipush (32 : Int32) dJ28_bitCount_50 (by decide) ?_
  refine xw_lushr dJ28_bitCount_52 ?_
  obtain ⟨j8, he9⟩ : ∃ z, z = ((((j5 + j6) + j7).toUInt64 >>> ((32 : Int32).toInt64.toUInt64 &&& Int64.toUInt64 63)).toInt64) := ⟨_, rfl⟩
  rw [← he9]
  replace hvc := hvc j8 he9
  refine xw_ladd dJ28_bitCount_53 ?_
  refine xw_lstore_n dJ28_bitCount_54 (Nat.le_of_ble_eq_true rfl) (L9 := [some (xj (((j5 + j6) + j7) + j8)), none]) rfl ?_
  refine xw_lload_n dJ28_bitCount_55 rfl ?_
  refine xw_l2i dJ28_bitCount_56 ?_
  refine xw_bipush (127 : Int32) dJ28_bitCount_57 (by decide) ?_
  refine xw_iand dJ28_bitCount_59 ?_
  exact xw_iret dJ28_bitCount_60 rfl hvc

theorem vc_J28_numberOfTrailingZeros {G : xG} {d K : Nat} {Q : xR → xH → Prop} {h : xH} {l1 : Int64}
    (hvc : ((¬ l1.toInt32 = 0 → xCall G d K mJ29_numberOfTrailingZeros [xi l1.toInt32] h (xkI (fun n3 h1 k2 => Q (.inl (some (xi n3))) h1) (fun q h _ => Q (.inr q) h))) ∧ (l1.toInt32 = 0 → (∀ j4 : Int64, j4 = ((l1.toUInt64 >>> ((32 : Int32).toInt64.toUInt64 &&& Int64.toUInt64 63)).toInt64) → xCall G d K mJ29_numberOfTrailingZeros [xi j4.toInt32] h (xkI (fun n7 h5 k6 => Q (.inl (some (xi ((32 : Int32) + n7)))) h5) (fun q h _ => Q (.inr q) h)))))) : xCn G mJ28_numberOfTrailingZeros d K [xj l1] h Q := by
  refine xCn_of px_J28_numberOfTrailingZeros rfl rfl (Nat.le_of_ble_eq_true rfl) ?_
  show xWp G mJ28_numberOfTrailingZeros d K Q K 0 [some (xj l1), none, none] [] h
  refine xw_lload_n dJ28_numberOfTrailingZeros_0 rfl ?_
  refine xw_l2i dJ28_numberOfTrailingZeros_1 ?_
  refine xw_istore_n dJ28_numberOfTrailingZeros_2 (Nat.le_of_ble_eq_true rfl) (L9 := [some (xj l1), none, some (xi l1.toInt32)]) rfl ?_
  refine xw_iload_n dJ28_numberOfTrailingZeros_3 rfl ?_
  refine xw_if_ne 21 dJ28_numberOfTrailingZeros_4 rfl (fun hc => ?_) (fun hc => ?_)
  · replace hvc := hvc.1 hc
    refine xw_iload_n dJ28_numberOfTrailingZeros_21 rfl ?_
    obtain ⟨d9, k9, hd9, hk9, hC9⟩ := hvc
    refine xw_callS dJ28_numberOfTrailingZeros_22 px_J29_numberOfTrailingZeros pm_J29_numberOfTrailingZeros q2133 q2134 (As := [xi l1.toInt32]) (rest := []) rfl rfl (Nat.le_of_ble_eq_true rfl) hd9 hk9 hC9 (xkI_n fun n3 h1 hvc => ?_) (fun q h hq => xTh_out0 rfl hq)
    exact xw_iret dJ28_numberOfTrailingZeros_25 rfl hvc
  · replace hvc := hvc.2 hc
    refine xw_bipush (32 : Int32) dJ28_numberOfTrailingZeros_7 (by decide) ?_
    refine xw_lload_n dJ28_numberOfTrailingZeros_9 rfl ?_
    refine xw_bipush (32 : Int32) dJ28_numberOfTrailingZeros_10 (by decide) ?_
    refine xw_lushr dJ28_numberOfTrailingZeros_12 ?_
    obtain ⟨j4, he9⟩ : ∃ z, z = ((l1.toUInt64 >>> ((32 : Int32).toInt64.toUInt64 &&& Int64.toUInt64 63)).toInt64) := ⟨_, rfl⟩
    rw [← he9]
    replace hvc := hvc j4 he9
    refine xw_l2i dJ28_numberOfTrailingZeros_13 ?_
    obtain ⟨d9, k9, hd9, hk9, hC9⟩ := hvc
    refine xw_callS dJ28_numberOfTrailingZeros_14 px_J29_numberOfTrailingZeros pm_J29_numberOfTrailingZeros q2133 q2134 (As := [xi j4.toInt32]) (rest := [xi (32 : Int32)]) rfl rfl (Nat.le_of_ble_eq_true rfl) hd9 hk9 hC9 (xkI_n fun n7 h5 hvc => ?_) (fun q h hq => xTh_out0 rfl hq)
    refine xw_iadd dJ28_numberOfTrailingZeros_17 ?_
    refine xw_goto 25 dJ28_numberOfTrailingZeros_18 rfl ?_
    exact xw_iret dJ28_numberOfTrailingZeros_25 rfl hvc

theorem vc_J28_numberOfLeadingZeros {G : xG} {d K : Nat} {Q : xR → xH → Prop} {h : xH} {l1 : Int64}
    (hvc : (∀ j1 : Int64, j1 = ((l1.toUInt64 >>> ((32 : Int32).toInt64.toUInt64 &&& Int64.toUInt64 63)).toInt64) → ((¬ j1.toInt32 = 0 → xCall G d K mJ29_numberOfLeadingZeros [xi j1.toInt32] h (xkI (fun n4 h2 k3 => Q (.inl (some (xi n4))) h2) (fun q h _ => Q (.inr q) h))) ∧ (j1.toInt32 = 0 → xCall G d K mJ29_numberOfLeadingZeros [xi l1.toInt32] h (xkI (fun n7 h5 k6 => Q (.inl (some (xi ((32 : Int32) + n7)))) h5) (fun q h _ => Q (.inr q) h)))))) : xCn G mJ28_numberOfLeadingZeros d K [xj l1] h Q := by
  refine xCn_of px_J28_numberOfLeadingZeros rfl rfl (Nat.le_of_ble_eq_true rfl) ?_
  show xWp G mJ28_numberOfLeadingZeros d K Q K 0 [some (xj l1), none, none] [] h
  refine xw_lload_n dJ28_numberOfLeadingZeros_0 rfl ?_
  refine xw_bipush (32 : Int32) dJ28_numberOfLeadingZeros_1 (by decide) ?_
  refine xw_lushr dJ28_numberOfLeadingZeros_3 ?_
  obtain ⟨j1, he9⟩ : ∃ z, z = ((l1.toUInt64 >>> ((32 : Int32).toInt64.toUInt64 &&& Int64.toUInt64 63)).toInt64) := ⟨_, rfl⟩
  rw [← he9]
  replace hvc := hvc j1 he9
  refine xw_l2i dJ28_numberOfLeadingZeros_4 ?_
  refine xw_istore_n dJ28_numberOfLeadingZeros_5 (Nat.le_of_ble_eq_true rfl) (L9 := [some (xj l1), none, some (xi j1.toInt32)]) rfl ?_
  refine xw_iload_n dJ28_numberOfLeadingZeros_6 rfl ?_
  refine xw_if_ne 21 dJ28_numberOfLeadingZeros_7 rfl (fun hc => ?_) (fun hc => ?_)
  · replace hvc := hvc.1 hc
    refine xw_iload_n dJ28_numberOfLeadingZeros_21 rfl ?_
    obtain ⟨d9, k9, hd9, hk9, hC9⟩ := hvc
    refine xw_callS dJ28_numberOfLeadingZeros_22 px_J29_numberOfLeadingZeros pm_J29_numberOfLeadingZeros q2452 q2453 (As := [xi j1.toInt32]) (rest := []) rfl rfl (Nat.le_of_ble_eq_true rfl) hd9 hk9 hC9 (xkI_n fun n4 h2 hvc => ?_) (fun q h hq => xTh_out0 rfl hq)
    exact xw_iret dJ28_numberOfLeadingZeros_25 rfl hvc
  · replace hvc := hvc.2 hc
    refine xw_bipush (32 : Int32) dJ28_numberOfLeadingZeros_10 (by decide) ?_
    refine xw_lload_n dJ28_numberOfLeadingZeros_12 rfl ?_
    refine xw_l2i dJ28_numberOfLeadingZeros_13 ?_
    obtain ⟨d9, k9, hd9, hk9, hC9⟩ := hvc
    refine xw_callS dJ28_numberOfLeadingZeros_14 px_J29_numberOfLeadingZeros pm_J29_numberOfLeadingZeros q2452 q2453 (As := [xi l1.toInt32]) (rest := [xi (32 : Int32)]) rfl rfl (Nat.le_of_ble_eq_true rfl) hd9 hk9 hC9 (xkI_n fun n7 h5 hvc => ?_) (fun q h hq => xTh_out0 rfl hq)
    refine xw_iadd dJ28_numberOfLeadingZeros_17 ?_
    refine xw_goto 25 dJ28_numberOfLeadingZeros_18 rfl ?_
    exact xw_iret dJ28_numberOfLeadingZeros_25 rfl hvc


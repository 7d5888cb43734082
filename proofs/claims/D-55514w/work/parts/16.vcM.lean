set_option maxRecDepth 100000
theorem vc_X3_init {G : xG} {d K : Nat} {Q : xR → xH → Prop} {h : xH} {this : Nat}
    (hvc : 1 ≤ d ∧ ∃ m3 : Nat, (2 : Int32) = nI m3 ∧ m3 ≤ 65536 ∧ 1 + m3 ≤ K ∧ ∀ (h1 : xH) (a2 : Nat), a2 = xsz h → h1 = xnew h 1003 m3 (fun _ => xdf FieldType.int) → xcls h1 this = 6 ∧ ∀ h4 : xH, h4 = xput h1 this 0 (xr (some a2)) → ∃ m7 : Nat, (2 : Int32) = nI m7 ∧ m7 ≤ 65536 ∧ 1 + m7 ≤ (K - (1 + m3)) ∧ ∀ (h5 : xH) (a6 : Nat), a6 = xsz h4 → h5 = xnew h4 1003 m7 (fun _ => xdf FieldType.int) → xcls h5 this = 6 ∧ ∀ h8 : xH, h8 = xput h5 this 1 (xr (some a6)) → ∃ m11 : Nat, (112 : Int32) = nI m11 ∧ m11 ≤ 65536 ∧ 1 + m11 ≤ ((K - (1 + m3)) - (1 + m7)) ∧ ∀ (h9 : xH) (a10 : Nat), a10 = xsz h8 → h9 = xnew h8 1003 m11 (fun _ => xdf FieldType.int) → xcls h9 this = 6 ∧ ∀ h12 : xH, h12 = xput h9 this 4 (xr (some a10)) → ∃ m15 : Nat, (896 : Int32) = nI m15 ∧ m15 ≤ 65536 ∧ 1 + m15 ≤ (((K - (1 + m3)) - (1 + m7)) - (1 + m11)) ∧ ∀ (h13 : xH) (a14 : Nat), a14 = xsz h12 → h13 = xnew h12 1003 m15 (fun _ => xdf FieldType.int) → xcls h13 this = 6 ∧ ∀ h16 : xH, h16 = xput h13 this 5 (xr (some a14)) → ∃ m19 : Nat, (112 : Int32) = nI m19 ∧ m19 ≤ 65536 ∧ 1 + m19 ≤ ((((K - (1 + m3)) - (1 + m7)) - (1 + m11)) - (1 + m15)) ∧ ∀ (h17 : xH) (a18 : Nat), a18 = xsz h16 → h17 = xnew h16 1003 m19 (fun _ => xdf FieldType.int) → xcls h17 this = 6 ∧ ∀ h20 : xH, h20 = xput h17 this 6 (xr (some a18)) → ∃ m23 : Nat, (112 : Int32) = nI m23 ∧ m23 ≤ 65536 ∧ 1 + m23 ≤ (((((K - (1 + m3)) - (1 + m7)) - (1 + m11)) - (1 + m15)) - (1 + m19)) ∧ ∀ (h21 : xH) (a22 : Nat), a22 = xsz h20 → h21 = xnew h20 1003 m23 (fun _ => xdf FieldType.int) → xcls h21 this = 6 ∧ ∀ h24 : xH, h24 = xput h21 this 7 (xr (some a22)) → ∃ m27 : Nat, (40 : Int32) = nI m27 ∧ m27 ≤ 65536 ∧ 1 + m27 ≤ ((((((K - (1 + m3)) - (1 + m7)) - (1 + m11)) - (1 + m15)) - (1 + m19)) - (1 + m23)) ∧ ∀ (h25 : xH) (a26 : Nat), a26 = xsz h24 → h25 = xnew h24 1001 m27 (fun _ => xdf FieldType.char) → xcls h25 this = 6 ∧ ∀ h28 : xH, h28 = xput h25 this 12 (xr (some a26)) → ∃ m31 : Nat, (60 : Int32) = nI m31 ∧ m31 ≤ 65536 ∧ 1 + m31 ≤ (((((((K - (1 + m3)) - (1 + m7)) - (1 + m11)) - (1 + m15)) - (1 + m19)) - (1 + m23)) - (1 + m27)) ∧ ∀ (h29 : xH) (a30 : Nat), a30 = xsz h28 → h29 = xnew h28 1001 m31 (fun _ => xdf FieldType.char) → xcls h29 this = 6 ∧ ∀ h32 : xH, h32 = xput h29 this 14 (xr (some a30)) → xcls h32 this = 6 ∧ ∀ h33 : xH, h33 = xput h32 this 17 (xi (-1 : Int32)) → ∃ m36 : Nat, (4 : Int32) = nI m36 ∧ m36 ≤ 65536 ∧ 1 + m36 ≤ ((((((((K - (1 + m3)) - (1 + m7)) - (1 + m11)) - (1 + m15)) - (1 + m19)) - (1 + m23)) - (1 + m27)) - (1 + m31)) ∧ ∀ (h34 : xH) (a35 : Nat), a35 = xsz h33 → h34 = xnew h33 1003 m36 (fun _ => xdf FieldType.int) → xcls h34 this = 6 ∧ ∀ h37 : xH, h37 = xput h34 this 18 (xr (some a35)) → xcls h37 this = 6 ∧ ∃ o38 : Option Nat, xval h37 this 4 = xr o38 ∧ ∃ a39, o38 = some a39 ∧ xcls h37 a39 = 1003 ∧ ∃ i40 : Nat, (1 : Int32) = nI i40 ∧ i40 < 2147483648 ∧ i40 < xlen h37 a39 ∧ ∀ h41 : xH, h41 = xput h37 a39 i40 (xi (200 : Int32)) → xcls h41 this = 6 ∧ ∃ o42 : Option Nat, xval h41 this 4 = xr o42 ∧ ∃ a43, o42 = some a43 ∧ xcls h41 a43 = 1003 ∧ ∃ i44 : Nat, (4 : Int32) = nI i44 ∧ i44 < 2147483648 ∧ i44 < xlen h41 a43 ∧ ∀ h45 : xH, h45 = xput h41 a43 i44 (xi (3 : Int32)) → Q (.inl none) h45) : xCn G mX3_init d K [xr (some this)] h Q := by
  refine xCn_of px_X3_init rfl rfl (Nat.le_of_ble_eq_true rfl) ?_
  show xWp G mX3_init d K Q K 0 [some (xr (some this))] [] h
  refine xw_aload_n dX3_init_0 rfl ?_
  obtain ⟨hd9, hvc⟩ := hvc
  refine xw_objInit dX3_init_1 q2978 q196 q197 hd9 (Nat.le_of_ble_eq_true rfl) ?_
  refine xw_aload_n dX3_init_4 rfl ?_
  refine xw_iconst (2 : Int32) dX3_init_5 (by decide) ?_
  obtain ⟨m3, hx9, hn9, hle, hvc⟩ := hvc
  refine xw_newa (j := 3) (atype := .int) dX3_init_6 rfl q1302 hx9 hn9 hle (fun h1 a2 ea9 eh9 => ?_)
  replace hvc := hvc h1 a2 ea9 eh9
  obtain ⟨hcK, hvc⟩ := hvc
  refine xw_putF dX3_init_8 hcX3 in_X3 tyX3_ok xnmX3 (kf := 0) (by decide) q2979 (fun _ _ _ _ z => z) rfl rfl rfl (xnar_r _ rfl _).1 (xnar_r _ rfl _).2 hcK (Or.inl rfl) (fun h4 eh9 => ?_)
  replace hvc := hvc h4 eh9
  refine xw_aload_n dX3_init_11 rfl ?_
  refine xw_iconst (2 : Int32) dX3_init_12 (by decide) ?_
  obtain ⟨m7, hx9, hn9, hle, hvc⟩ := hvc
  refine xw_newa (j := 3) (atype := .int) dX3_init_13 rfl q1302 hx9 hn9 hle (fun h5 a6 ea9 eh9 => ?_)
  replace hvc := hvc h5 a6 ea9 eh9
  obtain ⟨hcK, hvc⟩ := hvc
  refine xw_putF dX3_init_15 hcX3 in_X3 tyX3_ok xnmX3 (kf := 1) (by decide) q2980 (fun _ _ _ _ z => z) rfl rfl rfl (xnar_r _ rfl _).1 (xnar_r _ rfl _).2 hcK (Or.inl rfl) (fun h8 eh9 => ?_)
  replace hvc := hvc h8 eh9
  refine xw_aload_n dX3_init_18 rfl ?_
  refine xw_bipush (112 : Int32) dX3_init_19 (by decide) ?_
  obtain ⟨m11, hx9, hn9, hle, hvc⟩ := hvc
  refine xw_newa (j := 3) (atype := .int) dX3_init_21 rfl q1302 hx9 hn9 hle (fun h9 a10 ea9 eh9 => ?_)
  replace hvc := hvc h9 a10 ea9 eh9
  obtain ⟨hcK, hvc⟩ := hvc
  refine xw_putF dX3_init_23 hcX3 in_X3 tyX3_ok xnmX3 (kf := 4) (by decide) q2983 (fun _ _ _ _ z => z) rfl rfl rfl (xnar_r _ rfl _).1 (xnar_r _ rfl _).2 hcK (Or.inl rfl) (fun h12 eh9 => ?_)
  replace hvc := hvc h12 eh9
  refine xw_aload_n dX3_init_26 rfl ?_
  refine xw_sipush (896 : Int32) dX3_init_27 (by decide) ?_
  obtain ⟨m15, hx9, hn9, hle, hvc⟩ := hvc
  refine xw_newa (j := 3) (atype := .int) dX3_init_30 rfl q1302 hx9 hn9 hle (fun h13 a14 ea9 eh9 => ?_)
  replace hvc := hvc h13 a14 ea9 eh9
  obtain ⟨hcK, hvc⟩ := hvc
  refine xw_putF dX3_init_32 hcX3 in_X3 tyX3_ok xnmX3 (kf := 5) (by decide) q2984 (fun _ _ _ _ z => z) rfl rfl rfl (xnar_r _ rfl _).1 (xnar_r _ rfl _).2 hcK (Or.inl rfl) (fun h16 eh9 => ?_)
  replace hvc := hvc h16 eh9
  refine xw_aload_n dX3_init_35 rfl ?_
  refine xw_bipush (112 : Int32) dX3_init_36 (by decide) ?_
  obtain ⟨m19, hx9, hn9, hle, hvc⟩ := hvc
  refine xw_newa (j := 3) (atype := .int) dX3_init_38 rfl q1302 hx9 hn9 hle (fun h17 a18 ea9 eh9 => ?_)
  replace hvc := hvc h17 a18 ea9 eh9
  obtain ⟨hcK, hvc⟩ := hvc
  refine xw_putF dX3_init_40 hcX3 in_X3 tyX3_ok xnmX3 (kf := 6) (by decide) q2985 (fun _ _ _ _ z => z) rfl rfl rfl (xnar_r _ rfl _).1 (xnar_r _ rfl _).2 hcK (Or.inl rfl) (fun h20 eh9 => ?_)
  replace hvc := hvc h20 eh9
  refine xw_aload_n dX3_init_43 rfl ?_
  refine xw_bipush (112 : Int32) dX3_init_44 (by decide) ?_
  obtain ⟨m23, hx9, hn9, hle, hvc⟩ := hvc
  refine xw_newa (j := 3) (atype := .int) dX3_init_46 rfl q1302 hx9 hn9 hle (fun h21 a22 ea9 eh9 => ?_)
  replace hvc := hvc h21 a22 ea9 eh9
  obtain ⟨hcK, hvc⟩ := hvc
  refine xw_putF dX3_init_48 hcX3 in_X3 tyX3_ok xnmX3 (kf := 7) (by decide) q2986 (fun _ _ _ _ z => z) rfl rfl rfl (xnar_r _ rfl _).1 (xnar_r _ rfl _).2 hcK (Or.inl rfl) (fun h24 eh9 => ?_)
  replace hvc := hvc h24 eh9
  refine xw_aload_n dX3_init_51 rfl ?_
  refine xw_bipush (40 : Int32) dX3_init_52 (by decide) ?_
  obtain ⟨m27, hx9, hn9, hle, hvc⟩ := hvc
  refine xw_newa (j := 1) (atype := .char) dX3_init_54 rfl q351 hx9 hn9 hle (fun h25 a26 ea9 eh9 => ?_)
  replace hvc := hvc h25 a26 ea9 eh9
  obtain ⟨hcK, hvc⟩ := hvc
  refine xw_putF dX3_init_56 hcX3 in_X3 tyX3_ok xnmX3 (kf := 12) (by decide) q2991 (fun _ _ _ _ z => z) rfl rfl rfl (xnar_r _ rfl _).1 (xnar_r _ rfl _).2 hcK (Or.inl rfl) (fun h28 eh9 => ?_)
  replace hvc := hvc h28 eh9
  refine xw_aload_n dX3_init_59 rfl ?_
  refine xw_bipush (60 : Int32) dX3_init_60 (by decide) ?_
  obtain ⟨m31, hx9, hn9, hle, hvc⟩ := hvc
  refine xw_newa (j := 1) (atype := .char) dX3_init_62 rfl q351 hx9 hn9 hle (fun h29 a30 ea9 eh9 => ?_)
  replace hvc := hvc h29 a30 ea9 eh9
  obtain ⟨hcK, hvc⟩ := hvc
  refine xw_putF dX3_init_64 hcX3 in_X3 tyX3_ok xnmX3 (kf := 14) (by decide) q2993 (fun _ _ _ _ z => z) rfl rfl rfl (xnar_r _ rfl _).1 (xnar_r _ rfl _).2 hcK (Or.inl rfl) (fun h32 eh9 => ?_)
  replace hvc := hvc h32 eh9
  refine xw_aload_n dX3_init_67 rfl ?_
  refine xw_iconst (-1 : Int32) dX3_init_68 (by decide) ?_
  obtain ⟨hcK, hvc⟩ := hvc
  refine xw_put dX3_init_69 hcX3 in_X3 tyX3_ok xnmX3 (kf := 17) (by decide) q2996 (fun _ _ _ _ z => z) rfl rfl rfl hcK (Or.inl rfl) (fun h33 eh9 => ?_)
  replace hvc := hvc h33 eh9
  refine xw_aload_n dX3_init_72 rfl ?_
  refine xw_iconst (4 : Int32) dX3_init_73 (by decide) ?_
  obtain ⟨m36, hx9, hn9, hle, hvc⟩ := hvc
  refine xw_newa (j := 3) (atype := .int) dX3_init_74 rfl q1302 hx9 hn9 hle (fun h34 a35 ea9 eh9 => ?_)
  replace hvc := hvc h34 a35 ea9 eh9
  obtain ⟨hcK, hvc⟩ := hvc
  refine xw_putF dX3_init_76 hcX3 in_X3 tyX3_ok xnmX3 (kf := 18) (by decide) q2997 (fun _ _ _ _ z => z) rfl rfl rfl (xnar_r _ rfl _).1 (xnar_r _ rfl _).2 hcK (Or.inl rfl) (fun h37 eh9 => ?_)
  replace hvc := hvc h37 eh9
  refine xw_aload_n dX3_init_79 rfl ?_
  obtain ⟨hcK, o38, hvK, hvc⟩ := hvc
  refine xw_get dX3_init_80 hcX3 in_X3 (kf := 4) (by decide) q2983 (fun _ _ _ _ z => z) hcK hvK ?_
  refine xw_iconst (1 : Int32) dX3_init_83 (by decide) ?_
  refine xw_sipush (200 : Int32) dX3_init_84 (by decide) ?_
  obtain ⟨a39, ho, hvc⟩ := hvc
  subst ho
  obtain ⟨hcK, i40, hx9, hb9, hi9, hvc⟩ := hvc
  refine xw_iast (j := 3) dX3_init_87 rfl hcK (Or.inl rfl) hx9 hb9 hi9 (fun h41 eh9 => ?_)
  replace hvc := hvc h41 eh9
  refine xw_aload_n dX3_init_88 rfl ?_
  obtain ⟨hcK, o42, hvK, hvc⟩ := hvc
  refine xw_get dX3_init_89 hcX3 in_X3 (kf := 4) (by decide) q2983 (fun _ _ _ _ z => z) hcK hvK ?_
  refine xw_iconst (4 : Int32) dX3_init_92 (by decide) ?_
  refine xw_iconst (3 : Int32) dX3_init_93 (by decide) ?_
  obtain ⟨a43, ho, hvc⟩ := hvc
  subst ho
  obtain ⟨hcK, i44, hx9, hb9, hi9, hvc⟩ := hvc
  refine xw_iast (j := 3) dX3_init_94 rfl hcK (Or.inl rfl) hx9 hb9 hi9 (fun h45 eh9 => ?_)
  replace hvc := hvc h45 eh9
  exact xw_vret dX3_init_95 rfl hvc

theorem vc_X3_reason {G : xG} {d K : Nat} {Q : xR → xH → Prop} {h : xH} {this : Nat} {x1 : Int32} {x2 : Int32}
    (hvc : xCall G d K mX3_isBetween [xi x1, xi (0 : Int32), xi (1 : Int32)] h (xkI (fun n3 h1 k2 => ((¬ n3 = 0 → xcls h1 this = 6 ∧ ∃ o4 : Option Nat, xval h1 this 0 = xr o4 ∧ ∃ a5, o4 = some a5 ∧ xcls h1 a5 = 1003 ∧ ∃ i6 : Nat, (0 : Int32) = nI i6 ∧ i6 < 2147483648 ∧ i6 < xlen h1 a5 ∧ ∃ n7 : Int32, xval h1 a5 i6 = xi n7 ∧ ((¬ n7 = 0 → xcls h1 this = 6 ∧ ∃ o8 : Option Nat, xval h1 this 0 = xr o8 ∧ ∃ a9, o8 = some a9 ∧ xcls h1 a9 = 1003 ∧ ∃ i10 : Nat, x1 = nI i10 ∧ i10 < 2147483648 ∧ i10 < xlen h1 a9 ∧ ∃ n11 : Int32, xval h1 a9 i10 = xi n11 ∧ ((¬ n11 = 0 → ((x2 = 0 → xcls h1 this = 6 ∧ ∃ o12 : Option Nat, xval h1 this 0 = xr o12 ∧ ∃ a13, o12 = some a13 ∧ xcls h1 a13 = 1003 ∧ ∃ i14 : Nat, x1 = nI i14 ∧ i14 < 2147483648 ∧ i14 < xlen h1 a13 ∧ ∃ n15 : Int32, xval h1 a13 i14 = xi n15 ∧ Q (.inl (some (xi n15))) h1) ∧ (¬ x2 = 0 → xcls h1 this = 6 ∧ ∃ o16 : Option Nat, xval h1 this 1 = xr o16 ∧ ∃ a17, o16 = some a17 ∧ xcls h1 a17 = 1003 ∧ ∃ i18 : Nat, x1 = nI i18 ∧ i18 < 2147483648 ∧ i18 < xlen h1 a17 ∧ ∃ n19 : Int32, xval h1 a17 i18 = xi n19 ∧ Q (.inl (some (xi n19))) h1))) ∧ (n11 = 0 → Q (.inl (some (xi (-6 : Int32)))) h1))) ∧ (n7 = 0 → Q (.inl (some (xi (-3 : Int32)))) h1))) ∧ (n3 = 0 → Q (.inl (some (xi (-2 : Int32)))) h1))) (fun q h _ => Q (.inr q) h))) : xCn G mX3_reason d K [xr (some this), xi x1, xi x2] h Q := by
  refine xCn_of px_X3_reason rfl rfl (Nat.le_of_ble_eq_true rfl) ?_
  show xWp G mX3_reason d K Q K 0 [some (xr (some this)), some (xi x1), some (xi x2)] [] h
  refine xw_iload_n dX3_reason_0 rfl ?_
  refine xw_iconst (0 : Int32) dX3_reason_1 (by decide) ?_
  refine xw_iconst (1 : Int32) dX3_reason_2 (by decide) ?_
  obtain ⟨d9, k9, hd9, hk9, hC9⟩ := hvc
  refine xw_callS dX3_reason_3 px_X3_isBetween pm_X3_isBetween q3047 q3048 (As := [xi x1, xi (0 : Int32), xi (1 : Int32)]) (rest := []) rfl rfl (Nat.le_of_ble_eq_true rfl) hd9 hk9 hC9 (xkI_n fun n3 h1 hvc => ?_) (fun q h hq => xTh_out0 rfl hq)
  refine xw_if_ne 12 dX3_reason_6 rfl (fun hc => ?_) (fun hc => ?_)
  · replace hvc := hvc.1 hc
    refine xw_aload_n dX3_reason_12 rfl ?_
    obtain ⟨hcK, o4, hvK, hvc⟩ := hvc
    refine xw_get dX3_reason_13 hcX3 in_X3 (kf := 0) (by decide) q2979 (fun _ _ _ _ z => z) hcK hvK ?_
    refine xw_iconst (0 : Int32) dX3_reason_16 (by decide) ?_
    obtain ⟨a5, ho, hvc⟩ := hvc
    subst ho
    obtain ⟨hcK, i6, hx9, hb9, hi9, n7, hv9, hvc⟩ := hvc
    refine xw_iald (j := 3) dX3_reason_17 rfl hcK hx9 hb9 hi9 hv9 ?_
    refine xw_if_ne 24 dX3_reason_18 rfl (fun hc => ?_) (fun hc => ?_)
    · replace hvc := hvc.1 hc
      refine xw_aload_n dX3_reason_24 rfl ?_
      obtain ⟨hcK, o8, hvK, hvc⟩ := hvc
      refine xw_get dX3_reason_25 hcX3 in_X3 (kf := 0) (by decide) q2979 (fun _ _ _ _ z => z) hcK hvK ?_
      refine xw_iload_n dX3_reason_28 rfl ?_
      obtain ⟨a9, ho, hvc⟩ := hvc
      subst ho
      obtain ⟨hcK, i10, hx9, hb9, hi9, n11, hv9, hvc⟩ := hvc
      refine xw_iald (j := 3) dX3_reason_29 rfl hcK hx9 hb9 hi9 hv9 ?_
      refine xw_if_ne 36 dX3_reason_30 rfl (fun hc => ?_) (fun hc => ?_)
      · replace hvc := hvc.1 hc
        refine xw_iload_n dX3_reason_36 rfl ?_
        refine xw_if_eq 49 dX3_reason_37 rfl (fun hc => ?_) (fun hc => ?_)
        · replace hvc := hvc.1 hc
          refine xw_aload_n dX3_reason_49 rfl ?_
          obtain ⟨hcK, o12, hvK, hvc⟩ := hvc
          refine xw_get dX3_reason_50 hcX3 in_X3 (kf := 0) (by decide) q2979 (fun _ _ _ _ z => z) hcK hvK ?_
          refine xw_iload_n dX3_reason_53 rfl ?_
          obtain ⟨a13, ho, hvc⟩ := hvc
          subst ho
          obtain ⟨hcK, i14, hx9, hb9, hi9, n15, hv9, hvc⟩ := hvc
          refine xw_iald (j := 3) dX3_reason_54 rfl hcK hx9 hb9 hi9 hv9 ?_
          exact xw_iret dX3_reason_55 rfl hvc
        · replace hvc := hvc.2 hc
          refine xw_aload_n dX3_reason_40 rfl ?_
          obtain ⟨hcK, o16, hvK, hvc⟩ := hvc
          refine xw_get dX3_reason_41 hcX3 in_X3 (kf := 1) (by decide) q2980 (fun _ _ _ _ z => z) hcK hvK ?_
          refine xw_iload_n dX3_reason_44 rfl ?_
          obtain ⟨a17, ho, hvc⟩ := hvc
          subst ho
          obtain ⟨hcK, i18, hx9, hb9, hi9, n19, hv9, hvc⟩ := hvc
          refine xw_iald (j := 3) dX3_reason_45 rfl hcK hx9 hb9 hi9 hv9 ?_
          refine xw_goto 55 dX3_reason_46 rfl ?_
          exact xw_iret dX3_reason_55 rfl hvc
      · replace hvc := hvc.2 hc
        refine xw_bipush (-6 : Int32) dX3_reason_33 (by decide) ?_
        exact xw_iret dX3_reason_35 rfl hvc
    · replace hvc := hvc.2 hc
      refine xw_bipush (-3 : Int32) dX3_reason_21 (by decide) ?_
      exact xw_iret dX3_reason_23 rfl hvc
  · replace hvc := hvc.2 hc
    refine xw_bipush (-2 : Int32) dX3_reason_9 (by decide) ?_
    exact xw_iret dX3_reason_11 rfl hvc

theorem vc_X3_isBetween {G : xG} {d K : Nat} {Q : xR → xH → Prop} {h : xH} {x1 : Int32} {x2 : Int32} {x3 : Int32}
    (hvc : ((x1 < x2 → Q (.inl (some (xi (0 : Int32)))) h) ∧ (¬ x1 < x2 → ((x3 < x1 → Q (.inl (some (xi (0 : Int32)))) h) ∧ (¬ x3 < x1 → Q (.inl (some (xi (1 : Int32)))) h))))) : xCn G mX3_isBetween d K [xi x1, xi x2, xi x3] h Q := by
  refine xCn_of px_X3_isBetween rfl rfl (Nat.le_of_ble_eq_true rfl) ?_
  show xWp G mX3_isBetween d K Q K 0 [some (xi x1), some (xi x2), some (xi x3)] [] h
  refine xw_iload_n dX3_isBetween_0 rfl ?_
  refine xw_iload_n dX3_isBetween_1 rfl ?_
  refine xw_icmp_gt 14 dX3_isBetween_2 rfl (fun hc => ?_) (fun hc => ?_)
  · replace hvc := hvc.1 hc
    refine xw_iconst (0 : Int32) dX3_isBetween_14 (by decide) ?_
    exact xw_zret dX3_isBetween_15 rfl rfl hvc
  · replace hvc := hvc.2 hc
    refine xw_iload_n dX3_isBetween_5 rfl ?_
    refine xw_iload_n dX3_isBetween_6 rfl ?_
    refine xw_icmp_gt 14 dX3_isBetween_7 rfl (fun hc => ?_) (fun hc => ?_)
    · replace hvc := hvc.1 hc
      refine xw_iconst (0 : Int32) dX3_isBetween_14 (by decide) ?_
      exact xw_zret dX3_isBetween_15 rfl rfl hvc
    · replace hvc := hvc.2 hc
      refine xw_iconst (1 : Int32) dX3_isBetween_10 (by decide) ?_
      refine xw_goto 15 dX3_isBetween_11 rfl ?_
      exact xw_zret dX3_isBetween_15 rfl rfl hvc

theorem vc_X3_hamlet {G : xG} {d K : Nat} {Q : xR → xH → Prop} {h : xH} {this : Nat} {x1 : Int32} {x2 : Int32} {x3 : Int32}
    (hvc : xcls h this = 6 ∧ xCall G d K mX3_notHamlet [xr (some this), xi x1, xi x2, xi x3] h (xkI (fun n3 h1 k2 => ((n3 = 0 → xcls h1 this = 6 ∧ xCall G d k2 mX3_remembers [xr (some this)] h1 (xkV (fun h4 k5 => xcls h4 this = 6 ∧ xCall G d k5 mX3_tellsHamlet [xr (some this), xi x1, xi x2, xi x3] h4 (xkI (fun n8 h6 k7 => Q (.inl (some (xi n8))) h6) (fun q h _ => Q (.inr q) h))) (fun q h _ => Q (.inr q) h))) ∧ (¬ n3 = 0 → xcls h1 this = 6 ∧ xCall G d k2 mX3_refuses [xr (some this), xi n3] h1 (xkI (fun n11 h9 k10 => Q (.inl (some (xi n11))) h9) (fun q h _ => Q (.inr q) h))))) (fun q h _ => Q (.inr q) h))) : xCn G mX3_hamlet d K [xr (some this), xi x1, xi x2, xi x3] h Q := by
  refine xCn_of px_X3_hamlet rfl rfl (Nat.le_of_ble_eq_true rfl) ?_
  show xWp G mX3_hamlet d K Q K 0 [some (xr (some this)), some (xi x1), some (xi x2), some (xi x3), none] [] h
  refine xw_aload_n dX3_hamlet_0 rfl ?_
  refine xw_iload_n dX3_hamlet_1 rfl ?_
  refine xw_iload_n dX3_hamlet_2 rfl ?_
  refine xw_iload_n dX3_hamlet_3 rfl ?_
  obtain ⟨hcK, hvc⟩ := hvc
  obtain ⟨d9, k9, hd9, hk9, hC9⟩ := hvc
  refine xw_callV dX3_hamlet_4 px_X3_notHamlet pm_X3_notHamlet q3054 q3056 qs39 hcX3 hcK (As := [xi x1, xi x2, xi x3]) (rest := []) rfl rfl (Nat.le_of_ble_eq_true rfl) hd9 hk9 hC9 (xkI_n fun n3 h1 hvc => ?_) (fun q h hq => xTh_out0 rfl hq)
  refine xw_istore dX3_hamlet_7 (Nat.le_of_ble_eq_true rfl) (L9 := [some (xr (some this)), some (xi x1), some (xi x2), some (xi x3), some (xi n3)]) rfl ?_
  refine xw_iload dX3_hamlet_9 rfl ?_
  refine xw_if_eq 21 dX3_hamlet_11 rfl (fun hc => ?_) (fun hc => ?_)
  · replace hvc := hvc.1 hc
    refine xw_aload_n dX3_hamlet_21 rfl ?_
    obtain ⟨hcK, hvc⟩ := hvc
    obtain ⟨d9, k9, hd9, hk9, hC9⟩ := hvc
    refine xw_callV dX3_hamlet_22 px_X3_remembers pm_X3_remembers q3081 q3083 qs45 hcX3 hcK (As := []) (rest := []) rfl rfl (Nat.le_of_ble_eq_true rfl) hd9 hk9 hC9 (xkV_n fun h4 hvc => ?_) (fun q h hq => xTh_out0 rfl hq)
    refine xw_aload_n dX3_hamlet_25 rfl ?_
    refine xw_iload_n dX3_hamlet_26 rfl ?_
    refine xw_iload_n dX3_hamlet_27 rfl ?_
    refine xw_iload_n dX3_hamlet_28 rfl ?_
    obtain ⟨hcK, hvc⟩ := hvc
    obtain ⟨d9, k9, hd9, hk9, hC9⟩ := hvc
    refine xw_callV dX3_hamlet_29 px_X3_tellsHamlet pm_X3_tellsHamlet q3093 q3095 qs48 hcX3 hcK (As := [xi x1, xi x2, xi x3]) (rest := []) rfl rfl (Nat.le_of_ble_eq_true rfl) hd9 hk9 hC9 (xkI_n fun n8 h6 hvc => ?_) (fun q h hq => xTh_out0 rfl hq)
    exact xw_iret dX3_hamlet_32 rfl hvc
  · replace hvc := hvc.2 hc
    refine xw_aload_n dX3_hamlet_14 rfl ?_
    refine xw_iload dX3_hamlet_15 rfl ?_
    obtain ⟨hcK, hvc⟩ := hvc
    obtain ⟨d9, k9, hd9, hk9, hC9⟩ := hvc
    refine xw_callV dX3_hamlet_17 px_X3_refuses pm_X3_refuses q3073 q3075 qs43 hcX3 hcK (As := [xi n3]) (rest := []) rfl rfl (Nat.le_of_ble_eq_true rfl) hd9 hk9 hC9 (xkI_n fun n11 h9 hvc => ?_) (fun q h hq => xTh_out0 rfl hq)
    exact xw_iret dX3_hamlet_20 rfl hvc

theorem vc_X3_notHamlet {G : xG} {d K : Nat} {Q : xR → xH → Prop} {h : xH} {this : Nat} {x1 : Int32} {x2 : Int32} {x3 : Int32}
    (hvc : xCall G d K mX3_isPlace [xi x1, xi x2] h (xkI (fun n3 h1 k2 => ((n3 = 0 → Q (.inl (some (xi (-2 : Int32)))) h1) ∧ (¬ n3 = 0 → xCall G d k2 mX3_isBetween [xi x3, xi (1 : Int32), xi (20 : Int32)] h1 (xkI (fun n6 h4 k5 => ((¬ n6 = 0 → xcls h4 this = 6 ∧ ∃ o7 : Option Nat, xval h4 this 4 = xr o7 ∧ ∃ a8, o7 = some a8 ∧ xcls h4 a8 = 1003 ∧ ∃ i9 : Nat, (2 : Int32) = nI i9 ∧ i9 < 2147483648 ∧ i9 < xlen h4 a8 ∧ ∃ n10 : Int32, xval h4 a8 i9 = xi n10 ∧ ((¬ n10 = (8 : Int32) → xcls h4 this = 6 ∧ xCall G d k5 mX3_hamletAt [xr (some this), xi x1, xi x2] h4 (xkI (fun n13 h11 k12 => ((n13 < 0 → Q (.inl (some (xi (0 : Int32)))) h11) ∧ (¬ n13 < 0 → xcls h11 this = 6 ∧ xCall G d k12 mX3_hamletAt [xr (some this), xi x1, xi x2] h11 (xkI (fun n16 h14 k15 => xcls h14 this = 6 ∧ xCall G d k15 mX3_isNot [xr (some this), xi (2 : Int32), xi n16] h14 (xkI (fun n19 h17 k18 => Q (.inl (some (xi n19))) h17) (fun q h _ => Q (.inr q) h))) (fun q h _ => Q (.inr q) h))))) (fun q h _ => Q (.inr q) h))) ∧ (n10 = (8 : Int32) → xcls h4 this = 6 ∧ xCall G d k5 mX3_isNot [xr (some this), xi (1 : Int32), xi (8 : Int32)] h4 (xkI (fun n22 h20 k21 => Q (.inl (some (xi n22))) h20) (fun q h _ => Q (.inr q) h))))) ∧ (n6 = 0 → Q (.inl (some (xi (-2 : Int32)))) h4))) (fun q h _ => Q (.inr q) h))))) (fun q h _ => Q (.inr q) h))) : xCn G mX3_notHamlet d K [xr (some this), xi x1, xi x2, xi x3] h Q := by
  refine xCn_of px_X3_notHamlet rfl rfl (Nat.le_of_ble_eq_true rfl) ?_
  show xWp G mX3_notHamlet d K Q K 0 [some (xr (some this)), some (xi x1), some (xi x2), some (xi x3)] [] h
  refine xw_iload_n dX3_notHamlet_0 rfl ?_
  refine xw_iload_n dX3_notHamlet_1 rfl ?_
  obtain ⟨d9, k9, hd9, hk9, hC9⟩ := hvc
  refine xw_callS dX3_notHamlet_2 px_X3_isPlace pm_X3_isPlace q3058 q3059 (As := [xi x1, xi x2]) (rest := []) rfl rfl (Nat.le_of_ble_eq_true rfl) hd9 hk9 hC9 (xkI_n fun n3 h1 hvc => ?_) (fun q h hq => xTh_out0 rfl hq)
  refine xw_if_eq 18 dX3_notHamlet_5 rfl (fun hc => ?_) (fun hc => ?_)
  · replace hvc := hvc.1 hc
    refine xw_bipush (-2 : Int32) dX3_notHamlet_18 (by decide) ?_
    exact xw_iret dX3_notHamlet_20 rfl hvc
  · replace hvc := hvc.2 hc
    refine xw_iload_n dX3_notHamlet_8 rfl ?_
    refine xw_iconst (1 : Int32) dX3_notHamlet_9 (by decide) ?_
    refine xw_bipush (20 : Int32) dX3_notHamlet_10 (by decide) ?_
    obtain ⟨d9, k9, hd9, hk9, hC9⟩ := hvc
    refine xw_callS dX3_notHamlet_12 px_X3_isBetween pm_X3_isBetween q3047 q3048 (As := [xi x3, xi (1 : Int32), xi (20 : Int32)]) (rest := []) rfl rfl (Nat.le_of_ble_eq_true rfl) hd9 hk9 hC9 (xkI_n fun n6 h4 hvc => ?_) (fun q h hq => xTh_out0 rfl hq)
    refine xw_if_ne 21 dX3_notHamlet_15 rfl (fun hc => ?_) (fun hc => ?_)
    · replace hvc := hvc.1 hc
      refine xw_aload_n dX3_notHamlet_21 rfl ?_
      obtain ⟨hcK, o7, hvK, hvc⟩ := hvc
      refine xw_get dX3_notHamlet_22 hcX3 in_X3 (kf := 4) (by decide) q2983 (fun _ _ _ _ z => z) hcK hvK ?_
      refine xw_iconst (2 : Int32) dX3_notHamlet_25 (by decide) ?_
      obtain ⟨a8, ho, hvc⟩ := hvc
      subst ho
      obtain ⟨hcK, i9, hx9, hb9, hi9, n10, hv9, hvc⟩ := hvc
      refine xw_iald (j := 3) dX3_notHamlet_26 rfl hcK hx9 hb9 hi9 hv9 ?_
      refine xw_bipush (8 : Int32) dX3_notHamlet_27 (by decide) ?_
      refine xw_icmp_ne 40 dX3_notHamlet_29 rfl (fun hc => ?_) (fun hc => ?_)
      · replace hvc := hvc.1 hc
        refine xw_aload_n dX3_notHamlet_40 rfl ?_
        refine xw_iload_n dX3_notHamlet_41 rfl ?_
        refine xw_iload_n dX3_notHamlet_42 rfl ?_
        obtain ⟨hcK, hvc⟩ := hvc
        obtain ⟨d9, k9, hd9, hk9, hC9⟩ := hvc
        refine xw_callV dX3_notHamlet_43 px_X3_hamletAt pm_X3_hamletAt q3065 q3067 qs41 hcX3 hcK (As := [xi x1, xi x2]) (rest := []) rfl rfl (Nat.le_of_ble_eq_true rfl) hd9 hk9 hC9 (xkI_n fun n13 h11 hvc => ?_) (fun q h hq => xTh_out0 rfl hq)
        refine xw_if_lt 63 dX3_notHamlet_46 rfl (fun hc => ?_) (fun hc => ?_)
        · replace hvc := hvc.1 hc
          refine xw_iconst (0 : Int32) dX3_notHamlet_63 (by decide) ?_
          exact xw_iret dX3_notHamlet_64 rfl hvc
        · replace hvc := hvc.2 hc
          refine xw_aload_n dX3_notHamlet_49 rfl ?_
          refine xw_iconst (2 : Int32) dX3_notHamlet_50 (by decide) ?_
          refine xw_aload_n dX3_notHamlet_51 rfl ?_
          refine xw_iload_n dX3_notHamlet_52 rfl ?_
          refine xw_iload_n dX3_notHamlet_53 rfl ?_
          obtain ⟨hcK, hvc⟩ := hvc
          obtain ⟨d9, k9, hd9, hk9, hC9⟩ := hvc
          refine xw_callV dX3_notHamlet_54 px_X3_hamletAt pm_X3_hamletAt q3065 q3067 qs41 hcX3 hcK (As := [xi x1, xi x2]) (rest := [xi (2 : Int32), xr (some this)]) rfl rfl (Nat.le_of_ble_eq_true rfl) hd9 hk9 hC9 (xkI_n fun n16 h14 hvc => ?_) (fun q h hq => xTh_out0 rfl hq)
          obtain ⟨hcK, hvc⟩ := hvc
          obtain ⟨d9, k9, hd9, hk9, hC9⟩ := hvc
          refine xw_callV dX3_notHamlet_57 px_X3_isNot pm_X3_isNot q3061 q3063 qs40 hcX3 hcK (As := [xi (2 : Int32), xi n16]) (rest := []) rfl rfl (Nat.le_of_ble_eq_true rfl) hd9 hk9 hC9 (xkI_n fun n19 h17 hvc => ?_) (fun q h hq => xTh_out0 rfl hq)
          refine xw_goto 64 dX3_notHamlet_60 rfl ?_
          exact xw_iret dX3_notHamlet_64 rfl hvc
      · replace hvc := hvc.2 hc
        refine xw_aload_n dX3_notHamlet_32 rfl ?_
        refine xw_iconst (1 : Int32) dX3_notHamlet_33 (by decide) ?_
        refine xw_bipush (8 : Int32) dX3_notHamlet_34 (by decide) ?_
        obtain ⟨hcK, hvc⟩ := hvc
        obtain ⟨d9, k9, hd9, hk9, hC9⟩ := hvc
        refine xw_callV dX3_notHamlet_36 px_X3_isNot pm_X3_isNot q3061 q3063 qs40 hcX3 hcK (As := [xi (1 : Int32), xi (8 : Int32)]) (rest := []) rfl rfl (Nat.le_of_ble_eq_true rfl) hd9 hk9 hC9 (xkI_n fun n22 h20 hvc => ?_) (fun q h hq => xTh_out0 rfl hq)
        exact xw_iret dX3_notHamlet_39 rfl hvc
    · replace hvc := hvc.2 hc
      refine xw_bipush (-2 : Int32) dX3_notHamlet_18 (by decide) ?_
      exact xw_iret dX3_notHamlet_20 rfl hvc

theorem vc_X3_isPlace {G : xG} {d K : Nat} {Q : xR → xH → Prop} {h : xH} {x1 : Int32} {x2 : Int32}
    (hvc : xCall G d K mX3_isBetween [xi x1, xi (0 : Int32), xi (30 : Int32)] h (xkI (fun n3 h1 k2 => ((n3 = 0 → Q (.inl (some (xi (0 : Int32)))) h1) ∧ (¬ n3 = 0 → xCall G d k2 mX3_isBetween [xi x2, xi (0 : Int32), xi (30 : Int32)] h1 (xkI (fun n6 h4 k5 => ((n6 = 0 → Q (.inl (some (xi (0 : Int32)))) h4) ∧ (¬ n6 = 0 → Q (.inl (some (xi (1 : Int32)))) h4))) (fun q h _ => Q (.inr q) h))))) (fun q h _ => Q (.inr q) h))) : xCn G mX3_isPlace d K [xi x1, xi x2] h Q := by
  refine xCn_of px_X3_isPlace rfl rfl (Nat.le_of_ble_eq_true rfl) ?_
  show xWp G mX3_isPlace d K Q K 0 [some (xi x1), some (xi x2)] [] h
  refine xw_iload_n dX3_isPlace_0 rfl ?_
  refine xw_iconst (0 : Int32) dX3_isPlace_1 (by decide) ?_
  refine xw_bipush (30 : Int32) dX3_isPlace_2 (by decide) ?_
  obtain ⟨d9, k9, hd9, hk9, hC9⟩ := hvc
  refine xw_callS dX3_isPlace_4 px_X3_isBetween pm_X3_isBetween q3047 q3048 (As := [xi x1, xi (0 : Int32), xi (30 : Int32)]) (rest := []) rfl rfl (Nat.le_of_ble_eq_true rfl) hd9 hk9 hC9 (xkI_n fun n3 h1 hvc => ?_) (fun q h hq => xTh_out0 rfl hq)
  refine xw_if_eq 24 dX3_isPlace_7 rfl (fun hc => ?_) (fun hc => ?_)
  · replace hvc := hvc.1 hc
    refine xw_iconst (0 : Int32) dX3_isPlace_24 (by decide) ?_
    exact xw_zret dX3_isPlace_25 rfl rfl hvc
  · replace hvc := hvc.2 hc
    refine xw_iload_n dX3_isPlace_10 rfl ?_
    refine xw_iconst (0 : Int32) dX3_isPlace_11 (by decide) ?_
    refine xw_bipush (30 : Int32) dX3_isPlace_12 (by decide) ?_
    obtain ⟨d9, k9, hd9, hk9, hC9⟩ := hvc
    refine xw_callS dX3_isPlace_14 px_X3_isBetween pm_X3_isBetween q3047 q3048 (As := [xi x2, xi (0 : Int32), xi (30 : Int32)]) (rest := []) rfl rfl (Nat.le_of_ble_eq_true rfl) hd9 hk9 hC9 (xkI_n fun n6 h4 hvc => ?_) (fun q h hq => xTh_out0 rfl hq)
    refine xw_if_eq 24 dX3_isPlace_17 rfl (fun hc => ?_) (fun hc => ?_)
    · replace hvc := hvc.1 hc
      refine xw_iconst (0 : Int32) dX3_isPlace_24 (by decide) ?_
      exact xw_zret dX3_isPlace_25 rfl rfl hvc
    · replace hvc := hvc.2 hc
      refine xw_iconst (1 : Int32) dX3_isPlace_20 (by decide) ?_
      refine xw_goto 25 dX3_isPlace_21 rfl ?_
      exact xw_zret dX3_isPlace_25 rfl rfl hvc

theorem vc_X3_isNot {G : xG} {d K : Nat} {Q : xR → xH → Prop} {h : xH} {this : Nat} {x1 : Int32} {x2 : Int32}
    (hvc : xcls h this = 6 ∧ ∀ h1 : xH, h1 = xput h this 2 (xi x1) → xcls h1 this = 6 ∧ ∀ h2 : xH, h2 = xput h1 this 3 (xi x2) → Q (.inl (some (xi (-5 : Int32)))) h2) : xCn G mX3_isNot d K [xr (some this), xi x1, xi x2] h Q := by
  refine xCn_of px_X3_isNot rfl rfl (Nat.le_of_ble_eq_true rfl) ?_
  show xWp G mX3_isNot d K Q K 0 [some (xr (some this)), some (xi x1), some (xi x2)] [] h
  refine xw_aload_n dX3_isNot_0 rfl ?_
  refine xw_iload_n dX3_isNot_1 rfl ?_
  obtain ⟨hcK, hvc⟩ := hvc
  refine xw_put dX3_isNot_2 hcX3 in_X3 tyX3_ok xnmX3 (kf := 2) (by decide) q2981 (fun _ _ _ _ z => z) rfl rfl rfl hcK (Or.inl rfl) (fun h1 eh9 => ?_)
  replace hvc := hvc h1 eh9
  refine xw_aload_n dX3_isNot_5 rfl ?_
  refine xw_iload_n dX3_isNot_6 rfl ?_
  obtain ⟨hcK, hvc⟩ := hvc
  refine xw_put dX3_isNot_7 hcX3 in_X3 tyX3_ok xnmX3 (kf := 3) (by decide) q2982 (fun _ _ _ _ z => z) rfl rfl rfl hcK (Or.inl rfl) (fun h2 eh9 => ?_)
  replace hvc := hvc h2 eh9
  refine xw_bipush (-5 : Int32) dX3_isNot_10 (by decide) ?_
  exact xw_iret dX3_isNot_12 rfl hvc

theorem vc_X3_hamletAt {G : xG} {d K : Nat} {Q : xR → xH → Prop} {h : xH} {this : Nat} {x1 : Int32} {x2 : Int32}
    (hvc : xWp G mX3_hamletAt d K Q K 2 [some (xr (some this)), some (xi x1), some (xi x2), some (xi (0 : Int32))] [] h) : xCn G mX3_hamletAt d K [xr (some this), xi x1, xi x2] h Q := by
  refine xCn_of px_X3_hamletAt rfl rfl (Nat.le_of_ble_eq_true rfl) ?_
  show xWp G mX3_hamletAt d K Q K 0 [some (xr (some this)), some (xi x1), some (xi x2), none] [] h
  refine xw_iconst (0 : Int32) dX3_hamletAt_0 (by decide) ?_
  refine xw_istore_n dX3_hamletAt_1 (Nat.le_of_ble_eq_true rfl) (L9 := [some (xr (some this)), some (xi x1), some (xi x2), some (xi (0 : Int32))]) rfl ?_
  exact hvc

theorem vc_X3_hamletAt_2 {G : xG} {d K k : Nat} {Q : xR → xH → Prop} {h : xH} {this : Nat} {x1 : Int32} {x2 : Int32} {x3 : Int32}
    (hvc : xcls h this = 6 ∧ ∃ o1 : Option Nat, xval h this 4 = xr o1 ∧ ∃ a2, o1 = some a2 ∧ xcls h a2 = 1003 ∧ ∃ i3 : Nat, (2 : Int32) = nI i3 ∧ i3 < 2147483648 ∧ i3 < xlen h a2 ∧ ∃ n4 : Int32, xval h a2 i3 = xi n4 ∧ ((n4 ≤ x3 → Q (.inl (some (xi (-1 : Int32)))) h) ∧ (¬ n4 ≤ x3 → xcls h this = 6 ∧ xCall G d k mX3_hamletIs [xr (some this), xi x3, xi (0 : Int32)] h (xkI (fun n7 h5 k6 => ((¬ n7 = x1 → xWp G mX3_hamletAt d K Q k6 2 [some (xr (some this)), some (xi x1), some (xi x2), some (xi (x3 + (1 : Int32)))] [] h5) ∧ (n7 = x1 → xcls h5 this = 6 ∧ xCall G d k6 mX3_hamletIs [xr (some this), xi x3, xi (1 : Int32)] h5 (xkI (fun n10 h8 k9 => ((¬ n10 = x2 → xWp G mX3_hamletAt d K Q k9 2 [some (xr (some this)), some (xi x1), some (xi x2), some (xi (x3 + (1 : Int32)))] [] h8) ∧ (n10 = x2 → Q (.inl (some (xi x3))) h8))) (fun q h _ => Q (.inr q) h))))) (fun q h _ => Q (.inr q) h))))) : xWp G mX3_hamletAt d K Q k 2 [some (xr (some this)), some (xi x1), some (xi x2), some (xi x3)] [] h := by
  refine xw_iload_n dX3_hamletAt_2 rfl ?_
  refine xw_aload_n dX3_hamletAt_3 rfl ?_
  obtain ⟨hcK, o1, hvK, hvc⟩ := hvc
  refine xw_get dX3_hamletAt_4 hcX3 in_X3 (kf := 4) (by decide) q2983 (fun _ _ _ _ z => z) hcK hvK ?_
  refine xw_iconst (2 : Int32) dX3_hamletAt_7 (by decide) ?_
  obtain ⟨a2, ho, hvc⟩ := hvc
  subst ho
  obtain ⟨hcK, i3, hx9, hb9, hi9, n4, hv9, hvc⟩ := hvc
  refine xw_iald (j := 3) dX3_hamletAt_8 rfl hcK hx9 hb9 hi9 hv9 ?_
  refine xw_icmp_ge 40 dX3_hamletAt_9 rfl (fun hc => ?_) (fun hc => ?_)
  · replace hvc := hvc.1 hc
    refine xw_iconst (-1 : Int32) dX3_hamletAt_40 (by decide) ?_
    exact xw_iret dX3_hamletAt_41 rfl hvc
  · replace hvc := hvc.2 hc
    refine xw_aload_n dX3_hamletAt_12 rfl ?_
    refine xw_iload_n dX3_hamletAt_13 rfl ?_
    refine xw_iconst (0 : Int32) dX3_hamletAt_14 (by decide) ?_
    obtain ⟨hcK, hvc⟩ := hvc
    obtain ⟨d9, k9, hd9, hk9, hC9⟩ := hvc
    refine xw_callV dX3_hamletAt_15 px_X3_hamletIs pm_X3_hamletIs q3069 q3071 qs42 hcX3 hcK (As := [xi x3, xi (0 : Int32)]) (rest := []) rfl rfl (Nat.le_of_ble_eq_true rfl) hd9 hk9 hC9 (xkI_n fun n7 h5 hvc => ?_) (fun q h hq => xTh_out0 rfl hq)
    refine xw_iload_n dX3_hamletAt_18 rfl ?_
    refine xw_icmp_ne 34 dX3_hamletAt_19 rfl (fun hc => ?_) (fun hc => ?_)
    · replace hvc := hvc.1 hc
      refine xw_iinc (1 : Int32) dX3_hamletAt_34 rfl (by decide) (Nat.le_of_ble_eq_true rfl) (L9 := [some (xr (some this)), some (xi x1), some (xi x2), some (xi (x3 + (1 : Int32)))]) rfl ?_
      refine xw_goto 2 dX3_hamletAt_37 rfl ?_
      exact hvc
    · replace hvc := hvc.2 hc
      refine xw_aload_n dX3_hamletAt_22 rfl ?_
      refine xw_iload_n dX3_hamletAt_23 rfl ?_
      refine xw_iconst (1 : Int32) dX3_hamletAt_24 (by decide) ?_
      obtain ⟨hcK, hvc⟩ := hvc
      obtain ⟨d9, k9, hd9, hk9, hC9⟩ := hvc
      refine xw_callV dX3_hamletAt_25 px_X3_hamletIs pm_X3_hamletIs q3069 q3071 qs42 hcX3 hcK (As := [xi x3, xi (1 : Int32)]) (rest := []) rfl rfl (Nat.le_of_ble_eq_true rfl) hd9 hk9 hC9 (xkI_n fun n10 h8 hvc => ?_) (fun q h hq => xTh_out0 rfl hq)
      refine xw_iload_n dX3_hamletAt_28 rfl ?_
      refine xw_icmp_ne 34 dX3_hamletAt_29 rfl (fun hc => ?_) (fun hc => ?_)
      · replace hvc := hvc.1 hc
        refine xw_iinc (1 : Int32) dX3_hamletAt_34 rfl (by decide) (Nat.le_of_ble_eq_true rfl) (L9 := [some (xr (some this)), some (xi x1), some (xi x2), some (xi (x3 + (1 : Int32)))]) rfl ?_
        refine xw_goto 2 dX3_hamletAt_37 rfl ?_
        exact hvc
      · replace hvc := hvc.2 hc
        refine xw_iload_n dX3_hamletAt_32 rfl ?_
        exact xw_iret dX3_hamletAt_33 rfl hvc

theorem vc_X3_hamletIs {G : xG} {d K : Nat} {Q : xR → xH → Prop} {h : xH} {this : Nat} {x1 : Int32} {x2 : Int32}
    (hvc : xcls h this = 6 ∧ ∃ o1 : Option Nat, xval h this 4 = xr o1 ∧ ∃ a2, o1 = some a2 ∧ xcls h a2 = 1003 ∧ ∃ i3 : Nat, (((13 : Int32) + ((6 : Int32) * x1)) + x2) = nI i3 ∧ i3 < 2147483648 ∧ i3 < xlen h a2 ∧ ∃ n4 : Int32, xval h a2 i3 = xi n4 ∧ Q (.inl (some (xi n4))) h) : xCn G mX3_hamletIs d K [xr (some this), xi x1, xi x2] h Q := by
  refine xCn_of px_X3_hamletIs rfl rfl (Nat.le_of_ble_eq_true rfl) ?_
  show xWp G mX3_hamletIs d K Q K 0 [some (xr (some this)), some (xi x1), some (xi x2)] [] h
  refine xw_aload_n dX3_hamletIs_0 rfl ?_
  obtain ⟨hcK, o1, hvK, hvc⟩ := hvc
  refine xw_get dX3_hamletIs_1 hcX3 in_X3 (kf := 4) (by decide) q2983 (fun _ _ _ _ z => z) hcK hvK ?_
  refine xw_bipush (13 : Int32) dX3_hamletIs_4 (by decide) ?_
  refine xw_bipush (6 : Int32) dX3_hamletIs_6 (by decide) ?_
  refine xw_iload_n dX3_hamletIs_8 rfl ?_
  refine xw_imul dX3_hamletIs_9 ?_
  refine xw_iadd dX3_hamletIs_10 ?_
  refine xw_iload_n dX3_hamletIs_11 rfl ?_
  refine xw_iadd dX3_hamletIs_12 ?_
  obtain ⟨a2, ho, hvc⟩ := hvc
  subst ho
  obtain ⟨hcK, i3, hx9, hb9, hi9, n4, hv9, hvc⟩ := hvc
  refine xw_iald (j := 3) dX3_hamletIs_13 rfl hcK hx9 hb9 hi9 hv9 ?_
  exact xw_iret dX3_hamletIs_14 rfl hvc

theorem vc_X3_refuses {G : xG} {d K : Nat} {Q : xR → xH → Prop} {h : xH} {this : Nat} {x1 : Int32}
    (hvc : ((x1 = (-5 : Int32) → xcls h this = 6 ∧ ∃ n1 : Int32, xval h this 2 = xi n1 ∧ xcls h this = 6 ∧ ∃ n2 : Int32, xval h this 3 = xi n2 ∧ xcls h this = 6 ∧ xCall G d K mX3_keepsAt [xr (some this), xi (0 : Int32), xi n1, xi n2] h (xkV (fun h3 k4 => xcls h3 this = 6 ∧ xCall G d k4 mX3_keepsAt [xr (some this), xi (1 : Int32), xi (0 : Int32), xi (0 : Int32)] h3 (xkV (fun h5 k6 => Q (.inl (some (xi x1))) h5) (fun q h _ => Q (.inr q) h))) (fun q h _ => Q (.inr q) h))) ∧ (¬ x1 = (-5 : Int32) → Q (.inl (some (xi x1))) h))) : xCn G mX3_refuses d K [xr (some this), xi x1] h Q := by
  refine xCn_of px_X3_refuses rfl rfl (Nat.le_of_ble_eq_true rfl) ?_
  show xWp G mX3_refuses d K Q K 0 [some (xr (some this)), some (xi x1)] [] h
  refine xw_iload_n dX3_refuses_0 rfl ?_
  refine xw_bipush (-5 : Int32) dX3_refuses_1 (by decide) ?_
  refine xw_icmp_eq 8 dX3_refuses_3 rfl (fun hc => ?_) (fun hc => ?_)
  · replace hvc := hvc.1 hc
    refine xw_aload_n dX3_refuses_8 rfl ?_
    refine xw_iconst (0 : Int32) dX3_refuses_9 (by decide) ?_
    refine xw_aload_n dX3_refuses_10 rfl ?_
    obtain ⟨hcK, n1, hvK, hvc⟩ := hvc
    refine xw_get dX3_refuses_11 hcX3 in_X3 (kf := 2) (by decide) q2981 (fun _ _ _ _ z => z) hcK hvK ?_
    refine xw_aload_n dX3_refuses_14 rfl ?_
    obtain ⟨hcK, n2, hvK, hvc⟩ := hvc
    refine xw_get dX3_refuses_15 hcX3 in_X3 (kf := 3) (by decide) q2982 (fun _ _ _ _ z => z) hcK hvK ?_
    obtain ⟨hcK, hvc⟩ := hvc
    obtain ⟨d9, k9, hd9, hk9, hC9⟩ := hvc
    refine xw_callV dX3_refuses_18 px_X3_keepsAt pm_X3_keepsAt q3077 q3079 qs44 hcX3 hcK (As := [xi (0 : Int32), xi n1, xi n2]) (rest := []) rfl rfl (Nat.le_of_ble_eq_true rfl) hd9 hk9 hC9 (xkV_n fun h3 hvc => ?_) (fun q h hq => xTh_out0 rfl hq)
    refine xw_aload_n dX3_refuses_21 rfl ?_
    refine xw_iconst (1 : Int32) dX3_refuses_22 (by decide) ?_
    refine xw_iconst (0 : Int32) dX3_refuses_23 (by decide) ?_
    refine xw_iconst (0 : Int32) dX3_refuses_24 (by decide) ?_
    obtain ⟨hcK, hvc⟩ := hvc
    obtain ⟨d9, k9, hd9, hk9, hC9⟩ := hvc
    refine xw_callV dX3_refuses_25 px_X3_keepsAt pm_X3_keepsAt q3077 q3079 qs44 hcX3 hcK (As := [xi (1 : Int32), xi (0 : Int32), xi (0 : Int32)]) (rest := []) rfl rfl (Nat.le_of_ble_eq_true rfl) hd9 hk9 hC9 (xkV_n fun h5 hvc => ?_) (fun q h hq => xTh_out0 rfl hq)
    refine xw_iload_n dX3_refuses_28 rfl ?_
    exact xw_iret dX3_refuses_29 rfl hvc
  · replace hvc := hvc.2 hc
    refine xw_iload_n dX3_refuses_6 rfl ?_
    exact xw_iret dX3_refuses_7 rfl hvc

theorem vc_X3_keepsAt {G : xG} {d K : Nat} {Q : xR → xH → Prop} {h : xH} {this : Nat} {x1 : Int32} {x2 : Int32} {x3 : Int32}
    (hvc : xcls h this = 6 ∧ ∃ o1 : Option Nat, xval h this 0 = xr o1 ∧ ∃ a2, o1 = some a2 ∧ xcls h a2 = 1003 ∧ ∃ i3 : Nat, x1 = nI i3 ∧ i3 < 2147483648 ∧ i3 < xlen h a2 ∧ ∀ h4 : xH, h4 = xput h a2 i3 (xi x2) → xcls h4 this = 6 ∧ ∃ o5 : Option Nat, xval h4 this 1 = xr o5 ∧ ∃ a6, o5 = some a6 ∧ xcls h4 a6 = 1003 ∧ ∃ i7 : Nat, x1 = nI i7 ∧ i7 < 2147483648 ∧ i7 < xlen h4 a6 ∧ ∀ h8 : xH, h8 = xput h4 a6 i7 (xi x3) → Q (.inl none) h8) : xCn G mX3_keepsAt d K [xr (some this), xi x1, xi x2, xi x3] h Q := by
  refine xCn_of px_X3_keepsAt rfl rfl (Nat.le_of_ble_eq_true rfl) ?_
  show xWp G mX3_keepsAt d K Q K 0 [some (xr (some this)), some (xi x1), some (xi x2), some (xi x3)] [] h
  refine xw_aload_n dX3_keepsAt_0 rfl ?_
  obtain ⟨hcK, o1, hvK, hvc⟩ := hvc
  refine xw_get dX3_keepsAt_1 hcX3 in_X3 (kf := 0) (by decide) q2979 (fun _ _ _ _ z => z) hcK hvK ?_
  refine xw_iload_n dX3_keepsAt_4 rfl ?_
  refine xw_iload_n dX3_keepsAt_5 rfl ?_
  obtain ⟨a2, ho, hvc⟩ := hvc
  subst ho
  obtain ⟨hcK, i3, hx9, hb9, hi9, hvc⟩ := hvc
  refine xw_iast (j := 3) dX3_keepsAt_6 rfl hcK (Or.inl rfl) hx9 hb9 hi9 (fun h4 eh9 => ?_)
  replace hvc := hvc h4 eh9
  refine xw_aload_n dX3_keepsAt_7 rfl ?_
  obtain ⟨hcK, o5, hvK, hvc⟩ := hvc
  refine xw_get dX3_keepsAt_8 hcX3 in_X3 (kf := 1) (by decide) q2980 (fun _ _ _ _ z => z) hcK hvK ?_
  refine xw_iload_n dX3_keepsAt_11 rfl ?_
  refine xw_iload_n dX3_keepsAt_12 rfl ?_
  obtain ⟨a6, ho, hvc⟩ := hvc
  subst ho
  obtain ⟨hcK, i7, hx9, hb9, hi9, hvc⟩ := hvc
  refine xw_iast (j := 3) dX3_keepsAt_13 rfl hcK (Or.inl rfl) hx9 hb9 hi9 (fun h8 eh9 => ?_)
  replace hvc := hvc h8 eh9
  exact xw_vret dX3_keepsAt_14 rfl hvc

theorem vc_X3_remembers {G : xG} {d K : Nat} {Q : xR → xH → Prop} {h : xH} {this : Nat}
    (hvc : xcls h this = 6 ∧ xCall G d K mX3_thinks [xr (some this)] h (xkV (fun h1 k2 => xcls h1 this = 6 ∧ xCall G d k2 mX3_keepsMind [xr (some this)] h1 (xkV (fun h3 k4 => Q (.inl none) h3) (fun q h _ => Q (.inr q) h))) (fun q h _ => Q (.inr q) h))) : xCn G mX3_remembers d K [xr (some this)] h Q := by
  refine xCn_of px_X3_remembers rfl rfl (Nat.le_of_ble_eq_true rfl) ?_
  show xWp G mX3_remembers d K Q K 0 [some (xr (some this))] [] h
  refine xw_aload_n dX3_remembers_0 rfl ?_
  obtain ⟨hcK, hvc⟩ := hvc
  obtain ⟨d9, k9, hd9, hk9, hC9⟩ := hvc
  refine xw_callV dX3_remembers_1 px_X3_thinks pm_X3_thinks q3085 q3087 qs46 hcX3 hcK (As := []) (rest := []) rfl rfl (Nat.le_of_ble_eq_true rfl) hd9 hk9 hC9 (xkV_n fun h1 hvc => ?_) (fun q h hq => xTh_out0 rfl hq)
  refine xw_aload_n dX3_remembers_4 rfl ?_
  obtain ⟨hcK, hvc⟩ := hvc
  obtain ⟨d9, k9, hd9, hk9, hC9⟩ := hvc
  refine xw_callV dX3_remembers_5 px_X3_keepsMind pm_X3_keepsMind q3089 q3091 qs47 hcX3 hcK (As := []) (rest := []) rfl rfl (Nat.le_of_ble_eq_true rfl) hd9 hk9 hC9 (xkV_n fun h3 hvc => ?_) (fun q h hq => xTh_out0 rfl hq)
  exact xw_vret dX3_remembers_8 rfl hvc

theorem vc_X3_thinks {G : xG} {d K : Nat} {Q : xR → xH → Prop} {h : xH} {this : Nat}
    (hvc : xWp G mX3_thinks d K Q K 2 [some (xr (some this)), some (xi (0 : Int32))] [] h) : xCn G mX3_thinks d K [xr (some this)] h Q := by
  refine xCn_of px_X3_thinks rfl rfl (Nat.le_of_ble_eq_true rfl) ?_
  show xWp G mX3_thinks d K Q K 0 [some (xr (some this)), none] [] h
  refine xw_iconst (0 : Int32) dX3_thinks_0 (by decide) ?_
  refine xw_istore_n dX3_thinks_1 (Nat.le_of_ble_eq_true rfl) (L9 := [some (xr (some this)), some (xi (0 : Int32))]) rfl ?_
  exact hvc

theorem vc_X3_thinks_2 {G : xG} {d K k : Nat} {Q : xR → xH → Prop} {h : xH} {this : Nat} {x1 : Int32}
    (hvc : (((112 : Int32) ≤ x1 → Q (.inl none) h) ∧ (¬ (112 : Int32) ≤ x1 → xcls h this = 6 ∧ ∃ o1 : Option Nat, xval h this 7 = xr o1 ∧ xcls h this = 6 ∧ ∃ o2 : Option Nat, xval h this 4 = xr o2 ∧ ∃ a3, o2 = some a3 ∧ xcls h a3 = 1003 ∧ ∃ i4 : Nat, x1 = nI i4 ∧ i4 < 2147483648 ∧ i4 < xlen h a3 ∧ ∃ n5 : Int32, xval h a3 i4 = xi n5 ∧ ∃ a6, o1 = some a6 ∧ xcls h a6 = 1003 ∧ ∃ i7 : Nat, x1 = nI i7 ∧ i7 < 2147483648 ∧ i7 < xlen h a6 ∧ ∀ h8 : xH, h8 = xput h a6 i7 (xi n5) → xWp G mX3_thinks d K Q k 2 [some (xr (some this)), some (xi (x1 + (1 : Int32)))] [] h8))) : xWp G mX3_thinks d K Q k 2 [some (xr (some this)), some (xi x1)] [] h := by
  refine xw_iload_n dX3_thinks_2 rfl ?_
  refine xw_bipush (112 : Int32) dX3_thinks_3 (by decide) ?_
  refine xw_icmp_ge 26 dX3_thinks_5 rfl (fun hc => ?_) (fun hc => ?_)
  · replace hvc := hvc.1 hc
    exact xw_vret dX3_thinks_26 rfl hvc
  · replace hvc := hvc.2 hc
    refine xw_aload_n dX3_thinks_8 rfl ?_
    obtain ⟨hcK, o1, hvK, hvc⟩ := hvc
    refine xw_get dX3_thinks_9 hcX3 in_X3 (kf := 7) (by decide) q2986 (fun _ _ _ _ z => z) hcK hvK ?_
    refine xw_iload_n dX3_thinks_12 rfl ?_
    refine xw_aload_n dX3_thinks_13 rfl ?_
    obtain ⟨hcK, o2, hvK, hvc⟩ := hvc
    refine xw_get dX3_thinks_14 hcX3 in_X3 (kf := 4) (by decide) q2983 (fun _ _ _ _ z => z) hcK hvK ?_
    refine xw_iload_n dX3_thinks_17 rfl ?_
    obtain ⟨a3, ho, hvc⟩ := hvc
    subst ho
    obtain ⟨hcK, i4, hx9, hb9, hi9, n5, hv9, hvc⟩ := hvc
    refine xw_iald (j := 3) dX3_thinks_18 rfl hcK hx9 hb9 hi9 hv9 ?_
    obtain ⟨a6, ho, hvc⟩ := hvc
    subst ho
    obtain ⟨hcK, i7, hx9, hb9, hi9, hvc⟩ := hvc
    refine xw_iast (j := 3) dX3_thinks_19 rfl hcK (Or.inl rfl) hx9 hb9 hi9 (fun h8 eh9 => ?_)
    replace hvc := hvc h8 eh9
    refine xw_iinc (1 : Int32) dX3_thinks_20 rfl (by decide) (Nat.le_of_ble_eq_true rfl) (L9 := [some (xr (some this)), some (xi (x1 + (1 : Int32)))]) rfl ?_
    refine xw_goto 2 dX3_thinks_23 rfl ?_
    exact hvc

theorem vc_X3_keepsMind {G : xG} {d K : Nat} {Q : xR → xH → Prop} {h : xH} {this : Nat}
    (hvc : xcls h this = 6 ∧ ∃ n1 : Int32, xval h this 8 = xi n1 ∧ ((¬ n1 = (8 : Int32) → xcls h this = 6 ∧ ∃ n2 : Int32, xval h this 9 = xi n2 ∧ xcls h this = 6 ∧ ∃ n3 : Int32, xval h this 8 = xi n3 ∧ xWp G mX3_keepsMind d K Q K 47 [some (xr (some this)), some (xi ((n2 + n3) - (n2 + n3) / (8 : Int32) * (8 : Int32))), some (xi (0 : Int32))] [] h) ∧ (n1 = (8 : Int32) → xcls h this = 6 ∧ ∃ n4 : Int32, xval h this 9 = xi n4 ∧ xcls h this = 6 ∧ ∀ h5 : xH, h5 = xput h this 9 (xi ((n4 + (1 : Int32)) - (n4 + (1 : Int32)) / (8 : Int32) * (8 : Int32))) → xcls h5 this = 6 ∧ ∃ n6 : Int32, xval h5 this 8 = xi n6 ∧ xcls h5 this = 6 ∧ ∀ h7 : xH, h7 = xput h5 this 8 (xi (n6 - (1 : Int32))) → xcls h7 this = 6 ∧ ∃ n8 : Int32, xval h7 this 9 = xi n8 ∧ xcls h7 this = 6 ∧ ∃ n9 : Int32, xval h7 this 8 = xi n9 ∧ xWp G mX3_keepsMind d K Q K 47 [some (xr (some this)), some (xi ((n8 + n9) - (n8 + n9) / (8 : Int32) * (8 : Int32))), some (xi (0 : Int32))] [] h7))) : xCn G mX3_keepsMind d K [xr (some this)] h Q := by
  refine xCn_of px_X3_keepsMind rfl rfl (Nat.le_of_ble_eq_true rfl) ?_
  show xWp G mX3_keepsMind d K Q K 0 [some (xr (some this)), none, none] [] h
  refine xw_aload_n dX3_keepsMind_0 rfl ?_
  obtain ⟨hcK, n1, hvK, hvc⟩ := hvc
  refine xw_get dX3_keepsMind_1 hcX3 in_X3 (kf := 8) (by decide) q2987 (fun _ _ _ _ z => z) hcK hvK ?_
  refine xw_bipush (8 : Int32) dX3_keepsMind_4 (by decide) ?_
  refine xw_icmp_ne 32 dX3_keepsMind_6 rfl (fun hc => ?_) (fun hc => ?_)
  · replace hvc := hvc.1 hc
    refine xw_aload_n dX3_keepsMind_32 rfl ?_
    obtain ⟨hcK, n2, hvK, hvc⟩ := hvc
    refine xw_get dX3_keepsMind_33 hcX3 in_X3 (kf := 9) (by decide) q2988 (fun _ _ _ _ z => z) hcK hvK ?_
    refine xw_aload_n dX3_keepsMind_36 rfl ?_
    obtain ⟨hcK, n3, hvK, hvc⟩ := hvc
    refine xw_get dX3_keepsMind_37 hcX3 in_X3 (kf := 8) (by decide) q2987 (fun _ _ _ _ z => z) hcK hvK ?_
    refine xw_iadd dX3_keepsMind_40 ?_
    refine xw_bipush (8 : Int32) dX3_keepsMind_41 (by decide) ?_
    refine xw_irem dX3_keepsMind_43 (by decide) ?_
    refine xw_istore_n dX3_keepsMind_44 (Nat.le_of_ble_eq_true rfl) (L9 := [some (xr (some this)), some (xi ((n2 + n3) - (n2 + n3) / (8 : Int32) * (8 : Int32))), none]) rfl ?_
    refine xw_iconst (0 : Int32) dX3_keepsMind_45 (by decide) ?_
    refine xw_istore_n dX3_keepsMind_46 (Nat.le_of_ble_eq_true rfl) (L9 := [some (xr (some this)), some (xi ((n2 + n3) - (n2 + n3) / (8 : Int32) * (8 : Int32))), some (xi (0 : Int32))]) rfl ?_
    exact hvc
  · replace hvc := hvc.2 hc
    refine xw_aload_n dX3_keepsMind_9 rfl ?_
    refine xw_aload_n dX3_keepsMind_10 rfl ?_
    obtain ⟨hcK, n4, hvK, hvc⟩ := hvc
    refine xw_get dX3_keepsMind_11 hcX3 in_X3 (kf := 9) (by decide) q2988 (fun _ _ _ _ z => z) hcK hvK ?_
    refine xw_iconst (1 : Int32) dX3_keepsMind_14 (by decide) ?_
    refine xw_iadd dX3_keepsMind_15 ?_
    refine xw_bipush (8 : Int32) dX3_keepsMind_16 (by decide) ?_
    refine xw_irem dX3_keepsMind_18 (by decide) ?_
    obtain ⟨hcK, hvc⟩ := hvc
    refine xw_put dX3_keepsMind_19 hcX3 in_X3 tyX3_ok xnmX3 (kf := 9) (by decide) q2988 (fun _ _ _ _ z => z) rfl rfl rfl hcK (Or.inl rfl) (fun h5 eh9 => ?_)
    replace hvc := hvc h5 eh9
    refine xw_aload_n dX3_keepsMind_22 rfl ?_
    refine xw_dup dX3_keepsMind_23 rfl ?_
    obtain ⟨hcK, n6, hvK, hvc⟩ := hvc
    refine xw_get dX3_keepsMind_24 hcX3 in_X3 (kf := 8) (by decide) q2987 (fun _ _ _ _ z => z) hcK hvK ?_
    refine xw_iconst (1 : Int32) dX3_keepsMind_27 (by decide) ?_
    refine xw_isub dX3_keepsMind_28 ?_
    obtain ⟨hcK, hvc⟩ := hvc
    refine xw_put dX3_keepsMind_29 hcX3 in_X3 tyX3_ok xnmX3 (kf := 8) (by decide) q2987 (fun _ _ _ _ z => z) rfl rfl rfl hcK (Or.inl rfl) (fun h7 eh9 => ?_)
    replace hvc := hvc h7 eh9
    refine xw_aload_n dX3_keepsMind_32 rfl ?_
    obtain ⟨hcK, n8, hvK, hvc⟩ := hvc
    refine xw_get dX3_keepsMind_33 hcX3 in_X3 (kf := 9) (by decide) q2988 (fun _ _ _ _ z => z) hcK hvK ?_
    refine xw_aload_n dX3_keepsMind_36 rfl ?_
    obtain ⟨hcK, n9, hvK, hvc⟩ := hvc
    refine xw_get dX3_keepsMind_37 hcX3 in_X3 (kf := 8) (by decide) q2987 (fun _ _ _ _ z => z) hcK hvK ?_
    refine xw_iadd dX3_keepsMind_40 ?_
    refine xw_bipush (8 : Int32) dX3_keepsMind_41 (by decide) ?_
    refine xw_irem dX3_keepsMind_43 (by decide) ?_
    refine xw_istore_n dX3_keepsMind_44 (Nat.le_of_ble_eq_true rfl) (L9 := [some (xr (some this)), some (xi ((n8 + n9) - (n8 + n9) / (8 : Int32) * (8 : Int32))), none]) rfl ?_
    refine xw_iconst (0 : Int32) dX3_keepsMind_45 (by decide) ?_
    refine xw_istore_n dX3_keepsMind_46 (Nat.le_of_ble_eq_true rfl) (L9 := [some (xr (some this)), some (xi ((n8 + n9) - (n8 + n9) / (8 : Int32) * (8 : Int32))), some (xi (0 : Int32))]) rfl ?_
    exact hvc

theorem vc_X3_keepsMind_47 {G : xG} {d K k : Nat} {Q : xR → xH → Prop} {h : xH} {this : Nat} {x1 : Int32} {x2 : Int32}
    (hvc : (((112 : Int32) ≤ x2 → xcls h this = 6 ∧ ∃ n10 : Int32, xval h this 8 = xi n10 ∧ xcls h this = 6 ∧ ∀ h11 : xH, h11 = xput h this 8 (xi (n10 + (1 : Int32))) → Q (.inl none) h11) ∧ (¬ (112 : Int32) ≤ x2 → xcls h this = 6 ∧ ∃ o12 : Option Nat, xval h this 5 = xr o12 ∧ xcls h this = 6 ∧ ∃ o13 : Option Nat, xval h this 7 = xr o13 ∧ ∃ a14, o13 = some a14 ∧ xcls h a14 = 1003 ∧ ∃ i15 : Nat, x2 = nI i15 ∧ i15 < 2147483648 ∧ i15 < xlen h a14 ∧ ∃ n16 : Int32, xval h a14 i15 = xi n16 ∧ ∃ a17, o12 = some a17 ∧ xcls h a17 = 1003 ∧ ∃ i18 : Nat, (((112 : Int32) * x1) + x2) = nI i18 ∧ i18 < 2147483648 ∧ i18 < xlen h a17 ∧ ∀ h19 : xH, h19 = xput h a17 i18 (xi n16) → xWp G mX3_keepsMind d K Q k 47 [some (xr (some this)), some (xi x1), some (xi (x2 + (1 : Int32)))] [] h19))) : xWp G mX3_keepsMind d K Q k 47 [some (xr (some this)), some (xi x1), some (xi x2)] [] h := by
  refine xw_iload_n dX3_keepsMind_47 rfl ?_
  refine xw_bipush (112 : Int32) dX3_keepsMind_48 (by decide) ?_
  refine xw_icmp_ge 76 dX3_keepsMind_50 rfl (fun hc => ?_) (fun hc => ?_)
  · replace hvc := hvc.1 hc
    refine xw_aload_n dX3_keepsMind_76 rfl ?_
    refine xw_dup dX3_keepsMind_77 rfl ?_
    obtain ⟨hcK, n10, hvK, hvc⟩ := hvc
    refine xw_get dX3_keepsMind_78 hcX3 in_X3 (kf := 8) (by decide) q2987 (fun _ _ _ _ z => z) hcK hvK ?_
    refine xw_iconst (1 : Int32) dX3_keepsMind_81 (by decide) ?_
    refine xw_iadd dX3_keepsMind_82 ?_
    obtain ⟨hcK, hvc⟩ := hvc
    refine xw_put dX3_keepsMind_83 hcX3 in_X3 tyX3_ok xnmX3 (kf := 8) (by decide) q2987 (fun _ _ _ _ z => z) rfl rfl rfl hcK (Or.inl rfl) (fun h11 eh9 => ?_)
    replace hvc := hvc h11 eh9
    exact xw_vret dX3_keepsMind_86 rfl hvc
  · replace hvc := hvc.2 hc
    refine xw_aload_n dX3_keepsMind_53 rfl ?_
    obtain ⟨hcK, o12, hvK, hvc⟩ := hvc
    refine xw_get dX3_keepsMind_54 hcX3 in_X3 (kf := 5) (by decide) q2984 (fun _ _ _ _ z => z) hcK hvK ?_
    refine xw_bipush (112 : Int32) dX3_keepsMind_57 (by decide) ?_
    refine xw_iload_n dX3_keepsMind_59 rfl ?_
    refine xw_imul dX3_keepsMind_60 ?_
    refine xw_iload_n dX3_keepsMind_61 rfl ?_
    refine xw_iadd dX3_keepsMind_62 ?_
    refine xw_aload_n dX3_keepsMind_63 rfl ?_
    obtain ⟨hcK, o13, hvK, hvc⟩ := hvc
    refine xw_get dX3_keepsMind_64 hcX3 in_X3 (kf := 7) (by decide) q2986 (fun _ _ _ _ z => z) hcK hvK ?_
    refine xw_iload_n dX3_keepsMind_67 rfl ?_
    obtain ⟨a14, ho, hvc⟩ := hvc
    subst ho
    obtain ⟨hcK, i15, hx9, hb9, hi9, n16, hv9, hvc⟩ := hvc
    refine xw_iald (j := 3) dX3_keepsMind_68 rfl hcK hx9 hb9 hi9 hv9 ?_
    obtain ⟨a17, ho, hvc⟩ := hvc
    subst ho
    obtain ⟨hcK, i18, hx9, hb9, hi9, hvc⟩ := hvc
    refine xw_iast (j := 3) dX3_keepsMind_69 rfl hcK (Or.inl rfl) hx9 hb9 hi9 (fun h19 eh9 => ?_)
    replace hvc := hvc h19 eh9
    refine xw_iinc (1 : Int32) dX3_keepsMind_70 rfl (by decide) (Nat.le_of_ble_eq_true rfl) (L9 := [some (xr (some this)), some (xi x1), some (xi (x2 + (1 : Int32)))]) rfl ?_
    refine xw_goto 47 dX3_keepsMind_73 rfl ?_
    exact hvc

theorem vc_X3_tellsHamlet {G : xG} {d K : Nat} {Q : xR → xH → Prop} {h : xH} {this : Nat} {x1 : Int32} {x2 : Int32} {x3 : Int32}
    (hvc : xcls h this = 6 ∧ ∃ o1 : Option Nat, xval h this 4 = xr o1 ∧ ∃ a2, o1 = some a2 ∧ xcls h a2 = 1003 ∧ ∃ i3 : Nat, (2 : Int32) = nI i3 ∧ i3 < 2147483648 ∧ i3 < xlen h a2 ∧ ∃ n4 : Int32, xval h a2 i3 = xi n4 ∧ xWp G mX3_tellsHamlet d K Q K 17 [some (xr (some this)), some (xi x1), some (xi x2), some (xi x3), some (xi ((13 : Int32) + ((6 : Int32) * n4))), some (xi (0 : Int32))] [] h) : xCn G mX3_tellsHamlet d K [xr (some this), xi x1, xi x2, xi x3] h Q := by
  refine xCn_of px_X3_tellsHamlet rfl rfl (Nat.le_of_ble_eq_true rfl) ?_
  show xWp G mX3_tellsHamlet d K Q K 0 [some (xr (some this)), some (xi x1), some (xi x2), some (xi x3), none, none] [] h
  refine xw_bipush (13 : Int32) dX3_tellsHamlet_0 (by decide) ?_
  refine xw_bipush (6 : Int32) dX3_tellsHamlet_2 (by decide) ?_
  refine xw_aload_n dX3_tellsHamlet_4 rfl ?_
  obtain ⟨hcK, o1, hvK, hvc⟩ := hvc
  refine xw_get dX3_tellsHamlet_5 hcX3 in_X3 (kf := 4) (by decide) q2983 (fun _ _ _ _ z => z) hcK hvK ?_
  refine xw_iconst (2 : Int32) dX3_tellsHamlet_8 (by decide) ?_
  obtain ⟨a2, ho, hvc⟩ := hvc
  subst ho
  obtain ⟨hcK, i3, hx9, hb9, hi9, n4, hv9, hvc⟩ := hvc
  refine xw_iald (j := 3) dX3_tellsHamlet_9 rfl hcK hx9 hb9 hi9 hv9 ?_
  refine xw_imul dX3_tellsHamlet_10 ?_
  refine xw_iadd dX3_tellsHamlet_11 ?_
  refine xw_istore dX3_tellsHamlet_12 (Nat.le_of_ble_eq_true rfl) (L9 := [some (xr (some this)), some (xi x1), some (xi x2), some (xi x3), some (xi ((13 : Int32) + ((6 : Int32) * n4))), none]) rfl ?_
  refine xw_iconst (0 : Int32) dX3_tellsHamlet_14 (by decide) ?_
  refine xw_istore dX3_tellsHamlet_15 (Nat.le_of_ble_eq_true rfl) (L9 := [some (xr (some this)), some (xi x1), some (xi x2), some (xi x3), some (xi ((13 : Int32) + ((6 : Int32) * n4))), some (xi (0 : Int32))]) rfl ?_
  exact hvc

theorem vc_X3_tellsHamlet_17 {G : xG} {d K k : Nat} {Q : xR → xH → Prop} {h : xH} {this : Nat} {x1 : Int32} {x2 : Int32} {x3 : Int32} {x4 : Int32} {x5 : Int32}
    (hvc : (((6 : Int32) ≤ x5 → xcls h this = 6 ∧ ∃ o5 : Option Nat, xval h this 4 = xr o5 ∧ ∃ a6, o5 = some a6 ∧ xcls h a6 = 1003 ∧ ∃ i7 : Nat, (x4 + (0 : Int32)) = nI i7 ∧ i7 < 2147483648 ∧ i7 < xlen h a6 ∧ ∀ h8 : xH, h8 = xput h a6 i7 (xi x1) → xcls h8 this = 6 ∧ ∃ o9 : Option Nat, xval h8 this 4 = xr o9 ∧ ∃ a10, o9 = some a10 ∧ xcls h8 a10 = 1003 ∧ ∃ i11 : Nat, (x4 + (1 : Int32)) = nI i11 ∧ i11 < 2147483648 ∧ i11 < xlen h8 a10 ∧ ∀ h12 : xH, h12 = xput h8 a10 i11 (xi x2) → xcls h12 this = 6 ∧ ∃ o13 : Option Nat, xval h12 this 4 = xr o13 ∧ ∃ a14, o13 = some a14 ∧ xcls h12 a14 = 1003 ∧ ∃ i15 : Nat, (x4 + (2 : Int32)) = nI i15 ∧ i15 < 2147483648 ∧ i15 < xlen h12 a14 ∧ ∀ h16 : xH, h16 = xput h12 a14 i15 (xi x3) → xcls h16 this = 6 ∧ ∃ o17 : Option Nat, xval h16 this 4 = xr o17 ∧ ∃ a18, o17 = some a18 ∧ xcls h16 a18 = 1003 ∧ ∃ i19 : Nat, (2 : Int32) = nI i19 ∧ i19 < 2147483648 ∧ i19 < xlen h16 a18 ∧ ∃ n20 : Int32, xval h16 a18 i19 = xi n20 ∧ xcls h16 a18 = 1003 ∧ ∃ i21 : Nat, (2 : Int32) = nI i21 ∧ i21 < 2147483648 ∧ i21 < xlen h16 a18 ∧ ∀ h22 : xH, h22 = xput h16 a18 i21 (xi (n20 + (1 : Int32))) → xcls h22 this = 6 ∧ ∃ o23 : Option Nat, xval h22 this 4 = xr o23 ∧ ∃ a24, o23 = some a24 ∧ xcls h22 a24 = 1003 ∧ ∃ i25 : Nat, (2 : Int32) = nI i25 ∧ i25 < 2147483648 ∧ i25 < xlen h22 a24 ∧ ∃ n26 : Int32, xval h22 a24 i25 = xi n26 ∧ Q (.inl (some (xi (n26 - (1 : Int32))))) h22) ∧ (¬ (6 : Int32) ≤ x5 → xcls h this = 6 ∧ ∃ o27 : Option Nat, xval h this 4 = xr o27 ∧ ∃ a28, o27 = some a28 ∧ xcls h a28 = 1003 ∧ ∃ i29 : Nat, (x4 + x5) = nI i29 ∧ i29 < 2147483648 ∧ i29 < xlen h a28 ∧ ∀ h30 : xH, h30 = xput h a28 i29 (xi (0 : Int32)) → xWp G mX3_tellsHamlet d K Q k 17 [some (xr (some this)), some (xi x1), some (xi x2), some (xi x3), some (xi x4), some (xi (x5 + (1 : Int32)))] [] h30))) : xWp G mX3_tellsHamlet d K Q k 17 [some (xr (some this)), some (xi x1), some (xi x2), some (xi x3), some (xi x4), some (xi x5)] [] h := by
  refine xw_iload dX3_tellsHamlet_17 rfl ?_
  refine xw_bipush (6 : Int32) dX3_tellsHamlet_19 (by decide) ?_
  refine xw_icmp_ge 41 dX3_tellsHamlet_21 rfl (fun hc => ?_) (fun hc => ?_)
  · replace hvc := hvc.1 hc
    refine xw_aload_n dX3_tellsHamlet_41 rfl ?_
    obtain ⟨hcK, o5, hvK, hvc⟩ := hvc
    refine xw_get dX3_tellsHamlet_42 hcX3 in_X3 (kf := 4) (by decide) q2983 (fun _ _ _ _ z => z) hcK hvK ?_
    refine xw_iload dX3_tellsHamlet_45 rfl ?_
    refine xw_iconst (0 : Int32) dX3_tellsHamlet_47 (by decide) ?_
    refine xw_iadd dX3_tellsHamlet_48 ?_
    refine xw_iload_n dX3_tellsHamlet_49 rfl ?_
    obtain ⟨a6, ho, hvc⟩ := hvc
    subst ho
    obtain ⟨hcK, i7, hx9, hb9, hi9, hvc⟩ := hvc
    refine xw_iast (j := 3) dX3_tellsHamlet_50 rfl hcK (Or.inl rfl) hx9 hb9 hi9 (fun h8 eh9 => ?_)
    replace hvc := hvc h8 eh9
    refine xw_aload_n dX3_tellsHamlet_51 rfl ?_
    obtain ⟨hcK, o9, hvK, hvc⟩ := hvc
    refine xw_get dX3_tellsHamlet_52 hcX3 in_X3 (kf := 4) (by decide) q2983 (fun _ _ _ _ z => z) hcK hvK ?_
    refine xw_iload dX3_tellsHamlet_55 rfl ?_
    refine xw_iconst (1 : Int32) dX3_tellsHamlet_57 (by decide) ?_
    refine xw_iadd dX3_tellsHamlet_58 ?_
    refine xw_iload_n dX3_tellsHamlet_59 rfl ?_
    obtain ⟨a10, ho, hvc⟩ := hvc
    subst ho
    obtain ⟨hcK, i11, hx9, hb9, hi9, hvc⟩ := hvc
    refine xw_iast (j := 3) dX3_tellsHamlet_60 rfl hcK (Or.inl rfl) hx9 hb9 hi9 (fun h12 eh9 => ?_)
    replace hvc := hvc h12 eh9
    refine xw_aload_n dX3_tellsHamlet_61 rfl ?_
    obtain ⟨hcK, o13, hvK, hvc⟩ := hvc
    refine xw_get dX3_tellsHamlet_62 hcX3 in_X3 (kf := 4) (by decide) q2983 (fun _ _ _ _ z => z) hcK hvK ?_
    refine xw_iload dX3_tellsHamlet_65 rfl ?_
    refine xw_iconst (2 : Int32) dX3_tellsHamlet_67 (by decide) ?_
    refine xw_iadd dX3_tellsHamlet_68 ?_
    refine xw_iload_n dX3_tellsHamlet_69 rfl ?_
    obtain ⟨a14, ho, hvc⟩ := hvc
    subst ho
    obtain ⟨hcK, i15, hx9, hb9, hi9, hvc⟩ := hvc
    refine xw_iast (j := 3) dX3_tellsHamlet_70 rfl hcK (Or.inl rfl) hx9 hb9 hi9 (fun h16 eh9 => ?_)
    replace hvc := hvc h16 eh9
    refine xw_aload_n dX3_tellsHamlet_71 rfl ?_
    obtain ⟨hcK, o17, hvK, hvc⟩ := hvc
    refine xw_get dX3_tellsHamlet_72 hcX3 in_X3 (kf := 4) (by decide) q2983 (fun _ _ _ _ z => z) hcK hvK ?_
    refine xw_iconst (2 : Int32) dX3_tellsHamlet_75 (by decide) ?_
    refine xw_dup2 dX3_tellsHamlet_76 rfl rfl ?_
    obtain ⟨a18, ho, hvc⟩ := hvc
    subst ho
    obtain ⟨hcK, i19, hx9, hb9, hi9, n20, hv9, hvc⟩ := hvc
    refine xw_iald (j := 3) dX3_tellsHamlet_77 rfl hcK hx9 hb9 hi9 hv9 ?_
    refine xw_iconst (1 : Int32) dX3_tellsHamlet_78 (by decide) ?_
    refine xw_iadd dX3_tellsHamlet_79 ?_
    obtain ⟨hcK, i21, hx9, hb9, hi9, hvc⟩ := hvc
    refine xw_iast (j := 3) dX3_tellsHamlet_80 rfl hcK (Or.inl rfl) hx9 hb9 hi9 (fun h22 eh9 => ?_)
    replace hvc := hvc h22 eh9
    refine xw_aload_n dX3_tellsHamlet_81 rfl ?_
    obtain ⟨hcK, o23, hvK, hvc⟩ := hvc
    refine xw_get dX3_tellsHamlet_82 hcX3 in_X3 (kf := 4) (by decide) q2983 (fun _ _ _ _ z => z) hcK hvK ?_
    refine xw_iconst (2 : Int32) dX3_tellsHamlet_85 (by decide) ?_
    obtain ⟨a24, ho, hvc⟩ := hvc
    subst ho
    obtain ⟨hcK, i25, hx9, hb9, hi9, n26, hv9, hvc⟩ := hvc
    refine xw_iald (j := 3) dX3_tellsHamlet_86 rfl hcK hx9 hb9 hi9 hv9 ?_
    refine xw_iconst (1 : Int32) dX3_tellsHamlet_87 (by decide) ?_
    refine xw_isub dX3_tellsHamlet_88 ?_
    exact xw_iret dX3_tellsHamlet_89 rfl hvc
  · replace hvc := hvc.2 hc
    refine xw_aload_n dX3_tellsHamlet_24 rfl ?_
    obtain ⟨hcK, o27, hvK, hvc⟩ := hvc
    refine xw_get dX3_tellsHamlet_25 hcX3 in_X3 (kf := 4) (by decide) q2983 (fun _ _ _ _ z => z) hcK hvK ?_
    refine xw_iload dX3_tellsHamlet_28 rfl ?_
    refine xw_iload dX3_tellsHamlet_30 rfl ?_
    refine xw_iadd dX3_tellsHamlet_32 ?_
    refine xw_iconst (0 : Int32) dX3_tellsHamlet_33 (by decide) ?_
    obtain ⟨a28, ho, hvc⟩ := hvc
    subst ho
    obtain ⟨hcK, i29, hx9, hb9, hi9, hvc⟩ := hvc
    refine xw_iast (j := 3) dX3_tellsHamlet_34 rfl hcK (Or.inl rfl) hx9 hb9 hi9 (fun h30 eh9 => ?_)
    replace hvc := hvc h30 eh9
    refine xw_iinc (1 : Int32) dX3_tellsHamlet_35 rfl (by decide) (Nat.le_of_ble_eq_true rfl) (L9 := [some (xr (some this)), some (xi x1), some (xi x2), some (xi x3), some (xi x4), some (xi (x5 + (1 : Int32)))]) rfl ?_
    refine xw_goto 17 dX3_tellsHamlet_38 rfl ?_
    exact hvc

theorem vc_X3_site {G : xG} {d K : Nat} {Q : xR → xH → Prop} {h : xH} {this : Nat} {x1 : Int32} {x2 : Int32} {x3 : Int32} {x4 : Int32}
    (hvc : xcls h this = 6 ∧ xCall G d K mX3_notSite [xr (some this), xi x1, xi x2, xi x3, xi x4] h (xkI (fun n3 h1 k2 => ((n3 = 0 → xcls h1 this = 6 ∧ xCall G d k2 mX3_remembers [xr (some this)] h1 (xkV (fun h4 k5 => xcls h4 this = 6 ∧ xCall G d k5 mX3_tellsSite [xr (some this), xi x1, xi x2, xi x3, xi x4] h4 (xkI (fun n8 h6 k7 => Q (.inl (some (xi n8))) h6) (fun q h _ => Q (.inr q) h))) (fun q h _ => Q (.inr q) h))) ∧ (¬ n3 = 0 → xcls h1 this = 6 ∧ xCall G d k2 mX3_refuses [xr (some this), xi n3] h1 (xkI (fun n11 h9 k10 => Q (.inl (some (xi n11))) h9) (fun q h _ => Q (.inr q) h))))) (fun q h _ => Q (.inr q) h))) : xCn G mX3_site d K [xr (some this), xi x1, xi x2, xi x3, xi x4] h Q := by
  refine xCn_of px_X3_site rfl rfl (Nat.le_of_ble_eq_true rfl) ?_
  show xWp G mX3_site d K Q K 0 [some (xr (some this)), some (xi x1), some (xi x2), some (xi x3), some (xi x4), none] [] h
  refine xw_aload_n dX3_site_0 rfl ?_
  refine xw_iload_n dX3_site_1 rfl ?_
  refine xw_iload_n dX3_site_2 rfl ?_
  refine xw_iload_n dX3_site_3 rfl ?_
  refine xw_iload dX3_site_4 rfl ?_
  obtain ⟨hcK, hvc⟩ := hvc
  obtain ⟨d9, k9, hd9, hk9, hC9⟩ := hvc
  refine xw_callV dX3_site_6 px_X3_notSite pm_X3_notSite q3101 q3103 qs49 hcX3 hcK (As := [xi x1, xi x2, xi x3, xi x4]) (rest := []) rfl rfl (Nat.le_of_ble_eq_true rfl) hd9 hk9 hC9 (xkI_n fun n3 h1 hvc => ?_) (fun q h hq => xTh_out0 rfl hq)
  refine xw_istore dX3_site_9 (Nat.le_of_ble_eq_true rfl) (L9 := [some (xr (some this)), some (xi x1), some (xi x2), some (xi x3), some (xi x4), some (xi n3)]) rfl ?_
  refine xw_iload dX3_site_11 rfl ?_
  refine xw_if_eq 23 dX3_site_13 rfl (fun hc => ?_) (fun hc => ?_)
  · replace hvc := hvc.1 hc
    refine xw_aload_n dX3_site_23 rfl ?_
    obtain ⟨hcK, hvc⟩ := hvc
    obtain ⟨d9, k9, hd9, hk9, hC9⟩ := hvc
    refine xw_callV dX3_site_24 px_X3_remembers pm_X3_remembers q3081 q3083 qs45 hcX3 hcK (As := []) (rest := []) rfl rfl (Nat.le_of_ble_eq_true rfl) hd9 hk9 hC9 (xkV_n fun h4 hvc => ?_) (fun q h hq => xTh_out0 rfl hq)
    refine xw_aload_n dX3_site_27 rfl ?_
    refine xw_iload_n dX3_site_28 rfl ?_
    refine xw_iload_n dX3_site_29 rfl ?_
    refine xw_iload_n dX3_site_30 rfl ?_
    refine xw_iload dX3_site_31 rfl ?_
    obtain ⟨hcK, hvc⟩ := hvc
    obtain ⟨d9, k9, hd9, hk9, hC9⟩ := hvc
    refine xw_callV dX3_site_33 px_X3_tellsSite pm_X3_tellsSite q3113 q3115 qs52 hcX3 hcK (As := [xi x1, xi x2, xi x3, xi x4]) (rest := []) rfl rfl (Nat.le_of_ble_eq_true rfl) hd9 hk9 hC9 (xkI_n fun n8 h6 hvc => ?_) (fun q h hq => xTh_out0 rfl hq)
    exact xw_iret dX3_site_36 rfl hvc
  · replace hvc := hvc.2 hc
    refine xw_aload_n dX3_site_16 rfl ?_
    refine xw_iload dX3_site_17 rfl ?_
    obtain ⟨hcK, hvc⟩ := hvc
    obtain ⟨d9, k9, hd9, hk9, hC9⟩ := hvc
    refine xw_callV dX3_site_19 px_X3_refuses pm_X3_refuses q3073 q3075 qs43 hcX3 hcK (As := [xi n3]) (rest := []) rfl rfl (Nat.le_of_ble_eq_true rfl) hd9 hk9 hC9 (xkI_n fun n11 h9 hvc => ?_) (fun q h hq => xTh_out0 rfl hq)
    exact xw_iret dX3_site_22 rfl hvc

theorem vc_X3_notSite {G : xG} {d K : Nat} {Q : xR → xH → Prop} {h : xH} {this : Nat} {x1 : Int32} {x2 : Int32} {x3 : Int32} {x4 : Int32}
    (hvc : xCall G d K mX3_isPlace [xi x1, xi x2] h (xkI (fun n3 h1 k2 => ((n3 = 0 → Q (.inl (some (xi (-2 : Int32)))) h1) ∧ (¬ n3 = 0 → xCall G d k2 mX3_isBetween [xi x3, xi (1 : Int32), xi (40 : Int32)] h1 (xkI (fun n6 h4 k5 => ((n6 = 0 → Q (.inl (some (xi (-2 : Int32)))) h4) ∧ (¬ n6 = 0 → xCall G d k5 mX3_isBetween [xi x4, xi (0 : Int32), xi (99 : Int32)] h4 (xkI (fun n9 h7 k8 => ((¬ n9 = 0 → xcls h7 this = 6 ∧ ∃ o10 : Option Nat, xval h7 this 4 = xr o10 ∧ ∃ a11, o10 = some a11 ∧ xcls h7 a11 = 1003 ∧ ∃ i12 : Nat, (3 : Int32) = nI i12 ∧ i12 < 2147483648 ∧ i12 < xlen h7 a11 ∧ ∃ n13 : Int32, xval h7 a11 i12 = xi n13 ∧ ((¬ n13 = (6 : Int32) → xcls h7 this = 6 ∧ xCall G d k8 mX3_siteAt [xr (some this), xi x1, xi x2] h7 (xkI (fun n16 h14 k15 => ((n16 < 0 → Q (.inl (some (xi (0 : Int32)))) h14) ∧ (¬ n16 < 0 → xcls h14 this = 6 ∧ xCall G d k15 mX3_siteAt [xr (some this), xi x1, xi x2] h14 (xkI (fun n19 h17 k18 => xcls h17 this = 6 ∧ xCall G d k18 mX3_isNot [xr (some this), xi (2 : Int32), xi n19] h17 (xkI (fun n22 h20 k21 => Q (.inl (some (xi n22))) h20) (fun q h _ => Q (.inr q) h))) (fun q h _ => Q (.inr q) h))))) (fun q h _ => Q (.inr q) h))) ∧ (n13 = (6 : Int32) → xcls h7 this = 6 ∧ xCall G d k8 mX3_isNot [xr (some this), xi (1 : Int32), xi (6 : Int32)] h7 (xkI (fun n25 h23 k24 => Q (.inl (some (xi n25))) h23) (fun q h _ => Q (.inr q) h))))) ∧ (n9 = 0 → Q (.inl (some (xi (-2 : Int32)))) h7))) (fun q h _ => Q (.inr q) h))))) (fun q h _ => Q (.inr q) h))))) (fun q h _ => Q (.inr q) h))) : xCn G mX3_notSite d K [xr (some this), xi x1, xi x2, xi x3, xi x4] h Q := by
  refine xCn_of px_X3_notSite rfl rfl (Nat.le_of_ble_eq_true rfl) ?_
  show xWp G mX3_notSite d K Q K 0 [some (xr (some this)), some (xi x1), some (xi x2), some (xi x3), some (xi x4)] [] h
  refine xw_iload_n dX3_notSite_0 rfl ?_
  refine xw_iload_n dX3_notSite_1 rfl ?_
  obtain ⟨d9, k9, hd9, hk9, hC9⟩ := hvc
  refine xw_callS dX3_notSite_2 px_X3_isPlace pm_X3_isPlace q3058 q3059 (As := [xi x1, xi x2]) (rest := []) rfl rfl (Nat.le_of_ble_eq_true rfl) hd9 hk9 hC9 (xkI_n fun n3 h1 hvc => ?_) (fun q h hq => xTh_out0 rfl hq)
  refine xw_if_eq 29 dX3_notSite_5 rfl (fun hc => ?_) (fun hc => ?_)
  · replace hvc := hvc.1 hc
    refine xw_bipush (-2 : Int32) dX3_notSite_29 (by decide) ?_
    exact xw_iret dX3_notSite_31 rfl hvc
  · replace hvc := hvc.2 hc
    refine xw_iload_n dX3_notSite_8 rfl ?_
    refine xw_iconst (1 : Int32) dX3_notSite_9 (by decide) ?_
    refine xw_bipush (40 : Int32) dX3_notSite_10 (by decide) ?_
    obtain ⟨d9, k9, hd9, hk9, hC9⟩ := hvc
    refine xw_callS dX3_notSite_12 px_X3_isBetween pm_X3_isBetween q3047 q3048 (As := [xi x3, xi (1 : Int32), xi (40 : Int32)]) (rest := []) rfl rfl (Nat.le_of_ble_eq_true rfl) hd9 hk9 hC9 (xkI_n fun n6 h4 hvc => ?_) (fun q h hq => xTh_out0 rfl hq)
    refine xw_if_eq 29 dX3_notSite_15 rfl (fun hc => ?_) (fun hc => ?_)
    · replace hvc := hvc.1 hc
      refine xw_bipush (-2 : Int32) dX3_notSite_29 (by decide) ?_
      exact xw_iret dX3_notSite_31 rfl hvc
    · replace hvc := hvc.2 hc
      refine xw_iload dX3_notSite_18 rfl ?_
      refine xw_iconst (0 : Int32) dX3_notSite_20 (by decide) ?_
      refine xw_bipush (99 : Int32) dX3_notSite_21 (by decide) ?_
      obtain ⟨d9, k9, hd9, hk9, hC9⟩ := hvc
      refine xw_callS dX3_notSite_23 px_X3_isBetween pm_X3_isBetween q3047 q3048 (As := [xi x4, xi (0 : Int32), xi (99 : Int32)]) (rest := []) rfl rfl (Nat.le_of_ble_eq_true rfl) hd9 hk9 hC9 (xkI_n fun n9 h7 hvc => ?_) (fun q h hq => xTh_out0 rfl hq)
      refine xw_if_ne 32 dX3_notSite_26 rfl (fun hc => ?_) (fun hc => ?_)
      · replace hvc := hvc.1 hc
        refine xw_aload_n dX3_notSite_32 rfl ?_
        obtain ⟨hcK, o10, hvK, hvc⟩ := hvc
        refine xw_get dX3_notSite_33 hcX3 in_X3 (kf := 4) (by decide) q2983 (fun _ _ _ _ z => z) hcK hvK ?_
        refine xw_iconst (3 : Int32) dX3_notSite_36 (by decide) ?_
        obtain ⟨a11, ho, hvc⟩ := hvc
        subst ho
        obtain ⟨hcK, i12, hx9, hb9, hi9, n13, hv9, hvc⟩ := hvc
        refine xw_iald (j := 3) dX3_notSite_37 rfl hcK hx9 hb9 hi9 hv9 ?_
        refine xw_bipush (6 : Int32) dX3_notSite_38 (by decide) ?_
        refine xw_icmp_ne 51 dX3_notSite_40 rfl (fun hc => ?_) (fun hc => ?_)
        · replace hvc := hvc.1 hc
          refine xw_aload_n dX3_notSite_51 rfl ?_
          refine xw_iload_n dX3_notSite_52 rfl ?_
          refine xw_iload_n dX3_notSite_53 rfl ?_
          obtain ⟨hcK, hvc⟩ := hvc
          obtain ⟨d9, k9, hd9, hk9, hC9⟩ := hvc
          refine xw_callV dX3_notSite_54 px_X3_siteAt pm_X3_siteAt q3105 q3107 qs50 hcX3 hcK (As := [xi x1, xi x2]) (rest := []) rfl rfl (Nat.le_of_ble_eq_true rfl) hd9 hk9 hC9 (xkI_n fun n16 h14 hvc => ?_) (fun q h hq => xTh_out0 rfl hq)
          refine xw_if_lt 74 dX3_notSite_57 rfl (fun hc => ?_) (fun hc => ?_)
          · replace hvc := hvc.1 hc
            refine xw_iconst (0 : Int32) dX3_notSite_74 (by decide) ?_
            exact xw_iret dX3_notSite_75 rfl hvc
          · replace hvc := hvc.2 hc
            refine xw_aload_n dX3_notSite_60 rfl ?_
            refine xw_iconst (2 : Int32) dX3_notSite_61 (by decide) ?_
            refine xw_aload_n dX3_notSite_62 rfl ?_
            refine xw_iload_n dX3_notSite_63 rfl ?_
            refine xw_iload_n dX3_notSite_64 rfl ?_
            obtain ⟨hcK, hvc⟩ := hvc
            obtain ⟨d9, k9, hd9, hk9, hC9⟩ := hvc
            refine xw_callV dX3_notSite_65 px_X3_siteAt pm_X3_siteAt q3105 q3107 qs50 hcX3 hcK (As := [xi x1, xi x2]) (rest := [xi (2 : Int32), xr (some this)]) rfl rfl (Nat.le_of_ble_eq_true rfl) hd9 hk9 hC9 (xkI_n fun n19 h17 hvc => ?_) (fun q h hq => xTh_out0 rfl hq)
            obtain ⟨hcK, hvc⟩ := hvc
            obtain ⟨d9, k9, hd9, hk9, hC9⟩ := hvc
            refine xw_callV dX3_notSite_68 px_X3_isNot pm_X3_isNot q3061 q3063 qs40 hcX3 hcK (As := [xi (2 : Int32), xi n19]) (rest := []) rfl rfl (Nat.le_of_ble_eq_true rfl) hd9 hk9 hC9 (xkI_n fun n22 h20 hvc => ?_) (fun q h hq => xTh_out0 rfl hq)
            refine xw_goto 75 dX3_notSite_71 rfl ?_
            exact xw_iret dX3_notSite_75 rfl hvc
        · replace hvc := hvc.2 hc
          refine xw_aload_n dX3_notSite_43 rfl ?_
          refine xw_iconst (1 : Int32) dX3_notSite_44 (by decide) ?_
          refine xw_bipush (6 : Int32) dX3_notSite_45 (by decide) ?_
          obtain ⟨hcK, hvc⟩ := hvc
          obtain ⟨d9, k9, hd9, hk9, hC9⟩ := hvc
          refine xw_callV dX3_notSite_47 px_X3_isNot pm_X3_isNot q3061 q3063 qs40 hcX3 hcK (As := [xi (1 : Int32), xi (6 : Int32)]) (rest := []) rfl rfl (Nat.le_of_ble_eq_true rfl) hd9 hk9 hC9 (xkI_n fun n25 h23 hvc => ?_) (fun q h hq => xTh_out0 rfl hq)
          exact xw_iret dX3_notSite_50 rfl hvc
      · replace hvc := hvc.2 hc
        refine xw_bipush (-2 : Int32) dX3_notSite_29 (by decide) ?_
        exact xw_iret dX3_notSite_31 rfl hvc

theorem vc_X3_siteAt {G : xG} {d K : Nat} {Q : xR → xH → Prop} {h : xH} {this : Nat} {x1 : Int32} {x2 : Int32}
    (hvc : xWp G mX3_siteAt d K Q K 2 [some (xr (some this)), some (xi x1), some (xi x2), some (xi (0 : Int32))] [] h) : xCn G mX3_siteAt d K [xr (some this), xi x1, xi x2] h Q := by
  refine xCn_of px_X3_siteAt rfl rfl (Nat.le_of_ble_eq_true rfl) ?_
  show xWp G mX3_siteAt d K Q K 0 [some (xr (some this)), some (xi x1), some (xi x2), none] [] h
  refine xw_iconst (0 : Int32) dX3_siteAt_0 (by decide) ?_
  refine xw_istore_n dX3_siteAt_1 (Nat.le_of_ble_eq_true rfl) (L9 := [some (xr (some this)), some (xi x1), some (xi x2), some (xi (0 : Int32))]) rfl ?_
  exact hvc

theorem vc_X3_siteAt_2 {G : xG} {d K k : Nat} {Q : xR → xH → Prop} {h : xH} {this : Nat} {x1 : Int32} {x2 : Int32} {x3 : Int32}
    (hvc : xcls h this = 6 ∧ ∃ o1 : Option Nat, xval h this 4 = xr o1 ∧ ∃ a2, o1 = some a2 ∧ xcls h a2 = 1003 ∧ ∃ i3 : Nat, (3 : Int32) = nI i3 ∧ i3 < 2147483648 ∧ i3 < xlen h a2 ∧ ∃ n4 : Int32, xval h a2 i3 = xi n4 ∧ ((n4 ≤ x3 → Q (.inl (some (xi (-1 : Int32)))) h) ∧ (¬ n4 ≤ x3 → xcls h this = 6 ∧ xCall G d k mX3_siteIs [xr (some this), xi x3, xi (0 : Int32)] h (xkI (fun n7 h5 k6 => ((¬ n7 = x1 → xWp G mX3_siteAt d K Q k6 2 [some (xr (some this)), some (xi x1), some (xi x2), some (xi (x3 + (1 : Int32)))] [] h5) ∧ (n7 = x1 → xcls h5 this = 6 ∧ xCall G d k6 mX3_siteIs [xr (some this), xi x3, xi (1 : Int32)] h5 (xkI (fun n10 h8 k9 => ((¬ n10 = x2 → xWp G mX3_siteAt d K Q k9 2 [some (xr (some this)), some (xi x1), some (xi x2), some (xi (x3 + (1 : Int32)))] [] h8) ∧ (n10 = x2 → Q (.inl (some (xi x3))) h8))) (fun q h _ => Q (.inr q) h))))) (fun q h _ => Q (.inr q) h))))) : xWp G mX3_siteAt d K Q k 2 [some (xr (some this)), some (xi x1), some (xi x2), some (xi x3)] [] h := by
  refine xw_iload_n dX3_siteAt_2 rfl ?_
  refine xw_aload_n dX3_siteAt_3 rfl ?_
  obtain ⟨hcK, o1, hvK, hvc⟩ := hvc
  refine xw_get dX3_siteAt_4 hcX3 in_X3 (kf := 4) (by decide) q2983 (fun _ _ _ _ z => z) hcK hvK ?_
  refine xw_iconst (3 : Int32) dX3_siteAt_7 (by decide) ?_
  obtain ⟨a2, ho, hvc⟩ := hvc
  subst ho
  obtain ⟨hcK, i3, hx9, hb9, hi9, n4, hv9, hvc⟩ := hvc
  refine xw_iald (j := 3) dX3_siteAt_8 rfl hcK hx9 hb9 hi9 hv9 ?_
  refine xw_icmp_ge 40 dX3_siteAt_9 rfl (fun hc => ?_) (fun hc => ?_)
  · replace hvc := hvc.1 hc
    refine xw_iconst (-1 : Int32) dX3_siteAt_40 (by decide) ?_
    exact xw_iret dX3_siteAt_41 rfl hvc
  · replace hvc := hvc.2 hc
    refine xw_aload_n dX3_siteAt_12 rfl ?_
    refine xw_iload_n dX3_siteAt_13 rfl ?_
    refine xw_iconst (0 : Int32) dX3_siteAt_14 (by decide) ?_
    obtain ⟨hcK, hvc⟩ := hvc
    obtain ⟨d9, k9, hd9, hk9, hC9⟩ := hvc
    refine xw_callV dX3_siteAt_15 px_X3_siteIs pm_X3_siteIs q3109 q3111 qs51 hcX3 hcK (As := [xi x3, xi (0 : Int32)]) (rest := []) rfl rfl (Nat.le_of_ble_eq_true rfl) hd9 hk9 hC9 (xkI_n fun n7 h5 hvc => ?_) (fun q h hq => xTh_out0 rfl hq)
    refine xw_iload_n dX3_siteAt_18 rfl ?_
    refine xw_icmp_ne 34 dX3_siteAt_19 rfl (fun hc => ?_) (fun hc => ?_)
    · replace hvc := hvc.1 hc
      refine xw_iinc (1 : Int32) dX3_siteAt_34 rfl (by decide) (Nat.le_of_ble_eq_true rfl) (L9 := [some (xr (some this)), some (xi x1), some (xi x2), some (xi (x3 + (1 : Int32)))]) rfl ?_
      refine xw_goto 2 dX3_siteAt_37 rfl ?_
      exact hvc
    · replace hvc := hvc.2 hc
      refine xw_aload_n dX3_siteAt_22 rfl ?_
      refine xw_iload_n dX3_siteAt_23 rfl ?_
      refine xw_iconst (1 : Int32) dX3_siteAt_24 (by decide) ?_
      obtain ⟨hcK, hvc⟩ := hvc
      obtain ⟨d9, k9, hd9, hk9, hC9⟩ := hvc
      refine xw_callV dX3_siteAt_25 px_X3_siteIs pm_X3_siteIs q3109 q3111 qs51 hcX3 hcK (As := [xi x3, xi (1 : Int32)]) (rest := []) rfl rfl (Nat.le_of_ble_eq_true rfl) hd9 hk9 hC9 (xkI_n fun n10 h8 hvc => ?_) (fun q h hq => xTh_out0 rfl hq)
      refine xw_iload_n dX3_siteAt_28 rfl ?_
      refine xw_icmp_ne 34 dX3_siteAt_29 rfl (fun hc => ?_) (fun hc => ?_)
      · replace hvc := hvc.1 hc
        refine xw_iinc (1 : Int32) dX3_siteAt_34 rfl (by decide) (Nat.le_of_ble_eq_true rfl) (L9 := [some (xr (some this)), some (xi x1), some (xi x2), some (xi (x3 + (1 : Int32)))]) rfl ?_
        refine xw_goto 2 dX3_siteAt_37 rfl ?_
        exact hvc
      · replace hvc := hvc.2 hc
        refine xw_iload_n dX3_siteAt_32 rfl ?_
        exact xw_iret dX3_siteAt_33 rfl hvc

theorem vc_X3_siteIs {G : xG} {d K : Nat} {Q : xR → xH → Prop} {h : xH} {this : Nat} {x1 : Int32} {x2 : Int32}
    (hvc : xcls h this = 6 ∧ ∃ o1 : Option Nat, xval h this 4 = xr o1 ∧ ∃ a2, o1 = some a2 ∧ xcls h a2 = 1003 ∧ ∃ i3 : Nat, (((61 : Int32) + ((8 : Int32) * x1)) + x2) = nI i3 ∧ i3 < 2147483648 ∧ i3 < xlen h a2 ∧ ∃ n4 : Int32, xval h a2 i3 = xi n4 ∧ Q (.inl (some (xi n4))) h) : xCn G mX3_siteIs d K [xr (some this), xi x1, xi x2] h Q := by
  refine xCn_of px_X3_siteIs rfl rfl (Nat.le_of_ble_eq_true rfl) ?_
  show xWp G mX3_siteIs d K Q K 0 [some (xr (some this)), some (xi x1), some (xi x2)] [] h
  refine xw_aload_n dX3_siteIs_0 rfl ?_
  obtain ⟨hcK, o1, hvK, hvc⟩ := hvc
  refine xw_get dX3_siteIs_1 hcX3 in_X3 (kf := 4) (by decide) q2983 (fun _ _ _ _ z => z) hcK hvK ?_
  refine xw_bipush (61 : Int32) dX3_siteIs_4 (by decide) ?_
  refine xw_bipush (8 : Int32) dX3_siteIs_6 (by decide) ?_
  refine xw_iload_n dX3_siteIs_8 rfl ?_
  refine xw_imul dX3_siteIs_9 ?_
  refine xw_iadd dX3_siteIs_10 ?_
  refine xw_iload_n dX3_siteIs_11 rfl ?_
  refine xw_iadd dX3_siteIs_12 ?_
  obtain ⟨a2, ho, hvc⟩ := hvc
  subst ho
  obtain ⟨hcK, i3, hx9, hb9, hi9, n4, hv9, hvc⟩ := hvc
  refine xw_iald (j := 3) dX3_siteIs_13 rfl hcK hx9 hb9 hi9 hv9 ?_
  exact xw_iret dX3_siteIs_14 rfl hvc

theorem vc_X3_tellsSite {G : xG} {d K : Nat} {Q : xR → xH → Prop} {h : xH} {this : Nat} {x1 : Int32} {x2 : Int32} {x3 : Int32} {x4 : Int32}
    (hvc : xcls h this = 6 ∧ ∃ o1 : Option Nat, xval h this 4 = xr o1 ∧ ∃ a2, o1 = some a2 ∧ xcls h a2 = 1003 ∧ ∃ i3 : Nat, (3 : Int32) = nI i3 ∧ i3 < 2147483648 ∧ i3 < xlen h a2 ∧ ∃ n4 : Int32, xval h a2 i3 = xi n4 ∧ xcls h this = 6 ∧ ∃ o5 : Option Nat, xval h this 4 = xr o5 ∧ ∃ a6, o5 = some a6 ∧ xcls h a6 = 1003 ∧ ∃ i7 : Nat, (3 : Int32) = nI i7 ∧ i7 < 2147483648 ∧ i7 < xlen h a6 ∧ ∃ n8 : Int32, xval h a6 i7 = xi n8 ∧ xcls h a6 = 1003 ∧ ∃ i9 : Nat, (3 : Int32) = nI i9 ∧ i9 < 2147483648 ∧ i9 < xlen h a6 ∧ ∀ h10 : xH, h10 = xput h a6 i9 (xi (n8 + (1 : Int32))) → xWp G mX3_tellsSite d K Q K 21 [some (xr (some this)), some (xi x1), some (xi x2), some (xi x3), some (xi x4), some (xi n4), some (xi (0 : Int32))] [] h10) : xCn G mX3_tellsSite d K [xr (some this), xi x1, xi x2, xi x3, xi x4] h Q := by
  refine xCn_of px_X3_tellsSite rfl rfl (Nat.le_of_ble_eq_true rfl) ?_
  show xWp G mX3_tellsSite d K Q K 0 [some (xr (some this)), some (xi x1), some (xi x2), some (xi x3), some (xi x4), none, none] [] h
  refine xw_aload_n dX3_tellsSite_0 rfl ?_
  obtain ⟨hcK, o1, hvK, hvc⟩ := hvc
  refine xw_get dX3_tellsSite_1 hcX3 in_X3 (kf := 4) (by decide) q2983 (fun _ _ _ _ z => z) hcK hvK ?_
  refine xw_iconst (3 : Int32) dX3_tellsSite_4 (by decide) ?_
  obtain ⟨a2, ho, hvc⟩ := hvc
  subst ho
  obtain ⟨hcK, i3, hx9, hb9, hi9, n4, hv9, hvc⟩ := hvc
  refine xw_iald (j := 3) dX3_tellsSite_5 rfl hcK hx9 hb9 hi9 hv9 ?_
  refine xw_istore dX3_tellsSite_6 (Nat.le_of_ble_eq_true rfl) (L9 := [some (xr (some this)), some (xi x1), some (xi x2), some (xi x3), some (xi x4), some (xi n4), none]) rfl ?_
  refine xw_aload_n dX3_tellsSite_8 rfl ?_
  obtain ⟨hcK, o5, hvK, hvc⟩ := hvc
  refine xw_get dX3_tellsSite_9 hcX3 in_X3 (kf := 4) (by decide) q2983 (fun _ _ _ _ z => z) hcK hvK ?_
  refine xw_iconst (3 : Int32) dX3_tellsSite_12 (by decide) ?_
  refine xw_dup2 dX3_tellsSite_13 rfl rfl ?_
  obtain ⟨a6, ho, hvc⟩ := hvc
  subst ho
  obtain ⟨hcK, i7, hx9, hb9, hi9, n8, hv9, hvc⟩ := hvc
  refine xw_iald (j := 3) dX3_tellsSite_14 rfl hcK hx9 hb9 hi9 hv9 ?_
  refine xw_iconst (1 : Int32) dX3_tellsSite_15 (by decide) ?_
  refine xw_iadd dX3_tellsSite_16 ?_
  obtain ⟨hcK, i9, hx9, hb9, hi9, hvc⟩ := hvc
  refine xw_iast (j := 3) dX3_tellsSite_17 rfl hcK (Or.inl rfl) hx9 hb9 hi9 (fun h10 eh9 => ?_)
  replace hvc := hvc h10 eh9
  refine xw_iconst (0 : Int32) dX3_tellsSite_18 (by decide) ?_
  refine xw_istore dX3_tellsSite_19 (Nat.le_of_ble_eq_true rfl) (L9 := [some (xr (some this)), some (xi x1), some (xi x2), some (xi x3), some (xi x4), some (xi n4), some (xi (0 : Int32))]) rfl ?_
  exact hvc

theorem vc_X3_tellsSite_21 {G : xG} {d K k : Nat} {Q : xR → xH → Prop} {h : xH} {this : Nat} {x1 : Int32} {x2 : Int32} {x3 : Int32} {x4 : Int32} {x5 : Int32} {x6 : Int32}
    (hvc : (((8 : Int32) ≤ x6 → xcls h this = 6 ∧ xCall G d k mX3_setsSite [xr (some this), xi x5, xi (0 : Int32), xi x1] h (xkV (fun h11 k12 => xcls h11 this = 6 ∧ xCall G d k12 mX3_setsSite [xr (some this), xi x5, xi (1 : Int32), xi x2] h11 (xkV (fun h13 k14 => xcls h13 this = 6 ∧ xCall G d k14 mX3_setsSite [xr (some this), xi x5, xi (2 : Int32), xi x3] h13 (xkV (fun h15 k16 => xcls h15 this = 6 ∧ xCall G d k16 mX3_setsSite [xr (some this), xi x5, xi (3 : Int32), xi x3] h15 (xkV (fun h17 k18 => xcls h17 this = 6 ∧ xCall G d k18 mX3_setsSite [xr (some this), xi x5, xi (4 : Int32), xi x4] h17 (xkV (fun h19 k20 => Q (.inl (some (xi x5))) h19) (fun q h _ => Q (.inr q) h))) (fun q h _ => Q (.inr q) h))) (fun q h _ => Q (.inr q) h))) (fun q h _ => Q (.inr q) h))) (fun q h _ => Q (.inr q) h))) ∧ (¬ (8 : Int32) ≤ x6 → xcls h this = 6 ∧ xCall G d k mX3_setsSite [xr (some this), xi x5, xi x6, xi (0 : Int32)] h (xkV (fun h21 k22 => xWp G mX3_tellsSite d K Q k22 21 [some (xr (some this)), some (xi x1), some (xi x2), some (xi x3), some (xi x4), some (xi x5), some (xi (x6 + (1 : Int32)))] [] h21) (fun q h _ => Q (.inr q) h))))) : xWp G mX3_tellsSite d K Q k 21 [some (xr (some this)), some (xi x1), some (xi x2), some (xi x3), some (xi x4), some (xi x5), some (xi x6)] [] h := by
  refine xw_iload dX3_tellsSite_21 rfl ?_
  refine xw_bipush (8 : Int32) dX3_tellsSite_23 (by decide) ?_
  refine xw_icmp_ge 43 dX3_tellsSite_25 rfl (fun hc => ?_) (fun hc => ?_)
  · replace hvc := hvc.1 hc
    refine xw_aload_n dX3_tellsSite_43 rfl ?_
    refine xw_iload dX3_tellsSite_44 rfl ?_
    refine xw_iconst (0 : Int32) dX3_tellsSite_46 (by decide) ?_
    refine xw_iload_n dX3_tellsSite_47 rfl ?_
    obtain ⟨hcK, hvc⟩ := hvc
    obtain ⟨d9, k9, hd9, hk9, hC9⟩ := hvc
    refine xw_callV dX3_tellsSite_48 px_X3_setsSite pm_X3_setsSite q3117 q3119 qs53 hcX3 hcK (As := [xi x5, xi (0 : Int32), xi x1]) (rest := []) rfl rfl (Nat.le_of_ble_eq_true rfl) hd9 hk9 hC9 (xkV_n fun h11 hvc => ?_) (fun q h hq => xTh_out0 rfl hq)
    refine xw_aload_n dX3_tellsSite_51 rfl ?_
    refine xw_iload dX3_tellsSite_52 rfl ?_
    refine xw_iconst (1 : Int32) dX3_tellsSite_54 (by decide) ?_
    refine xw_iload_n dX3_tellsSite_55 rfl ?_
    obtain ⟨hcK, hvc⟩ := hvc
    obtain ⟨d9, k9, hd9, hk9, hC9⟩ := hvc
    refine xw_callV dX3_tellsSite_56 px_X3_setsSite pm_X3_setsSite q3117 q3119 qs53 hcX3 hcK (As := [xi x5, xi (1 : Int32), xi x2]) (rest := []) rfl rfl (Nat.le_of_ble_eq_true rfl) hd9 hk9 hC9 (xkV_n fun h13 hvc => ?_) (fun q h hq => xTh_out0 rfl hq)
    refine xw_aload_n dX3_tellsSite_59 rfl ?_
    refine xw_iload dX3_tellsSite_60 rfl ?_
    refine xw_iconst (2 : Int32) dX3_tellsSite_62 (by decide) ?_
    refine xw_iload_n dX3_tellsSite_63 rfl ?_
    obtain ⟨hcK, hvc⟩ := hvc
    obtain ⟨d9, k9, hd9, hk9, hC9⟩ := hvc
    refine xw_callV dX3_tellsSite_64 px_X3_setsSite pm_X3_setsSite q3117 q3119 qs53 hcX3 hcK (As := [xi x5, xi (2 : Int32), xi x3]) (rest := []) rfl rfl (Nat.le_of_ble_eq_true rfl) hd9 hk9 hC9 (xkV_n fun h15 hvc => ?_) (fun q h hq => xTh_out0 rfl hq)
    refine xw_aload_n dX3_tellsSite_67 rfl ?_
    refine xw_iload dX3_tellsSite_68 rfl ?_
    refine xw_iconst (3 : Int32) dX3_tellsSite_70 (by decide) ?_
    refine xw_iload_n dX3_tellsSite_71 rfl ?_
    obtain ⟨hcK, hvc⟩ := hvc
    obtain ⟨d9, k9, hd9, hk9, hC9⟩ := hvc
    refine xw_callV dX3_tellsSite_72 px_X3_setsSite pm_X3_setsSite q3117 q3119 qs53 hcX3 hcK (As := [xi x5, xi (3 : Int32), xi x3]) (rest := []) rfl rfl (Nat.le_of_ble_eq_true rfl) hd9 hk9 hC9 (xkV_n fun h17 hvc => ?_) (fun q h hq => xTh_out0 rfl hq)
    refine xw_aload_n dX3_tellsSite_75 rfl ?_
    refine xw_iload dX3_tellsSite_76 rfl ?_
    refine xw_iconst (4 : Int32) dX3_tellsSite_78 (by decide) ?_
    refine xw_iload dX3_tellsSite_79 rfl ?_
    obtain ⟨hcK, hvc⟩ := hvc
    obtain ⟨d9, k9, hd9, hk9, hC9⟩ := hvc
    refine xw_callV dX3_tellsSite_81 px_X3_setsSite pm_X3_setsSite q3117 q3119 qs53 hcX3 hcK (As := [xi x5, xi (4 : Int32), xi x4]) (rest := []) rfl rfl (Nat.le_of_ble_eq_true rfl) hd9 hk9 hC9 (xkV_n fun h19 hvc => ?_) (fun q h hq => xTh_out0 rfl hq)
    refine xw_iload dX3_tellsSite_84 rfl ?_
    exact xw_iret dX3_tellsSite_86 rfl hvc
  · replace hvc := hvc.2 hc
    refine xw_aload_n dX3_tellsSite_28 rfl ?_
    refine xw_iload dX3_tellsSite_29 rfl ?_
    refine xw_iload dX3_tellsSite_31 rfl ?_
    refine xw_iconst (0 : Int32) dX3_tellsSite_33 (by decide) ?_
    obtain ⟨hcK, hvc⟩ := hvc
    obtain ⟨d9, k9, hd9, hk9, hC9⟩ := hvc
    refine xw_callV dX3_tellsSite_34 px_X3_setsSite pm_X3_setsSite q3117 q3119 qs53 hcX3 hcK (As := [xi x5, xi x6, xi (0 : Int32)]) (rest := []) rfl rfl (Nat.le_of_ble_eq_true rfl) hd9 hk9 hC9 (xkV_n fun h21 hvc => ?_) (fun q h hq => xTh_out0 rfl hq)
    refine xw_iinc (1 : Int32) dX3_tellsSite_37 rfl (by decide) (Nat.le_of_ble_eq_true rfl) (L9 := [some (xr (some this)), some (xi x1), some (xi x2), some (xi x3), some (xi x4), some (xi x5), some (xi (x6 + (1 : Int32)))]) rfl ?_
    refine xw_goto 21 dX3_tellsSite_40 rfl ?_
    exact hvc

theorem vc_X3_setsSite {G : xG} {d K : Nat} {Q : xR → xH → Prop} {h : xH} {this : Nat} {x1 : Int32} {x2 : Int32} {x3 : Int32}
    (hvc : xcls h this = 6 ∧ ∃ o1 : Option Nat, xval h this 4 = xr o1 ∧ ∃ a2, o1 = some a2 ∧ xcls h a2 = 1003 ∧ ∃ i3 : Nat, (((61 : Int32) + ((8 : Int32) * x1)) + x2) = nI i3 ∧ i3 < 2147483648 ∧ i3 < xlen h a2 ∧ ∀ h4 : xH, h4 = xput h a2 i3 (xi x3) → Q (.inl none) h4) : xCn G mX3_setsSite d K [xr (some this), xi x1, xi x2, xi x3] h Q := by
  refine xCn_of px_X3_setsSite rfl rfl (Nat.le_of_ble_eq_true rfl) ?_
  show xWp G mX3_setsSite d K Q K 0 [some (xr (some this)), some (xi x1), some (xi x2), some (xi x3)] [] h
  refine xw_aload_n dX3_setsSite_0 rfl ?_
  obtain ⟨hcK, o1, hvK, hvc⟩ := hvc
  refine xw_get dX3_setsSite_1 hcX3 in_X3 (kf := 4) (by decide) q2983 (fun _ _ _ _ z => z) hcK hvK ?_
  refine xw_bipush (61 : Int32) dX3_setsSite_4 (by decide) ?_
  refine xw_bipush (8 : Int32) dX3_setsSite_6 (by decide) ?_
  refine xw_iload_n dX3_setsSite_8 rfl ?_
  refine xw_imul dX3_setsSite_9 ?_
  refine xw_iadd dX3_setsSite_10 ?_
  refine xw_iload_n dX3_setsSite_11 rfl ?_
  refine xw_iadd dX3_setsSite_12 ?_
  refine xw_iload_n dX3_setsSite_13 rfl ?_
  obtain ⟨a2, ho, hvc⟩ := hvc
  subst ho
  obtain ⟨hcK, i3, hx9, hb9, hi9, hvc⟩ := hvc
  refine xw_iast (j := 3) dX3_setsSite_14 rfl hcK (Or.inl rfl) hx9 hb9 hi9 (fun h4 eh9 => ?_)
  replace hvc := hvc h4 eh9
  exact xw_vret dX3_setsSite_15 rfl hvc

theorem vc_X3_open {G : xG} {d K : Nat} {Q : xR → xH → Prop} {h : xH} {this : Nat} {x1 : Int32}
    (hvc : xcls h this = 6 ∧ xCall G d K mX3_notOpen [xr (some this), xi x1] h (xkI (fun n3 h1 k2 => ((n3 = 0 → xcls h1 this = 6 ∧ xCall G d k2 mX3_remembers [xr (some this)] h1 (xkV (fun h4 k5 => xcls h4 this = 6 ∧ xCall G d k5 mX3_opens [xr (some this), xi x1] h4 (xkI (fun n8 h6 k7 => Q (.inl (some (xi n8))) h6) (fun q h _ => Q (.inr q) h))) (fun q h _ => Q (.inr q) h))) ∧ (¬ n3 = 0 → xcls h1 this = 6 ∧ xCall G d k2 mX3_refuses [xr (some this), xi n3] h1 (xkI (fun n11 h9 k10 => Q (.inl (some (xi n11))) h9) (fun q h _ => Q (.inr q) h))))) (fun q h _ => Q (.inr q) h))) : xCn G mX3_open d K [xr (some this), xi x1] h Q := by
  refine xCn_of px_X3_open rfl rfl (Nat.le_of_ble_eq_true rfl) ?_
  show xWp G mX3_open d K Q K 0 [some (xr (some this)), some (xi x1), none] [] h
  refine xw_aload_n dX3_open_0 rfl ?_
  refine xw_iload_n dX3_open_1 rfl ?_
  obtain ⟨hcK, hvc⟩ := hvc
  obtain ⟨d9, k9, hd9, hk9, hC9⟩ := hvc
  refine xw_callV dX3_open_2 px_X3_notOpen pm_X3_notOpen q3125 q3127 qs54 hcX3 hcK (As := [xi x1]) (rest := []) rfl rfl (Nat.le_of_ble_eq_true rfl) hd9 hk9 hC9 (xkI_n fun n3 h1 hvc => ?_) (fun q h hq => xTh_out0 rfl hq)
  refine xw_istore_n dX3_open_5 (Nat.le_of_ble_eq_true rfl) (L9 := [some (xr (some this)), some (xi x1), some (xi n3)]) rfl ?_
  refine xw_iload_n dX3_open_6 rfl ?_
  refine xw_if_eq 16 dX3_open_7 rfl (fun hc => ?_) (fun hc => ?_)
  · replace hvc := hvc.1 hc
    refine xw_aload_n dX3_open_16 rfl ?_
    obtain ⟨hcK, hvc⟩ := hvc
    obtain ⟨d9, k9, hd9, hk9, hC9⟩ := hvc
    refine xw_callV dX3_open_17 px_X3_remembers pm_X3_remembers q3081 q3083 qs45 hcX3 hcK (As := []) (rest := []) rfl rfl (Nat.le_of_ble_eq_true rfl) hd9 hk9 hC9 (xkV_n fun h4 hvc => ?_) (fun q h hq => xTh_out0 rfl hq)
    refine xw_aload_n dX3_open_20 rfl ?_
    refine xw_iload_n dX3_open_21 rfl ?_
    obtain ⟨hcK, hvc⟩ := hvc
    obtain ⟨d9, k9, hd9, hk9, hC9⟩ := hvc
    refine xw_callV dX3_open_22 px_X3_opens pm_X3_opens q3167 q3169 qs63 hcX3 hcK (As := [xi x1]) (rest := []) rfl rfl (Nat.le_of_ble_eq_true rfl) hd9 hk9 hC9 (xkI_n fun n8 h6 hvc => ?_) (fun q h hq => xTh_out0 rfl hq)
    exact xw_iret dX3_open_25 rfl hvc
  · replace hvc := hvc.2 hc
    refine xw_aload_n dX3_open_10 rfl ?_
    refine xw_iload_n dX3_open_11 rfl ?_
    obtain ⟨hcK, hvc⟩ := hvc
    obtain ⟨d9, k9, hd9, hk9, hC9⟩ := hvc
    refine xw_callV dX3_open_12 px_X3_refuses pm_X3_refuses q3073 q3075 qs43 hcX3 hcK (As := [xi n3]) (rest := []) rfl rfl (Nat.le_of_ble_eq_true rfl) hd9 hk9 hC9 (xkI_n fun n11 h9 hvc => ?_) (fun q h hq => xTh_out0 rfl hq)
    exact xw_iret dX3_open_15 rfl hvc

theorem vc_X3_notOpen {G : xG} {d K : Nat} {Q : xR → xH → Prop} {h : xH} {this : Nat} {x1 : Int32}
    (hvc : xcls h this = 6 ∧ xCall G d K mX3_isSite [xr (some this), xi x1] h (xkI (fun n3 h1 k2 => ((¬ n3 = 0 → xcls h1 this = 6 ∧ xCall G d k2 mX3_isWell [xr (some this), xi x1] h1 (xkI (fun n6 h4 k5 => ((n6 = 0 → xcls h4 this = 6 ∧ ∃ o7 : Option Nat, xval h4 this 4 = xr o7 ∧ ∃ a8, o7 = some a8 ∧ xcls h4 a8 = 1003 ∧ ∃ i9 : Nat, (1 : Int32) = nI i9 ∧ i9 < 2147483648 ∧ i9 < xlen h4 a8 ∧ ∃ n10 : Int32, xval h4 a8 i9 = xi n10 ∧ xcls h4 this = 6 ∧ xCall G d k5 mX3_price [xr (some this), xi x1] h4 (xkI (fun n13 h11 k12 => ((n13 ≤ n10 → Q (.inl (some (xi (0 : Int32)))) h11) ∧ (¬ n13 ≤ n10 → xcls h11 this = 6 ∧ xCall G d k12 mX3_price [xr (some this), xi x1] h11 (xkI (fun n16 h14 k15 => xcls h14 this = 6 ∧ ∃ o17 : Option Nat, xval h14 this 4 = xr o17 ∧ ∃ a18, o17 = some a18 ∧ xcls h14 a18 = 1003 ∧ ∃ i19 : Nat, (1 : Int32) = nI i19 ∧ i19 < 2147483648 ∧ i19 < xlen h14 a18 ∧ ∃ n20 : Int32, xval h14 a18 i19 = xi n20 ∧ xcls h14 this = 6 ∧ xCall G d k15 mX3_isNot [xr (some this), xi (5 : Int32), xi (n16 - n20)] h14 (xkI (fun n23 h21 k22 => Q (.inl (some (xi n23))) h21) (fun q h _ => Q (.inr q) h))) (fun q h _ => Q (.inr q) h))))) (fun q h _ => Q (.inr q) h))) ∧ (¬ n6 = 0 → xcls h4 this = 6 ∧ xCall G d k5 mX3_hamletsOf [xr (some this), xi x1] h4 (xkI (fun n26 h24 k25 => xcls h24 this = 6 ∧ xCall G d k25 mX3_isNot [xr (some this), xi (3 : Int32), xi n26] h24 (xkI (fun n29 h27 k28 => Q (.inl (some (xi n29))) h27) (fun q h _ => Q (.inr q) h))) (fun q h _ => Q (.inr q) h))))) (fun q h _ => Q (.inr q) h))) ∧ (n3 = 0 → Q (.inl (some (xi (-1 : Int32)))) h1))) (fun q h _ => Q (.inr q) h))) : xCn G mX3_notOpen d K [xr (some this), xi x1] h Q := by
  refine xCn_of px_X3_notOpen rfl rfl (Nat.le_of_ble_eq_true rfl) ?_
  show xWp G mX3_notOpen d K Q K 0 [some (xr (some this)), some (xi x1)] [] h
  refine xw_aload_n dX3_notOpen_0 rfl ?_
  refine xw_iload_n dX3_notOpen_1 rfl ?_
  obtain ⟨hcK, hvc⟩ := hvc
  obtain ⟨d9, k9, hd9, hk9, hC9⟩ := hvc
  refine xw_callV dX3_notOpen_2 px_X3_isSite pm_X3_isSite q3129 q3131 qs55 hcX3 hcK (As := [xi x1]) (rest := []) rfl rfl (Nat.le_of_ble_eq_true rfl) hd9 hk9 hC9 (xkI_n fun n3 h1 hvc => ?_) (fun q h hq => xTh_out0 rfl hq)
  refine xw_if_ne 10 dX3_notOpen_5 rfl (fun hc => ?_) (fun hc => ?_)
  · replace hvc := hvc.1 hc
    refine xw_aload_n dX3_notOpen_10 rfl ?_
    refine xw_iload_n dX3_notOpen_11 rfl ?_
    obtain ⟨hcK, hvc⟩ := hvc
    obtain ⟨d9, k9, hd9, hk9, hC9⟩ := hvc
    refine xw_callV dX3_notOpen_12 px_X3_isWell pm_X3_isWell q3133 q3135 qs56 hcX3 hcK (As := [xi x1]) (rest := []) rfl rfl (Nat.le_of_ble_eq_true rfl) hd9 hk9 hC9 (xkI_n fun n6 h4 hvc => ?_) (fun q h hq => xTh_out0 rfl hq)
    refine xw_if_eq 29 dX3_notOpen_15 rfl (fun hc => ?_) (fun hc => ?_)
    · replace hvc := hvc.1 hc
      refine xw_aload_n dX3_notOpen_29 rfl ?_
      obtain ⟨hcK, o7, hvK, hvc⟩ := hvc
      refine xw_get dX3_notOpen_30 hcX3 in_X3 (kf := 4) (by decide) q2983 (fun _ _ _ _ z => z) hcK hvK ?_
      refine xw_iconst (1 : Int32) dX3_notOpen_33 (by decide) ?_
      obtain ⟨a8, ho, hvc⟩ := hvc
      subst ho
      obtain ⟨hcK, i9, hx9, hb9, hi9, n10, hv9, hvc⟩ := hvc
      refine xw_iald (j := 3) dX3_notOpen_34 rfl hcK hx9 hb9 hi9 hv9 ?_
      refine xw_aload_n dX3_notOpen_35 rfl ?_
      refine xw_iload_n dX3_notOpen_36 rfl ?_
      obtain ⟨hcK, hvc⟩ := hvc
      obtain ⟨d9, k9, hd9, hk9, hC9⟩ := hvc
      refine xw_callV dX3_notOpen_37 px_X3_price pm_X3_price q3163 q3165 qs62 hcX3 hcK (As := [xi x1]) (rest := [xi n10]) rfl rfl (Nat.le_of_ble_eq_true rfl) hd9 hk9 hC9 (xkI_n fun n13 h11 hvc => ?_) (fun q h hq => xTh_out0 rfl hq)
      refine xw_icmp_ge 63 dX3_notOpen_40 rfl (fun hc => ?_) (fun hc => ?_)
      · replace hvc := hvc.1 hc
        refine xw_iconst (0 : Int32) dX3_notOpen_63 (by decide) ?_
        exact xw_iret dX3_notOpen_64 rfl hvc
      · replace hvc := hvc.2 hc
        refine xw_aload_n dX3_notOpen_43 rfl ?_
        refine xw_iconst (5 : Int32) dX3_notOpen_44 (by decide) ?_
        refine xw_aload_n dX3_notOpen_45 rfl ?_
        refine xw_iload_n dX3_notOpen_46 rfl ?_
        obtain ⟨hcK, hvc⟩ := hvc
        obtain ⟨d9, k9, hd9, hk9, hC9⟩ := hvc
        refine xw_callV dX3_notOpen_47 px_X3_price pm_X3_price q3163 q3165 qs62 hcX3 hcK (As := [xi x1]) (rest := [xi (5 : Int32), xr (some this)]) rfl rfl (Nat.le_of_ble_eq_true rfl) hd9 hk9 hC9 (xkI_n fun n16 h14 hvc => ?_) (fun q h hq => xTh_out0 rfl hq)
        refine xw_aload_n dX3_notOpen_50 rfl ?_
        obtain ⟨hcK, o17, hvK, hvc⟩ := hvc
        refine xw_get dX3_notOpen_51 hcX3 in_X3 (kf := 4) (by decide) q2983 (fun _ _ _ _ z => z) hcK hvK ?_
        refine xw_iconst (1 : Int32) dX3_notOpen_54 (by decide) ?_
        obtain ⟨a18, ho, hvc⟩ := hvc
        subst ho
        obtain ⟨hcK, i19, hx9, hb9, hi9, n20, hv9, hvc⟩ := hvc
        refine xw_iald (j := 3) dX3_notOpen_55 rfl hcK hx9 hb9 hi9 hv9 ?_
        refine xw_isub dX3_notOpen_56 ?_
        obtain ⟨hcK, hvc⟩ := hvc
        obtain ⟨d9, k9, hd9, hk9, hC9⟩ := hvc
        refine xw_callV dX3_notOpen_57 px_X3_isNot pm_X3_isNot q3061 q3063 qs40 hcX3 hcK (As := [xi (5 : Int32), xi (n16 - n20)]) (rest := []) rfl rfl (Nat.le_of_ble_eq_true rfl) hd9 hk9 hC9 (xkI_n fun n23 h21 hvc => ?_) (fun q h hq => xTh_out0 rfl hq)
        refine xw_goto 64 dX3_notOpen_60 rfl ?_
        exact xw_iret dX3_notOpen_64 rfl hvc
    · replace hvc := hvc.2 hc
      refine xw_aload_n dX3_notOpen_18 rfl ?_
      refine xw_iconst (3 : Int32) dX3_notOpen_19 (by decide) ?_
      refine xw_aload_n dX3_notOpen_20 rfl ?_
      refine xw_iload_n dX3_notOpen_21 rfl ?_
      obtain ⟨hcK, hvc⟩ := hvc
      obtain ⟨d9, k9, hd9, hk9, hC9⟩ := hvc
      refine xw_callV dX3_notOpen_22 px_X3_hamletsOf pm_X3_hamletsOf q3137 q3139 qs57 hcX3 hcK (As := [xi x1]) (rest := [xi (3 : Int32), xr (some this)]) rfl rfl (Nat.le_of_ble_eq_true rfl) hd9 hk9 hC9 (xkI_n fun n26 h24 hvc => ?_) (fun q h hq => xTh_out0 rfl hq)
      obtain ⟨hcK, hvc⟩ := hvc
      obtain ⟨d9, k9, hd9, hk9, hC9⟩ := hvc
      refine xw_callV dX3_notOpen_25 px_X3_isNot pm_X3_isNot q3061 q3063 qs40 hcX3 hcK (As := [xi (3 : Int32), xi n26]) (rest := []) rfl rfl (Nat.le_of_ble_eq_true rfl) hd9 hk9 hC9 (xkI_n fun n29 h27 hvc => ?_) (fun q h hq => xTh_out0 rfl hq)
      exact xw_iret dX3_notOpen_28 rfl hvc
  · replace hvc := hvc.2 hc
    refine xw_iconst (-1 : Int32) dX3_notOpen_8 (by decide) ?_
    exact xw_iret dX3_notOpen_9 rfl hvc

theorem vc_X3_isSite {G : xG} {d K : Nat} {Q : xR → xH → Prop} {h : xH} {this : Nat} {x1 : Int32}
    (hvc : xcls h this = 6 ∧ ∃ o1 : Option Nat, xval h this 4 = xr o1 ∧ ∃ a2, o1 = some a2 ∧ xcls h a2 = 1003 ∧ ∃ i3 : Nat, (3 : Int32) = nI i3 ∧ i3 < 2147483648 ∧ i3 < xlen h a2 ∧ ∃ n4 : Int32, xval h a2 i3 = xi n4 ∧ xCall G d K mX3_isBetween [xi x1, xi (0 : Int32), xi (n4 - (1 : Int32))] h (xkI (fun n7 h5 k6 => (n7 = 0 ∨ n7 = 1) ∧ Q (.inl (some (xi n7))) h5) (fun q h _ => Q (.inr q) h))) : xCn G mX3_isSite d K [xr (some this), xi x1] h Q := by
  refine xCn_of px_X3_isSite rfl rfl (Nat.le_of_ble_eq_true rfl) ?_
  show xWp G mX3_isSite d K Q K 0 [some (xr (some this)), some (xi x1)] [] h
  refine xw_iload_n dX3_isSite_0 rfl ?_
  refine xw_iconst (0 : Int32) dX3_isSite_1 (by decide) ?_
  refine xw_aload_n dX3_isSite_2 rfl ?_
  obtain ⟨hcK, o1, hvK, hvc⟩ := hvc
  refine xw_get dX3_isSite_3 hcX3 in_X3 (kf := 4) (by decide) q2983 (fun _ _ _ _ z => z) hcK hvK ?_
  refine xw_iconst (3 : Int32) dX3_isSite_6 (by decide) ?_
  obtain ⟨a2, ho, hvc⟩ := hvc
  subst ho
  obtain ⟨hcK, i3, hx9, hb9, hi9, n4, hv9, hvc⟩ := hvc
  refine xw_iald (j := 3) dX3_isSite_7 rfl hcK hx9 hb9 hi9 hv9 ?_
  refine xw_iconst (1 : Int32) dX3_isSite_8 (by decide) ?_
  refine xw_isub dX3_isSite_9 ?_
  obtain ⟨d9, k9, hd9, hk9, hC9⟩ := hvc
  refine xw_callS dX3_isSite_10 px_X3_isBetween pm_X3_isBetween q3047 q3048 (As := [xi x1, xi (0 : Int32), xi (n4 - (1 : Int32))]) (rest := []) rfl rfl (Nat.le_of_ble_eq_true rfl) hd9 hk9 hC9 (xkI_n fun n7 h5 hvc => ?_) (fun q h hq => xTh_out0 rfl hq)
  exact xw_zret dX3_isSite_13 rfl (xnb hvc.1).1 hvc.2

theorem vc_X3_isWell {G : xG} {d K : Nat} {Q : xR → xH → Prop} {h : xH} {this : Nat} {x1 : Int32}
    (hvc : xcls h this = 6 ∧ xCall G d K mX3_siteIs [xr (some this), xi x1, xi (5 : Int32)] h (xkI (fun n3 h1 k2 => ((¬ n3 = (1 : Int32) → Q (.inl (some (xi (0 : Int32)))) h1) ∧ (n3 = (1 : Int32) → Q (.inl (some (xi (1 : Int32)))) h1))) (fun q h _ => Q (.inr q) h))) : xCn G mX3_isWell d K [xr (some this), xi x1] h Q := by
  refine xCn_of px_X3_isWell rfl rfl (Nat.le_of_ble_eq_true rfl) ?_
  show xWp G mX3_isWell d K Q K 0 [some (xr (some this)), some (xi x1)] [] h
  refine xw_aload_n dX3_isWell_0 rfl ?_
  refine xw_iload_n dX3_isWell_1 rfl ?_
  refine xw_iconst (5 : Int32) dX3_isWell_2 (by decide) ?_
  obtain ⟨hcK, hvc⟩ := hvc
  obtain ⟨d9, k9, hd9, hk9, hC9⟩ := hvc
  refine xw_callV dX3_isWell_3 px_X3_siteIs pm_X3_siteIs q3109 q3111 qs51 hcX3 hcK (As := [xi x1, xi (5 : Int32)]) (rest := []) rfl rfl (Nat.le_of_ble_eq_true rfl) hd9 hk9 hC9 (xkI_n fun n3 h1 hvc => ?_) (fun q h hq => xTh_out0 rfl hq)
  refine xw_iconst (1 : Int32) dX3_isWell_6 (by decide) ?_
  refine xw_icmp_ne 14 dX3_isWell_7 rfl (fun hc => ?_) (fun hc => ?_)
  · replace hvc := hvc.1 hc
    refine xw_iconst (0 : Int32) dX3_isWell_14 (by decide) ?_
    exact xw_zret dX3_isWell_15 rfl rfl hvc
  · replace hvc := hvc.2 hc
    refine xw_iconst (1 : Int32) dX3_isWell_10 (by decide) ?_
    refine xw_goto 15 dX3_isWell_11 rfl ?_
    exact xw_zret dX3_isWell_15 rfl rfl hvc

theorem vc_X3_hamletsOf {G : xG} {d K : Nat} {Q : xR → xH → Prop} {h : xH} {this : Nat} {x1 : Int32}
    (hvc : xWp G mX3_hamletsOf d K Q K 4 [some (xr (some this)), some (xi x1), some (xi (0 : Int32)), some (xi (0 : Int32))] [] h) : xCn G mX3_hamletsOf d K [xr (some this), xi x1] h Q := by
  refine xCn_of px_X3_hamletsOf rfl rfl (Nat.le_of_ble_eq_true rfl) ?_
  show xWp G mX3_hamletsOf d K Q K 0 [some (xr (some this)), some (xi x1), none, none] [] h
  refine xw_iconst (0 : Int32) dX3_hamletsOf_0 (by decide) ?_
  refine xw_istore_n dX3_hamletsOf_1 (Nat.le_of_ble_eq_true rfl) (L9 := [some (xr (some this)), some (xi x1), some (xi (0 : Int32)), none]) rfl ?_
  refine xw_iconst (0 : Int32) dX3_hamletsOf_2 (by decide) ?_
  refine xw_istore_n dX3_hamletsOf_3 (Nat.le_of_ble_eq_true rfl) (L9 := [some (xr (some this)), some (xi x1), some (xi (0 : Int32)), some (xi (0 : Int32))]) rfl ?_
  exact hvc

theorem vc_X3_hamletsOf_4 {G : xG} {d K k : Nat} {Q : xR → xH → Prop} {h : xH} {this : Nat} {x1 : Int32} {x2 : Int32} {x3 : Int32}
    (hvc : xcls h this = 6 ∧ ∃ o1 : Option Nat, xval h this 4 = xr o1 ∧ ∃ a2, o1 = some a2 ∧ xcls h a2 = 1003 ∧ ∃ i3 : Nat, (2 : Int32) = nI i3 ∧ i3 < 2147483648 ∧ i3 < xlen h a2 ∧ ∃ n4 : Int32, xval h a2 i3 = xi n4 ∧ ((n4 ≤ x3 → Q (.inl (some (xi x2))) h) ∧ (¬ n4 ≤ x3 → xcls h this = 6 ∧ xCall G d k mX3_well [xr (some this), xi x3] h (xkI (fun n7 h5 k6 => ((¬ n7 = x1 → xWp G mX3_hamletsOf d K Q k6 4 [some (xr (some this)), some (xi x1), some (xi (x2 + (0 : Int32))), some (xi (x3 + (1 : Int32)))] [] h5) ∧ (n7 = x1 → xWp G mX3_hamletsOf d K Q k6 4 [some (xr (some this)), some (xi x1), some (xi (x2 + (1 : Int32))), some (xi (x3 + (1 : Int32)))] [] h5))) (fun q h _ => Q (.inr q) h))))) : xWp G mX3_hamletsOf d K Q k 4 [some (xr (some this)), some (xi x1), some (xi x2), some (xi x3)] [] h := by
  refine xw_iload_n dX3_hamletsOf_4 rfl ?_
  refine xw_aload_n dX3_hamletsOf_5 rfl ?_
  obtain ⟨hcK, o1, hvK, hvc⟩ := hvc
  refine xw_get dX3_hamletsOf_6 hcX3 in_X3 (kf := 4) (by decide) q2983 (fun _ _ _ _ z => z) hcK hvK ?_
  refine xw_iconst (2 : Int32) dX3_hamletsOf_9 (by decide) ?_
  obtain ⟨a2, ho, hvc⟩ := hvc
  subst ho
  obtain ⟨hcK, i3, hx9, hb9, hi9, n4, hv9, hvc⟩ := hvc
  refine xw_iald (j := 3) dX3_hamletsOf_10 rfl hcK hx9 hb9 hi9 hv9 ?_
  refine xw_icmp_ge 37 dX3_hamletsOf_11 rfl (fun hc => ?_) (fun hc => ?_)
  · replace hvc := hvc.1 hc
    refine xw_iload_n dX3_hamletsOf_37 rfl ?_
    exact xw_iret dX3_hamletsOf_38 rfl hvc
  · replace hvc := hvc.2 hc
    refine xw_iload_n dX3_hamletsOf_14 rfl ?_
    refine xw_aload_n dX3_hamletsOf_15 rfl ?_
    refine xw_iload_n dX3_hamletsOf_16 rfl ?_
    obtain ⟨hcK, hvc⟩ := hvc
    obtain ⟨d9, k9, hd9, hk9, hC9⟩ := hvc
    refine xw_callV dX3_hamletsOf_17 px_X3_well pm_X3_well q3141 q3143 qs58 hcX3 hcK (As := [xi x3]) (rest := [xi x2]) rfl rfl (Nat.le_of_ble_eq_true rfl) hd9 hk9 hC9 (xkI_n fun n7 h5 hvc => ?_) (fun q h hq => xTh_out0 rfl hq)
    refine xw_iload_n dX3_hamletsOf_20 rfl ?_
    refine xw_icmp_ne 28 dX3_hamletsOf_21 rfl (fun hc => ?_) (fun hc => ?_)
    · replace hvc := hvc.1 hc
      refine xw_iconst (0 : Int32) dX3_hamletsOf_28 (by decide) ?_
      refine xw_iadd dX3_hamletsOf_29 ?_
      refine xw_istore_n dX3_hamletsOf_30 (Nat.le_of_ble_eq_true rfl) (L9 := [some (xr (some this)), some (xi x1), some (xi (x2 + (0 : Int32))), some (xi x3)]) rfl ?_
      refine xw_iinc (1 : Int32) dX3_hamletsOf_31 rfl (by decide) (Nat.le_of_ble_eq_true rfl) (L9 := [some (xr (some this)), some (xi x1), some (xi (x2 + (0 : Int32))), some (xi (x3 + (1 : Int32)))]) rfl ?_
      refine xw_goto 4 dX3_hamletsOf_34 rfl ?_
      exact hvc
    · replace hvc := hvc.2 hc
      refine xw_iconst (1 : Int32) dX3_hamletsOf_24 (by decide) ?_
      refine xw_goto 29 dX3_hamletsOf_25 rfl ?_
      refine xw_iadd dX3_hamletsOf_29 ?_
      refine xw_istore_n dX3_hamletsOf_30 (Nat.le_of_ble_eq_true rfl) (L9 := [some (xr (some this)), some (xi x1), some (xi (x2 + (1 : Int32))), some (xi x3)]) rfl ?_
      refine xw_iinc (1 : Int32) dX3_hamletsOf_31 rfl (by decide) (Nat.le_of_ble_eq_true rfl) (L9 := [some (xr (some this)), some (xi x1), some (xi (x2 + (1 : Int32))), some (xi (x3 + (1 : Int32)))]) rfl ?_
      refine xw_goto 4 dX3_hamletsOf_34 rfl ?_
      exact hvc

theorem vc_X3_well {G : xG} {d K : Nat} {Q : xR → xH → Prop} {h : xH} {this : Nat} {x1 : Int32}
    (hvc : xcls h this = 6 ∧ xCall G d K mX3_openOnes [xr (some this)] h (xkI (fun n3 h1 k2 => xcls h1 this = 6 ∧ xCall G d k2 mX3_nearest [xr (some this), xi x1, xi n3] h1 (xkI (fun n6 h4 k5 => Q (.inl (some (xi n6))) h4) (fun q h _ => Q (.inr q) h))) (fun q h _ => Q (.inr q) h))) : xCn G mX3_well d K [xr (some this), xi x1] h Q := by
  refine xCn_of px_X3_well rfl rfl (Nat.le_of_ble_eq_true rfl) ?_
  show xWp G mX3_well d K Q K 0 [some (xr (some this)), some (xi x1)] [] h
  refine xw_aload_n dX3_well_0 rfl ?_
  refine xw_iload_n dX3_well_1 rfl ?_
  refine xw_aload_n dX3_well_2 rfl ?_
  obtain ⟨hcK, hvc⟩ := hvc
  obtain ⟨d9, k9, hd9, hk9, hC9⟩ := hvc
  refine xw_callV dX3_well_3 px_X3_openOnes pm_X3_openOnes q3145 q3147 qs59 hcX3 hcK (As := []) (rest := [xi x1, xr (some this)]) rfl rfl (Nat.le_of_ble_eq_true rfl) hd9 hk9 hC9 (xkI_n fun n3 h1 hvc => ?_) (fun q h hq => xTh_out0 rfl hq)
  obtain ⟨hcK, hvc⟩ := hvc
  obtain ⟨d9, k9, hd9, hk9, hC9⟩ := hvc
  refine xw_callV dX3_well_6 px_X3_nearest pm_X3_nearest q3149 q3151 qs60 hcX3 hcK (As := [xi x1, xi n3]) (rest := []) rfl rfl (Nat.le_of_ble_eq_true rfl) hd9 hk9 hC9 (xkI_n fun n6 h4 hvc => ?_) (fun q h hq => xTh_out0 rfl hq)
  exact xw_iret dX3_well_9 rfl hvc

theorem vc_X3_openOnes {G : xG} {d K : Nat} {Q : xR → xH → Prop} {h : xH} {this : Nat}
    (hvc : xWp G mX3_openOnes d K Q K 4 [some (xr (some this)), some (xi (0 : Int32)), some (xi (0 : Int32))] [] h) : xCn G mX3_openOnes d K [xr (some this)] h Q := by
  refine xCn_of px_X3_openOnes rfl rfl (Nat.le_of_ble_eq_true rfl) ?_
  show xWp G mX3_openOnes d K Q K 0 [some (xr (some this)), none, none] [] h
  refine xw_iconst (0 : Int32) dX3_openOnes_0 (by decide) ?_
  refine xw_istore_n dX3_openOnes_1 (Nat.le_of_ble_eq_true rfl) (L9 := [some (xr (some this)), some (xi (0 : Int32)), none]) rfl ?_
  refine xw_iconst (0 : Int32) dX3_openOnes_2 (by decide) ?_
  refine xw_istore_n dX3_openOnes_3 (Nat.le_of_ble_eq_true rfl) (L9 := [some (xr (some this)), some (xi (0 : Int32)), some (xi (0 : Int32))]) rfl ?_
  exact hvc

theorem vc_X3_openOnes_4 {G : xG} {d K k : Nat} {Q : xR → xH → Prop} {h : xH} {this : Nat} {x1 : Int32} {x2 : Int32}
    (hvc : xcls h this = 6 ∧ ∃ o1 : Option Nat, xval h this 4 = xr o1 ∧ ∃ a2, o1 = some a2 ∧ xcls h a2 = 1003 ∧ ∃ i3 : Nat, (3 : Int32) = nI i3 ∧ i3 < 2147483648 ∧ i3 < xlen h a2 ∧ ∃ n4 : Int32, xval h a2 i3 = xi n4 ∧ ((n4 ≤ x2 → Q (.inl (some (xi x1))) h) ∧ (¬ n4 ≤ x2 → xcls h this = 6 ∧ xCall G d k mX3_isWell [xr (some this), xi x2] h (xkI (fun n7 h5 k6 => ((n7 = 0 → xWp G mX3_openOnes d K Q k6 4 [some (xr (some this)), some (xi (x1 ||| (0 : Int32))), some (xi (x2 + (1 : Int32)))] [] h5) ∧ (¬ n7 = 0 → xWp G mX3_openOnes d K Q k6 4 [some (xr (some this)), some (xi (x1 ||| ((1 : Int32) <<< (x2 &&& 31)))), some (xi (x2 + (1 : Int32)))] [] h5))) (fun q h _ => Q (.inr q) h))))) : xWp G mX3_openOnes d K Q k 4 [some (xr (some this)), some (xi x1), some (xi x2)] [] h := by
  refine xw_iload_n dX3_openOnes_4 rfl ?_
  refine xw_aload_n dX3_openOnes_5 rfl ?_
  obtain ⟨hcK, o1, hvK, hvc⟩ := hvc
  refine xw_get dX3_openOnes_6 hcX3 in_X3 (kf := 4) (by decide) q2983 (fun _ _ _ _ z => z) hcK hvK ?_
  refine xw_iconst (3 : Int32) dX3_openOnes_9 (by decide) ?_
  obtain ⟨a2, ho, hvc⟩ := hvc
  subst ho
  obtain ⟨hcK, i3, hx9, hb9, hi9, n4, hv9, hvc⟩ := hvc
  refine xw_iald (j := 3) dX3_openOnes_10 rfl hcK hx9 hb9 hi9 hv9 ?_
  refine xw_icmp_ge 38 dX3_openOnes_11 rfl (fun hc => ?_) (fun hc => ?_)
  · replace hvc := hvc.1 hc
    refine xw_iload_n dX3_openOnes_38 rfl ?_
    exact xw_iret dX3_openOnes_39 rfl hvc
  · replace hvc := hvc.2 hc
    refine xw_iload_n dX3_openOnes_14 rfl ?_
    refine xw_aload_n dX3_openOnes_15 rfl ?_
    refine xw_iload_n dX3_openOnes_16 rfl ?_
    obtain ⟨hcK, hvc⟩ := hvc
    obtain ⟨d9, k9, hd9, hk9, hC9⟩ := hvc
    refine xw_callV dX3_openOnes_17 px_X3_isWell pm_X3_isWell q3133 q3135 qs56 hcX3 hcK (As := [xi x2]) (rest := [xi x1]) rfl rfl (Nat.le_of_ble_eq_true rfl) hd9 hk9 hC9 (xkI_n fun n7 h5 hvc => ?_) (fun q h hq => xTh_out0 rfl hq)
    refine xw_if_eq 29 dX3_openOnes_20 rfl (fun hc => ?_) (fun hc => ?_)
    · replace hvc := hvc.1 hc
      refine xw_iconst (0 : Int32) dX3_openOnes_29 (by decide) ?_
      refine xw_ior dX3_openOnes_30 ?_
      refine xw_istore_n dX3_openOnes_31 (Nat.le_of_ble_eq_true rfl) (L9 := [some (xr (some this)), some (xi (x1 ||| (0 : Int32))), some (xi x2)]) rfl ?_
      refine xw_iinc (1 : Int32) dX3_openOnes_32 rfl (by decide) (Nat.le_of_ble_eq_true rfl) (L9 := [some (xr (some this)), some (xi (x1 ||| (0 : Int32))), some (xi (x2 + (1 : Int32)))]) rfl ?_
      refine xw_goto 4 dX3_openOnes_35 rfl ?_
      exact hvc
    · replace hvc := hvc.2 hc
      refine xw_iconst (1 : Int32) dX3_openOnes_23 (by decide) ?_
      refine xw_iload_n dX3_openOnes_24 rfl ?_
      refine xw_ishl dX3_openOnes_25 ?_
      refine xw_goto 30 dX3_openOnes_26 rfl ?_
      refine xw_ior dX3_openOnes_30 ?_
      refine xw_istore_n dX3_openOnes_31 (Nat.le_of_ble_eq_true rfl) (L9 := [some (xr (some this)), some (xi (x1 ||| ((1 : Int32) <<< (x2 &&& 31)))), some (xi x2)]) rfl ?_
      refine xw_iinc (1 : Int32) dX3_openOnes_32 rfl (by decide) (Nat.le_of_ble_eq_true rfl) (L9 := [some (xr (some this)), some (xi (x1 ||| ((1 : Int32) <<< (x2 &&& 31)))), some (xi (x2 + (1 : Int32)))]) rfl ?_
      refine xw_goto 4 dX3_openOnes_35 rfl ?_
      exact hvc

theorem vc_X3_nearest {G : xG} {d K : Nat} {Q : xR → xH → Prop} {h : xH} {this : Nat} {x1 : Int32} {x2 : Int32}
    (hvc : xWp G mX3_nearest d K Q K 5 [some (xr (some this)), some (xi x1), some (xi x2), some (xi (-1 : Int32)), some (xi (0 : Int32))] [] h) : xCn G mX3_nearest d K [xr (some this), xi x1, xi x2] h Q := by
  refine xCn_of px_X3_nearest rfl rfl (Nat.le_of_ble_eq_true rfl) ?_
  show xWp G mX3_nearest d K Q K 0 [some (xr (some this)), some (xi x1), some (xi x2), none, none] [] h
  refine xw_iconst (-1 : Int32) dX3_nearest_0 (by decide) ?_
  refine xw_istore_n dX3_nearest_1 (Nat.le_of_ble_eq_true rfl) (L9 := [some (xr (some this)), some (xi x1), some (xi x2), some (xi (-1 : Int32)), none]) rfl ?_
  refine xw_iconst (0 : Int32) dX3_nearest_2 (by decide) ?_
  refine xw_istore dX3_nearest_3 (Nat.le_of_ble_eq_true rfl) (L9 := [some (xr (some this)), some (xi x1), some (xi x2), some (xi (-1 : Int32)), some (xi (0 : Int32))]) rfl ?_
  exact hvc

theorem vc_X3_nearest_5 {G : xG} {d K k : Nat} {Q : xR → xH → Prop} {h : xH} {this : Nat} {x1 : Int32} {x2 : Int32} {x3 : Int32} {x4 : Int32}
    (hvc : xcls h this = 6 ∧ ∃ o1 : Option Nat, xval h this 4 = xr o1 ∧ ∃ a2, o1 = some a2 ∧ xcls h a2 = 1003 ∧ ∃ i3 : Nat, (3 : Int32) = nI i3 ∧ i3 < 2147483648 ∧ i3 < xlen h a2 ∧ ∃ n4 : Int32, xval h a2 i3 = xi n4 ∧ ((n4 ≤ x4 → Q (.inl (some (xi x3))) h) ∧ (¬ n4 ≤ x4 → xCall G d k mX3_has [xi x2, xi x4] h (xkI (fun n7 h5 k6 => ((n7 = 0 → xWp G mX3_nearest d K Q k6 5 [some (xr (some this)), some (xi x1), some (xi x2), some (xi x3), some (xi (x4 + (1 : Int32)))] [] h5) ∧ (¬ n7 = 0 → ((x3 < 0 → xWp G mX3_nearest d K Q k6 5 [some (xr (some this)), some (xi x1), some (xi x2), some (xi x4), some (xi (x4 + (1 : Int32)))] [] h5) ∧ (¬ x3 < 0 → xcls h5 this = 6 ∧ xCall G d k6 mX3_far [xr (some this), xi x1, xi x4] h5 (xkI (fun n10 h8 k9 => xcls h8 this = 6 ∧ xCall G d k9 mX3_far [xr (some this), xi x1, xi x3] h8 (xkI (fun n13 h11 k12 => ((n13 ≤ n10 → xWp G mX3_nearest d K Q k12 5 [some (xr (some this)), some (xi x1), some (xi x2), some (xi x3), some (xi (x4 + (1 : Int32)))] [] h11) ∧ (¬ n13 ≤ n10 → xWp G mX3_nearest d K Q k12 5 [some (xr (some this)), some (xi x1), some (xi x2), some (xi x4), some (xi (x4 + (1 : Int32)))] [] h11))) (fun q h _ => Q (.inr q) h))) (fun q h _ => Q (.inr q) h))))))) (fun q h _ => Q (.inr q) h))))) : xWp G mX3_nearest d K Q k 5 [some (xr (some this)), some (xi x1), some (xi x2), some (xi x3), some (xi x4)] [] h := by
  refine xw_iload dX3_nearest_5 rfl ?_
  refine xw_aload_n dX3_nearest_7 rfl ?_
  obtain ⟨hcK, o1, hvK, hvc⟩ := hvc
  refine xw_get dX3_nearest_8 hcX3 in_X3 (kf := 4) (by decide) q2983 (fun _ _ _ _ z => z) hcK hvK ?_
  refine xw_iconst (3 : Int32) dX3_nearest_11 (by decide) ?_
  obtain ⟨a2, ho, hvc⟩ := hvc
  subst ho
  obtain ⟨hcK, i3, hx9, hb9, hi9, n4, hv9, hvc⟩ := hvc
  refine xw_iald (j := 3) dX3_nearest_12 rfl hcK hx9 hb9 hi9 hv9 ?_
  refine xw_icmp_ge 58 dX3_nearest_13 rfl (fun hc => ?_) (fun hc => ?_)
  · replace hvc := hvc.1 hc
    refine xw_iload_n dX3_nearest_58 rfl ?_
    exact xw_iret dX3_nearest_59 rfl hvc
  · replace hvc := hvc.2 hc
    refine xw_iload_n dX3_nearest_16 rfl ?_
    refine xw_iload dX3_nearest_17 rfl ?_
    obtain ⟨d9, k9, hd9, hk9, hC9⟩ := hvc
    refine xw_callS dX3_nearest_19 px_X3_has pm_X3_has q3153 q3154 (As := [xi x2, xi x4]) (rest := []) rfl rfl (Nat.le_of_ble_eq_true rfl) hd9 hk9 hC9 (xkI_n fun n7 h5 hvc => ?_) (fun q h hq => xTh_out0 rfl hq)
    refine xw_if_eq 50 dX3_nearest_22 rfl (fun hc => ?_) (fun hc => ?_)
    · replace hvc := hvc.1 hc
      refine xw_iload_n dX3_nearest_50 rfl ?_
      refine xw_istore_n dX3_nearest_51 (Nat.le_of_ble_eq_true rfl) (L9 := [some (xr (some this)), some (xi x1), some (xi x2), some (xi x3), some (xi x4)]) rfl ?_
      refine xw_iinc (1 : Int32) dX3_nearest_52 rfl (by decide) (Nat.le_of_ble_eq_true rfl) (L9 := [some (xr (some this)), some (xi x1), some (xi x2), some (xi x3), some (xi (x4 + (1 : Int32)))]) rfl ?_
      refine xw_goto 5 dX3_nearest_55 rfl ?_
      exact hvc
    · replace hvc := hvc.2 hc
      refine xw_iload_n dX3_nearest_25 rfl ?_
      refine xw_if_lt 45 dX3_nearest_26 rfl (fun hc => ?_) (fun hc => ?_)
      · replace hvc := hvc.1 hc
        refine xw_iload dX3_nearest_45 rfl ?_
        refine xw_goto 51 dX3_nearest_47 rfl ?_
        refine xw_istore_n dX3_nearest_51 (Nat.le_of_ble_eq_true rfl) (L9 := [some (xr (some this)), some (xi x1), some (xi x2), some (xi x4), some (xi x4)]) rfl ?_
        refine xw_iinc (1 : Int32) dX3_nearest_52 rfl (by decide) (Nat.le_of_ble_eq_true rfl) (L9 := [some (xr (some this)), some (xi x1), some (xi x2), some (xi x4), some (xi (x4 + (1 : Int32)))]) rfl ?_
        refine xw_goto 5 dX3_nearest_55 rfl ?_
        exact hvc
      · replace hvc := hvc.2 hc
        refine xw_aload_n dX3_nearest_29 rfl ?_
        refine xw_iload_n dX3_nearest_30 rfl ?_
        refine xw_iload dX3_nearest_31 rfl ?_
        obtain ⟨hcK, hvc⟩ := hvc
        obtain ⟨d9, k9, hd9, hk9, hC9⟩ := hvc
        refine xw_callV dX3_nearest_33 px_X3_far pm_X3_far q3156 q3158 qs61 hcX3 hcK (As := [xi x1, xi x4]) (rest := []) rfl rfl (Nat.le_of_ble_eq_true rfl) hd9 hk9 hC9 (xkI_n fun n10 h8 hvc => ?_) (fun q h hq => xTh_out0 rfl hq)
        refine xw_aload_n dX3_nearest_36 rfl ?_
        refine xw_iload_n dX3_nearest_37 rfl ?_
        refine xw_iload_n dX3_nearest_38 rfl ?_
        obtain ⟨hcK, hvc⟩ := hvc
        obtain ⟨d9, k9, hd9, hk9, hC9⟩ := hvc
        refine xw_callV dX3_nearest_39 px_X3_far pm_X3_far q3156 q3158 qs61 hcX3 hcK (As := [xi x1, xi x3]) (rest := [xi n10]) rfl rfl (Nat.le_of_ble_eq_true rfl) hd9 hk9 hC9 (xkI_n fun n13 h11 hvc => ?_) (fun q h hq => xTh_out0 rfl hq)
        refine xw_icmp_ge 50 dX3_nearest_42 rfl (fun hc => ?_) (fun hc => ?_)
        · replace hvc := hvc.1 hc
          refine xw_iload_n dX3_nearest_50 rfl ?_
          refine xw_istore_n dX3_nearest_51 (Nat.le_of_ble_eq_true rfl) (L9 := [some (xr (some this)), some (xi x1), some (xi x2), some (xi x3), some (xi x4)]) rfl ?_
          refine xw_iinc (1 : Int32) dX3_nearest_52 rfl (by decide) (Nat.le_of_ble_eq_true rfl) (L9 := [some (xr (some this)), some (xi x1), some (xi x2), some (xi x3), some (xi (x4 + (1 : Int32)))]) rfl ?_
          refine xw_goto 5 dX3_nearest_55 rfl ?_
          exact hvc
        · replace hvc := hvc.2 hc
          refine xw_iload dX3_nearest_45 rfl ?_
          refine xw_goto 51 dX3_nearest_47 rfl ?_
          refine xw_istore_n dX3_nearest_51 (Nat.le_of_ble_eq_true rfl) (L9 := [some (xr (some this)), some (xi x1), some (xi x2), some (xi x4), some (xi x4)]) rfl ?_
          refine xw_iinc (1 : Int32) dX3_nearest_52 rfl (by decide) (Nat.le_of_ble_eq_true rfl) (L9 := [some (xr (some this)), some (xi x1), some (xi x2), some (xi x4), some (xi (x4 + (1 : Int32)))]) rfl ?_
          refine xw_goto 5 dX3_nearest_55 rfl ?_
          exact hvc

theorem vc_X3_has {G : xG} {d K : Nat} {Q : xR → xH → Prop} {h : xH} {x1 : Int32} {x2 : Int32}
    (hvc : ((¬ ((x1 >>> (x2 &&& 31)) &&& (1 : Int32)) = (1 : Int32) → Q (.inl (some (xi (0 : Int32)))) h) ∧ (((x1 >>> (x2 &&& 31)) &&& (1 : Int32)) = (1 : Int32) → Q (.inl (some (xi (1 : Int32)))) h))) : xCn G mX3_has d K [xi x1, xi x2] h Q := by
  refine xCn_of px_X3_has rfl rfl (Nat.le_of_ble_eq_true rfl) ?_
  show xWp G mX3_has d K Q K 0 [some (xi x1), some (xi x2)] [] h
  refine xw_iload_n dX3_has_0 rfl ?_
  refine xw_iload_n dX3_has_1 rfl ?_
  refine xw_ishr dX3_has_2 ?_
  refine xw_iconst (1 : Int32) dX3_has_3 (by decide) ?_
  refine xw_iand dX3_has_4 ?_
  refine xw_iconst (1 : Int32) dX3_has_5 (by decide) ?_
  refine xw_icmp_ne 13 dX3_has_6 rfl (fun hc => ?_) (fun hc => ?_)
  · replace hvc := hvc.1 hc
    refine xw_iconst (0 : Int32) dX3_has_13 (by decide) ?_
    exact xw_zret dX3_has_14 rfl rfl hvc
  · replace hvc := hvc.2 hc
    refine xw_iconst (1 : Int32) dX3_has_9 (by decide) ?_
    refine xw_goto 14 dX3_has_10 rfl ?_
    exact xw_zret dX3_has_14 rfl rfl hvc

theorem vc_X3_far {G : xG} {d K : Nat} {Q : xR → xH → Prop} {h : xH} {this : Nat} {x1 : Int32} {x2 : Int32}
    (hvc : xcls h this = 6 ∧ xCall G d K mX3_hamletIs [xr (some this), xi x1, xi (0 : Int32)] h (xkI (fun n3 h1 k2 => xcls h1 this = 6 ∧ xCall G d k2 mX3_siteIs [xr (some this), xi x2, xi (0 : Int32)] h1 (xkI (fun n6 h4 k5 => xCall G d k5 mX3_away [xi n3, xi n6] h4 (xkI (fun n9 h7 k8 => xcls h7 this = 6 ∧ xCall G d k8 mX3_hamletIs [xr (some this), xi x1, xi (1 : Int32)] h7 (xkI (fun n12 h10 k11 => xcls h10 this = 6 ∧ xCall G d k11 mX3_siteIs [xr (some this), xi x2, xi (1 : Int32)] h10 (xkI (fun n15 h13 k14 => xCall G d k14 mX3_away [xi n12, xi n15] h13 (xkI (fun n18 h16 k17 => Q (.inl (some (xi (n9 + n18)))) h16) (fun q h _ => Q (.inr q) h))) (fun q h _ => Q (.inr q) h))) (fun q h _ => Q (.inr q) h))) (fun q h _ => Q (.inr q) h))) (fun q h _ => Q (.inr q) h))) (fun q h _ => Q (.inr q) h))) : xCn G mX3_far d K [xr (some this), xi x1, xi x2] h Q := by
  refine xCn_of px_X3_far rfl rfl (Nat.le_of_ble_eq_true rfl) ?_
  show xWp G mX3_far d K Q K 0 [some (xr (some this)), some (xi x1), some (xi x2)] [] h
  refine xw_aload_n dX3_far_0 rfl ?_
  refine xw_iload_n dX3_far_1 rfl ?_
  refine xw_iconst (0 : Int32) dX3_far_2 (by decide) ?_
  obtain ⟨hcK, hvc⟩ := hvc
  obtain ⟨d9, k9, hd9, hk9, hC9⟩ := hvc
  refine xw_callV dX3_far_3 px_X3_hamletIs pm_X3_hamletIs q3069 q3071 qs42 hcX3 hcK (As := [xi x1, xi (0 : Int32)]) (rest := []) rfl rfl (Nat.le_of_ble_eq_true rfl) hd9 hk9 hC9 (xkI_n fun n3 h1 hvc => ?_) (fun q h hq => xTh_out0 rfl hq)
  refine xw_aload_n dX3_far_6 rfl ?_
  refine xw_iload_n dX3_far_7 rfl ?_
  refine xw_iconst (0 : Int32) dX3_far_8 (by decide) ?_
  obtain ⟨hcK, hvc⟩ := hvc
  obtain ⟨d9, k9, hd9, hk9, hC9⟩ := hvc
  refine xw_callV dX3_far_9 px_X3_siteIs pm_X3_siteIs q3109 q3111 qs51 hcX3 hcK (As := [xi x2, xi (0 : Int32)]) (rest := [xi n3]) rfl rfl (Nat.le_of_ble_eq_true rfl) hd9 hk9 hC9 (xkI_n fun n6 h4 hvc => ?_) (fun q h hq => xTh_out0 rfl hq)
  obtain ⟨d9, k9, hd9, hk9, hC9⟩ := hvc
  refine xw_callS dX3_far_12 px_X3_away pm_X3_away q3160 q3161 (As := [xi n3, xi n6]) (rest := []) rfl rfl (Nat.le_of_ble_eq_true rfl) hd9 hk9 hC9 (xkI_n fun n9 h7 hvc => ?_) (fun q h hq => xTh_out0 rfl hq)
  refine xw_aload_n dX3_far_15 rfl ?_
  refine xw_iload_n dX3_far_16 rfl ?_
  refine xw_iconst (1 : Int32) dX3_far_17 (by decide) ?_
  obtain ⟨hcK, hvc⟩ := hvc
  obtain ⟨d9, k9, hd9, hk9, hC9⟩ := hvc
  refine xw_callV dX3_far_18 px_X3_hamletIs pm_X3_hamletIs q3069 q3071 qs42 hcX3 hcK (As := [xi x1, xi (1 : Int32)]) (rest := [xi n9]) rfl rfl (Nat.le_of_ble_eq_true rfl) hd9 hk9 hC9 (xkI_n fun n12 h10 hvc => ?_) (fun q h hq => xTh_out0 rfl hq)
  refine xw_aload_n dX3_far_21 rfl ?_
  refine xw_iload_n dX3_far_22 rfl ?_
  refine xw_iconst (1 : Int32) dX3_far_23 (by decide) ?_
  obtain ⟨hcK, hvc⟩ := hvc
  obtain ⟨d9, k9, hd9, hk9, hC9⟩ := hvc
  refine xw_callV dX3_far_24 px_X3_siteIs pm_X3_siteIs q3109 q3111 qs51 hcX3 hcK (As := [xi x2, xi (1 : Int32)]) (rest := [xi n12, xi n9]) rfl rfl (Nat.le_of_ble_eq_true rfl) hd9 hk9 hC9 (xkI_n fun n15 h13 hvc => ?_) (fun q h hq => xTh_out0 rfl hq)
  obtain ⟨d9, k9, hd9, hk9, hC9⟩ := hvc
  refine xw_callS dX3_far_27 px_X3_away pm_X3_away q3160 q3161 (As := [xi n12, xi n15]) (rest := [xi n9]) rfl rfl (Nat.le_of_ble_eq_true rfl) hd9 hk9 hC9 (xkI_n fun n18 h16 hvc => ?_) (fun q h hq => xTh_out0 rfl hq)
  refine xw_iadd dX3_far_30 ?_
  exact xw_iret dX3_far_31 rfl hvc

theorem vc_X3_away {G : xG} {d K : Nat} {Q : xR → xH → Prop} {h : xH} {x1 : Int32} {x2 : Int32}
    (hvc : ((x2 ≤ x1 → Q (.inl (some (xi (x1 - x2)))) h) ∧ (¬ x2 ≤ x1 → Q (.inl (some (xi (x2 - x1)))) h))) : xCn G mX3_away d K [xi x1, xi x2] h Q := by
  refine xCn_of px_X3_away rfl rfl (Nat.le_of_ble_eq_true rfl) ?_
  show xWp G mX3_away d K Q K 0 [some (xi x1), some (xi x2)] [] h
  refine xw_iload_n dX3_away_0 rfl ?_
  refine xw_iload_n dX3_away_1 rfl ?_
  refine xw_icmp_ge 11 dX3_away_2 rfl (fun hc => ?_) (fun hc => ?_)
  · replace hvc := hvc.1 hc
    refine xw_iload_n dX3_away_11 rfl ?_
    refine xw_iload_n dX3_away_12 rfl ?_
    refine xw_isub dX3_away_13 ?_
    exact xw_iret dX3_away_14 rfl hvc
  · replace hvc := hvc.2 hc
    refine xw_iload_n dX3_away_5 rfl ?_
    refine xw_iload_n dX3_away_6 rfl ?_
    refine xw_isub dX3_away_7 ?_
    refine xw_goto 14 dX3_away_8 rfl ?_
    exact xw_iret dX3_away_14 rfl hvc

theorem vc_X3_price {G : xG} {d K : Nat} {Q : xR → xH → Prop} {h : xH} {this : Nat} {x1 : Int32}
    (hvc : xcls h this = 6 ∧ xCall G d K mX3_siteIs [xr (some this), xi x1, xi (4 : Int32)] h (xkI (fun n3 h1 k2 => xcls h1 this = 6 ∧ xCall G d k2 mX3_siteIs [xr (some this), xi x1, xi (3 : Int32)] h1 (xkI (fun n6 h4 k5 => Q (.inl (some (xi (n3 + (n6 / (4 : Int32)))))) h4) (fun q h _ => Q (.inr q) h))) (fun q h _ => Q (.inr q) h))) : xCn G mX3_price d K [xr (some this), xi x1] h Q := by
  refine xCn_of px_X3_price rfl rfl (Nat.le_of_ble_eq_true rfl) ?_
  show xWp G mX3_price d K Q K 0 [some (xr (some this)), some (xi x1)] [] h
  refine xw_aload_n dX3_price_0 rfl ?_
  refine xw_iload_n dX3_price_1 rfl ?_
  refine xw_iconst (4 : Int32) dX3_price_2 (by decide) ?_
  obtain ⟨hcK, hvc⟩ := hvc
  obtain ⟨d9, k9, hd9, hk9, hC9⟩ := hvc
  refine xw_callV dX3_price_3 px_X3_siteIs pm_X3_siteIs q3109 q3111 qs51 hcX3 hcK (As := [xi x1, xi (4 : Int32)]) (rest := []) rfl rfl (Nat.le_of_ble_eq_true rfl) hd9 hk9 hC9 (xkI_n fun n3 h1 hvc => ?_) (fun q h hq => xTh_out0 rfl hq)
  refine xw_aload_n dX3_price_6 rfl ?_
  refine xw_iload_n dX3_price_7 rfl ?_
  refine xw_iconst (3 : Int32) dX3_price_8 (by decide) ?_
  obtain ⟨hcK, hvc⟩ := hvc
  obtain ⟨d9, k9, hd9, hk9, hC9⟩ := hvc
  refine xw_callV dX3_price_9 px_X3_siteIs pm_X3_siteIs q3109 q3111 qs51 hcX3 hcK (As := [xi x1, xi (3 : Int32)]) (rest := [xi n3]) rfl rfl (Nat.le_of_ble_eq_true rfl) hd9 hk9 hC9 (xkI_n fun n6 h4 hvc => ?_) (fun q h hq => xTh_out0 rfl hq)
  refine xw_iconst (4 : Int32) dX3_price_12 (by decide) ?_
  refine xw_idiv dX3_price_13 (by decide) ?_
  refine xw_iadd dX3_price_14 ?_
  exact xw_iret dX3_price_15 rfl hvc

theorem vc_X3_opens {G : xG} {d K : Nat} {Q : xR → xH → Prop} {h : xH} {this : Nat} {x1 : Int32}
    (hvc : xcls h this = 6 ∧ ∃ o1 : Option Nat, xval h this 4 = xr o1 ∧ ∃ a2, o1 = some a2 ∧ xcls h a2 = 1003 ∧ ∃ i3 : Nat, (1 : Int32) = nI i3 ∧ i3 < 2147483648 ∧ i3 < xlen h a2 ∧ ∃ n4 : Int32, xval h a2 i3 = xi n4 ∧ xcls h this = 6 ∧ xCall G d K mX3_price [xr (some this), xi x1] h (xkI (fun n7 h5 k6 => xcls h5 a2 = 1003 ∧ ∃ i8 : Nat, (1 : Int32) = nI i8 ∧ i8 < 2147483648 ∧ i8 < xlen h5 a2 ∧ ∀ h9 : xH, h9 = xput h5 a2 i8 (xi (n4 - n7)) → xcls h9 this = 6 ∧ ∃ o10 : Option Nat, xval h9 this 4 = xr o10 ∧ ∃ a11, o10 = some a11 ∧ xcls h9 a11 = 1003 ∧ ∃ i12 : Nat, (7 : Int32) = nI i12 ∧ i12 < 2147483648 ∧ i12 < xlen h9 a11 ∧ ∃ n13 : Int32, xval h9 a11 i12 = xi n13 ∧ xcls h9 this = 6 ∧ xCall G d k6 mX3_price [xr (some this), xi x1] h9 (xkI (fun n16 h14 k15 => xcls h14 a11 = 1003 ∧ ∃ i17 : Nat, (7 : Int32) = nI i17 ∧ i17 < 2147483648 ∧ i17 < xlen h14 a11 ∧ ∀ h18 : xH, h18 = xput h14 a11 i17 (xi (n13 + n16)) → xcls h18 this = 6 ∧ xCall G d k15 mX3_setsSite [xr (some this), xi x1, xi (5 : Int32), xi (1 : Int32)] h18 (xkV (fun h19 k20 => xcls h19 this = 6 ∧ xCall G d k20 mX3_hamletsOf [xr (some this), xi x1] h19 (xkI (fun n23 h21 k22 => Q (.inl (some (xi n23))) h21) (fun q h _ => Q (.inr q) h))) (fun q h _ => Q (.inr q) h))) (fun q h _ => Q (.inr q) h))) (fun q h _ => Q (.inr q) h))) : xCn G mX3_opens d K [xr (some this), xi x1] h Q := by
  refine xCn_of px_X3_opens rfl rfl (Nat.le_of_ble_eq_true rfl) ?_
  show xWp G mX3_opens d K Q K 0 [some (xr (some this)), some (xi x1)] [] h
  refine xw_aload_n dX3_opens_0 rfl ?_
  obtain ⟨hcK, o1, hvK, hvc⟩ := hvc
  refine xw_get dX3_opens_1 hcX3 in_X3 (kf := 4) (by decide) q2983 (fun _ _ _ _ z => z) hcK hvK ?_
  refine xw_iconst (1 : Int32) dX3_opens_4 (by decide) ?_
  refine xw_dup2 dX3_opens_5 rfl rfl ?_
  obtain ⟨a2, ho, hvc⟩ := hvc
  subst ho
  obtain ⟨hcK, i3, hx9, hb9, hi9, n4, hv9, hvc⟩ := hvc
  refine xw_iald (j := 3) dX3_opens_6 rfl hcK hx9 hb9 hi9 hv9 ?_
  refine xw_aload_n dX3_opens_7 rfl ?_
  refine xw_iload_n dX3_opens_8 rfl ?_
  obtain ⟨hcK, hvc⟩ := hvc
  obtain ⟨d9, k9, hd9, hk9, hC9⟩ := hvc
  refine xw_callV dX3_opens_9 px_X3_price pm_X3_price q3163 q3165 qs62 hcX3 hcK (As := [xi x1]) (rest := [xi n4, xi (1 : Int32), xr (some a2)]) rfl rfl (Nat.le_of_ble_eq_true rfl) hd9 hk9 hC9 (xkI_n fun n7 h5 hvc => ?_) (fun q h hq => xTh_out0 rfl hq)
  refine xw_isub dX3_opens_12 ?_
  obtain ⟨hcK, i8, hx9, hb9, hi9, hvc⟩ := hvc
  refine xw_iast (j := 3) dX3_opens_13 rfl hcK (Or.inl rfl) hx9 hb9 hi9 (fun h9 eh9 => ?_)
  replace hvc := hvc h9 eh9
  refine xw_aload_n dX3_opens_14 rfl ?_
  obtain ⟨hcK, o10, hvK, hvc⟩ := hvc
  refine xw_get dX3_opens_15 hcX3 in_X3 (kf := 4) (by decide) q2983 (fun _ _ _ _ z => z) hcK hvK ?_
  refine xw_bipush (7 : Int32) dX3_opens_18 (by decide) ?_
  refine xw_dup2 dX3_opens_20 rfl rfl ?_
  obtain ⟨a11, ho, hvc⟩ := hvc
  subst ho
  obtain ⟨hcK, i12, hx9, hb9, hi9, n13, hv9, hvc⟩ := hvc
  refine xw_iald (j := 3) dX3_opens_21 rfl hcK hx9 hb9 hi9 hv9 ?_
  refine xw_aload_n dX3_opens_22 rfl ?_
  refine xw_iload_n dX3_opens_23 rfl ?_
  obtain ⟨hcK, hvc⟩ := hvc
  obtain ⟨d9, k9, hd9, hk9, hC9⟩ := hvc
  refine xw_callV dX3_opens_24 px_X3_price pm_X3_price q3163 q3165 qs62 hcX3 hcK (As := [xi x1]) (rest := [xi n13, xi (7 : Int32), xr (some a11)]) rfl rfl (Nat.le_of_ble_eq_true rfl) hd9 hk9 hC9 (xkI_n fun n16 h14 hvc => ?_) (fun q h hq => xTh_out0 rfl hq)
  refine xw_iadd dX3_opens_27 ?_
  obtain ⟨hcK, i17, hx9, hb9, hi9, hvc⟩ := hvc
  refine xw_iast (j := 3) dX3_opens_28 rfl hcK (Or.inl rfl) hx9 hb9 hi9 (fun h18 eh9 => ?_)
  replace hvc := hvc h18 eh9
  refine xw_aload_n dX3_opens_29 rfl ?_
  refine xw_iload_n dX3_opens_30 rfl ?_
  refine xw_iconst (5 : Int32) dX3_opens_31 (by decide) ?_
  refine xw_iconst (1 : Int32) dX3_opens_32 (by decide) ?_
  obtain ⟨hcK, hvc⟩ := hvc
  obtain ⟨d9, k9, hd9, hk9, hC9⟩ := hvc
  refine xw_callV dX3_opens_33 px_X3_setsSite pm_X3_setsSite q3117 q3119 qs53 hcX3 hcK (As := [xi x1, xi (5 : Int32), xi (1 : Int32)]) (rest := []) rfl rfl (Nat.le_of_ble_eq_true rfl) hd9 hk9 hC9 (xkV_n fun h19 hvc => ?_) (fun q h hq => xTh_out0 rfl hq)
  refine xw_aload_n dX3_opens_36 rfl ?_
  refine xw_iload_n dX3_opens_37 rfl ?_
  obtain ⟨hcK, hvc⟩ := hvc
  obtain ⟨d9, k9, hd9, hk9, hC9⟩ := hvc
  refine xw_callV dX3_opens_38 px_X3_hamletsOf pm_X3_hamletsOf q3137 q3139 qs57 hcX3 hcK (As := [xi x1]) (rest := []) rfl rfl (Nat.le_of_ble_eq_true rfl) hd9 hk9 hC9 (xkI_n fun n23 h21 hvc => ?_) (fun q h hq => xTh_out0 rfl hq)
  exact xw_iret dX3_opens_41 rfl hvc

theorem vc_X3_shut {G : xG} {d K : Nat} {Q : xR → xH → Prop} {h : xH} {this : Nat} {x1 : Int32}
    (hvc : xcls h this = 6 ∧ xCall G d K mX3_notShut [xr (some this), xi x1] h (xkI (fun n3 h1 k2 => ((n3 = 0 → xcls h1 this = 6 ∧ xCall G d k2 mX3_remembers [xr (some this)] h1 (xkV (fun h4 k5 => xcls h4 this = 6 ∧ xCall G d k5 mX3_shuts [xr (some this), xi x1] h4 (xkI (fun n8 h6 k7 => Q (.inl (some (xi n8))) h6) (fun q h _ => Q (.inr q) h))) (fun q h _ => Q (.inr q) h))) ∧ (¬ n3 = 0 → xcls h1 this = 6 ∧ xCall G d k2 mX3_refuses [xr (some this), xi n3] h1 (xkI (fun n11 h9 k10 => Q (.inl (some (xi n11))) h9) (fun q h _ => Q (.inr q) h))))) (fun q h _ => Q (.inr q) h))) : xCn G mX3_shut d K [xr (some this), xi x1] h Q := by
  refine xCn_of px_X3_shut rfl rfl (Nat.le_of_ble_eq_true rfl) ?_
  show xWp G mX3_shut d K Q K 0 [some (xr (some this)), some (xi x1), none] [] h
  refine xw_aload_n dX3_shut_0 rfl ?_
  refine xw_iload_n dX3_shut_1 rfl ?_
  obtain ⟨hcK, hvc⟩ := hvc
  obtain ⟨d9, k9, hd9, hk9, hC9⟩ := hvc
  refine xw_callV dX3_shut_2 px_X3_notShut pm_X3_notShut q3175 q3177 qs64 hcX3 hcK (As := [xi x1]) (rest := []) rfl rfl (Nat.le_of_ble_eq_true rfl) hd9 hk9 hC9 (xkI_n fun n3 h1 hvc => ?_) (fun q h hq => xTh_out0 rfl hq)
  refine xw_istore_n dX3_shut_5 (Nat.le_of_ble_eq_true rfl) (L9 := [some (xr (some this)), some (xi x1), some (xi n3)]) rfl ?_
  refine xw_iload_n dX3_shut_6 rfl ?_
  refine xw_if_eq 16 dX3_shut_7 rfl (fun hc => ?_) (fun hc => ?_)
  · replace hvc := hvc.1 hc
    refine xw_aload_n dX3_shut_16 rfl ?_
    obtain ⟨hcK, hvc⟩ := hvc
    obtain ⟨d9, k9, hd9, hk9, hC9⟩ := hvc
    refine xw_callV dX3_shut_17 px_X3_remembers pm_X3_remembers q3081 q3083 qs45 hcX3 hcK (As := []) (rest := []) rfl rfl (Nat.le_of_ble_eq_true rfl) hd9 hk9 hC9 (xkV_n fun h4 hvc => ?_) (fun q h hq => xTh_out0 rfl hq)
    refine xw_aload_n dX3_shut_20 rfl ?_
    refine xw_iload_n dX3_shut_21 rfl ?_
    obtain ⟨hcK, hvc⟩ := hvc
    obtain ⟨d9, k9, hd9, hk9, hC9⟩ := hvc
    refine xw_callV dX3_shut_22 px_X3_shuts pm_X3_shuts q3179 q3181 qs65 hcX3 hcK (As := [xi x1]) (rest := []) rfl rfl (Nat.le_of_ble_eq_true rfl) hd9 hk9 hC9 (xkI_n fun n8 h6 hvc => ?_) (fun q h hq => xTh_out0 rfl hq)
    exact xw_iret dX3_shut_25 rfl hvc
  · replace hvc := hvc.2 hc
    refine xw_aload_n dX3_shut_10 rfl ?_
    refine xw_iload_n dX3_shut_11 rfl ?_
    obtain ⟨hcK, hvc⟩ := hvc
    obtain ⟨d9, k9, hd9, hk9, hC9⟩ := hvc
    refine xw_callV dX3_shut_12 px_X3_refuses pm_X3_refuses q3073 q3075 qs43 hcX3 hcK (As := [xi n3]) (rest := []) rfl rfl (Nat.le_of_ble_eq_true rfl) hd9 hk9 hC9 (xkI_n fun n11 h9 hvc => ?_) (fun q h hq => xTh_out0 rfl hq)
    exact xw_iret dX3_shut_15 rfl hvc

theorem vc_X3_notShut {G : xG} {d K : Nat} {Q : xR → xH → Prop} {h : xH} {this : Nat} {x1 : Int32}
    (hvc : xcls h this = 6 ∧ xCall G d K mX3_isSite [xr (some this), xi x1] h (xkI (fun n3 h1 k2 => ((¬ n3 = 0 → xcls h1 this = 6 ∧ xCall G d k2 mX3_isWell [xr (some this), xi x1] h1 (xkI (fun n6 h4 k5 => ((n6 = 0 → xcls h4 this = 6 ∧ xCall G d k5 mX3_siteIs [xr (some this), xi x1, xi (4 : Int32)] h4 (xkI (fun n9 h7 k8 => xcls h7 this = 6 ∧ xCall G d k8 mX3_isNot [xr (some this), xi (4 : Int32), xi n9] h7 (xkI (fun n12 h10 k11 => Q (.inl (some (xi n12))) h10) (fun q h _ => Q (.inr q) h))) (fun q h _ => Q (.inr q) h))) ∧ (¬ n6 = 0 → Q (.inl (some (xi (0 : Int32)))) h4))) (fun q h _ => Q (.inr q) h))) ∧ (n3 = 0 → Q (.inl (some (xi (-1 : Int32)))) h1))) (fun q h _ => Q (.inr q) h))) : xCn G mX3_notShut d K [xr (some this), xi x1] h Q := by
  refine xCn_of px_X3_notShut rfl rfl (Nat.le_of_ble_eq_true rfl) ?_
  show xWp G mX3_notShut d K Q K 0 [some (xr (some this)), some (xi x1)] [] h
  refine xw_aload_n dX3_notShut_0 rfl ?_
  refine xw_iload_n dX3_notShut_1 rfl ?_
  obtain ⟨hcK, hvc⟩ := hvc
  obtain ⟨d9, k9, hd9, hk9, hC9⟩ := hvc
  refine xw_callV dX3_notShut_2 px_X3_isSite pm_X3_isSite q3129 q3131 qs55 hcX3 hcK (As := [xi x1]) (rest := []) rfl rfl (Nat.le_of_ble_eq_true rfl) hd9 hk9 hC9 (xkI_n fun n3 h1 hvc => ?_) (fun q h hq => xTh_out0 rfl hq)
  refine xw_if_ne 10 dX3_notShut_5 rfl (fun hc => ?_) (fun hc => ?_)
  · replace hvc := hvc.1 hc
    refine xw_aload_n dX3_notShut_10 rfl ?_
    refine xw_iload_n dX3_notShut_11 rfl ?_
    obtain ⟨hcK, hvc⟩ := hvc
    obtain ⟨d9, k9, hd9, hk9, hC9⟩ := hvc
    refine xw_callV dX3_notShut_12 px_X3_isWell pm_X3_isWell q3133 q3135 qs56 hcX3 hcK (As := [xi x1]) (rest := []) rfl rfl (Nat.le_of_ble_eq_true rfl) hd9 hk9 hC9 (xkI_n fun n6 h4 hvc => ?_) (fun q h hq => xTh_out0 rfl hq)
    refine xw_if_eq 22 dX3_notShut_15 rfl (fun hc => ?_) (fun hc => ?_)
    · replace hvc := hvc.1 hc
      refine xw_aload_n dX3_notShut_22 rfl ?_
      refine xw_iconst (4 : Int32) dX3_notShut_23 (by decide) ?_
      refine xw_aload_n dX3_notShut_24 rfl ?_
      refine xw_iload_n dX3_notShut_25 rfl ?_
      refine xw_iconst (4 : Int32) dX3_notShut_26 (by decide) ?_
      obtain ⟨hcK, hvc⟩ := hvc
      obtain ⟨d9, k9, hd9, hk9, hC9⟩ := hvc
      refine xw_callV dX3_notShut_27 px_X3_siteIs pm_X3_siteIs q3109 q3111 qs51 hcX3 hcK (As := [xi x1, xi (4 : Int32)]) (rest := [xi (4 : Int32), xr (some this)]) rfl rfl (Nat.le_of_ble_eq_true rfl) hd9 hk9 hC9 (xkI_n fun n9 h7 hvc => ?_) (fun q h hq => xTh_out0 rfl hq)
      obtain ⟨hcK, hvc⟩ := hvc
      obtain ⟨d9, k9, hd9, hk9, hC9⟩ := hvc
      refine xw_callV dX3_notShut_30 px_X3_isNot pm_X3_isNot q3061 q3063 qs40 hcX3 hcK (As := [xi (4 : Int32), xi n9]) (rest := []) rfl rfl (Nat.le_of_ble_eq_true rfl) hd9 hk9 hC9 (xkI_n fun n12 h10 hvc => ?_) (fun q h hq => xTh_out0 rfl hq)
      exact xw_iret dX3_notShut_33 rfl hvc
    · replace hvc := hvc.2 hc
      refine xw_iconst (0 : Int32) dX3_notShut_18 (by decide) ?_
      refine xw_goto 33 dX3_notShut_19 rfl ?_
      exact xw_iret dX3_notShut_33 rfl hvc
  · replace hvc := hvc.2 hc
    refine xw_iconst (-1 : Int32) dX3_notShut_8 (by decide) ?_
    exact xw_iret dX3_notShut_9 rfl hvc

theorem vc_X3_shuts {G : xG} {d K : Nat} {Q : xR → xH → Prop} {h : xH} {this : Nat} {x1 : Int32}
    (hvc : xcls h this = 6 ∧ ∃ o1 : Option Nat, xval h this 4 = xr o1 ∧ ∃ a2, o1 = some a2 ∧ xcls h a2 = 1003 ∧ ∃ i3 : Nat, (4 : Int32) = nI i3 ∧ i3 < 2147483648 ∧ i3 < xlen h a2 ∧ ∃ n4 : Int32, xval h a2 i3 = xi n4 ∧ xcls h this = 6 ∧ xCall G d K mX3_siteIs [xr (some this), xi x1, xi (6 : Int32)] h (xkI (fun n7 h5 k6 => xcls h5 a2 = 1003 ∧ ∃ i8 : Nat, (4 : Int32) = nI i8 ∧ i8 < 2147483648 ∧ i8 < xlen h5 a2 ∧ ∀ h9 : xH, h9 = xput h5 a2 i8 (xi (n4 + n7)) → xcls h9 this = 6 ∧ xCall G d k6 mX3_setsSite [xr (some this), xi x1, xi (6 : Int32), xi (0 : Int32)] h9 (xkV (fun h10 k11 => xcls h10 this = 6 ∧ xCall G d k11 mX3_setsSite [xr (some this), xi x1, xi (5 : Int32), xi (0 : Int32)] h10 (xkV (fun h12 k13 => xcls h12 this = 6 ∧ xCall G d k13 mX3_openOnes [xr (some this)] h12 (xkI (fun n16 h14 k15 => xCall G d k15 mX3_sizeOf [xi n16] h14 (xkI (fun n19 h17 k18 => Q (.inl (some (xi n19))) h17) (fun q h _ => Q (.inr q) h))) (fun q h _ => Q (.inr q) h))) (fun q h _ => Q (.inr q) h))) (fun q h _ => Q (.inr q) h))) (fun q h _ => Q (.inr q) h))) : xCn G mX3_shuts d K [xr (some this), xi x1] h Q := by
  refine xCn_of px_X3_shuts rfl rfl (Nat.le_of_ble_eq_true rfl) ?_
  show xWp G mX3_shuts d K Q K 0 [some (xr (some this)), some (xi x1)] [] h
  refine xw_aload_n dX3_shuts_0 rfl ?_
  obtain ⟨hcK, o1, hvK, hvc⟩ := hvc
  refine xw_get dX3_shuts_1 hcX3 in_X3 (kf := 4) (by decide) q2983 (fun _ _ _ _ z => z) hcK hvK ?_
  refine xw_iconst (4 : Int32) dX3_shuts_4 (by decide) ?_
  refine xw_dup2 dX3_shuts_5 rfl rfl ?_
  obtain ⟨a2, ho, hvc⟩ := hvc
  subst ho
  obtain ⟨hcK, i3, hx9, hb9, hi9, n4, hv9, hvc⟩ := hvc
  refine xw_iald (j := 3) dX3_shuts_6 rfl hcK hx9 hb9 hi9 hv9 ?_
  refine xw_aload_n dX3_shuts_7 rfl ?_
  refine xw_iload_n dX3_shuts_8 rfl ?_
  refine xw_bipush (6 : Int32) dX3_shuts_9 (by decide) ?_
  obtain ⟨hcK, hvc⟩ := hvc
  obtain ⟨d9, k9, hd9, hk9, hC9⟩ := hvc
  refine xw_callV dX3_shuts_11 px_X3_siteIs pm_X3_siteIs q3109 q3111 qs51 hcX3 hcK (As := [xi x1, xi (6 : Int32)]) (rest := [xi n4, xi (4 : Int32), xr (some a2)]) rfl rfl (Nat.le_of_ble_eq_true rfl) hd9 hk9 hC9 (xkI_n fun n7 h5 hvc => ?_) (fun q h hq => xTh_out0 rfl hq)
  refine xw_iadd dX3_shuts_14 ?_
  obtain ⟨hcK, i8, hx9, hb9, hi9, hvc⟩ := hvc
  refine xw_iast (j := 3) dX3_shuts_15 rfl hcK (Or.inl rfl) hx9 hb9 hi9 (fun h9 eh9 => ?_)
  replace hvc := hvc h9 eh9
  refine xw_aload_n dX3_shuts_16 rfl ?_
  refine xw_iload_n dX3_shuts_17 rfl ?_
  refine xw_bipush (6 : Int32) dX3_shuts_18 (by decide) ?_
  refine xw_iconst (0 : Int32) dX3_shuts_20 (by decide) ?_
  obtain ⟨hcK, hvc⟩ := hvc
  obtain ⟨d9, k9, hd9, hk9, hC9⟩ := hvc
  refine xw_callV dX3_shuts_21 px_X3_setsSite pm_X3_setsSite q3117 q3119 qs53 hcX3 hcK (As := [xi x1, xi (6 : Int32), xi (0 : Int32)]) (rest := []) rfl rfl (Nat.le_of_ble_eq_true rfl) hd9 hk9 hC9 (xkV_n fun h10 hvc => ?_) (fun q h hq => xTh_out0 rfl hq)
  refine xw_aload_n dX3_shuts_24 rfl ?_
  refine xw_iload_n dX3_shuts_25 rfl ?_
  refine xw_iconst (5 : Int32) dX3_shuts_26 (by decide) ?_
  refine xw_iconst (0 : Int32) dX3_shuts_27 (by decide) ?_
  obtain ⟨hcK, hvc⟩ := hvc
  obtain ⟨d9, k9, hd9, hk9, hC9⟩ := hvc
  refine xw_callV dX3_shuts_28 px_X3_setsSite pm_X3_setsSite q3117 q3119 qs53 hcX3 hcK (As := [xi x1, xi (5 : Int32), xi (0 : Int32)]) (rest := []) rfl rfl (Nat.le_of_ble_eq_true rfl) hd9 hk9 hC9 (xkV_n fun h12 hvc => ?_) (fun q h hq => xTh_out0 rfl hq)
  refine xw_aload_n dX3_shuts_31 rfl ?_
  obtain ⟨hcK, hvc⟩ := hvc
  obtain ⟨d9, k9, hd9, hk9, hC9⟩ := hvc
  refine xw_callV dX3_shuts_32 px_X3_openOnes pm_X3_openOnes q3145 q3147 qs59 hcX3 hcK (As := []) (rest := []) rfl rfl (Nat.le_of_ble_eq_true rfl) hd9 hk9 hC9 (xkI_n fun n16 h14 hvc => ?_) (fun q h hq => xTh_out0 rfl hq)
  obtain ⟨d9, k9, hd9, hk9, hC9⟩ := hvc
  refine xw_callS dX3_shuts_35 px_X3_sizeOf pm_X3_sizeOf q3183 q3184 (As := [xi n16]) (rest := []) rfl rfl (Nat.le_of_ble_eq_true rfl) hd9 hk9 hC9 (xkI_n fun n19 h17 hvc => ?_) (fun q h hq => xTh_out0 rfl hq)
  exact xw_iret dX3_shuts_38 rfl hvc

theorem vc_X3_sizeOf {G : xG} {d K : Nat} {Q : xR → xH → Prop} {h : xH} {x1 : Int32}
    (hvc : xWp G mX3_sizeOf d K Q K 4 [some (xi x1), some (xi (0 : Int32)), some (xi (0 : Int32))] [] h) : xCn G mX3_sizeOf d K [xi x1] h Q := by
  refine xCn_of px_X3_sizeOf rfl rfl (Nat.le_of_ble_eq_true rfl) ?_
  show xWp G mX3_sizeOf d K Q K 0 [some (xi x1), none, none] [] h
  refine xw_iconst (0 : Int32) dX3_sizeOf_0 (by decide) ?_
  refine xw_istore_n dX3_sizeOf_1 (Nat.le_of_ble_eq_true rfl) (L9 := [some (xi x1), some (xi (0 : Int32)), none]) rfl ?_
  refine xw_iconst (0 : Int32) dX3_sizeOf_2 (by decide) ?_
  refine xw_istore_n dX3_sizeOf_3 (Nat.le_of_ble_eq_true rfl) (L9 := [some (xi x1), some (xi (0 : Int32)), some (xi (0 : Int32))]) rfl ?_
  exact hvc

theorem vc_X3_sizeOf_4 {G : xG} {d K k : Nat} {Q : xR → xH → Prop} {h : xH} {x0 : Int32} {x1 : Int32} {x2 : Int32}
    (hvc : (((6 : Int32) ≤ x2 → Q (.inl (some (xi x1))) h) ∧ (¬ (6 : Int32) ≤ x2 → xWp G mX3_sizeOf d K Q k 4 [some (xi x0), some (xi (x1 + ((x0 >>> (x2 &&& 31)) &&& (1 : Int32)))), some (xi (x2 + (1 : Int32)))] [] h))) : xWp G mX3_sizeOf d K Q k 4 [some (xi x0), some (xi x1), some (xi x2)] [] h := by
  refine xw_iload_n dX3_sizeOf_4 rfl ?_
  refine xw_bipush (6 : Int32) dX3_sizeOf_5 (by decide) ?_
  refine xw_icmp_ge 24 dX3_sizeOf_7 rfl (fun hc => ?_) (fun hc => ?_)
  · replace hvc := hvc.1 hc
    refine xw_iload_n dX3_sizeOf_24 rfl ?_
    exact xw_iret dX3_sizeOf_25 rfl hvc
  · replace hvc := hvc.2 hc
    refine xw_iload_n dX3_sizeOf_10 rfl ?_
    refine xw_iload_n dX3_sizeOf_11 rfl ?_
    refine xw_iload_n dX3_sizeOf_12 rfl ?_
    refine xw_ishr dX3_sizeOf_13 ?_
    refine xw_iconst (1 : Int32) dX3_sizeOf_14 (by decide) ?_
    refine xw_iand dX3_sizeOf_15 ?_
    refine xw_iadd dX3_sizeOf_16 ?_
    refine xw_istore_n dX3_sizeOf_17 (Nat.le_of_ble_eq_true rfl) (L9 := [some (xi x0), some (xi (x1 + ((x0 >>> (x2 &&& 31)) &&& (1 : Int32)))), some (xi x2)]) rfl ?_
    refine xw_iinc (1 : Int32) dX3_sizeOf_18 rfl (by decide) (Nat.le_of_ble_eq_true rfl) (L9 := [some (xi x0), some (xi (x1 + ((x0 >>> (x2 &&& 31)) &&& (1 : Int32)))), some (xi (x2 + (1 : Int32)))]) rfl ?_
    refine xw_goto 4 dX3_sizeOf_21 rfl ?_
    exact hvc

theorem vc_X3_pump {G : xG} {d K : Nat} {Q : xR → xH → Prop} {h : xH} {this : Nat} {x1 : Int32}
    (hvc : xcls h this = 6 ∧ xCall G d K mX3_notPump [xr (some this), xi x1] h (xkI (fun n3 h1 k2 => ((n3 = 0 → xcls h1 this = 6 ∧ xCall G d k2 mX3_remembers [xr (some this)] h1 (xkV (fun h4 k5 => xcls h4 this = 6 ∧ xCall G d k5 mX3_pumps [xr (some this), xi x1] h4 (xkI (fun n8 h6 k7 => Q (.inl (some (xi n8))) h6) (fun q h _ => Q (.inr q) h))) (fun q h _ => Q (.inr q) h))) ∧ (¬ n3 = 0 → xcls h1 this = 6 ∧ xCall G d k2 mX3_refuses [xr (some this), xi n3] h1 (xkI (fun n11 h9 k10 => Q (.inl (some (xi n11))) h9) (fun q h _ => Q (.inr q) h))))) (fun q h _ => Q (.inr q) h))) : xCn G mX3_pump d K [xr (some this), xi x1] h Q := by
  refine xCn_of px_X3_pump rfl rfl (Nat.le_of_ble_eq_true rfl) ?_
  show xWp G mX3_pump d K Q K 0 [some (xr (some this)), some (xi x1), none] [] h
  refine xw_aload_n dX3_pump_0 rfl ?_
  refine xw_iload_n dX3_pump_1 rfl ?_
  obtain ⟨hcK, hvc⟩ := hvc
  obtain ⟨d9, k9, hd9, hk9, hC9⟩ := hvc
  refine xw_callV dX3_pump_2 px_X3_notPump pm_X3_notPump q3190 q3192 qs66 hcX3 hcK (As := [xi x1]) (rest := []) rfl rfl (Nat.le_of_ble_eq_true rfl) hd9 hk9 hC9 (xkI_n fun n3 h1 hvc => ?_) (fun q h hq => xTh_out0 rfl hq)
  refine xw_istore_n dX3_pump_5 (Nat.le_of_ble_eq_true rfl) (L9 := [some (xr (some this)), some (xi x1), some (xi n3)]) rfl ?_
  refine xw_iload_n dX3_pump_6 rfl ?_
  refine xw_if_eq 16 dX3_pump_7 rfl (fun hc => ?_) (fun hc => ?_)
  · replace hvc := hvc.1 hc
    refine xw_aload_n dX3_pump_16 rfl ?_
    obtain ⟨hcK, hvc⟩ := hvc
    obtain ⟨d9, k9, hd9, hk9, hC9⟩ := hvc
    refine xw_callV dX3_pump_17 px_X3_remembers pm_X3_remembers q3081 q3083 qs45 hcX3 hcK (As := []) (rest := []) rfl rfl (Nat.le_of_ble_eq_true rfl) hd9 hk9 hC9 (xkV_n fun h4 hvc => ?_) (fun q h hq => xTh_out0 rfl hq)
    refine xw_aload_n dX3_pump_20 rfl ?_
    refine xw_iload_n dX3_pump_21 rfl ?_
    obtain ⟨hcK, hvc⟩ := hvc
    obtain ⟨d9, k9, hd9, hk9, hC9⟩ := hvc
    refine xw_callV dX3_pump_22 px_X3_pumps pm_X3_pumps q3198 q3200 qs68 hcX3 hcK (As := [xi x1]) (rest := []) rfl rfl (Nat.le_of_ble_eq_true rfl) hd9 hk9 hC9 (xkI_n fun n8 h6 hvc => ?_) (fun q h hq => xTh_out0 rfl hq)
    exact xw_iret dX3_pump_25 rfl hvc
  · replace hvc := hvc.2 hc
    refine xw_aload_n dX3_pump_10 rfl ?_
    refine xw_iload_n dX3_pump_11 rfl ?_
    obtain ⟨hcK, hvc⟩ := hvc
    obtain ⟨d9, k9, hd9, hk9, hC9⟩ := hvc
    refine xw_callV dX3_pump_12 px_X3_refuses pm_X3_refuses q3073 q3075 qs43 hcX3 hcK (As := [xi n3]) (rest := []) rfl rfl (Nat.le_of_ble_eq_true rfl) hd9 hk9 hC9 (xkI_n fun n11 h9 hvc => ?_) (fun q h hq => xTh_out0 rfl hq)
    exact xw_iret dX3_pump_15 rfl hvc

theorem vc_X3_notPump {G : xG} {d K : Nat} {Q : xR → xH → Prop} {h : xH} {this : Nat} {x1 : Int32}
    (hvc : xcls h this = 6 ∧ xCall G d K mX3_isSite [xr (some this), xi x1] h (xkI (fun n3 h1 k2 => ((¬ n3 = 0 → xcls h1 this = 6 ∧ xCall G d k2 mX3_isWell [xr (some this), xi x1] h1 (xkI (fun n6 h4 k5 => ((¬ n6 = 0 → xcls h4 this = 6 ∧ xCall G d k5 mX3_hasPump [xr (some this), xi x1] h4 (xkI (fun n9 h7 k8 => ((n9 = 0 → xcls h7 this = 6 ∧ ∃ o10 : Option Nat, xval h7 this 4 = xr o10 ∧ ∃ a11, o10 = some a11 ∧ xcls h7 a11 = 1003 ∧ ∃ i12 : Nat, (4 : Int32) = nI i12 ∧ i12 < 2147483648 ∧ i12 < xlen h7 a11 ∧ ∃ n13 : Int32, xval h7 a11 i12 = xi n13 ∧ ((¬ n13 = 0 → Q (.inl (some (xi (0 : Int32)))) h7) ∧ (n13 = 0 → xcls h7 this = 6 ∧ xCall G d k8 mX3_isNot [xr (some this), xi (8 : Int32), xi (3 : Int32)] h7 (xkI (fun n16 h14 k15 => Q (.inl (some (xi n16))) h14) (fun q h _ => Q (.inr q) h))))) ∧ (¬ n9 = 0 → xcls h7 this = 6 ∧ ∃ o17 : Option Nat, xval h7 this 4 = xr o17 ∧ ∃ a18, o17 = some a18 ∧ xcls h7 a18 = 1003 ∧ ∃ i19 : Nat, (4 : Int32) = nI i19 ∧ i19 < 2147483648 ∧ i19 < xlen h7 a18 ∧ ∃ n20 : Int32, xval h7 a18 i19 = xi n20 ∧ xcls h7 this = 6 ∧ xCall G d k8 mX3_isNot [xr (some this), xi (6 : Int32), xi n20] h7 (xkI (fun n23 h21 k22 => Q (.inl (some (xi n23))) h21) (fun q h _ => Q (.inr q) h))))) (fun q h _ => Q (.inr q) h))) ∧ (n6 = 0 → xcls h4 this = 6 ∧ xCall G d k5 mX3_siteIs [xr (some this), xi x1, xi (4 : Int32)] h4 (xkI (fun n26 h24 k25 => xcls h24 this = 6 ∧ xCall G d k25 mX3_isNot [xr (some this), xi (4 : Int32), xi n26] h24 (xkI (fun n29 h27 k28 => Q (.inl (some (xi n29))) h27) (fun q h _ => Q (.inr q) h))) (fun q h _ => Q (.inr q) h))))) (fun q h _ => Q (.inr q) h))) ∧ (n3 = 0 → Q (.inl (some (xi (-1 : Int32)))) h1))) (fun q h _ => Q (.inr q) h))) : xCn G mX3_notPump d K [xr (some this), xi x1] h Q := by
  refine xCn_of px_X3_notPump rfl rfl (Nat.le_of_ble_eq_true rfl) ?_
  show xWp G mX3_notPump d K Q K 0 [some (xr (some this)), some (xi x1)] [] h
  refine xw_aload_n dX3_notPump_0 rfl ?_
  refine xw_iload_n dX3_notPump_1 rfl ?_
  obtain ⟨hcK, hvc⟩ := hvc
  obtain ⟨d9, k9, hd9, hk9, hC9⟩ := hvc
  refine xw_callV dX3_notPump_2 px_X3_isSite pm_X3_isSite q3129 q3131 qs55 hcX3 hcK (As := [xi x1]) (rest := []) rfl rfl (Nat.le_of_ble_eq_true rfl) hd9 hk9 hC9 (xkI_n fun n3 h1 hvc => ?_) (fun q h hq => xTh_out0 rfl hq)
  refine xw_if_ne 10 dX3_notPump_5 rfl (fun hc => ?_) (fun hc => ?_)
  · replace hvc := hvc.1 hc
    refine xw_aload_n dX3_notPump_10 rfl ?_
    refine xw_iload_n dX3_notPump_11 rfl ?_
    obtain ⟨hcK, hvc⟩ := hvc
    obtain ⟨d9, k9, hd9, hk9, hC9⟩ := hvc
    refine xw_callV dX3_notPump_12 px_X3_isWell pm_X3_isWell q3133 q3135 qs56 hcX3 hcK (As := [xi x1]) (rest := []) rfl rfl (Nat.le_of_ble_eq_true rfl) hd9 hk9 hC9 (xkI_n fun n6 h4 hvc => ?_) (fun q h hq => xTh_out0 rfl hq)
    refine xw_if_ne 30 dX3_notPump_15 rfl (fun hc => ?_) (fun hc => ?_)
    · replace hvc := hvc.1 hc
      refine xw_aload_n dX3_notPump_30 rfl ?_
      refine xw_iload_n dX3_notPump_31 rfl ?_
      obtain ⟨hcK, hvc⟩ := hvc
      obtain ⟨d9, k9, hd9, hk9, hC9⟩ := hvc
      refine xw_callV dX3_notPump_32 px_X3_hasPump pm_X3_hasPump q3194 q3196 qs67 hcX3 hcK (As := [xi x1]) (rest := []) rfl rfl (Nat.le_of_ble_eq_true rfl) hd9 hk9 hC9 (xkI_n fun n9 h7 hvc => ?_) (fun q h hq => xTh_out0 rfl hq)
      refine xw_if_eq 51 dX3_notPump_35 rfl (fun hc => ?_) (fun hc => ?_)
      · replace hvc := hvc.1 hc
        refine xw_aload_n dX3_notPump_51 rfl ?_
        obtain ⟨hcK, o10, hvK, hvc⟩ := hvc
        refine xw_get dX3_notPump_52 hcX3 in_X3 (kf := 4) (by decide) q2983 (fun _ _ _ _ z => z) hcK hvK ?_
        refine xw_iconst (4 : Int32) dX3_notPump_55 (by decide) ?_
        obtain ⟨a11, ho, hvc⟩ := hvc
        subst ho
        obtain ⟨hcK, i12, hx9, hb9, hi9, n13, hv9, hvc⟩ := hvc
        refine xw_iald (j := 3) dX3_notPump_56 rfl hcK hx9 hb9 hi9 hv9 ?_
        refine xw_if_ne 70 dX3_notPump_57 rfl (fun hc => ?_) (fun hc => ?_)
        · replace hvc := hvc.1 hc
          refine xw_iconst (0 : Int32) dX3_notPump_70 (by decide) ?_
          exact xw_iret dX3_notPump_71 rfl hvc
        · replace hvc := hvc.2 hc
          refine xw_aload_n dX3_notPump_60 rfl ?_
          refine xw_bipush (8 : Int32) dX3_notPump_61 (by decide) ?_
          refine xw_iconst (3 : Int32) dX3_notPump_63 (by decide) ?_
          obtain ⟨hcK, hvc⟩ := hvc
          obtain ⟨d9, k9, hd9, hk9, hC9⟩ := hvc
          refine xw_callV dX3_notPump_64 px_X3_isNot pm_X3_isNot q3061 q3063 qs40 hcX3 hcK (As := [xi (8 : Int32), xi (3 : Int32)]) (rest := []) rfl rfl (Nat.le_of_ble_eq_true rfl) hd9 hk9 hC9 (xkI_n fun n16 h14 hvc => ?_) (fun q h hq => xTh_out0 rfl hq)
          refine xw_goto 71 dX3_notPump_67 rfl ?_
          exact xw_iret dX3_notPump_71 rfl hvc
      · replace hvc := hvc.2 hc
        refine xw_aload_n dX3_notPump_38 rfl ?_
        refine xw_bipush (6 : Int32) dX3_notPump_39 (by decide) ?_
        refine xw_aload_n dX3_notPump_41 rfl ?_
        obtain ⟨hcK, o17, hvK, hvc⟩ := hvc
        refine xw_get dX3_notPump_42 hcX3 in_X3 (kf := 4) (by decide) q2983 (fun _ _ _ _ z => z) hcK hvK ?_
        refine xw_iconst (4 : Int32) dX3_notPump_45 (by decide) ?_
        obtain ⟨a18, ho, hvc⟩ := hvc
        subst ho
        obtain ⟨hcK, i19, hx9, hb9, hi9, n20, hv9, hvc⟩ := hvc
        refine xw_iald (j := 3) dX3_notPump_46 rfl hcK hx9 hb9 hi9 hv9 ?_
        obtain ⟨hcK, hvc⟩ := hvc
        obtain ⟨d9, k9, hd9, hk9, hC9⟩ := hvc
        refine xw_callV dX3_notPump_47 px_X3_isNot pm_X3_isNot q3061 q3063 qs40 hcX3 hcK (As := [xi (6 : Int32), xi n20]) (rest := []) rfl rfl (Nat.le_of_ble_eq_true rfl) hd9 hk9 hC9 (xkI_n fun n23 h21 hvc => ?_) (fun q h hq => xTh_out0 rfl hq)
        exact xw_iret dX3_notPump_50 rfl hvc
    · replace hvc := hvc.2 hc
      refine xw_aload_n dX3_notPump_18 rfl ?_
      refine xw_iconst (4 : Int32) dX3_notPump_19 (by decide) ?_
      refine xw_aload_n dX3_notPump_20 rfl ?_
      refine xw_iload_n dX3_notPump_21 rfl ?_
      refine xw_iconst (4 : Int32) dX3_notPump_22 (by decide) ?_
      obtain ⟨hcK, hvc⟩ := hvc
      obtain ⟨d9, k9, hd9, hk9, hC9⟩ := hvc
      refine xw_callV dX3_notPump_23 px_X3_siteIs pm_X3_siteIs q3109 q3111 qs51 hcX3 hcK (As := [xi x1, xi (4 : Int32)]) (rest := [xi (4 : Int32), xr (some this)]) rfl rfl (Nat.le_of_ble_eq_true rfl) hd9 hk9 hC9 (xkI_n fun n26 h24 hvc => ?_) (fun q h hq => xTh_out0 rfl hq)
      obtain ⟨hcK, hvc⟩ := hvc
      obtain ⟨d9, k9, hd9, hk9, hC9⟩ := hvc
      refine xw_callV dX3_notPump_26 px_X3_isNot pm_X3_isNot q3061 q3063 qs40 hcX3 hcK (As := [xi (4 : Int32), xi n26]) (rest := []) rfl rfl (Nat.le_of_ble_eq_true rfl) hd9 hk9 hC9 (xkI_n fun n29 h27 hvc => ?_) (fun q h hq => xTh_out0 rfl hq)
      exact xw_iret dX3_notPump_29 rfl hvc
  · replace hvc := hvc.2 hc
    refine xw_iconst (-1 : Int32) dX3_notPump_8 (by decide) ?_
    exact xw_iret dX3_notPump_9 rfl hvc

theorem vc_X3_hasPump {G : xG} {d K : Nat} {Q : xR → xH → Prop} {h : xH} {this : Nat} {x1 : Int32}
    (hvc : xcls h this = 6 ∧ xCall G d K mX3_siteIs [xr (some this), xi x1, xi (6 : Int32)] h (xkI (fun n3 h1 k2 => ((¬ n3 = (1 : Int32) → Q (.inl (some (xi (0 : Int32)))) h1) ∧ (n3 = (1 : Int32) → Q (.inl (some (xi (1 : Int32)))) h1))) (fun q h _ => Q (.inr q) h))) : xCn G mX3_hasPump d K [xr (some this), xi x1] h Q := by
  refine xCn_of px_X3_hasPump rfl rfl (Nat.le_of_ble_eq_true rfl) ?_
  show xWp G mX3_hasPump d K Q K 0 [some (xr (some this)), some (xi x1)] [] h
  refine xw_aload_n dX3_hasPump_0 rfl ?_
  refine xw_iload_n dX3_hasPump_1 rfl ?_
  refine xw_bipush (6 : Int32) dX3_hasPump_2 (by decide) ?_
  obtain ⟨hcK, hvc⟩ := hvc
  obtain ⟨d9, k9, hd9, hk9, hC9⟩ := hvc
  refine xw_callV dX3_hasPump_4 px_X3_siteIs pm_X3_siteIs q3109 q3111 qs51 hcX3 hcK (As := [xi x1, xi (6 : Int32)]) (rest := []) rfl rfl (Nat.le_of_ble_eq_true rfl) hd9 hk9 hC9 (xkI_n fun n3 h1 hvc => ?_) (fun q h hq => xTh_out0 rfl hq)
  refine xw_iconst (1 : Int32) dX3_hasPump_7 (by decide) ?_
  refine xw_icmp_ne 15 dX3_hasPump_8 rfl (fun hc => ?_) (fun hc => ?_)
  · replace hvc := hvc.1 hc
    refine xw_iconst (0 : Int32) dX3_hasPump_15 (by decide) ?_
    exact xw_zret dX3_hasPump_16 rfl rfl hvc
  · replace hvc := hvc.2 hc
    refine xw_iconst (1 : Int32) dX3_hasPump_11 (by decide) ?_
    refine xw_goto 16 dX3_hasPump_12 rfl ?_
    exact xw_zret dX3_hasPump_16 rfl rfl hvc

theorem vc_X3_pumps {G : xG} {d K : Nat} {Q : xR → xH → Prop} {h : xH} {this : Nat} {x1 : Int32}
    (hvc : xcls h this = 6 ∧ ∃ o1 : Option Nat, xval h this 4 = xr o1 ∧ ∃ a2, o1 = some a2 ∧ xcls h a2 = 1003 ∧ ∃ i3 : Nat, (4 : Int32) = nI i3 ∧ i3 < 2147483648 ∧ i3 < xlen h a2 ∧ ∃ n4 : Int32, xval h a2 i3 = xi n4 ∧ xcls h a2 = 1003 ∧ ∃ i5 : Nat, (4 : Int32) = nI i5 ∧ i5 < 2147483648 ∧ i5 < xlen h a2 ∧ ∀ h6 : xH, h6 = xput h a2 i5 (xi (n4 - (1 : Int32))) → xcls h6 this = 6 ∧ xCall G d K mX3_setsSite [xr (some this), xi x1, xi (6 : Int32), xi (1 : Int32)] h6 (xkV (fun h7 k8 => xcls h7 this = 6 ∧ xCall G d k8 mX3_gives [xr (some this), xi x1] h7 (xkI (fun n11 h9 k10 => Q (.inl (some (xi n11))) h9) (fun q h _ => Q (.inr q) h))) (fun q h _ => Q (.inr q) h))) : xCn G mX3_pumps d K [xr (some this), xi x1] h Q := by
  refine xCn_of px_X3_pumps rfl rfl (Nat.le_of_ble_eq_true rfl) ?_
  show xWp G mX3_pumps d K Q K 0 [some (xr (some this)), some (xi x1)] [] h
  refine xw_aload_n dX3_pumps_0 rfl ?_
  obtain ⟨hcK, o1, hvK, hvc⟩ := hvc
  refine xw_get dX3_pumps_1 hcX3 in_X3 (kf := 4) (by decide) q2983 (fun _ _ _ _ z => z) hcK hvK ?_
  refine xw_iconst (4 : Int32) dX3_pumps_4 (by decide) ?_
  refine xw_dup2 dX3_pumps_5 rfl rfl ?_
  obtain ⟨a2, ho, hvc⟩ := hvc
  subst ho
  obtain ⟨hcK, i3, hx9, hb9, hi9, n4, hv9, hvc⟩ := hvc
  refine xw_iald (j := 3) dX3_pumps_6 rfl hcK hx9 hb9 hi9 hv9 ?_
  refine xw_iconst (1 : Int32) dX3_pumps_7 (by decide) ?_
  refine xw_isub dX3_pumps_8 ?_
  obtain ⟨hcK, i5, hx9, hb9, hi9, hvc⟩ := hvc
  refine xw_iast (j := 3) dX3_pumps_9 rfl hcK (Or.inl rfl) hx9 hb9 hi9 (fun h6 eh9 => ?_)
  replace hvc := hvc h6 eh9
  refine xw_aload_n dX3_pumps_10 rfl ?_
  refine xw_iload_n dX3_pumps_11 rfl ?_
  refine xw_bipush (6 : Int32) dX3_pumps_12 (by decide) ?_
  refine xw_iconst (1 : Int32) dX3_pumps_14 (by decide) ?_
  obtain ⟨hcK, hvc⟩ := hvc
  obtain ⟨d9, k9, hd9, hk9, hC9⟩ := hvc
  refine xw_callV dX3_pumps_15 px_X3_setsSite pm_X3_setsSite q3117 q3119 qs53 hcX3 hcK (As := [xi x1, xi (6 : Int32), xi (1 : Int32)]) (rest := []) rfl rfl (Nat.le_of_ble_eq_true rfl) hd9 hk9 hC9 (xkV_n fun h7 hvc => ?_) (fun q h hq => xTh_out0 rfl hq)
  refine xw_aload_n dX3_pumps_18 rfl ?_
  refine xw_iload_n dX3_pumps_19 rfl ?_
  obtain ⟨hcK, hvc⟩ := hvc
  obtain ⟨d9, k9, hd9, hk9, hC9⟩ := hvc
  refine xw_callV dX3_pumps_20 px_X3_gives pm_X3_gives q3202 q3204 qs69 hcX3 hcK (As := [xi x1]) (rest := []) rfl rfl (Nat.le_of_ble_eq_true rfl) hd9 hk9 hC9 (xkI_n fun n11 h9 hvc => ?_) (fun q h hq => xTh_out0 rfl hq)
  exact xw_iret dX3_pumps_23 rfl hvc

theorem vc_X3_gives {G : xG} {d K : Nat} {Q : xR → xH → Prop} {h : xH} {this : Nat} {x1 : Int32}
    (hvc : xcls h this = 6 ∧ xCall G d K mX3_hasPump [xr (some this), xi x1] h (xkI (fun n3 h1 k2 => ((n3 = 0 → xcls h1 this = 6 ∧ xCall G d k2 mX3_siteIs [xr (some this), xi x1, xi (3 : Int32)] h1 (xkI (fun n6 h4 k5 => ((0 ≤ ((10 : Int32) - (n6 / (4 : Int32))) → Q (.inl (some (xi ((10 : Int32) - (n6 / (4 : Int32)))))) h4) ∧ (¬ 0 ≤ ((10 : Int32) - (n6 / (4 : Int32))) → Q (.inl (some (xi (0 : Int32)))) h4))) (fun q h _ => Q (.inr q) h))) ∧ (¬ n3 = 0 → xcls h1 this = 6 ∧ xCall G d k2 mX3_siteIs [xr (some this), xi x1, xi (3 : Int32)] h1 (xkI (fun n9 h7 k8 => ((0 ≤ ((40 : Int32) - n9) → Q (.inl (some (xi ((40 : Int32) - n9)))) h7) ∧ (¬ 0 ≤ ((40 : Int32) - n9) → Q (.inl (some (xi (0 : Int32)))) h7))) (fun q h _ => Q (.inr q) h))))) (fun q h _ => Q (.inr q) h))) : xCn G mX3_gives d K [xr (some this), xi x1] h Q := by
  refine xCn_of px_X3_gives rfl rfl (Nat.le_of_ble_eq_true rfl) ?_
  show xWp G mX3_gives d K Q K 0 [some (xr (some this)), some (xi x1), none] [] h
  refine xw_aload_n dX3_gives_0 rfl ?_
  refine xw_iload_n dX3_gives_1 rfl ?_
  obtain ⟨hcK, hvc⟩ := hvc
  obtain ⟨d9, k9, hd9, hk9, hC9⟩ := hvc
  refine xw_callV dX3_gives_2 px_X3_hasPump pm_X3_hasPump q3194 q3196 qs67 hcX3 hcK (As := [xi x1]) (rest := []) rfl rfl (Nat.le_of_ble_eq_true rfl) hd9 hk9 hC9 (xkI_n fun n3 h1 hvc => ?_) (fun q h hq => xTh_out0 rfl hq)
  refine xw_if_eq 20 dX3_gives_5 rfl (fun hc => ?_) (fun hc => ?_)
  · replace hvc := hvc.1 hc
    refine xw_bipush (10 : Int32) dX3_gives_20 (by decide) ?_
    refine xw_aload_n dX3_gives_22 rfl ?_
    refine xw_iload_n dX3_gives_23 rfl ?_
    refine xw_iconst (3 : Int32) dX3_gives_24 (by decide) ?_
    obtain ⟨hcK, hvc⟩ := hvc
    obtain ⟨d9, k9, hd9, hk9, hC9⟩ := hvc
    refine xw_callV dX3_gives_25 px_X3_siteIs pm_X3_siteIs q3109 q3111 qs51 hcX3 hcK (As := [xi x1, xi (3 : Int32)]) (rest := [xi (10 : Int32)]) rfl rfl (Nat.le_of_ble_eq_true rfl) hd9 hk9 hC9 (xkI_n fun n6 h4 hvc => ?_) (fun q h hq => xTh_out0 rfl hq)
    refine xw_iconst (4 : Int32) dX3_gives_28 (by decide) ?_
    refine xw_idiv dX3_gives_29 (by decide) ?_
    refine xw_isub dX3_gives_30 ?_
    refine xw_istore_n dX3_gives_31 (Nat.le_of_ble_eq_true rfl) (L9 := [some (xr (some this)), some (xi x1), some (xi ((10 : Int32) - (n6 / (4 : Int32))))]) rfl ?_
    refine xw_iload_n dX3_gives_32 rfl ?_
    refine xw_if_ge 40 dX3_gives_33 rfl (fun hc => ?_) (fun hc => ?_)
    · replace hvc := hvc.1 hc
      refine xw_iload_n dX3_gives_40 rfl ?_
      exact xw_iret dX3_gives_41 rfl hvc
    · replace hvc := hvc.2 hc
      refine xw_iconst (0 : Int32) dX3_gives_36 (by decide) ?_
      refine xw_goto 41 dX3_gives_37 rfl ?_
      exact xw_iret dX3_gives_41 rfl hvc
  · replace hvc := hvc.2 hc
    refine xw_bipush (40 : Int32) dX3_gives_8 (by decide) ?_
    refine xw_aload_n dX3_gives_10 rfl ?_
    refine xw_iload_n dX3_gives_11 rfl ?_
    refine xw_iconst (3 : Int32) dX3_gives_12 (by decide) ?_
    obtain ⟨hcK, hvc⟩ := hvc
    obtain ⟨d9, k9, hd9, hk9, hC9⟩ := hvc
    refine xw_callV dX3_gives_13 px_X3_siteIs pm_X3_siteIs q3109 q3111 qs51 hcX3 hcK (As := [xi x1, xi (3 : Int32)]) (rest := [xi (40 : Int32)]) rfl rfl (Nat.le_of_ble_eq_true rfl) hd9 hk9 hC9 (xkI_n fun n9 h7 hvc => ?_) (fun q h hq => xTh_out0 rfl hq)
    refine xw_isub dX3_gives_16 ?_
    refine xw_goto 31 dX3_gives_17 rfl ?_
    refine xw_istore_n dX3_gives_31 (Nat.le_of_ble_eq_true rfl) (L9 := [some (xr (some this)), some (xi x1), some (xi ((40 : Int32) - n9))]) rfl ?_
    refine xw_iload_n dX3_gives_32 rfl ?_
    refine xw_if_ge 40 dX3_gives_33 rfl (fun hc => ?_) (fun hc => ?_)
    · replace hvc := hvc.1 hc
      refine xw_iload_n dX3_gives_40 rfl ?_
      exact xw_iret dX3_gives_41 rfl hvc
    · replace hvc := hvc.2 hc
      refine xw_iconst (0 : Int32) dX3_gives_36 (by decide) ?_
      refine xw_goto 41 dX3_gives_37 rfl ?_
      exact xw_iret dX3_gives_41 rfl hvc

theorem vc_X3_unpump {G : xG} {d K : Nat} {Q : xR → xH → Prop} {h : xH} {this : Nat} {x1 : Int32}
    (hvc : xcls h this = 6 ∧ xCall G d K mX3_notUnpump [xr (some this), xi x1] h (xkI (fun n3 h1 k2 => ((n3 = 0 → xcls h1 this = 6 ∧ xCall G d k2 mX3_remembers [xr (some this)] h1 (xkV (fun h4 k5 => xcls h4 this = 6 ∧ xCall G d k5 mX3_setsSite [xr (some this), xi x1, xi (6 : Int32), xi (0 : Int32)] h4 (xkV (fun h6 k7 => xcls h6 this = 6 ∧ ∃ o8 : Option Nat, xval h6 this 4 = xr o8 ∧ ∃ a9, o8 = some a9 ∧ xcls h6 a9 = 1003 ∧ ∃ i10 : Nat, (4 : Int32) = nI i10 ∧ i10 < 2147483648 ∧ i10 < xlen h6 a9 ∧ ∃ n11 : Int32, xval h6 a9 i10 = xi n11 ∧ xcls h6 a9 = 1003 ∧ ∃ i12 : Nat, (4 : Int32) = nI i12 ∧ i12 < 2147483648 ∧ i12 < xlen h6 a9 ∧ ∀ h13 : xH, h13 = xput h6 a9 i12 (xi (n11 + (1 : Int32))) → xcls h13 this = 6 ∧ ∃ o14 : Option Nat, xval h13 this 4 = xr o14 ∧ ∃ a15, o14 = some a15 ∧ xcls h13 a15 = 1003 ∧ ∃ i16 : Nat, (4 : Int32) = nI i16 ∧ i16 < 2147483648 ∧ i16 < xlen h13 a15 ∧ ∃ n17 : Int32, xval h13 a15 i16 = xi n17 ∧ Q (.inl (some (xi n17))) h13) (fun q h _ => Q (.inr q) h))) (fun q h _ => Q (.inr q) h))) ∧ (¬ n3 = 0 → xcls h1 this = 6 ∧ xCall G d k2 mX3_refuses [xr (some this), xi n3] h1 (xkI (fun n20 h18 k19 => Q (.inl (some (xi n20))) h18) (fun q h _ => Q (.inr q) h))))) (fun q h _ => Q (.inr q) h))) : xCn G mX3_unpump d K [xr (some this), xi x1] h Q := by
  refine xCn_of px_X3_unpump rfl rfl (Nat.le_of_ble_eq_true rfl) ?_
  show xWp G mX3_unpump d K Q K 0 [some (xr (some this)), some (xi x1), none] [] h
  refine xw_aload_n dX3_unpump_0 rfl ?_
  refine xw_iload_n dX3_unpump_1 rfl ?_
  obtain ⟨hcK, hvc⟩ := hvc
  obtain ⟨d9, k9, hd9, hk9, hC9⟩ := hvc
  refine xw_callV dX3_unpump_2 px_X3_notUnpump pm_X3_notUnpump q3210 q3212 qs70 hcX3 hcK (As := [xi x1]) (rest := []) rfl rfl (Nat.le_of_ble_eq_true rfl) hd9 hk9 hC9 (xkI_n fun n3 h1 hvc => ?_) (fun q h hq => xTh_out0 rfl hq)
  refine xw_istore_n dX3_unpump_5 (Nat.le_of_ble_eq_true rfl) (L9 := [some (xr (some this)), some (xi x1), some (xi n3)]) rfl ?_
  refine xw_iload_n dX3_unpump_6 rfl ?_
  refine xw_if_eq 16 dX3_unpump_7 rfl (fun hc => ?_) (fun hc => ?_)
  · replace hvc := hvc.1 hc
    refine xw_aload_n dX3_unpump_16 rfl ?_
    obtain ⟨hcK, hvc⟩ := hvc
    obtain ⟨d9, k9, hd9, hk9, hC9⟩ := hvc
    refine xw_callV dX3_unpump_17 px_X3_remembers pm_X3_remembers q3081 q3083 qs45 hcX3 hcK (As := []) (rest := []) rfl rfl (Nat.le_of_ble_eq_true rfl) hd9 hk9 hC9 (xkV_n fun h4 hvc => ?_) (fun q h hq => xTh_out0 rfl hq)
    refine xw_aload_n dX3_unpump_20 rfl ?_
    refine xw_iload_n dX3_unpump_21 rfl ?_
    refine xw_bipush (6 : Int32) dX3_unpump_22 (by decide) ?_
    refine xw_iconst (0 : Int32) dX3_unpump_24 (by decide) ?_
    obtain ⟨hcK, hvc⟩ := hvc
    obtain ⟨d9, k9, hd9, hk9, hC9⟩ := hvc
    refine xw_callV dX3_unpump_25 px_X3_setsSite pm_X3_setsSite q3117 q3119 qs53 hcX3 hcK (As := [xi x1, xi (6 : Int32), xi (0 : Int32)]) (rest := []) rfl rfl (Nat.le_of_ble_eq_true rfl) hd9 hk9 hC9 (xkV_n fun h6 hvc => ?_) (fun q h hq => xTh_out0 rfl hq)
    refine xw_aload_n dX3_unpump_28 rfl ?_
    obtain ⟨hcK, o8, hvK, hvc⟩ := hvc
    refine xw_get dX3_unpump_29 hcX3 in_X3 (kf := 4) (by decide) q2983 (fun _ _ _ _ z => z) hcK hvK ?_
    refine xw_iconst (4 : Int32) dX3_unpump_32 (by decide) ?_
    refine xw_dup2 dX3_unpump_33 rfl rfl ?_
    obtain ⟨a9, ho, hvc⟩ := hvc
    subst ho
    obtain ⟨hcK, i10, hx9, hb9, hi9, n11, hv9, hvc⟩ := hvc
    refine xw_iald (j := 3) dX3_unpump_34 rfl hcK hx9 hb9 hi9 hv9 ?_
    refine xw_iconst (1 : Int32) dX3_unpump_35 (by decide) ?_
    refine xw_iadd dX3_unpump_36 ?_
    obtain ⟨hcK, i12, hx9, hb9, hi9, hvc⟩ := hvc
    refine xw_iast (j := 3) dX3_unpump_37 rfl hcK (Or.inl rfl) hx9 hb9 hi9 (fun h13 eh9 => ?_)
    replace hvc := hvc h13 eh9
    refine xw_aload_n dX3_unpump_38 rfl ?_
    obtain ⟨hcK, o14, hvK, hvc⟩ := hvc
    refine xw_get dX3_unpump_39 hcX3 in_X3 (kf := 4) (by decide) q2983 (fun _ _ _ _ z => z) hcK hvK ?_
    refine xw_iconst (4 : Int32) dX3_unpump_42 (by decide) ?_
    obtain ⟨a15, ho, hvc⟩ := hvc
    subst ho
    obtain ⟨hcK, i16, hx9, hb9, hi9, n17, hv9, hvc⟩ := hvc
    refine xw_iald (j := 3) dX3_unpump_43 rfl hcK hx9 hb9 hi9 hv9 ?_
    exact xw_iret dX3_unpump_44 rfl hvc
  · replace hvc := hvc.2 hc
    refine xw_aload_n dX3_unpump_10 rfl ?_
    refine xw_iload_n dX3_unpump_11 rfl ?_
    obtain ⟨hcK, hvc⟩ := hvc
    obtain ⟨d9, k9, hd9, hk9, hC9⟩ := hvc
    refine xw_callV dX3_unpump_12 px_X3_refuses pm_X3_refuses q3073 q3075 qs43 hcX3 hcK (As := [xi n3]) (rest := []) rfl rfl (Nat.le_of_ble_eq_true rfl) hd9 hk9 hC9 (xkI_n fun n20 h18 hvc => ?_) (fun q h hq => xTh_out0 rfl hq)
    exact xw_iret dX3_unpump_15 rfl hvc

theorem vc_X3_notUnpump {G : xG} {d K : Nat} {Q : xR → xH → Prop} {h : xH} {this : Nat} {x1 : Int32}
    (hvc : xcls h this = 6 ∧ xCall G d K mX3_isSite [xr (some this), xi x1] h (xkI (fun n3 h1 k2 => ((¬ n3 = 0 → xcls h1 this = 6 ∧ xCall G d k2 mX3_isWell [xr (some this), xi x1] h1 (xkI (fun n6 h4 k5 => ((¬ n6 = 0 → xcls h4 this = 6 ∧ xCall G d k5 mX3_hasPump [xr (some this), xi x1] h4 (xkI (fun n9 h7 k8 => ((n9 = 0 → xcls h7 this = 6 ∧ xCall G d k8 mX3_isNot [xr (some this), xi (7 : Int32), xi x1] h7 (xkI (fun n12 h10 k11 => Q (.inl (some (xi n12))) h10) (fun q h _ => Q (.inr q) h))) ∧ (¬ n9 = 0 → Q (.inl (some (xi (0 : Int32)))) h7))) (fun q h _ => Q (.inr q) h))) ∧ (n6 = 0 → xcls h4 this = 6 ∧ xCall G d k5 mX3_siteIs [xr (some this), xi x1, xi (4 : Int32)] h4 (xkI (fun n15 h13 k14 => xcls h13 this = 6 ∧ xCall G d k14 mX3_isNot [xr (some this), xi (4 : Int32), xi n15] h13 (xkI (fun n18 h16 k17 => Q (.inl (some (xi n18))) h16) (fun q h _ => Q (.inr q) h))) (fun q h _ => Q (.inr q) h))))) (fun q h _ => Q (.inr q) h))) ∧ (n3 = 0 → Q (.inl (some (xi (-1 : Int32)))) h1))) (fun q h _ => Q (.inr q) h))) : xCn G mX3_notUnpump d K [xr (some this), xi x1] h Q := by
  refine xCn_of px_X3_notUnpump rfl rfl (Nat.le_of_ble_eq_true rfl) ?_
  show xWp G mX3_notUnpump d K Q K 0 [some (xr (some this)), some (xi x1)] [] h
  refine xw_aload_n dX3_notUnpump_0 rfl ?_
  refine xw_iload_n dX3_notUnpump_1 rfl ?_
  obtain ⟨hcK, hvc⟩ := hvc
  obtain ⟨d9, k9, hd9, hk9, hC9⟩ := hvc
  refine xw_callV dX3_notUnpump_2 px_X3_isSite pm_X3_isSite q3129 q3131 qs55 hcX3 hcK (As := [xi x1]) (rest := []) rfl rfl (Nat.le_of_ble_eq_true rfl) hd9 hk9 hC9 (xkI_n fun n3 h1 hvc => ?_) (fun q h hq => xTh_out0 rfl hq)
  refine xw_if_ne 10 dX3_notUnpump_5 rfl (fun hc => ?_) (fun hc => ?_)
  · replace hvc := hvc.1 hc
    refine xw_aload_n dX3_notUnpump_10 rfl ?_
    refine xw_iload_n dX3_notUnpump_11 rfl ?_
    obtain ⟨hcK, hvc⟩ := hvc
    obtain ⟨d9, k9, hd9, hk9, hC9⟩ := hvc
    refine xw_callV dX3_notUnpump_12 px_X3_isWell pm_X3_isWell q3133 q3135 qs56 hcX3 hcK (As := [xi x1]) (rest := []) rfl rfl (Nat.le_of_ble_eq_true rfl) hd9 hk9 hC9 (xkI_n fun n6 h4 hvc => ?_) (fun q h hq => xTh_out0 rfl hq)
    refine xw_if_ne 30 dX3_notUnpump_15 rfl (fun hc => ?_) (fun hc => ?_)
    · replace hvc := hvc.1 hc
      refine xw_aload_n dX3_notUnpump_30 rfl ?_
      refine xw_iload_n dX3_notUnpump_31 rfl ?_
      obtain ⟨hcK, hvc⟩ := hvc
      obtain ⟨d9, k9, hd9, hk9, hC9⟩ := hvc
      refine xw_callV dX3_notUnpump_32 px_X3_hasPump pm_X3_hasPump q3194 q3196 qs67 hcX3 hcK (As := [xi x1]) (rest := []) rfl rfl (Nat.le_of_ble_eq_true rfl) hd9 hk9 hC9 (xkI_n fun n9 h7 hvc => ?_) (fun q h hq => xTh_out0 rfl hq)
      refine xw_if_eq 42 dX3_notUnpump_35 rfl (fun hc => ?_) (fun hc => ?_)
      · replace hvc := hvc.1 hc
        refine xw_aload_n dX3_notUnpump_42 rfl ?_
        refine xw_bipush (7 : Int32) dX3_notUnpump_43 (by decide) ?_
        refine xw_iload_n dX3_notUnpump_45 rfl ?_
        obtain ⟨hcK, hvc⟩ := hvc
        obtain ⟨d9, k9, hd9, hk9, hC9⟩ := hvc
        refine xw_callV dX3_notUnpump_46 px_X3_isNot pm_X3_isNot q3061 q3063 qs40 hcX3 hcK (As := [xi (7 : Int32), xi x1]) (rest := []) rfl rfl (Nat.le_of_ble_eq_true rfl) hd9 hk9 hC9 (xkI_n fun n12 h10 hvc => ?_) (fun q h hq => xTh_out0 rfl hq)
        exact xw_iret dX3_notUnpump_49 rfl hvc
      · replace hvc := hvc.2 hc
        refine xw_iconst (0 : Int32) dX3_notUnpump_38 (by decide) ?_
        refine xw_goto 49 dX3_notUnpump_39 rfl ?_
        exact xw_iret dX3_notUnpump_49 rfl hvc
    · replace hvc := hvc.2 hc
      refine xw_aload_n dX3_notUnpump_18 rfl ?_
      refine xw_iconst (4 : Int32) dX3_notUnpump_19 (by decide) ?_
      refine xw_aload_n dX3_notUnpump_20 rfl ?_
      refine xw_iload_n dX3_notUnpump_21 rfl ?_
      refine xw_iconst (4 : Int32) dX3_notUnpump_22 (by decide) ?_
      obtain ⟨hcK, hvc⟩ := hvc
      obtain ⟨d9, k9, hd9, hk9, hC9⟩ := hvc
      refine xw_callV dX3_notUnpump_23 px_X3_siteIs pm_X3_siteIs q3109 q3111 qs51 hcX3 hcK (As := [xi x1, xi (4 : Int32)]) (rest := [xi (4 : Int32), xr (some this)]) rfl rfl (Nat.le_of_ble_eq_true rfl) hd9 hk9 hC9 (xkI_n fun n15 h13 hvc => ?_) (fun q h hq => xTh_out0 rfl hq)
      obtain ⟨hcK, hvc⟩ := hvc
      obtain ⟨d9, k9, hd9, hk9, hC9⟩ := hvc
      refine xw_callV dX3_notUnpump_26 px_X3_isNot pm_X3_isNot q3061 q3063 qs40 hcX3 hcK (As := [xi (4 : Int32), xi n15]) (rest := []) rfl rfl (Nat.le_of_ble_eq_true rfl) hd9 hk9 hC9 (xkI_n fun n18 h16 hvc => ?_) (fun q h hq => xTh_out0 rfl hq)
      exact xw_iret dX3_notUnpump_29 rfl hvc
  · replace hvc := hvc.2 hc
    refine xw_iconst (-1 : Int32) dX3_notUnpump_8 (by decide) ?_
    exact xw_iret dX3_notUnpump_9 rfl hvc

theorem vc_X3_move {G : xG} {d K : Nat} {Q : xR → xH → Prop} {h : xH} {this : Nat} {x1 : Int32} {x2 : Int32}
    (hvc : xcls h this = 6 ∧ xCall G d K mX3_notMove [xr (some this), xi x1, xi x2] h (xkI (fun n3 h1 k2 => ((n3 = 0 → xcls h1 this = 6 ∧ xCall G d k2 mX3_remembers [xr (some this)] h1 (xkV (fun h4 k5 => xcls h4 this = 6 ∧ xCall G d k5 mX3_moves [xr (some this), xi x1, xi x2] h4 (xkI (fun n8 h6 k7 => Q (.inl (some (xi n8))) h6) (fun q h _ => Q (.inr q) h))) (fun q h _ => Q (.inr q) h))) ∧ (¬ n3 = 0 → xcls h1 this = 6 ∧ xCall G d k2 mX3_refuses [xr (some this), xi n3] h1 (xkI (fun n11 h9 k10 => Q (.inl (some (xi n11))) h9) (fun q h _ => Q (.inr q) h))))) (fun q h _ => Q (.inr q) h))) : xCn G mX3_move d K [xr (some this), xi x1, xi x2] h Q := by
  refine xCn_of px_X3_move rfl rfl (Nat.le_of_ble_eq_true rfl) ?_
  show xWp G mX3_move d K Q K 0 [some (xr (some this)), some (xi x1), some (xi x2), none] [] h
  refine xw_aload_n dX3_move_0 rfl ?_
  refine xw_iload_n dX3_move_1 rfl ?_
  refine xw_iload_n dX3_move_2 rfl ?_
  obtain ⟨hcK, hvc⟩ := hvc
  obtain ⟨d9, k9, hd9, hk9, hC9⟩ := hvc
  refine xw_callV dX3_move_3 px_X3_notMove pm_X3_notMove q3218 q3220 qs71 hcX3 hcK (As := [xi x1, xi x2]) (rest := []) rfl rfl (Nat.le_of_ble_eq_true rfl) hd9 hk9 hC9 (xkI_n fun n3 h1 hvc => ?_) (fun q h hq => xTh_out0 rfl hq)
  refine xw_istore_n dX3_move_6 (Nat.le_of_ble_eq_true rfl) (L9 := [some (xr (some this)), some (xi x1), some (xi x2), some (xi n3)]) rfl ?_
  refine xw_iload_n dX3_move_7 rfl ?_
  refine xw_if_eq 17 dX3_move_8 rfl (fun hc => ?_) (fun hc => ?_)
  · replace hvc := hvc.1 hc
    refine xw_aload_n dX3_move_17 rfl ?_
    obtain ⟨hcK, hvc⟩ := hvc
    obtain ⟨d9, k9, hd9, hk9, hC9⟩ := hvc
    refine xw_callV dX3_move_18 px_X3_remembers pm_X3_remembers q3081 q3083 qs45 hcX3 hcK (As := []) (rest := []) rfl rfl (Nat.le_of_ble_eq_true rfl) hd9 hk9 hC9 (xkV_n fun h4 hvc => ?_) (fun q h hq => xTh_out0 rfl hq)
    refine xw_aload_n dX3_move_21 rfl ?_
    refine xw_iload_n dX3_move_22 rfl ?_
    refine xw_iload_n dX3_move_23 rfl ?_
    obtain ⟨hcK, hvc⟩ := hvc
    obtain ⟨d9, k9, hd9, hk9, hC9⟩ := hvc
    refine xw_callV dX3_move_24 px_X3_moves pm_X3_moves q3226 q3228 qs73 hcX3 hcK (As := [xi x1, xi x2]) (rest := []) rfl rfl (Nat.le_of_ble_eq_true rfl) hd9 hk9 hC9 (xkI_n fun n8 h6 hvc => ?_) (fun q h hq => xTh_out0 rfl hq)
    exact xw_iret dX3_move_27 rfl hvc
  · replace hvc := hvc.2 hc
    refine xw_aload_n dX3_move_11 rfl ?_
    refine xw_iload_n dX3_move_12 rfl ?_
    obtain ⟨hcK, hvc⟩ := hvc
    obtain ⟨d9, k9, hd9, hk9, hC9⟩ := hvc
    refine xw_callV dX3_move_13 px_X3_refuses pm_X3_refuses q3073 q3075 qs43 hcX3 hcK (As := [xi n3]) (rest := []) rfl rfl (Nat.le_of_ble_eq_true rfl) hd9 hk9 hC9 (xkI_n fun n11 h9 hvc => ?_) (fun q h hq => xTh_out0 rfl hq)
    exact xw_iret dX3_move_16 rfl hvc

theorem vc_X3_notMove {G : xG} {d K : Nat} {Q : xR → xH → Prop} {h : xH} {this : Nat} {x1 : Int32} {x2 : Int32}
    (hvc : xcls h this = 6 ∧ xCall G d K mX3_isSite [xr (some this), xi x1] h (xkI (fun n3 h1 k2 => ((n3 = 0 → Q (.inl (some (xi (-1 : Int32)))) h1) ∧ (¬ n3 = 0 → xcls h1 this = 6 ∧ xCall G d k2 mX3_isSite [xr (some this), xi x2] h1 (xkI (fun n6 h4 k5 => ((¬ n6 = 0 → ((¬ x1 = x2 → xcls h4 this = 6 ∧ xCall G d k5 mX3_isWell [xr (some this), xi x1] h4 (xkI (fun n9 h7 k8 => ((¬ n9 = 0 → xcls h7 this = 6 ∧ xCall G d k8 mX3_isWell [xr (some this), xi x2] h7 (xkI (fun n12 h10 k11 => ((¬ n12 = 0 → xcls h10 this = 6 ∧ xCall G d k11 mX3_hasPump [xr (some this), xi x1] h10 (xkI (fun n15 h13 k14 => ((¬ n15 = 0 → xcls h13 this = 6 ∧ xCall G d k14 mX3_hasPump [xr (some this), xi x2] h13 (xkI (fun n18 h16 k17 => ((n18 = 0 → xcls h16 this = 6 ∧ ∃ o19 : Option Nat, xval h16 this 4 = xr o19 ∧ ∃ a20, o19 = some a20 ∧ xcls h16 a20 = 1003 ∧ ∃ i21 : Nat, (1 : Int32) = nI i21 ∧ i21 < 2147483648 ∧ i21 < xlen h16 a20 ∧ ∃ n22 : Int32, xval h16 a20 i21 = xi n22 ∧ xcls h16 this = 6 ∧ xCall G d k17 mX3_toll [xr (some this), xi x1, xi x2] h16 (xkI (fun n25 h23 k24 => ((n25 ≤ n22 → Q (.inl (some (xi (0 : Int32)))) h23) ∧ (¬ n25 ≤ n22 → xcls h23 this = 6 ∧ xCall G d k24 mX3_toll [xr (some this), xi x1, xi x2] h23 (xkI (fun n28 h26 k27 => xcls h26 this = 6 ∧ ∃ o29 : Option Nat, xval h26 this 4 = xr o29 ∧ ∃ a30, o29 = some a30 ∧ xcls h26 a30 = 1003 ∧ ∃ i31 : Nat, (1 : Int32) = nI i31 ∧ i31 < 2147483648 ∧ i31 < xlen h26 a30 ∧ ∃ n32 : Int32, xval h26 a30 i31 = xi n32 ∧ xcls h26 this = 6 ∧ xCall G d k27 mX3_isNot [xr (some this), xi (5 : Int32), xi (n28 - n32)] h26 (xkI (fun n35 h33 k34 => Q (.inl (some (xi n35))) h33) (fun q h _ => Q (.inr q) h))) (fun q h _ => Q (.inr q) h))))) (fun q h _ => Q (.inr q) h))) ∧ (¬ n18 = 0 → xcls h16 this = 6 ∧ ∃ o36 : Option Nat, xval h16 this 4 = xr o36 ∧ ∃ a37, o36 = some a37 ∧ xcls h16 a37 = 1003 ∧ ∃ i38 : Nat, (4 : Int32) = nI i38 ∧ i38 < 2147483648 ∧ i38 < xlen h16 a37 ∧ ∃ n39 : Int32, xval h16 a37 i38 = xi n39 ∧ xcls h16 this = 6 ∧ xCall G d k17 mX3_isNot [xr (some this), xi (6 : Int32), xi n39] h16 (xkI (fun n42 h40 k41 => Q (.inl (some (xi n42))) h40) (fun q h _ => Q (.inr q) h))))) (fun q h _ => Q (.inr q) h))) ∧ (n15 = 0 → xcls h13 this = 6 ∧ xCall G d k14 mX3_isNot [xr (some this), xi (7 : Int32), xi x1] h13 (xkI (fun n45 h43 k44 => Q (.inl (some (xi n45))) h43) (fun q h _ => Q (.inr q) h))))) (fun q h _ => Q (.inr q) h))) ∧ (n12 = 0 → xcls h10 this = 6 ∧ xCall G d k11 mX3_siteIs [xr (some this), xi x2, xi (4 : Int32)] h10 (xkI (fun n48 h46 k47 => xcls h46 this = 6 ∧ xCall G d k47 mX3_isNot [xr (some this), xi (4 : Int32), xi n48] h46 (xkI (fun n51 h49 k50 => Q (.inl (some (xi n51))) h49) (fun q h _ => Q (.inr q) h))) (fun q h _ => Q (.inr q) h))))) (fun q h _ => Q (.inr q) h))) ∧ (n9 = 0 → xcls h7 this = 6 ∧ xCall G d k8 mX3_siteIs [xr (some this), xi x1, xi (4 : Int32)] h7 (xkI (fun n54 h52 k53 => xcls h52 this = 6 ∧ xCall G d k53 mX3_isNot [xr (some this), xi (4 : Int32), xi n54] h52 (xkI (fun n57 h55 k56 => Q (.inl (some (xi n57))) h55) (fun q h _ => Q (.inr q) h))) (fun q h _ => Q (.inr q) h))))) (fun q h _ => Q (.inr q) h))) ∧ (x1 = x2 → xcls h4 this = 6 ∧ xCall G d k5 mX3_isNot [xr (some this), xi (9 : Int32), xi x1] h4 (xkI (fun n60 h58 k59 => Q (.inl (some (xi n60))) h58) (fun q h _ => Q (.inr q) h))))) ∧ (n6 = 0 → Q (.inl (some (xi (-1 : Int32)))) h4))) (fun q h _ => Q (.inr q) h))))) (fun q h _ => Q (.inr q) h))) : xCn G mX3_notMove d K [xr (some this), xi x1, xi x2] h Q := by
  refine xCn_of px_X3_notMove rfl rfl (Nat.le_of_ble_eq_true rfl) ?_
  show xWp G mX3_notMove d K Q K 0 [some (xr (some this)), some (xi x1), some (xi x2)] [] h
  refine xw_aload_n dX3_notMove_0 rfl ?_
  refine xw_iload_n dX3_notMove_1 rfl ?_
  obtain ⟨hcK, hvc⟩ := hvc
  obtain ⟨d9, k9, hd9, hk9, hC9⟩ := hvc
  refine xw_callV dX3_notMove_2 px_X3_isSite pm_X3_isSite q3129 q3131 qs55 hcX3 hcK (As := [xi x1]) (rest := []) rfl rfl (Nat.le_of_ble_eq_true rfl) hd9 hk9 hC9 (xkI_n fun n3 h1 hvc => ?_) (fun q h hq => xTh_out0 rfl hq)
  refine xw_if_eq 16 dX3_notMove_5 rfl (fun hc => ?_) (fun hc => ?_)
  · replace hvc := hvc.1 hc
    refine xw_iconst (-1 : Int32) dX3_notMove_16 (by decide) ?_
    exact xw_iret dX3_notMove_17 rfl hvc
  · replace hvc := hvc.2 hc
    refine xw_aload_n dX3_notMove_8 rfl ?_
    refine xw_iload_n dX3_notMove_9 rfl ?_
    obtain ⟨hcK, hvc⟩ := hvc
    obtain ⟨d9, k9, hd9, hk9, hC9⟩ := hvc
    refine xw_callV dX3_notMove_10 px_X3_isSite pm_X3_isSite q3129 q3131 qs55 hcX3 hcK (As := [xi x2]) (rest := []) rfl rfl (Nat.le_of_ble_eq_true rfl) hd9 hk9 hC9 (xkI_n fun n6 h4 hvc => ?_) (fun q h hq => xTh_out0 rfl hq)
    refine xw_if_ne 18 dX3_notMove_13 rfl (fun hc => ?_) (fun hc => ?_)
    · replace hvc := hvc.1 hc
      refine xw_iload_n dX3_notMove_18 rfl ?_
      refine xw_iload_n dX3_notMove_19 rfl ?_
      refine xw_icmp_ne 31 dX3_notMove_20 rfl (fun hc => ?_) (fun hc => ?_)
      · replace hvc := hvc.1 hc
        refine xw_aload_n dX3_notMove_31 rfl ?_
        refine xw_iload_n dX3_notMove_32 rfl ?_
        obtain ⟨hcK, hvc⟩ := hvc
        obtain ⟨d9, k9, hd9, hk9, hC9⟩ := hvc
        refine xw_callV dX3_notMove_33 px_X3_isWell pm_X3_isWell q3133 q3135 qs56 hcX3 hcK (As := [xi x1]) (rest := []) rfl rfl (Nat.le_of_ble_eq_true rfl) hd9 hk9 hC9 (xkI_n fun n9 h7 hvc => ?_) (fun q h hq => xTh_out0 rfl hq)
        refine xw_if_ne 51 dX3_notMove_36 rfl (fun hc => ?_) (fun hc => ?_)
        · replace hvc := hvc.1 hc
          refine xw_aload_n dX3_notMove_51 rfl ?_
          refine xw_iload_n dX3_notMove_52 rfl ?_
          obtain ⟨hcK, hvc⟩ := hvc
          obtain ⟨d9, k9, hd9, hk9, hC9⟩ := hvc
          refine xw_callV dX3_notMove_53 px_X3_isWell pm_X3_isWell q3133 q3135 qs56 hcX3 hcK (As := [xi x2]) (rest := []) rfl rfl (Nat.le_of_ble_eq_true rfl) hd9 hk9 hC9 (xkI_n fun n12 h10 hvc => ?_) (fun q h hq => xTh_out0 rfl hq)
          refine xw_if_ne 71 dX3_notMove_56 rfl (fun hc => ?_) (fun hc => ?_)
          · replace hvc := hvc.1 hc
            refine xw_aload_n dX3_notMove_71 rfl ?_
            refine xw_iload_n dX3_notMove_72 rfl ?_
            obtain ⟨hcK, hvc⟩ := hvc
            obtain ⟨d9, k9, hd9, hk9, hC9⟩ := hvc
            refine xw_callV dX3_notMove_73 px_X3_hasPump pm_X3_hasPump q3194 q3196 qs67 hcX3 hcK (As := [xi x1]) (rest := []) rfl rfl (Nat.le_of_ble_eq_true rfl) hd9 hk9 hC9 (xkI_n fun n15 h13 hvc => ?_) (fun q h hq => xTh_out0 rfl hq)
            refine xw_if_ne 87 dX3_notMove_76 rfl (fun hc => ?_) (fun hc => ?_)
            · replace hvc := hvc.1 hc
              refine xw_aload_n dX3_notMove_87 rfl ?_
              refine xw_iload_n dX3_notMove_88 rfl ?_
              obtain ⟨hcK, hvc⟩ := hvc
              obtain ⟨d9, k9, hd9, hk9, hC9⟩ := hvc
              refine xw_callV dX3_notMove_89 px_X3_hasPump pm_X3_hasPump q3194 q3196 qs67 hcX3 hcK (As := [xi x2]) (rest := []) rfl rfl (Nat.le_of_ble_eq_true rfl) hd9 hk9 hC9 (xkI_n fun n18 h16 hvc => ?_) (fun q h hq => xTh_out0 rfl hq)
              refine xw_if_eq 108 dX3_notMove_92 rfl (fun hc => ?_) (fun hc => ?_)
              · replace hvc := hvc.1 hc
                refine xw_aload_n dX3_notMove_108 rfl ?_
                obtain ⟨hcK, o19, hvK, hvc⟩ := hvc
                refine xw_get dX3_notMove_109 hcX3 in_X3 (kf := 4) (by decide) q2983 (fun _ _ _ _ z => z) hcK hvK ?_
                refine xw_iconst (1 : Int32) dX3_notMove_112 (by decide) ?_
                obtain ⟨a20, ho, hvc⟩ := hvc
                subst ho
                obtain ⟨hcK, i21, hx9, hb9, hi9, n22, hv9, hvc⟩ := hvc
                refine xw_iald (j := 3) dX3_notMove_113 rfl hcK hx9 hb9 hi9 hv9 ?_
                refine xw_aload_n dX3_notMove_114 rfl ?_
                refine xw_iload_n dX3_notMove_115 rfl ?_
                refine xw_iload_n dX3_notMove_116 rfl ?_
                obtain ⟨hcK, hvc⟩ := hvc
                obtain ⟨d9, k9, hd9, hk9, hC9⟩ := hvc
                refine xw_callV dX3_notMove_117 px_X3_toll pm_X3_toll q3222 q3224 qs72 hcX3 hcK (As := [xi x1, xi x2]) (rest := [xi n22]) rfl rfl (Nat.le_of_ble_eq_true rfl) hd9 hk9 hC9 (xkI_n fun n25 h23 hvc => ?_) (fun q h hq => xTh_out0 rfl hq)
                refine xw_icmp_ge 144 dX3_notMove_120 rfl (fun hc => ?_) (fun hc => ?_)
                · replace hvc := hvc.1 hc
                  refine xw_iconst (0 : Int32) dX3_notMove_144 (by decide) ?_
                  exact xw_iret dX3_notMove_145 rfl hvc
                · replace hvc := hvc.2 hc
                  refine xw_aload_n dX3_notMove_123 rfl ?_
                  refine xw_iconst (5 : Int32) dX3_notMove_124 (by decide) ?_
                  refine xw_aload_n dX3_notMove_125 rfl ?_
                  refine xw_iload_n dX3_notMove_126 rfl ?_
                  refine xw_iload_n dX3_notMove_127 rfl ?_
                  obtain ⟨hcK, hvc⟩ := hvc
                  obtain ⟨d9, k9, hd9, hk9, hC9⟩ := hvc
                  refine xw_callV dX3_notMove_128 px_X3_toll pm_X3_toll q3222 q3224 qs72 hcX3 hcK (As := [xi x1, xi x2]) (rest := [xi (5 : Int32), xr (some this)]) rfl rfl (Nat.le_of_ble_eq_true rfl) hd9 hk9 hC9 (xkI_n fun n28 h26 hvc => ?_) (fun q h hq => xTh_out0 rfl hq)
                  refine xw_aload_n dX3_notMove_131 rfl ?_
                  obtain ⟨hcK, o29, hvK, hvc⟩ := hvc
                  refine xw_get dX3_notMove_132 hcX3 in_X3 (kf := 4) (by decide) q2983 (fun _ _ _ _ z => z) hcK hvK ?_
                  refine xw_iconst (1 : Int32) dX3_notMove_135 (by decide) ?_
                  obtain ⟨a30, ho, hvc⟩ := hvc
                  subst ho
                  obtain ⟨hcK, i31, hx9, hb9, hi9, n32, hv9, hvc⟩ := hvc
                  refine xw_iald (j := 3) dX3_notMove_136 rfl hcK hx9 hb9 hi9 hv9 ?_
                  refine xw_isub dX3_notMove_137 ?_
                  obtain ⟨hcK, hvc⟩ := hvc
                  obtain ⟨d9, k9, hd9, hk9, hC9⟩ := hvc
                  refine xw_callV dX3_notMove_138 px_X3_isNot pm_X3_isNot q3061 q3063 qs40 hcX3 hcK (As := [xi (5 : Int32), xi (n28 - n32)]) (rest := []) rfl rfl (Nat.le_of_ble_eq_true rfl) hd9 hk9 hC9 (xkI_n fun n35 h33 hvc => ?_) (fun q h hq => xTh_out0 rfl hq)
                  refine xw_goto 145 dX3_notMove_141 rfl ?_
                  exact xw_iret dX3_notMove_145 rfl hvc
              · replace hvc := hvc.2 hc
                refine xw_aload_n dX3_notMove_95 rfl ?_
                refine xw_bipush (6 : Int32) dX3_notMove_96 (by decide) ?_
                refine xw_aload_n dX3_notMove_98 rfl ?_
                obtain ⟨hcK, o36, hvK, hvc⟩ := hvc
                refine xw_get dX3_notMove_99 hcX3 in_X3 (kf := 4) (by decide) q2983 (fun _ _ _ _ z => z) hcK hvK ?_
                refine xw_iconst (4 : Int32) dX3_notMove_102 (by decide) ?_
                obtain ⟨a37, ho, hvc⟩ := hvc
                subst ho
                obtain ⟨hcK, i38, hx9, hb9, hi9, n39, hv9, hvc⟩ := hvc
                refine xw_iald (j := 3) dX3_notMove_103 rfl hcK hx9 hb9 hi9 hv9 ?_
                obtain ⟨hcK, hvc⟩ := hvc
                obtain ⟨d9, k9, hd9, hk9, hC9⟩ := hvc
                refine xw_callV dX3_notMove_104 px_X3_isNot pm_X3_isNot q3061 q3063 qs40 hcX3 hcK (As := [xi (6 : Int32), xi n39]) (rest := []) rfl rfl (Nat.le_of_ble_eq_true rfl) hd9 hk9 hC9 (xkI_n fun n42 h40 hvc => ?_) (fun q h hq => xTh_out0 rfl hq)
                exact xw_iret dX3_notMove_107 rfl hvc
            · replace hvc := hvc.2 hc
              refine xw_aload_n dX3_notMove_79 rfl ?_
              refine xw_bipush (7 : Int32) dX3_notMove_80 (by decide) ?_
              refine xw_iload_n dX3_notMove_82 rfl ?_
              obtain ⟨hcK, hvc⟩ := hvc
              obtain ⟨d9, k9, hd9, hk9, hC9⟩ := hvc
              refine xw_callV dX3_notMove_83 px_X3_isNot pm_X3_isNot q3061 q3063 qs40 hcX3 hcK (As := [xi (7 : Int32), xi x1]) (rest := []) rfl rfl (Nat.le_of_ble_eq_true rfl) hd9 hk9 hC9 (xkI_n fun n45 h43 hvc => ?_) (fun q h hq => xTh_out0 rfl hq)
              exact xw_iret dX3_notMove_86 rfl hvc
          · replace hvc := hvc.2 hc
            refine xw_aload_n dX3_notMove_59 rfl ?_
            refine xw_iconst (4 : Int32) dX3_notMove_60 (by decide) ?_
            refine xw_aload_n dX3_notMove_61 rfl ?_
            refine xw_iload_n dX3_notMove_62 rfl ?_
            refine xw_iconst (4 : Int32) dX3_notMove_63 (by decide) ?_
            obtain ⟨hcK, hvc⟩ := hvc
            obtain ⟨d9, k9, hd9, hk9, hC9⟩ := hvc
            refine xw_callV dX3_notMove_64 px_X3_siteIs pm_X3_siteIs q3109 q3111 qs51 hcX3 hcK (As := [xi x2, xi (4 : Int32)]) (rest := [xi (4 : Int32), xr (some this)]) rfl rfl (Nat.le_of_ble_eq_true rfl) hd9 hk9 hC9 (xkI_n fun n48 h46 hvc => ?_) (fun q h hq => xTh_out0 rfl hq)
            obtain ⟨hcK, hvc⟩ := hvc
            obtain ⟨d9, k9, hd9, hk9, hC9⟩ := hvc
            refine xw_callV dX3_notMove_67 px_X3_isNot pm_X3_isNot q3061 q3063 qs40 hcX3 hcK (As := [xi (4 : Int32), xi n48]) (rest := []) rfl rfl (Nat.le_of_ble_eq_true rfl) hd9 hk9 hC9 (xkI_n fun n51 h49 hvc => ?_) (fun q h hq => xTh_out0 rfl hq)
            exact xw_iret dX3_notMove_70 rfl hvc
        · replace hvc := hvc.2 hc
          refine xw_aload_n dX3_notMove_39 rfl ?_
          refine xw_iconst (4 : Int32) dX3_notMove_40 (by decide) ?_
          refine xw_aload_n dX3_notMove_41 rfl ?_
          refine xw_iload_n dX3_notMove_42 rfl ?_
          refine xw_iconst (4 : Int32) dX3_notMove_43 (by decide) ?_
          obtain ⟨hcK, hvc⟩ := hvc
          obtain ⟨d9, k9, hd9, hk9, hC9⟩ := hvc
          refine xw_callV dX3_notMove_44 px_X3_siteIs pm_X3_siteIs q3109 q3111 qs51 hcX3 hcK (As := [xi x1, xi (4 : Int32)]) (rest := [xi (4 : Int32), xr (some this)]) rfl rfl (Nat.le_of_ble_eq_true rfl) hd9 hk9 hC9 (xkI_n fun n54 h52 hvc => ?_) (fun q h hq => xTh_out0 rfl hq)
          obtain ⟨hcK, hvc⟩ := hvc
          obtain ⟨d9, k9, hd9, hk9, hC9⟩ := hvc
          refine xw_callV dX3_notMove_47 px_X3_isNot pm_X3_isNot q3061 q3063 qs40 hcX3 hcK (As := [xi (4 : Int32), xi n54]) (rest := []) rfl rfl (Nat.le_of_ble_eq_true rfl) hd9 hk9 hC9 (xkI_n fun n57 h55 hvc => ?_) (fun q h hq => xTh_out0 rfl hq)
          exact xw_iret dX3_notMove_50 rfl hvc
      · replace hvc := hvc.2 hc
        refine xw_aload_n dX3_notMove_23 rfl ?_
        refine xw_bipush (9 : Int32) dX3_notMove_24 (by decide) ?_
        refine xw_iload_n dX3_notMove_26 rfl ?_
        obtain ⟨hcK, hvc⟩ := hvc
        obtain ⟨d9, k9, hd9, hk9, hC9⟩ := hvc
        refine xw_callV dX3_notMove_27 px_X3_isNot pm_X3_isNot q3061 q3063 qs40 hcX3 hcK (As := [xi (9 : Int32), xi x1]) (rest := []) rfl rfl (Nat.le_of_ble_eq_true rfl) hd9 hk9 hC9 (xkI_n fun n60 h58 hvc => ?_) (fun q h hq => xTh_out0 rfl hq)
        exact xw_iret dX3_notMove_30 rfl hvc
    · replace hvc := hvc.2 hc
      refine xw_iconst (-1 : Int32) dX3_notMove_16 (by decide) ?_
      exact xw_iret dX3_notMove_17 rfl hvc

theorem vc_X3_toll {G : xG} {d K : Nat} {Q : xR → xH → Prop} {h : xH} {this : Nat} {x1 : Int32} {x2 : Int32}
    (hvc : xcls h this = 6 ∧ xCall G d K mX3_siteIs [xr (some this), xi x1, xi (0 : Int32)] h (xkI (fun n3 h1 k2 => xcls h1 this = 6 ∧ xCall G d k2 mX3_siteIs [xr (some this), xi x2, xi (0 : Int32)] h1 (xkI (fun n6 h4 k5 => xCall G d k5 mX3_away [xi n3, xi n6] h4 (xkI (fun n9 h7 k8 => xcls h7 this = 6 ∧ xCall G d k8 mX3_siteIs [xr (some this), xi x1, xi (1 : Int32)] h7 (xkI (fun n12 h10 k11 => xcls h10 this = 6 ∧ xCall G d k11 mX3_siteIs [xr (some this), xi x2, xi (1 : Int32)] h10 (xkI (fun n15 h13 k14 => xCall G d k14 mX3_away [xi n12, xi n15] h13 (xkI (fun n18 h16 k17 => Q (.inl (some (xi ((n9 + n18) / (5 : Int32))))) h16) (fun q h _ => Q (.inr q) h))) (fun q h _ => Q (.inr q) h))) (fun q h _ => Q (.inr q) h))) (fun q h _ => Q (.inr q) h))) (fun q h _ => Q (.inr q) h))) (fun q h _ => Q (.inr q) h))) : xCn G mX3_toll d K [xr (some this), xi x1, xi x2] h Q := by
  refine xCn_of px_X3_toll rfl rfl (Nat.le_of_ble_eq_true rfl) ?_
  show xWp G mX3_toll d K Q K 0 [some (xr (some this)), some (xi x1), some (xi x2)] [] h
  refine xw_aload_n dX3_toll_0 rfl ?_
  refine xw_iload_n dX3_toll_1 rfl ?_
  refine xw_iconst (0 : Int32) dX3_toll_2 (by decide) ?_
  obtain ⟨hcK, hvc⟩ := hvc
  obtain ⟨d9, k9, hd9, hk9, hC9⟩ := hvc
  refine xw_callV dX3_toll_3 px_X3_siteIs pm_X3_siteIs q3109 q3111 qs51 hcX3 hcK (As := [xi x1, xi (0 : Int32)]) (rest := []) rfl rfl (Nat.le_of_ble_eq_true rfl) hd9 hk9 hC9 (xkI_n fun n3 h1 hvc => ?_) (fun q h hq => xTh_out0 rfl hq)
  refine xw_aload_n dX3_toll_6 rfl ?_
  refine xw_iload_n dX3_toll_7 rfl ?_
  refine xw_iconst (0 : Int32) dX3_toll_8 (by decide) ?_
  obtain ⟨hcK, hvc⟩ := hvc
  obtain ⟨d9, k9, hd9, hk9, hC9⟩ := hvc
  refine xw_callV dX3_toll_9 px_X3_siteIs pm_X3_siteIs q3109 q3111 qs51 hcX3 hcK (As := [xi x2, xi (0 : Int32)]) (rest := [xi n3]) rfl rfl (Nat.le_of_ble_eq_true rfl) hd9 hk9 hC9 (xkI_n fun n6 h4 hvc => ?_) (fun q h hq => xTh_out0 rfl hq)
  obtain ⟨d9, k9, hd9, hk9, hC9⟩ := hvc
  refine xw_callS dX3_toll_12 px_X3_away pm_X3_away q3160 q3161 (As := [xi n3, xi n6]) (rest := []) rfl rfl (Nat.le_of_ble_eq_true rfl) hd9 hk9 hC9 (xkI_n fun n9 h7 hvc => ?_) (fun q h hq => xTh_out0 rfl hq)
  refine xw_aload_n dX3_toll_15 rfl ?_
  refine xw_iload_n dX3_toll_16 rfl ?_
  refine xw_iconst (1 : Int32) dX3_toll_17 (by decide) ?_
  obtain ⟨hcK, hvc⟩ := hvc
  obtain ⟨d9, k9, hd9, hk9, hC9⟩ := hvc
  refine xw_callV dX3_toll_18 px_X3_siteIs pm_X3_siteIs q3109 q3111 qs51 hcX3 hcK (As := [xi x1, xi (1 : Int32)]) (rest := [xi n9]) rfl rfl (Nat.le_of_ble_eq_true rfl) hd9 hk9 hC9 (xkI_n fun n12 h10 hvc => ?_) (fun q h hq => xTh_out0 rfl hq)
  refine xw_aload_n dX3_toll_21 rfl ?_
  refine xw_iload_n dX3_toll_22 rfl ?_
  refine xw_iconst (1 : Int32) dX3_toll_23 (by decide) ?_
  obtain ⟨hcK, hvc⟩ := hvc
  obtain ⟨d9, k9, hd9, hk9, hC9⟩ := hvc
  refine xw_callV dX3_toll_24 px_X3_siteIs pm_X3_siteIs q3109 q3111 qs51 hcX3 hcK (As := [xi x2, xi (1 : Int32)]) (rest := [xi n12, xi n9]) rfl rfl (Nat.le_of_ble_eq_true rfl) hd9 hk9 hC9 (xkI_n fun n15 h13 hvc => ?_) (fun q h hq => xTh_out0 rfl hq)
  obtain ⟨d9, k9, hd9, hk9, hC9⟩ := hvc
  refine xw_callS dX3_toll_27 px_X3_away pm_X3_away q3160 q3161 (As := [xi n12, xi n15]) (rest := [xi n9]) rfl rfl (Nat.le_of_ble_eq_true rfl) hd9 hk9 hC9 (xkI_n fun n18 h16 hvc => ?_) (fun q h hq => xTh_out0 rfl hq)
  refine xw_iadd dX3_toll_30 ?_
  refine xw_iconst (5 : Int32) dX3_toll_31 (by decide) ?_
  refine xw_idiv dX3_toll_32 (by decide) ?_
  exact xw_iret dX3_toll_33 rfl hvc

theorem vc_X3_moves {G : xG} {d K : Nat} {Q : xR → xH → Prop} {h : xH} {this : Nat} {x1 : Int32} {x2 : Int32}
    (hvc : xcls h this = 6 ∧ ∃ o1 : Option Nat, xval h this 4 = xr o1 ∧ ∃ a2, o1 = some a2 ∧ xcls h a2 = 1003 ∧ ∃ i3 : Nat, (1 : Int32) = nI i3 ∧ i3 < 2147483648 ∧ i3 < xlen h a2 ∧ ∃ n4 : Int32, xval h a2 i3 = xi n4 ∧ xcls h this = 6 ∧ xCall G d K mX3_toll [xr (some this), xi x1, xi x2] h (xkI (fun n7 h5 k6 => xcls h5 a2 = 1003 ∧ ∃ i8 : Nat, (1 : Int32) = nI i8 ∧ i8 < 2147483648 ∧ i8 < xlen h5 a2 ∧ ∀ h9 : xH, h9 = xput h5 a2 i8 (xi (n4 - n7)) → xcls h9 this = 6 ∧ ∃ o10 : Option Nat, xval h9 this 4 = xr o10 ∧ ∃ a11, o10 = some a11 ∧ xcls h9 a11 = 1003 ∧ ∃ i12 : Nat, (8 : Int32) = nI i12 ∧ i12 < 2147483648 ∧ i12 < xlen h9 a11 ∧ ∃ n13 : Int32, xval h9 a11 i12 = xi n13 ∧ xcls h9 this = 6 ∧ xCall G d k6 mX3_toll [xr (some this), xi x1, xi x2] h9 (xkI (fun n16 h14 k15 => xcls h14 a11 = 1003 ∧ ∃ i17 : Nat, (8 : Int32) = nI i17 ∧ i17 < 2147483648 ∧ i17 < xlen h14 a11 ∧ ∀ h18 : xH, h18 = xput h14 a11 i17 (xi (n13 + n16)) → xcls h18 this = 6 ∧ xCall G d k15 mX3_setsSite [xr (some this), xi x1, xi (6 : Int32), xi (0 : Int32)] h18 (xkV (fun h19 k20 => xcls h19 this = 6 ∧ xCall G d k20 mX3_setsSite [xr (some this), xi x2, xi (6 : Int32), xi (1 : Int32)] h19 (xkV (fun h21 k22 => xcls h21 this = 6 ∧ xCall G d k22 mX3_toll [xr (some this), xi x1, xi x2] h21 (xkI (fun n25 h23 k24 => Q (.inl (some (xi n25))) h23) (fun q h _ => Q (.inr q) h))) (fun q h _ => Q (.inr q) h))) (fun q h _ => Q (.inr q) h))) (fun q h _ => Q (.inr q) h))) (fun q h _ => Q (.inr q) h))) : xCn G mX3_moves d K [xr (some this), xi x1, xi x2] h Q := by
  refine xCn_of px_X3_moves rfl rfl (Nat.le_of_ble_eq_true rfl) ?_
  show xWp G mX3_moves d K Q K 0 [some (xr (some this)), some (xi x1), some (xi x2)] [] h
  refine xw_aload_n dX3_moves_0 rfl ?_
  obtain ⟨hcK, o1, hvK, hvc⟩ := hvc
  refine xw_get dX3_moves_1 hcX3 in_X3 (kf := 4) (by decide) q2983 (fun _ _ _ _ z => z) hcK hvK ?_
  refine xw_iconst (1 : Int32) dX3_moves_4 (by decide) ?_
  refine xw_dup2 dX3_moves_5 rfl rfl ?_
  obtain ⟨a2, ho, hvc⟩ := hvc
  subst ho
  obtain ⟨hcK, i3, hx9, hb9, hi9, n4, hv9, hvc⟩ := hvc
  refine xw_iald (j := 3) dX3_moves_6 rfl hcK hx9 hb9 hi9 hv9 ?_
  refine xw_aload_n dX3_moves_7 rfl ?_
  refine xw_iload_n dX3_moves_8 rfl ?_
  refine xw_iload_n dX3_moves_9 rfl ?_
  obtain ⟨hcK, hvc⟩ := hvc
  obtain ⟨d9, k9, hd9, hk9, hC9⟩ := hvc
  refine xw_callV dX3_moves_10 px_X3_toll pm_X3_toll q3222 q3224 qs72 hcX3 hcK (As := [xi x1, xi x2]) (rest := [xi n4, xi (1 : Int32), xr (some a2)]) rfl rfl (Nat.le_of_ble_eq_true rfl) hd9 hk9 hC9 (xkI_n fun n7 h5 hvc => ?_) (fun q h hq => xTh_out0 rfl hq)
  refine xw_isub dX3_moves_13 ?_
  obtain ⟨hcK, i8, hx9, hb9, hi9, hvc⟩ := hvc
  refine xw_iast (j := 3) dX3_moves_14 rfl hcK (Or.inl rfl) hx9 hb9 hi9 (fun h9 eh9 => ?_)
  replace hvc := hvc h9 eh9
  refine xw_aload_n dX3_moves_15 rfl ?_
  obtain ⟨hcK, o10, hvK, hvc⟩ := hvc
  refine xw_get dX3_moves_16 hcX3 in_X3 (kf := 4) (by decide) q2983 (fun _ _ _ _ z => z) hcK hvK ?_
  refine xw_bipush (8 : Int32) dX3_moves_19 (by decide) ?_
  refine xw_dup2 dX3_moves_21 rfl rfl ?_
  obtain ⟨a11, ho, hvc⟩ := hvc
  subst ho
  obtain ⟨hcK, i12, hx9, hb9, hi9, n13, hv9, hvc⟩ := hvc
  refine xw_iald (j := 3) dX3_moves_22 rfl hcK hx9 hb9 hi9 hv9 ?_
  refine xw_aload_n dX3_moves_23 rfl ?_
  refine xw_iload_n dX3_moves_24 rfl ?_
  refine xw_iload_n dX3_moves_25 rfl ?_
  obtain ⟨hcK, hvc⟩ := hvc
  obtain ⟨d9, k9, hd9, hk9, hC9⟩ := hvc
  refine xw_callV dX3_moves_26 px_X3_toll pm_X3_toll q3222 q3224 qs72 hcX3 hcK (As := [xi x1, xi x2]) (rest := [xi n13, xi (8 : Int32), xr (some a11)]) rfl rfl (Nat.le_of_ble_eq_true rfl) hd9 hk9 hC9 (xkI_n fun n16 h14 hvc => ?_) (fun q h hq => xTh_out0 rfl hq)
  refine xw_iadd dX3_moves_29 ?_
  obtain ⟨hcK, i17, hx9, hb9, hi9, hvc⟩ := hvc
  refine xw_iast (j := 3) dX3_moves_30 rfl hcK (Or.inl rfl) hx9 hb9 hi9 (fun h18 eh9 => ?_)
  replace hvc := hvc h18 eh9
  refine xw_aload_n dX3_moves_31 rfl ?_
  refine xw_iload_n dX3_moves_32 rfl ?_
  refine xw_bipush (6 : Int32) dX3_moves_33 (by decide) ?_
  refine xw_iconst (0 : Int32) dX3_moves_35 (by decide) ?_
  obtain ⟨hcK, hvc⟩ := hvc
  obtain ⟨d9, k9, hd9, hk9, hC9⟩ := hvc
  refine xw_callV dX3_moves_36 px_X3_setsSite pm_X3_setsSite q3117 q3119 qs53 hcX3 hcK (As := [xi x1, xi (6 : Int32), xi (0 : Int32)]) (rest := []) rfl rfl (Nat.le_of_ble_eq_true rfl) hd9 hk9 hC9 (xkV_n fun h19 hvc => ?_) (fun q h hq => xTh_out0 rfl hq)
  refine xw_aload_n dX3_moves_39 rfl ?_
  refine xw_iload_n dX3_moves_40 rfl ?_
  refine xw_bipush (6 : Int32) dX3_moves_41 (by decide) ?_
  refine xw_iconst (1 : Int32) dX3_moves_43 (by decide) ?_
  obtain ⟨hcK, hvc⟩ := hvc
  obtain ⟨d9, k9, hd9, hk9, hC9⟩ := hvc
  refine xw_callV dX3_moves_44 px_X3_setsSite pm_X3_setsSite q3117 q3119 qs53 hcX3 hcK (As := [xi x2, xi (6 : Int32), xi (1 : Int32)]) (rest := []) rfl rfl (Nat.le_of_ble_eq_true rfl) hd9 hk9 hC9 (xkV_n fun h21 hvc => ?_) (fun q h hq => xTh_out0 rfl hq)
  refine xw_aload_n dX3_moves_47 rfl ?_
  refine xw_iload_n dX3_moves_48 rfl ?_
  refine xw_iload_n dX3_moves_49 rfl ?_
  obtain ⟨hcK, hvc⟩ := hvc
  obtain ⟨d9, k9, hd9, hk9, hC9⟩ := hvc
  refine xw_callV dX3_moves_50 px_X3_toll pm_X3_toll q3222 q3224 qs72 hcX3 hcK (As := [xi x1, xi x2]) (rest := []) rfl rfl (Nat.le_of_ble_eq_true rfl) hd9 hk9 hC9 (xkI_n fun n25 h23 hvc => ?_) (fun q h hq => xTh_out0 rfl hq)
  exact xw_iret dX3_moves_53 rfl hvc

theorem vc_X3_pass {G : xG} {d K : Nat} {Q : xR → xH → Prop} {h : xH} {this : Nat} {x1 : Int32}
    (hvc : xCall G d K mX3_isBetween [xi x1, xi (1 : Int32), xi (30 : Int32)] h (xkI (fun n3 h1 k2 => ((¬ n3 = 0 → xcls h1 this = 6 ∧ xCall G d k2 mX3_remembers [xr (some this)] h1 (xkV (fun h4 k5 => xcls h4 this = 6 ∧ xCall G d k5 mX3_passes [xr (some this), xi x1] h4 (xkI (fun n8 h6 k7 => Q (.inl (some (xi n8))) h6) (fun q h _ => Q (.inr q) h))) (fun q h _ => Q (.inr q) h))) ∧ (n3 = 0 → Q (.inl (some (xi (-2 : Int32)))) h1))) (fun q h _ => Q (.inr q) h))) : xCn G mX3_pass d K [xr (some this), xi x1] h Q := by
  refine xCn_of px_X3_pass rfl rfl (Nat.le_of_ble_eq_true rfl) ?_
  show xWp G mX3_pass d K Q K 0 [some (xr (some this)), some (xi x1)] [] h
  refine xw_iload_n dX3_pass_0 rfl ?_
  refine xw_iconst (1 : Int32) dX3_pass_1 (by decide) ?_
  refine xw_bipush (30 : Int32) dX3_pass_2 (by decide) ?_
  obtain ⟨d9, k9, hd9, hk9, hC9⟩ := hvc
  refine xw_callS dX3_pass_4 px_X3_isBetween pm_X3_isBetween q3047 q3048 (As := [xi x1, xi (1 : Int32), xi (30 : Int32)]) (rest := []) rfl rfl (Nat.le_of_ble_eq_true rfl) hd9 hk9 hC9 (xkI_n fun n3 h1 hvc => ?_) (fun q h hq => xTh_out0 rfl hq)
  refine xw_if_ne 13 dX3_pass_7 rfl (fun hc => ?_) (fun hc => ?_)
  · replace hvc := hvc.1 hc
    refine xw_aload_n dX3_pass_13 rfl ?_
    obtain ⟨hcK, hvc⟩ := hvc
    obtain ⟨d9, k9, hd9, hk9, hC9⟩ := hvc
    refine xw_callV dX3_pass_14 px_X3_remembers pm_X3_remembers q3081 q3083 qs45 hcX3 hcK (As := []) (rest := []) rfl rfl (Nat.le_of_ble_eq_true rfl) hd9 hk9 hC9 (xkV_n fun h4 hvc => ?_) (fun q h hq => xTh_out0 rfl hq)
    refine xw_aload_n dX3_pass_17 rfl ?_
    refine xw_iload_n dX3_pass_18 rfl ?_
    obtain ⟨hcK, hvc⟩ := hvc
    obtain ⟨d9, k9, hd9, hk9, hC9⟩ := hvc
    refine xw_callV dX3_pass_19 px_X3_passes pm_X3_passes q3234 q3236 qs74 hcX3 hcK (As := [xi x1]) (rest := []) rfl rfl (Nat.le_of_ble_eq_true rfl) hd9 hk9 hC9 (xkI_n fun n8 h6 hvc => ?_) (fun q h hq => xTh_out0 rfl hq)
    exact xw_iret dX3_pass_22 rfl hvc
  · replace hvc := hvc.2 hc
    refine xw_bipush (-2 : Int32) dX3_pass_10 (by decide) ?_
    exact xw_iret dX3_pass_12 rfl hvc

theorem vc_X3_passes {G : xG} {d K : Nat} {Q : xR → xH → Prop} {h : xH} {this : Nat} {x1 : Int32}
    (hvc : xcls h this = 6 ∧ ∃ o1 : Option Nat, xval h this 4 = xr o1 ∧ ∃ a2, o1 = some a2 ∧ xcls h a2 = 1003 ∧ ∃ i3 : Nat, (5 : Int32) = nI i3 ∧ i3 < 2147483648 ∧ i3 < xlen h a2 ∧ ∃ n4 : Int32, xval h a2 i3 = xi n4 ∧ xWp G mX3_passes d K Q K 9 [some (xr (some this)), some (xi x1), some (xi n4), some (xi (0 : Int32))] [] h) : xCn G mX3_passes d K [xr (some this), xi x1] h Q := by
  refine xCn_of px_X3_passes rfl rfl (Nat.le_of_ble_eq_true rfl) ?_
  show xWp G mX3_passes d K Q K 0 [some (xr (some this)), some (xi x1), none, none] [] h
  refine xw_aload_n dX3_passes_0 rfl ?_
  obtain ⟨hcK, o1, hvK, hvc⟩ := hvc
  refine xw_get dX3_passes_1 hcX3 in_X3 (kf := 4) (by decide) q2983 (fun _ _ _ _ z => z) hcK hvK ?_
  refine xw_iconst (5 : Int32) dX3_passes_4 (by decide) ?_
  obtain ⟨a2, ho, hvc⟩ := hvc
  subst ho
  obtain ⟨hcK, i3, hx9, hb9, hi9, n4, hv9, hvc⟩ := hvc
  refine xw_iald (j := 3) dX3_passes_5 rfl hcK hx9 hb9 hi9 hv9 ?_
  refine xw_istore_n dX3_passes_6 (Nat.le_of_ble_eq_true rfl) (L9 := [some (xr (some this)), some (xi x1), some (xi n4), none]) rfl ?_
  refine xw_iconst (0 : Int32) dX3_passes_7 (by decide) ?_
  refine xw_istore_n dX3_passes_8 (Nat.le_of_ble_eq_true rfl) (L9 := [some (xr (some this)), some (xi x1), some (xi n4), some (xi (0 : Int32))]) rfl ?_
  exact hvc

theorem vc_X3_passes_9 {G : xG} {d K k : Nat} {Q : xR → xH → Prop} {h : xH} {this : Nat} {x1 : Int32} {x2 : Int32} {x3 : Int32}
    (hvc : ((x1 ≤ x3 → xcls h this = 6 ∧ ∃ o5 : Option Nat, xval h this 4 = xr o5 ∧ ∃ a6, o5 = some a6 ∧ xcls h a6 = 1003 ∧ ∃ i7 : Nat, (5 : Int32) = nI i7 ∧ i7 < 2147483648 ∧ i7 < xlen h a6 ∧ ∃ n8 : Int32, xval h a6 i7 = xi n8 ∧ Q (.inl (some (xi (n8 - x2)))) h) ∧ (¬ x1 ≤ x3 → xcls h this = 6 ∧ xCall G d k mX3_dayEnds [xr (some this)] h (xkV (fun h9 k10 => xWp G mX3_passes d K Q k10 9 [some (xr (some this)), some (xi x1), some (xi x2), some (xi (x3 + (1 : Int32)))] [] h9) (fun q h _ => Q (.inr q) h))))) : xWp G mX3_passes d K Q k 9 [some (xr (some this)), some (xi x1), some (xi x2), some (xi x3)] [] h := by
  refine xw_iload_n dX3_passes_9 rfl ?_
  refine xw_iload_n dX3_passes_10 rfl ?_
  refine xw_icmp_ge 24 dX3_passes_11 rfl (fun hc => ?_) (fun hc => ?_)
  · replace hvc := hvc.1 hc
    refine xw_aload_n dX3_passes_24 rfl ?_
    obtain ⟨hcK, o5, hvK, hvc⟩ := hvc
    refine xw_get dX3_passes_25 hcX3 in_X3 (kf := 4) (by decide) q2983 (fun _ _ _ _ z => z) hcK hvK ?_
    refine xw_iconst (5 : Int32) dX3_passes_28 (by decide) ?_
    obtain ⟨a6, ho, hvc⟩ := hvc
    subst ho
    obtain ⟨hcK, i7, hx9, hb9, hi9, n8, hv9, hvc⟩ := hvc
    refine xw_iald (j := 3) dX3_passes_29 rfl hcK hx9 hb9 hi9 hv9 ?_
    refine xw_iload_n dX3_passes_30 rfl ?_
    refine xw_isub dX3_passes_31 ?_
    exact xw_iret dX3_passes_32 rfl hvc
  · replace hvc := hvc.2 hc
    refine xw_aload_n dX3_passes_14 rfl ?_
    obtain ⟨hcK, hvc⟩ := hvc
    obtain ⟨d9, k9, hd9, hk9, hC9⟩ := hvc
    refine xw_callV dX3_passes_15 px_X3_dayEnds pm_X3_dayEnds q3238 q3240 qs75 hcX3 hcK (As := []) (rest := []) rfl rfl (Nat.le_of_ble_eq_true rfl) hd9 hk9 hC9 (xkV_n fun h9 hvc => ?_) (fun q h hq => xTh_out0 rfl hq)
    refine xw_iinc (1 : Int32) dX3_passes_18 rfl (by decide) (Nat.le_of_ble_eq_true rfl) (L9 := [some (xr (some this)), some (xi x1), some (xi x2), some (xi (x3 + (1 : Int32)))]) rfl ?_
    refine xw_goto 9 dX3_passes_21 rfl ?_
    exact hvc

theorem vc_X3_dayEnds {G : xG} {d K : Nat} {Q : xR → xH → Prop} {h : xH} {this : Nat}
    (hvc : xWp G mX3_dayEnds d K Q K 2 [some (xr (some this)), some (xi (0 : Int32))] [] h) : xCn G mX3_dayEnds d K [xr (some this)] h Q := by
  refine xCn_of px_X3_dayEnds rfl rfl (Nat.le_of_ble_eq_true rfl) ?_
  show xWp G mX3_dayEnds d K Q K 0 [some (xr (some this)), none] [] h
  refine xw_iconst (0 : Int32) dX3_dayEnds_0 (by decide) ?_
  refine xw_istore_n dX3_dayEnds_1 (Nat.le_of_ble_eq_true rfl) (L9 := [some (xr (some this)), some (xi (0 : Int32))]) rfl ?_
  exact hvc

theorem vc_X3_dayEnds_2 {G : xG} {d K k : Nat} {Q : xR → xH → Prop} {h : xH} {this : Nat} {x1 : Int32}
    (hvc : xcls h this = 6 ∧ ∃ o1 : Option Nat, xval h this 4 = xr o1 ∧ ∃ a2, o1 = some a2 ∧ xcls h a2 = 1003 ∧ ∃ i3 : Nat, (2 : Int32) = nI i3 ∧ i3 < 2147483648 ∧ i3 < xlen h a2 ∧ ∃ n4 : Int32, xval h a2 i3 = xi n4 ∧ ((n4 ≤ x1 → xWp G mX3_dayEnds d K Q k 39 [some (xr (some this)), some (xi (0 : Int32))] [] h) ∧ (¬ n4 ≤ x1 → xcls h this = 6 ∧ xCall G d k mX3_well [xr (some this), xi x1] h (xkI (fun n7 h5 k6 => ((0 ≤ n7 → xWp G mX3_dayEnds d K Q k6 2 [some (xr (some this)), some (xi (x1 + (1 : Int32)))] [] h5) ∧ (¬ 0 ≤ n7 → xcls h5 this = 6 ∧ xCall G d k6 mX3_hamletIs [xr (some this), xi x1, xi (2 : Int32)] h5 (xkI (fun n10 h8 k9 => xcls h8 this = 6 ∧ xCall G d k9 mX3_thirsts [xr (some this), xi x1, xi n10] h8 (xkV (fun h11 k12 => xWp G mX3_dayEnds d K Q k12 2 [some (xr (some this)), some (xi (x1 + (1 : Int32)))] [] h11) (fun q h _ => Q (.inr q) h))) (fun q h _ => Q (.inr q) h))))) (fun q h _ => Q (.inr q) h))))) : xWp G mX3_dayEnds d K Q k 2 [some (xr (some this)), some (xi x1)] [] h := by
  refine xw_iload_n dX3_dayEnds_2 rfl ?_
  refine xw_aload_n dX3_dayEnds_3 rfl ?_
  obtain ⟨hcK, o1, hvK, hvc⟩ := hvc
  refine xw_get dX3_dayEnds_4 hcX3 in_X3 (kf := 4) (by decide) q2983 (fun _ _ _ _ z => z) hcK hvK ?_
  refine xw_iconst (2 : Int32) dX3_dayEnds_7 (by decide) ?_
  obtain ⟨a2, ho, hvc⟩ := hvc
  subst ho
  obtain ⟨hcK, i3, hx9, hb9, hi9, n4, hv9, hvc⟩ := hvc
  refine xw_iald (j := 3) dX3_dayEnds_8 rfl hcK hx9 hb9 hi9 hv9 ?_
  refine xw_icmp_ge 37 dX3_dayEnds_9 rfl (fun hc => ?_) (fun hc => ?_)
  · replace hvc := hvc.1 hc
    refine xw_iconst (0 : Int32) dX3_dayEnds_37 (by decide) ?_
    refine xw_istore_n dX3_dayEnds_38 (Nat.le_of_ble_eq_true rfl) (L9 := [some (xr (some this)), some (xi (0 : Int32))]) rfl ?_
    exact hvc
  · replace hvc := hvc.2 hc
    refine xw_aload_n dX3_dayEnds_12 rfl ?_
    refine xw_iload_n dX3_dayEnds_13 rfl ?_
    obtain ⟨hcK, hvc⟩ := hvc
    obtain ⟨d9, k9, hd9, hk9, hC9⟩ := hvc
    refine xw_callV dX3_dayEnds_14 px_X3_well pm_X3_well q3141 q3143 qs58 hcX3 hcK (As := [xi x1]) (rest := []) rfl rfl (Nat.le_of_ble_eq_true rfl) hd9 hk9 hC9 (xkI_n fun n7 h5 hvc => ?_) (fun q h hq => xTh_out0 rfl hq)
    refine xw_if_ge 31 dX3_dayEnds_17 rfl (fun hc => ?_) (fun hc => ?_)
    · replace hvc := hvc.1 hc
      refine xw_iinc (1 : Int32) dX3_dayEnds_31 rfl (by decide) (Nat.le_of_ble_eq_true rfl) (L9 := [some (xr (some this)), some (xi (x1 + (1 : Int32)))]) rfl ?_
      refine xw_goto 2 dX3_dayEnds_34 rfl ?_
      exact hvc
    · replace hvc := hvc.2 hc
      refine xw_aload_n dX3_dayEnds_20 rfl ?_
      refine xw_iload_n dX3_dayEnds_21 rfl ?_
      refine xw_aload_n dX3_dayEnds_22 rfl ?_
      refine xw_iload_n dX3_dayEnds_23 rfl ?_
      refine xw_iconst (2 : Int32) dX3_dayEnds_24 (by decide) ?_
      obtain ⟨hcK, hvc⟩ := hvc
      obtain ⟨d9, k9, hd9, hk9, hC9⟩ := hvc
      refine xw_callV dX3_dayEnds_25 px_X3_hamletIs pm_X3_hamletIs q3069 q3071 qs42 hcX3 hcK (As := [xi x1, xi (2 : Int32)]) (rest := [xi x1, xr (some this)]) rfl rfl (Nat.le_of_ble_eq_true rfl) hd9 hk9 hC9 (xkI_n fun n10 h8 hvc => ?_) (fun q h hq => xTh_out0 rfl hq)
      obtain ⟨hcK, hvc⟩ := hvc
      obtain ⟨d9, k9, hd9, hk9, hC9⟩ := hvc
      refine xw_callV dX3_dayEnds_28 px_X3_thirsts pm_X3_thirsts q3242 q3244 qs76 hcX3 hcK (As := [xi x1, xi n10]) (rest := []) rfl rfl (Nat.le_of_ble_eq_true rfl) hd9 hk9 hC9 (xkV_n fun h11 hvc => ?_) (fun q h hq => xTh_out0 rfl hq)
      refine xw_iinc (1 : Int32) dX3_dayEnds_31 rfl (by decide) (Nat.le_of_ble_eq_true rfl) (L9 := [some (xr (some this)), some (xi (x1 + (1 : Int32)))]) rfl ?_
      refine xw_goto 2 dX3_dayEnds_34 rfl ?_
      exact hvc

theorem vc_X3_dayEnds_39 {G : xG} {d K k : Nat} {Q : xR → xH → Prop} {h : xH} {this : Nat} {x1 : Int32}
    (hvc : xcls h this = 6 ∧ ∃ o13 : Option Nat, xval h this 4 = xr o13 ∧ ∃ a14, o13 = some a14 ∧ xcls h a14 = 1003 ∧ ∃ i15 : Nat, (3 : Int32) = nI i15 ∧ i15 < 2147483648 ∧ i15 < xlen h a14 ∧ ∃ n16 : Int32, xval h a14 i15 = xi n16 ∧ ((n16 ≤ x1 → xcls h this = 6 ∧ ∃ o17 : Option Nat, xval h this 4 = xr o17 ∧ ∃ a18, o17 = some a18 ∧ xcls h a18 = 1003 ∧ ∃ i19 : Nat, (0 : Int32) = nI i19 ∧ i19 < 2147483648 ∧ i19 < xlen h a18 ∧ ∃ n20 : Int32, xval h a18 i19 = xi n20 ∧ xcls h a18 = 1003 ∧ ∃ i21 : Nat, (0 : Int32) = nI i21 ∧ i21 < 2147483648 ∧ i21 < xlen h a18 ∧ ∀ h22 : xH, h22 = xput h a18 i21 (xi (n20 + (1 : Int32))) → Q (.inl none) h22) ∧ (¬ n16 ≤ x1 → xcls h this = 6 ∧ xCall G d k mX3_isWell [xr (some this), xi x1] h (xkI (fun n25 h23 k24 => ((n25 = 0 → xcls h23 this = 6 ∧ xCall G d k24 mX3_sinks [xr (some this), xi x1, xi (0 : Int32)] h23 (xkV (fun h26 k27 => xWp G mX3_dayEnds d K Q k27 39 [some (xr (some this)), some (xi (x1 + (1 : Int32)))] [] h26) (fun q h _ => Q (.inr q) h))) ∧ (¬ n25 = 0 → xcls h23 this = 6 ∧ xCall G d k24 mX3_wellGives [xr (some this), xi x1] h23 (xkV (fun h28 k29 => xWp G mX3_dayEnds d K Q k29 39 [some (xr (some this)), some (xi (x1 + (1 : Int32)))] [] h28) (fun q h _ => Q (.inr q) h))))) (fun q h _ => Q (.inr q) h))))) : xWp G mX3_dayEnds d K Q k 39 [some (xr (some this)), some (xi x1)] [] h := by
  refine xw_iload_n dX3_dayEnds_39 rfl ?_
  refine xw_aload_n dX3_dayEnds_40 rfl ?_
  obtain ⟨hcK, o13, hvK, hvc⟩ := hvc
  refine xw_get dX3_dayEnds_41 hcX3 in_X3 (kf := 4) (by decide) q2983 (fun _ _ _ _ z => z) hcK hvK ?_
  refine xw_iconst (3 : Int32) dX3_dayEnds_44 (by decide) ?_
  obtain ⟨a14, ho, hvc⟩ := hvc
  subst ho
  obtain ⟨hcK, i15, hx9, hb9, hi9, n16, hv9, hvc⟩ := hvc
  refine xw_iald (j := 3) dX3_dayEnds_45 rfl hcK hx9 hb9 hi9 hv9 ?_
  refine xw_icmp_ge 77 dX3_dayEnds_46 rfl (fun hc => ?_) (fun hc => ?_)
  · replace hvc := hvc.1 hc
    refine xw_aload_n dX3_dayEnds_77 rfl ?_
    obtain ⟨hcK, o17, hvK, hvc⟩ := hvc
    refine xw_get dX3_dayEnds_78 hcX3 in_X3 (kf := 4) (by decide) q2983 (fun _ _ _ _ z => z) hcK hvK ?_
    refine xw_iconst (0 : Int32) dX3_dayEnds_81 (by decide) ?_
    refine xw_dup2 dX3_dayEnds_82 rfl rfl ?_
    obtain ⟨a18, ho, hvc⟩ := hvc
    subst ho
    obtain ⟨hcK, i19, hx9, hb9, hi9, n20, hv9, hvc⟩ := hvc
    refine xw_iald (j := 3) dX3_dayEnds_83 rfl hcK hx9 hb9 hi9 hv9 ?_
    refine xw_iconst (1 : Int32) dX3_dayEnds_84 (by decide) ?_
    refine xw_iadd dX3_dayEnds_85 ?_
    obtain ⟨hcK, i21, hx9, hb9, hi9, hvc⟩ := hvc
    refine xw_iast (j := 3) dX3_dayEnds_86 rfl hcK (Or.inl rfl) hx9 hb9 hi9 (fun h22 eh9 => ?_)
    replace hvc := hvc h22 eh9
    exact xw_vret dX3_dayEnds_87 rfl hvc
  · replace hvc := hvc.2 hc
    refine xw_aload_n dX3_dayEnds_49 rfl ?_
    refine xw_iload_n dX3_dayEnds_50 rfl ?_
    obtain ⟨hcK, hvc⟩ := hvc
    obtain ⟨d9, k9, hd9, hk9, hC9⟩ := hvc
    refine xw_callV dX3_dayEnds_51 px_X3_isWell pm_X3_isWell q3133 q3135 qs56 hcX3 hcK (As := [xi x1]) (rest := []) rfl rfl (Nat.le_of_ble_eq_true rfl) hd9 hk9 hC9 (xkI_n fun n25 h23 hvc => ?_) (fun q h hq => xTh_out0 rfl hq)
    refine xw_if_eq 65 dX3_dayEnds_54 rfl (fun hc => ?_) (fun hc => ?_)
    · replace hvc := hvc.1 hc
      refine xw_aload_n dX3_dayEnds_65 rfl ?_
      refine xw_iload_n dX3_dayEnds_66 rfl ?_
      refine xw_iconst (0 : Int32) dX3_dayEnds_67 (by decide) ?_
      obtain ⟨hcK, hvc⟩ := hvc
      obtain ⟨d9, k9, hd9, hk9, hC9⟩ := hvc
      refine xw_callV dX3_dayEnds_68 px_X3_sinks pm_X3_sinks q3254 q3256 qs79 hcX3 hcK (As := [xi x1, xi (0 : Int32)]) (rest := []) rfl rfl (Nat.le_of_ble_eq_true rfl) hd9 hk9 hC9 (xkV_n fun h26 hvc => ?_) (fun q h hq => xTh_out0 rfl hq)
      refine xw_iinc (1 : Int32) dX3_dayEnds_71 rfl (by decide) (Nat.le_of_ble_eq_true rfl) (L9 := [some (xr (some this)), some (xi (x1 + (1 : Int32)))]) rfl ?_
      refine xw_goto 39 dX3_dayEnds_74 rfl ?_
      exact hvc
    · replace hvc := hvc.2 hc
      refine xw_aload_n dX3_dayEnds_57 rfl ?_
      refine xw_iload_n dX3_dayEnds_58 rfl ?_
      obtain ⟨hcK, hvc⟩ := hvc
      obtain ⟨d9, k9, hd9, hk9, hC9⟩ := hvc
      refine xw_callV dX3_dayEnds_59 px_X3_wellGives pm_X3_wellGives q3246 q3248 qs77 hcX3 hcK (As := [xi x1]) (rest := []) rfl rfl (Nat.le_of_ble_eq_true rfl) hd9 hk9 hC9 (xkV_n fun h28 hvc => ?_) (fun q h hq => xTh_out0 rfl hq)
      refine xw_goto 71 dX3_dayEnds_62 rfl ?_
      refine xw_iinc (1 : Int32) dX3_dayEnds_71 rfl (by decide) (Nat.le_of_ble_eq_true rfl) (L9 := [some (xr (some this)), some (xi (x1 + (1 : Int32)))]) rfl ?_
      refine xw_goto 39 dX3_dayEnds_74 rfl ?_
      exact hvc

theorem vc_X3_thirsts {G : xG} {d K : Nat} {Q : xR → xH → Prop} {h : xH} {this : Nat} {x1 : Int32} {x2 : Int32}
    (hvc : xcls h this = 6 ∧ ∃ o1 : Option Nat, xval h this 4 = xr o1 ∧ ∃ a2, o1 = some a2 ∧ xcls h a2 = 1003 ∧ ∃ i3 : Nat, (((13 : Int32) + ((6 : Int32) * x1)) + (3 : Int32)) = nI i3 ∧ i3 < 2147483648 ∧ i3 < xlen h a2 ∧ ∃ n4 : Int32, xval h a2 i3 = xi n4 ∧ xcls h a2 = 1003 ∧ ∃ i5 : Nat, (((13 : Int32) + ((6 : Int32) * x1)) + (3 : Int32)) = nI i5 ∧ i5 < 2147483648 ∧ i5 < xlen h a2 ∧ ∀ h6 : xH, h6 = xput h a2 i5 (xi (n4 + x2)) → xcls h6 this = 6 ∧ ∃ o7 : Option Nat, xval h6 this 4 = xr o7 ∧ ∃ a8, o7 = some a8 ∧ xcls h6 a8 = 1003 ∧ ∃ i9 : Nat, (5 : Int32) = nI i9 ∧ i9 < 2147483648 ∧ i9 < xlen h6 a8 ∧ ∃ n10 : Int32, xval h6 a8 i9 = xi n10 ∧ xcls h6 a8 = 1003 ∧ ∃ i11 : Nat, (5 : Int32) = nI i11 ∧ i11 < 2147483648 ∧ i11 < xlen h6 a8 ∧ ∀ h12 : xH, h12 = xput h6 a8 i11 (xi (n10 + x2)) → Q (.inl none) h12) : xCn G mX3_thirsts d K [xr (some this), xi x1, xi x2] h Q := by
  refine xCn_of px_X3_thirsts rfl rfl (Nat.le_of_ble_eq_true rfl) ?_
  show xWp G mX3_thirsts d K Q K 0 [some (xr (some this)), some (xi x1), some (xi x2)] [] h
  refine xw_aload_n dX3_thirsts_0 rfl ?_
  obtain ⟨hcK, o1, hvK, hvc⟩ := hvc
  refine xw_get dX3_thirsts_1 hcX3 in_X3 (kf := 4) (by decide) q2983 (fun _ _ _ _ z => z) hcK hvK ?_
  refine xw_bipush (13 : Int32) dX3_thirsts_4 (by decide) ?_
  refine xw_bipush (6 : Int32) dX3_thirsts_6 (by decide) ?_
  refine xw_iload_n dX3_thirsts_8 rfl ?_
  refine xw_imul dX3_thirsts_9 ?_
  refine xw_iadd dX3_thirsts_10 ?_
  refine xw_iconst (3 : Int32) dX3_thirsts_11 (by decide) ?_
  refine xw_iadd dX3_thirsts_12 ?_
  refine xw_dup2 dX3_thirsts_13 rfl rfl ?_
  obtain ⟨a2, ho, hvc⟩ := hvc
  subst ho
  obtain ⟨hcK, i3, hx9, hb9, hi9, n4, hv9, hvc⟩ := hvc
  refine xw_iald (j := 3) dX3_thirsts_14 rfl hcK hx9 hb9 hi9 hv9 ?_
  refine xw_iload_n dX3_thirsts_15 rfl ?_
  refine xw_iadd dX3_thirsts_16 ?_
  obtain ⟨hcK, i5, hx9, hb9, hi9, hvc⟩ := hvc
  refine xw_iast (j := 3) dX3_thirsts_17 rfl hcK (Or.inl rfl) hx9 hb9 hi9 (fun h6 eh9 => ?_)
  replace hvc := hvc h6 eh9
  refine xw_aload_n dX3_thirsts_18 rfl ?_
  obtain ⟨hcK, o7, hvK, hvc⟩ := hvc
  refine xw_get dX3_thirsts_19 hcX3 in_X3 (kf := 4) (by decide) q2983 (fun _ _ _ _ z => z) hcK hvK ?_
  refine xw_iconst (5 : Int32) dX3_thirsts_22 (by decide) ?_
  refine xw_dup2 dX3_thirsts_23 rfl rfl ?_
  obtain ⟨a8, ho, hvc⟩ := hvc
  subst ho
  obtain ⟨hcK, i9, hx9, hb9, hi9, n10, hv9, hvc⟩ := hvc
  refine xw_iald (j := 3) dX3_thirsts_24 rfl hcK hx9 hb9 hi9 hv9 ?_
  refine xw_iload_n dX3_thirsts_25 rfl ?_
  refine xw_iadd dX3_thirsts_26 ?_
  obtain ⟨hcK, i11, hx9, hb9, hi9, hvc⟩ := hvc
  refine xw_iast (j := 3) dX3_thirsts_27 rfl hcK (Or.inl rfl) hx9 hb9 hi9 (fun h12 eh9 => ?_)
  replace hvc := hvc h12 eh9
  exact xw_vret dX3_thirsts_28 rfl hvc

theorem vc_X3_wellGives {G : xG} {d K : Nat} {Q : xR → xH → Prop} {h : xH} {this : Nat} {x1 : Int32}
    (hvc : xcls h this = 6 ∧ xCall G d K mX3_gives [xr (some this), xi x1] h (xkI (fun n3 h1 k2 => xWp G mX3_wellGives d K Q k2 11 [some (xr (some this)), some (xi x1), some (xi n3), some (xi (0 : Int32)), some (xi (0 : Int32)), none] [] h1) (fun q h _ => Q (.inr q) h))) : xCn G mX3_wellGives d K [xr (some this), xi x1] h Q := by
  refine xCn_of px_X3_wellGives rfl rfl (Nat.le_of_ble_eq_true rfl) ?_
  show xWp G mX3_wellGives d K Q K 0 [some (xr (some this)), some (xi x1), none, none, none, none] [] h
  refine xw_aload_n dX3_wellGives_0 rfl ?_
  refine xw_iload_n dX3_wellGives_1 rfl ?_
  obtain ⟨hcK, hvc⟩ := hvc
  obtain ⟨d9, k9, hd9, hk9, hC9⟩ := hvc
  refine xw_callV dX3_wellGives_2 px_X3_gives pm_X3_gives q3202 q3204 qs69 hcX3 hcK (As := [xi x1]) (rest := []) rfl rfl (Nat.le_of_ble_eq_true rfl) hd9 hk9 hC9 (xkI_n fun n3 h1 hvc => ?_) (fun q h hq => xTh_out0 rfl hq)
  refine xw_istore_n dX3_wellGives_5 (Nat.le_of_ble_eq_true rfl) (L9 := [some (xr (some this)), some (xi x1), some (xi n3), none, none, none]) rfl ?_
  refine xw_iconst (0 : Int32) dX3_wellGives_6 (by decide) ?_
  refine xw_istore_n dX3_wellGives_7 (Nat.le_of_ble_eq_true rfl) (L9 := [some (xr (some this)), some (xi x1), some (xi n3), some (xi (0 : Int32)), none, none]) rfl ?_
  refine xw_iconst (0 : Int32) dX3_wellGives_8 (by decide) ?_
  refine xw_istore dX3_wellGives_9 (Nat.le_of_ble_eq_true rfl) (L9 := [some (xr (some this)), some (xi x1), some (xi n3), some (xi (0 : Int32)), some (xi (0 : Int32)), none]) rfl ?_
  exact hvc

theorem vc_X3_wellGives_11 {G : xG} {d K k : Nat} {Q : xR → xH → Prop} {h : xH} {this : Nat} {x1 : Int32} {x2 : Int32} {x3 : Int32} {x4 : Int32}
    (hvc : xcls h this = 6 ∧ ∃ o4 : Option Nat, xval h this 4 = xr o4 ∧ ∃ a5, o4 = some a5 ∧ xcls h a5 = 1003 ∧ ∃ i6 : Nat, (2 : Int32) = nI i6 ∧ i6 < 2147483648 ∧ i6 < xlen h a5 ∧ ∃ n7 : Int32, xval h a5 i6 = xi n7 ∧ ((n7 ≤ x4 → xcls h this = 6 ∧ ∃ o8 : Option Nat, xval h this 4 = xr o8 ∧ ∃ a9, o8 = some a9 ∧ xcls h a9 = 1003 ∧ ∃ i10 : Nat, (6 : Int32) = nI i10 ∧ i10 < 2147483648 ∧ i10 < xlen h a9 ∧ ∃ n11 : Int32, xval h a9 i10 = xi n11 ∧ xcls h a9 = 1003 ∧ ∃ i12 : Nat, (6 : Int32) = nI i12 ∧ i12 < 2147483648 ∧ i12 < xlen h a9 ∧ ∀ h13 : xH, h13 = xput h a9 i12 (xi (n11 + x3)) → xcls h13 this = 6 ∧ xCall G d k mX3_siteIs [xr (some this), xi x1, xi (7 : Int32)] h13 (xkI (fun n16 h14 k15 => xcls h14 this = 6 ∧ xCall G d k15 mX3_setsSite [xr (some this), xi x1, xi (7 : Int32), xi (n16 + x3)] h14 (xkV (fun h17 k18 => ((x3 < (20 : Int32) → xcls h17 this = 6 ∧ xCall G d k18 mX3_sinks [xr (some this), xi x1, xi (0 : Int32)] h17 (xkV (fun h19 k20 => Q (.inl none) h19) (fun q h _ => Q (.inr q) h))) ∧ (¬ x3 < (20 : Int32) → xcls h17 this = 6 ∧ xCall G d k18 mX3_sinks [xr (some this), xi x1, xi (1 : Int32)] h17 (xkV (fun h21 k22 => Q (.inl none) h21) (fun q h _ => Q (.inr q) h))))) (fun q h _ => Q (.inr q) h))) (fun q h _ => Q (.inr q) h))) ∧ (¬ n7 ≤ x4 → xcls h this = 6 ∧ xCall G d k mX3_well [xr (some this), xi x4] h (xkI (fun n25 h23 k24 => ((n25 = x1 → xcls h23 this = 6 ∧ xCall G d k24 mX3_hamletIs [xr (some this), xi x4, xi (2 : Int32)] h23 (xkI (fun n28 h26 k27 => ((x2 ≤ n28 → xcls h26 this = 6 ∧ xCall G d k27 mX3_gets [xr (some this), xi x4, xi x1, xi x2] h26 (xkV (fun h29 k30 => xWp G mX3_wellGives d K Q k30 11 [some (xr (some this)), some (xi x1), some (xi (x2 - x2)), some (xi (x3 + x2)), some (xi (x4 + (1 : Int32))), none] [] h29) (fun q h _ => Q (.inr q) h))) ∧ (¬ x2 ≤ n28 → xcls h26 this = 6 ∧ xCall G d k27 mX3_hamletIs [xr (some this), xi x4, xi (2 : Int32)] h26 (xkI (fun n33 h31 k32 => xcls h31 this = 6 ∧ xCall G d k32 mX3_gets [xr (some this), xi x4, xi x1, xi n33] h31 (xkV (fun h34 k35 => xWp G mX3_wellGives d K Q k35 11 [some (xr (some this)), some (xi x1), some (xi (x2 - n33)), some (xi (x3 + n33)), some (xi (x4 + (1 : Int32))), none] [] h34) (fun q h _ => Q (.inr q) h))) (fun q h _ => Q (.inr q) h))))) (fun q h _ => Q (.inr q) h))) ∧ (¬ n25 = x1 → xWp G mX3_wellGives d K Q k24 11 [some (xr (some this)), some (xi x1), some (xi x2), some (xi x3), some (xi (x4 + (1 : Int32))), none] [] h23))) (fun q h _ => Q (.inr q) h))))) : xWp G mX3_wellGives d K Q k 11 [some (xr (some this)), some (xi x1), some (xi x2), some (xi x3), some (xi x4), none] [] h := by
  refine xw_iload dX3_wellGives_11 rfl ?_
  refine xw_aload_n dX3_wellGives_13 rfl ?_
  obtain ⟨hcK, o4, hvK, hvc⟩ := hvc
  refine xw_get dX3_wellGives_14 hcX3 in_X3 (kf := 4) (by decide) q2983 (fun _ _ _ _ z => z) hcK hvK ?_
  refine xw_iconst (2 : Int32) dX3_wellGives_17 (by decide) ?_
  obtain ⟨a5, ho, hvc⟩ := hvc
  subst ho
  obtain ⟨hcK, i6, hx9, hb9, hi9, n7, hv9, hvc⟩ := hvc
  refine xw_iald (j := 3) dX3_wellGives_18 rfl hcK hx9 hb9 hi9 hv9 ?_
  refine xw_icmp_ge 84 dX3_wellGives_19 rfl (fun hc => ?_) (fun hc => ?_)
  · replace hvc := hvc.1 hc
    refine xw_aload_n dX3_wellGives_84 rfl ?_
    obtain ⟨hcK, o8, hvK, hvc⟩ := hvc
    refine xw_get dX3_wellGives_85 hcX3 in_X3 (kf := 4) (by decide) q2983 (fun _ _ _ _ z => z) hcK hvK ?_
    refine xw_bipush (6 : Int32) dX3_wellGives_88 (by decide) ?_
    refine xw_dup2 dX3_wellGives_90 rfl rfl ?_
    obtain ⟨a9, ho, hvc⟩ := hvc
    subst ho
    obtain ⟨hcK, i10, hx9, hb9, hi9, n11, hv9, hvc⟩ := hvc
    refine xw_iald (j := 3) dX3_wellGives_91 rfl hcK hx9 hb9 hi9 hv9 ?_
    refine xw_iload_n dX3_wellGives_92 rfl ?_
    refine xw_iadd dX3_wellGives_93 ?_
    obtain ⟨hcK, i12, hx9, hb9, hi9, hvc⟩ := hvc
    refine xw_iast (j := 3) dX3_wellGives_94 rfl hcK (Or.inl rfl) hx9 hb9 hi9 (fun h13 eh9 => ?_)
    replace hvc := hvc h13 eh9
    refine xw_aload_n dX3_wellGives_95 rfl ?_
    refine xw_iload_n dX3_wellGives_96 rfl ?_
    refine xw_bipush (7 : Int32) dX3_wellGives_97 (by decide) ?_
    refine xw_aload_n dX3_wellGives_99 rfl ?_
    refine xw_iload_n dX3_wellGives_100 rfl ?_
    refine xw_bipush (7 : Int32) dX3_wellGives_101 (by decide) ?_
    obtain ⟨hcK, hvc⟩ := hvc
    obtain ⟨d9, k9, hd9, hk9, hC9⟩ := hvc
    refine xw_callV dX3_wellGives_103 px_X3_siteIs pm_X3_siteIs q3109 q3111 qs51 hcX3 hcK (As := [xi x1, xi (7 : Int32)]) (rest := [xi (7 : Int32), xi x1, xr (some this)]) rfl rfl (Nat.le_of_ble_eq_true rfl) hd9 hk9 hC9 (xkI_n fun n16 h14 hvc => ?_) (fun q h hq => xTh_out0 rfl hq)
    refine xw_iload_n dX3_wellGives_106 rfl ?_
    refine xw_iadd dX3_wellGives_107 ?_
    obtain ⟨hcK, hvc⟩ := hvc
    obtain ⟨d9, k9, hd9, hk9, hC9⟩ := hvc
    refine xw_callV dX3_wellGives_108 px_X3_setsSite pm_X3_setsSite q3117 q3119 qs53 hcX3 hcK (As := [xi x1, xi (7 : Int32), xi (n16 + x3)]) (rest := []) rfl rfl (Nat.le_of_ble_eq_true rfl) hd9 hk9 hC9 (xkV_n fun h17 hvc => ?_) (fun q h hq => xTh_out0 rfl hq)
    refine xw_aload_n dX3_wellGives_111 rfl ?_
    refine xw_iload_n dX3_wellGives_112 rfl ?_
    refine xw_iload_n dX3_wellGives_113 rfl ?_
    refine xw_bipush (20 : Int32) dX3_wellGives_114 (by decide) ?_
    refine xw_icmp_lt 123 dX3_wellGives_116 rfl (fun hc => ?_) (fun hc => ?_)
    · replace hvc := hvc.1 hc
      refine xw_iconst (0 : Int32) dX3_wellGives_123 (by decide) ?_
      obtain ⟨hcK, hvc⟩ := hvc
      obtain ⟨d9, k9, hd9, hk9, hC9⟩ := hvc
      refine xw_callV dX3_wellGives_124 px_X3_sinks pm_X3_sinks q3254 q3256 qs79 hcX3 hcK (As := [xi x1, xi (0 : Int32)]) (rest := []) rfl rfl (Nat.le_of_ble_eq_true rfl) hd9 hk9 hC9 (xkV_n fun h19 hvc => ?_) (fun q h hq => xTh_out0 rfl hq)
      exact xw_vret dX3_wellGives_127 rfl hvc
    · replace hvc := hvc.2 hc
      refine xw_iconst (1 : Int32) dX3_wellGives_119 (by decide) ?_
      refine xw_goto 124 dX3_wellGives_120 rfl ?_
      obtain ⟨hcK, hvc⟩ := hvc
      obtain ⟨d9, k9, hd9, hk9, hC9⟩ := hvc
      refine xw_callV dX3_wellGives_124 px_X3_sinks pm_X3_sinks q3254 q3256 qs79 hcX3 hcK (As := [xi x1, xi (1 : Int32)]) (rest := []) rfl rfl (Nat.le_of_ble_eq_true rfl) hd9 hk9 hC9 (xkV_n fun h21 hvc => ?_) (fun q h hq => xTh_out0 rfl hq)
      exact xw_vret dX3_wellGives_127 rfl hvc
  · replace hvc := hvc.2 hc
    refine xw_aload_n dX3_wellGives_22 rfl ?_
    refine xw_iload dX3_wellGives_23 rfl ?_
    obtain ⟨hcK, hvc⟩ := hvc
    obtain ⟨d9, k9, hd9, hk9, hC9⟩ := hvc
    refine xw_callV dX3_wellGives_25 px_X3_well pm_X3_well q3141 q3143 qs58 hcX3 hcK (As := [xi x4]) (rest := []) rfl rfl (Nat.le_of_ble_eq_true rfl) hd9 hk9 hC9 (xkI_n fun n25 h23 hvc => ?_) (fun q h hq => xTh_out0 rfl hq)
    refine xw_iload_n dX3_wellGives_28 rfl ?_
    refine xw_icmp_eq 35 dX3_wellGives_29 rfl (fun hc => ?_) (fun hc => ?_)
    · replace hvc := hvc.1 hc
      refine xw_aload_n dX3_wellGives_35 rfl ?_
      refine xw_iload dX3_wellGives_36 rfl ?_
      refine xw_iconst (2 : Int32) dX3_wellGives_38 (by decide) ?_
      obtain ⟨hcK, hvc⟩ := hvc
      obtain ⟨d9, k9, hd9, hk9, hC9⟩ := hvc
      refine xw_callV dX3_wellGives_39 px_X3_hamletIs pm_X3_hamletIs q3069 q3071 qs42 hcX3 hcK (As := [xi x4, xi (2 : Int32)]) (rest := []) rfl rfl (Nat.le_of_ble_eq_true rfl) hd9 hk9 hC9 (xkI_n fun n28 h26 hvc => ?_) (fun q h hq => xTh_out0 rfl hq)
      refine xw_iload_n dX3_wellGives_42 rfl ?_
      refine xw_icmp_ge 56 dX3_wellGives_43 rfl (fun hc => ?_) (fun hc => ?_)
      · replace hvc := hvc.1 hc
        refine xw_iload_n dX3_wellGives_56 rfl ?_
        refine xw_istore dX3_wellGives_57 (Nat.le_of_ble_eq_true rfl) (L9 := [some (xr (some this)), some (xi x1), some (xi x2), some (xi x3), some (xi x4), some (xi x2)]) rfl ?_
        refine xw_iload_n dX3_wellGives_59 rfl ?_
        refine xw_iload dX3_wellGives_60 rfl ?_
        refine xw_isub dX3_wellGives_62 ?_
        refine xw_istore_n dX3_wellGives_63 (Nat.le_of_ble_eq_true rfl) (L9 := [some (xr (some this)), some (xi x1), some (xi (x2 - x2)), some (xi x3), some (xi x4), some (xi x2)]) rfl ?_
        refine xw_iload_n dX3_wellGives_64 rfl ?_
        refine xw_iload dX3_wellGives_65 rfl ?_
        refine xw_iadd dX3_wellGives_67 ?_
        refine xw_istore_n dX3_wellGives_68 (Nat.le_of_ble_eq_true rfl) (L9 := [some (xr (some this)), some (xi x1), some (xi (x2 - x2)), some (xi (x3 + x2)), some (xi x4), some (xi x2)]) rfl ?_
        refine xw_aload_n dX3_wellGives_69 rfl ?_
        refine xw_iload dX3_wellGives_70 rfl ?_
        refine xw_iload_n dX3_wellGives_72 rfl ?_
        refine xw_iload dX3_wellGives_73 rfl ?_
        obtain ⟨hcK, hvc⟩ := hvc
        obtain ⟨d9, k9, hd9, hk9, hC9⟩ := hvc
        refine xw_callV dX3_wellGives_75 px_X3_gets pm_X3_gets q3250 q3252 qs78 hcX3 hcK (As := [xi x4, xi x1, xi x2]) (rest := []) rfl rfl (Nat.le_of_ble_eq_true rfl) hd9 hk9 hC9 (xkV_n fun h29 hvc => ?_) (fun q h hq => xTh_out0 rfl hq)
        refine xw_iinc (1 : Int32) dX3_wellGives_78 rfl (by decide) (Nat.le_of_ble_eq_true rfl) (L9 := [some (xr (some this)), some (xi x1), some (xi (x2 - x2)), some (xi (x3 + x2)), some (xi (x4 + (1 : Int32))), some (xi x2)]) rfl ?_
        refine xw_goto 11 dX3_wellGives_81 rfl ?_
        exact xWp_loc hvc (And.intro rfl (And.intro rfl (And.intro rfl (And.intro rfl (And.intro rfl trivial)))))
      · replace hvc := hvc.2 hc
        refine xw_aload_n dX3_wellGives_46 rfl ?_
        refine xw_iload dX3_wellGives_47 rfl ?_
        refine xw_iconst (2 : Int32) dX3_wellGives_49 (by decide) ?_
        obtain ⟨hcK, hvc⟩ := hvc
        obtain ⟨d9, k9, hd9, hk9, hC9⟩ := hvc
        refine xw_callV dX3_wellGives_50 px_X3_hamletIs pm_X3_hamletIs q3069 q3071 qs42 hcX3 hcK (As := [xi x4, xi (2 : Int32)]) (rest := []) rfl rfl (Nat.le_of_ble_eq_true rfl) hd9 hk9 hC9 (xkI_n fun n33 h31 hvc => ?_) (fun q h hq => xTh_out0 rfl hq)
        refine xw_goto 57 dX3_wellGives_53 rfl ?_
        refine xw_istore dX3_wellGives_57 (Nat.le_of_ble_eq_true rfl) (L9 := [some (xr (some this)), some (xi x1), some (xi x2), some (xi x3), some (xi x4), some (xi n33)]) rfl ?_
        refine xw_iload_n dX3_wellGives_59 rfl ?_
        refine xw_iload dX3_wellGives_60 rfl ?_
        refine xw_isub dX3_wellGives_62 ?_
        refine xw_istore_n dX3_wellGives_63 (Nat.le_of_ble_eq_true rfl) (L9 := [some (xr (some this)), some (xi x1), some (xi (x2 - n33)), some (xi x3), some (xi x4), some (xi n33)]) rfl ?_
        refine xw_iload_n dX3_wellGives_64 rfl ?_
        refine xw_iload dX3_wellGives_65 rfl ?_
        refine xw_iadd dX3_wellGives_67 ?_
        refine xw_istore_n dX3_wellGives_68 (Nat.le_of_ble_eq_true rfl) (L9 := [some (xr (some this)), some (xi x1), some (xi (x2 - n33)), some (xi (x3 + n33)), some (xi x4), some (xi n33)]) rfl ?_
        refine xw_aload_n dX3_wellGives_69 rfl ?_
        refine xw_iload dX3_wellGives_70 rfl ?_
        refine xw_iload_n dX3_wellGives_72 rfl ?_
        refine xw_iload dX3_wellGives_73 rfl ?_
        obtain ⟨hcK, hvc⟩ := hvc
        obtain ⟨d9, k9, hd9, hk9, hC9⟩ := hvc
        refine xw_callV dX3_wellGives_75 px_X3_gets pm_X3_gets q3250 q3252 qs78 hcX3 hcK (As := [xi x4, xi x1, xi n33]) (rest := []) rfl rfl (Nat.le_of_ble_eq_true rfl) hd9 hk9 hC9 (xkV_n fun h34 hvc => ?_) (fun q h hq => xTh_out0 rfl hq)
        refine xw_iinc (1 : Int32) dX3_wellGives_78 rfl (by decide) (Nat.le_of_ble_eq_true rfl) (L9 := [some (xr (some this)), some (xi x1), some (xi (x2 - n33)), some (xi (x3 + n33)), some (xi (x4 + (1 : Int32))), some (xi n33)]) rfl ?_
        refine xw_goto 11 dX3_wellGives_81 rfl ?_
        exact xWp_loc hvc (And.intro rfl (And.intro rfl (And.intro rfl (And.intro rfl (And.intro rfl trivial)))))
    · replace hvc := hvc.2 hc
      refine xw_goto 78 dX3_wellGives_32 rfl ?_
      refine xw_iinc (1 : Int32) dX3_wellGives_78 rfl (by decide) (Nat.le_of_ble_eq_true rfl) (L9 := [some (xr (some this)), some (xi x1), some (xi x2), some (xi x3), some (xi (x4 + (1 : Int32))), none]) rfl ?_
      refine xw_goto 11 dX3_wellGives_81 rfl ?_
      exact hvc

theorem vc_X3_gets {G : xG} {d K : Nat} {Q : xR → xH → Prop} {h : xH} {this : Nat} {x1 : Int32} {x2 : Int32} {x3 : Int32}
    (hvc : xcls h this = 6 ∧ ∃ o1 : Option Nat, xval h this 4 = xr o1 ∧ ∃ a2, o1 = some a2 ∧ xcls h a2 = 1003 ∧ ∃ i3 : Nat, (((13 : Int32) + ((6 : Int32) * x1)) + (4 : Int32)) = nI i3 ∧ i3 < 2147483648 ∧ i3 < xlen h a2 ∧ ∃ n4 : Int32, xval h a2 i3 = xi n4 ∧ xcls h a2 = 1003 ∧ ∃ i5 : Nat, (((13 : Int32) + ((6 : Int32) * x1)) + (4 : Int32)) = nI i5 ∧ i5 < 2147483648 ∧ i5 < xlen h a2 ∧ ∀ h6 : xH, h6 = xput h a2 i5 (xi (n4 + x3)) → xcls h6 this = 6 ∧ xCall G d K mX3_hamletIs [xr (some this), xi x1, xi (2 : Int32)] h6 (xkI (fun n9 h7 k8 => xcls h7 this = 6 ∧ xCall G d k8 mX3_thirsts [xr (some this), xi x1, xi (n9 - x3)] h7 (xkV (fun h10 k11 => xcls h10 this = 6 ∧ xCall G d k11 mX3_far [xr (some this), xi x1, xi x2] h10 (xkI (fun n14 h12 k13 => xcls h12 this = 6 ∧ ∃ o15 : Option Nat, xval h12 this 4 = xr o15 ∧ ∃ a16, o15 = some a16 ∧ xcls h12 a16 = 1003 ∧ ∃ i17 : Nat, (1 : Int32) = nI i17 ∧ i17 < 2147483648 ∧ i17 < xlen h12 a16 ∧ ∃ n18 : Int32, xval h12 a16 i17 = xi n18 ∧ ((((x3 * n14) / (10 : Int32)) ≤ n18 → xcls h12 this = 6 ∧ ∃ o19 : Option Nat, xval h12 this 4 = xr o19 ∧ ∃ a20, o19 = some a20 ∧ xcls h12 a20 = 1003 ∧ ∃ i21 : Nat, (1 : Int32) = nI i21 ∧ i21 < 2147483648 ∧ i21 < xlen h12 a20 ∧ ∃ n22 : Int32, xval h12 a20 i21 = xi n22 ∧ xcls h12 a20 = 1003 ∧ ∃ i23 : Nat, (1 : Int32) = nI i23 ∧ i23 < 2147483648 ∧ i23 < xlen h12 a20 ∧ ∀ h24 : xH, h24 = xput h12 a20 i23 (xi (n22 - ((x3 * n14) / (10 : Int32)))) → xcls h24 this = 6 ∧ ∃ o25 : Option Nat, xval h24 this 4 = xr o25 ∧ ∃ a26, o25 = some a26 ∧ xcls h24 a26 = 1003 ∧ ∃ i27 : Nat, (9 : Int32) = nI i27 ∧ i27 < 2147483648 ∧ i27 < xlen h24 a26 ∧ ∃ n28 : Int32, xval h24 a26 i27 = xi n28 ∧ xcls h24 a26 = 1003 ∧ ∃ i29 : Nat, (9 : Int32) = nI i29 ∧ i29 < 2147483648 ∧ i29 < xlen h24 a26 ∧ ∀ h30 : xH, h30 = xput h24 a26 i29 (xi (n28 + ((x3 * n14) / (10 : Int32)))) → xcls h30 this = 6 ∧ ∃ o31 : Option Nat, xval h30 this 4 = xr o31 ∧ ∃ a32, o31 = some a32 ∧ xcls h30 a32 = 1003 ∧ ∃ i33 : Nat, (((13 : Int32) + ((6 : Int32) * x1)) + (5 : Int32)) = nI i33 ∧ i33 < 2147483648 ∧ i33 < xlen h30 a32 ∧ ∃ n34 : Int32, xval h30 a32 i33 = xi n34 ∧ xcls h30 a32 = 1003 ∧ ∃ i35 : Nat, (((13 : Int32) + ((6 : Int32) * x1)) + (5 : Int32)) = nI i35 ∧ i35 < 2147483648 ∧ i35 < xlen h30 a32 ∧ ∀ h36 : xH, h36 = xput h30 a32 i35 (xi (n34 + ((x3 * n14) / (10 : Int32)))) → xcls h36 this = 6 ∧ ∃ o37 : Option Nat, xval h36 this 4 = xr o37 ∧ ∃ a38, o37 = some a38 ∧ xcls h36 a38 = 1003 ∧ ∃ i39 : Nat, (10 : Int32) = nI i39 ∧ i39 < 2147483648 ∧ i39 < xlen h36 a38 ∧ ∃ n40 : Int32, xval h36 a38 i39 = xi n40 ∧ xcls h36 a38 = 1003 ∧ ∃ i41 : Nat, (10 : Int32) = nI i41 ∧ i41 < 2147483648 ∧ i41 < xlen h36 a38 ∧ ∀ h42 : xH, h42 = xput h36 a38 i41 (xi (n40 + (x3 / (4 : Int32)))) → xcls h42 this = 6 ∧ ∃ o43 : Option Nat, xval h42 this 4 = xr o43 ∧ ∃ a44, o43 = some a44 ∧ xcls h42 a44 = 1003 ∧ ∃ i45 : Nat, (1 : Int32) = nI i45 ∧ i45 < 2147483648 ∧ i45 < xlen h42 a44 ∧ ∃ n46 : Int32, xval h42 a44 i45 = xi n46 ∧ xcls h42 a44 = 1003 ∧ ∃ i47 : Nat, (1 : Int32) = nI i47 ∧ i47 < 2147483648 ∧ i47 < xlen h42 a44 ∧ ∀ h48 : xH, h48 = xput h42 a44 i47 (xi (n46 + (x3 / (4 : Int32)))) → xcls h48 this = 6 ∧ ∃ o49 : Option Nat, xval h48 this 4 = xr o49 ∧ ∃ a50, o49 = some a50 ∧ xcls h48 a50 = 1003 ∧ ∃ i51 : Nat, (1 : Int32) = nI i51 ∧ i51 < 2147483648 ∧ i51 < xlen h48 a50 ∧ ∃ n52 : Int32, xval h48 a50 i51 = xi n52 ∧ (((999 : Int32) < n52 → xcls h48 this = 6 ∧ ∃ o53 : Option Nat, xval h48 this 4 = xr o53 ∧ ∃ a54, o53 = some a54 ∧ xcls h48 a54 = 1003 ∧ ∃ i55 : Nat, (11 : Int32) = nI i55 ∧ i55 < 2147483648 ∧ i55 < xlen h48 a54 ∧ ∃ n56 : Int32, xval h48 a54 i55 = xi n56 ∧ xcls h48 this = 6 ∧ ∃ o57 : Option Nat, xval h48 this 4 = xr o57 ∧ ∃ a58, o57 = some a58 ∧ xcls h48 a58 = 1003 ∧ ∃ i59 : Nat, (1 : Int32) = nI i59 ∧ i59 < 2147483648 ∧ i59 < xlen h48 a58 ∧ ∃ n60 : Int32, xval h48 a58 i59 = xi n60 ∧ xcls h48 a54 = 1003 ∧ ∃ i61 : Nat, (11 : Int32) = nI i61 ∧ i61 < 2147483648 ∧ i61 < xlen h48 a54 ∧ ∀ h62 : xH, h62 = xput h48 a54 i61 (xi (n56 + (n60 - (999 : Int32)))) → xcls h62 this = 6 ∧ ∃ o63 : Option Nat, xval h62 this 4 = xr o63 ∧ ∃ a64, o63 = some a64 ∧ xcls h62 a64 = 1003 ∧ ∃ i65 : Nat, (1 : Int32) = nI i65 ∧ i65 < 2147483648 ∧ i65 < xlen h62 a64 ∧ ∀ h66 : xH, h66 = xput h62 a64 i65 (xi (999 : Int32)) → Q (.inl none) h66) ∧ (¬ (999 : Int32) < n52 → Q (.inl none) h48))) ∧ (¬ ((x3 * n14) / (10 : Int32)) ≤ n18 → xcls h12 this = 6 ∧ ∃ o67 : Option Nat, xval h12 this 4 = xr o67 ∧ ∃ a68, o67 = some a68 ∧ xcls h12 a68 = 1003 ∧ ∃ i69 : Nat, (1 : Int32) = nI i69 ∧ i69 < 2147483648 ∧ i69 < xlen h12 a68 ∧ ∃ n70 : Int32, xval h12 a68 i69 = xi n70 ∧ xcls h12 this = 6 ∧ ∃ o71 : Option Nat, xval h12 this 4 = xr o71 ∧ ∃ a72, o71 = some a72 ∧ xcls h12 a72 = 1003 ∧ ∃ i73 : Nat, (1 : Int32) = nI i73 ∧ i73 < 2147483648 ∧ i73 < xlen h12 a72 ∧ ∃ n74 : Int32, xval h12 a72 i73 = xi n74 ∧ xcls h12 a72 = 1003 ∧ ∃ i75 : Nat, (1 : Int32) = nI i75 ∧ i75 < 2147483648 ∧ i75 < xlen h12 a72 ∧ ∀ h76 : xH, h76 = xput h12 a72 i75 (xi (n74 - n70)) → xcls h76 this = 6 ∧ ∃ o77 : Option Nat, xval h76 this 4 = xr o77 ∧ ∃ a78, o77 = some a78 ∧ xcls h76 a78 = 1003 ∧ ∃ i79 : Nat, (9 : Int32) = nI i79 ∧ i79 < 2147483648 ∧ i79 < xlen h76 a78 ∧ ∃ n80 : Int32, xval h76 a78 i79 = xi n80 ∧ xcls h76 a78 = 1003 ∧ ∃ i81 : Nat, (9 : Int32) = nI i81 ∧ i81 < 2147483648 ∧ i81 < xlen h76 a78 ∧ ∀ h82 : xH, h82 = xput h76 a78 i81 (xi (n80 + n70)) → xcls h82 this = 6 ∧ ∃ o83 : Option Nat, xval h82 this 4 = xr o83 ∧ ∃ a84, o83 = some a84 ∧ xcls h82 a84 = 1003 ∧ ∃ i85 : Nat, (((13 : Int32) + ((6 : Int32) * x1)) + (5 : Int32)) = nI i85 ∧ i85 < 2147483648 ∧ i85 < xlen h82 a84 ∧ ∃ n86 : Int32, xval h82 a84 i85 = xi n86 ∧ xcls h82 a84 = 1003 ∧ ∃ i87 : Nat, (((13 : Int32) + ((6 : Int32) * x1)) + (5 : Int32)) = nI i87 ∧ i87 < 2147483648 ∧ i87 < xlen h82 a84 ∧ ∀ h88 : xH, h88 = xput h82 a84 i87 (xi (n86 + n70)) → xcls h88 this = 6 ∧ ∃ o89 : Option Nat, xval h88 this 4 = xr o89 ∧ ∃ a90, o89 = some a90 ∧ xcls h88 a90 = 1003 ∧ ∃ i91 : Nat, (10 : Int32) = nI i91 ∧ i91 < 2147483648 ∧ i91 < xlen h88 a90 ∧ ∃ n92 : Int32, xval h88 a90 i91 = xi n92 ∧ xcls h88 a90 = 1003 ∧ ∃ i93 : Nat, (10 : Int32) = nI i93 ∧ i93 < 2147483648 ∧ i93 < xlen h88 a90 ∧ ∀ h94 : xH, h94 = xput h88 a90 i93 (xi (n92 + (x3 / (4 : Int32)))) → xcls h94 this = 6 ∧ ∃ o95 : Option Nat, xval h94 this 4 = xr o95 ∧ ∃ a96, o95 = some a96 ∧ xcls h94 a96 = 1003 ∧ ∃ i97 : Nat, (1 : Int32) = nI i97 ∧ i97 < 2147483648 ∧ i97 < xlen h94 a96 ∧ ∃ n98 : Int32, xval h94 a96 i97 = xi n98 ∧ xcls h94 a96 = 1003 ∧ ∃ i99 : Nat, (1 : Int32) = nI i99 ∧ i99 < 2147483648 ∧ i99 < xlen h94 a96 ∧ ∀ h100 : xH, h100 = xput h94 a96 i99 (xi (n98 + (x3 / (4 : Int32)))) → xcls h100 this = 6 ∧ ∃ o101 : Option Nat, xval h100 this 4 = xr o101 ∧ ∃ a102, o101 = some a102 ∧ xcls h100 a102 = 1003 ∧ ∃ i103 : Nat, (1 : Int32) = nI i103 ∧ i103 < 2147483648 ∧ i103 < xlen h100 a102 ∧ ∃ n104 : Int32, xval h100 a102 i103 = xi n104 ∧ (((999 : Int32) < n104 → xcls h100 this = 6 ∧ ∃ o105 : Option Nat, xval h100 this 4 = xr o105 ∧ ∃ a106, o105 = some a106 ∧ xcls h100 a106 = 1003 ∧ ∃ i107 : Nat, (11 : Int32) = nI i107 ∧ i107 < 2147483648 ∧ i107 < xlen h100 a106 ∧ ∃ n108 : Int32, xval h100 a106 i107 = xi n108 ∧ xcls h100 this = 6 ∧ ∃ o109 : Option Nat, xval h100 this 4 = xr o109 ∧ ∃ a110, o109 = some a110 ∧ xcls h100 a110 = 1003 ∧ ∃ i111 : Nat, (1 : Int32) = nI i111 ∧ i111 < 2147483648 ∧ i111 < xlen h100 a110 ∧ ∃ n112 : Int32, xval h100 a110 i111 = xi n112 ∧ xcls h100 a106 = 1003 ∧ ∃ i113 : Nat, (11 : Int32) = nI i113 ∧ i113 < 2147483648 ∧ i113 < xlen h100 a106 ∧ ∀ h114 : xH, h114 = xput h100 a106 i113 (xi (n108 + (n112 - (999 : Int32)))) → xcls h114 this = 6 ∧ ∃ o115 : Option Nat, xval h114 this 4 = xr o115 ∧ ∃ a116, o115 = some a116 ∧ xcls h114 a116 = 1003 ∧ ∃ i117 : Nat, (1 : Int32) = nI i117 ∧ i117 < 2147483648 ∧ i117 < xlen h114 a116 ∧ ∀ h118 : xH, h118 = xput h114 a116 i117 (xi (999 : Int32)) → Q (.inl none) h118) ∧ (¬ (999 : Int32) < n104 → Q (.inl none) h100))))) (fun q h _ => Q (.inr q) h))) (fun q h _ => Q (.inr q) h))) (fun q h _ => Q (.inr q) h))) : xCn G mX3_gets d K [xr (some this), xi x1, xi x2, xi x3] h Q := by
  refine xCn_of px_X3_gets rfl rfl (Nat.le_of_ble_eq_true rfl) ?_
  show xWp G mX3_gets d K Q K 0 [some (xr (some this)), some (xi x1), some (xi x2), some (xi x3), none, none] [] h
  refine xw_aload_n dX3_gets_0 rfl ?_
  obtain ⟨hcK, o1, hvK, hvc⟩ := hvc
  refine xw_get dX3_gets_1 hcX3 in_X3 (kf := 4) (by decide) q2983 (fun _ _ _ _ z => z) hcK hvK ?_
  refine xw_bipush (13 : Int32) dX3_gets_4 (by decide) ?_
  refine xw_bipush (6 : Int32) dX3_gets_6 (by decide) ?_
  refine xw_iload_n dX3_gets_8 rfl ?_
  refine xw_imul dX3_gets_9 ?_
  refine xw_iadd dX3_gets_10 ?_
  refine xw_iconst (4 : Int32) dX3_gets_11 (by decide) ?_
  refine xw_iadd dX3_gets_12 ?_
  refine xw_dup2 dX3_gets_13 rfl rfl ?_
  obtain ⟨a2, ho, hvc⟩ := hvc
  subst ho
  obtain ⟨hcK, i3, hx9, hb9, hi9, n4, hv9, hvc⟩ := hvc
  refine xw_iald (j := 3) dX3_gets_14 rfl hcK hx9 hb9 hi9 hv9 ?_
  refine xw_iload_n dX3_gets_15 rfl ?_
  refine xw_iadd dX3_gets_16 ?_
  obtain ⟨hcK, i5, hx9, hb9, hi9, hvc⟩ := hvc
  refine xw_iast (j := 3) dX3_gets_17 rfl hcK (Or.inl rfl) hx9 hb9 hi9 (fun h6 eh9 => ?_)
  replace hvc := hvc h6 eh9
  refine xw_aload_n dX3_gets_18 rfl ?_
  refine xw_iload_n dX3_gets_19 rfl ?_
  refine xw_aload_n dX3_gets_20 rfl ?_
  refine xw_iload_n dX3_gets_21 rfl ?_
  refine xw_iconst (2 : Int32) dX3_gets_22 (by decide) ?_
  obtain ⟨hcK, hvc⟩ := hvc
  obtain ⟨d9, k9, hd9, hk9, hC9⟩ := hvc
  refine xw_callV dX3_gets_23 px_X3_hamletIs pm_X3_hamletIs q3069 q3071 qs42 hcX3 hcK (As := [xi x1, xi (2 : Int32)]) (rest := [xi x1, xr (some this)]) rfl rfl (Nat.le_of_ble_eq_true rfl) hd9 hk9 hC9 (xkI_n fun n9 h7 hvc => ?_) (fun q h hq => xTh_out0 rfl hq)
  refine xw_iload_n dX3_gets_26 rfl ?_
  refine xw_isub dX3_gets_27 ?_
  obtain ⟨hcK, hvc⟩ := hvc
  obtain ⟨d9, k9, hd9, hk9, hC9⟩ := hvc
  refine xw_callV dX3_gets_28 px_X3_thirsts pm_X3_thirsts q3242 q3244 qs76 hcX3 hcK (As := [xi x1, xi (n9 - x3)]) (rest := []) rfl rfl (Nat.le_of_ble_eq_true rfl) hd9 hk9 hC9 (xkV_n fun h10 hvc => ?_) (fun q h hq => xTh_out0 rfl hq)
  refine xw_iload_n dX3_gets_31 rfl ?_
  refine xw_aload_n dX3_gets_32 rfl ?_
  refine xw_iload_n dX3_gets_33 rfl ?_
  refine xw_iload_n dX3_gets_34 rfl ?_
  obtain ⟨hcK, hvc⟩ := hvc
  obtain ⟨d9, k9, hd9, hk9, hC9⟩ := hvc
  refine xw_callV dX3_gets_35 px_X3_far pm_X3_far q3156 q3158 qs61 hcX3 hcK (As := [xi x1, xi x2]) (rest := [xi x3]) rfl rfl (Nat.le_of_ble_eq_true rfl) hd9 hk9 hC9 (xkI_n fun n14 h12 hvc => ?_) (fun q h hq => xTh_out0 rfl hq)
  refine xw_imul dX3_gets_38 ?_
  refine xw_bipush (10 : Int32) dX3_gets_39 (by decide) ?_
  refine xw_idiv dX3_gets_41 (by decide) ?_
  refine xw_istore dX3_gets_42 (Nat.le_of_ble_eq_true rfl) (L9 := [some (xr (some this)), some (xi x1), some (xi x2), some (xi x3), some (xi ((x3 * n14) / (10 : Int32))), none]) rfl ?_
  refine xw_iload dX3_gets_44 rfl ?_
  refine xw_aload_n dX3_gets_46 rfl ?_
  obtain ⟨hcK, o15, hvK, hvc⟩ := hvc
  refine xw_get dX3_gets_47 hcX3 in_X3 (kf := 4) (by decide) q2983 (fun _ _ _ _ z => z) hcK hvK ?_
  refine xw_iconst (1 : Int32) dX3_gets_50 (by decide) ?_
  obtain ⟨a16, ho, hvc⟩ := hvc
  subst ho
  obtain ⟨hcK, i17, hx9, hb9, hi9, n18, hv9, hvc⟩ := hvc
  refine xw_iald (j := 3) dX3_gets_51 rfl hcK hx9 hb9 hi9 hv9 ?_
  refine xw_icmp_le 64 dX3_gets_52 rfl (fun hc => ?_) (fun hc => ?_)
  · replace hvc := hvc.1 hc
    refine xw_iload dX3_gets_64 rfl ?_
    refine xw_istore dX3_gets_66 (Nat.le_of_ble_eq_true rfl) (L9 := [some (xr (some this)), some (xi x1), some (xi x2), some (xi x3), some (xi ((x3 * n14) / (10 : Int32))), none]) rfl ?_
    refine xw_aload_n dX3_gets_68 rfl ?_
    obtain ⟨hcK, o19, hvK, hvc⟩ := hvc
    refine xw_get dX3_gets_69 hcX3 in_X3 (kf := 4) (by decide) q2983 (fun _ _ _ _ z => z) hcK hvK ?_
    refine xw_iconst (1 : Int32) dX3_gets_72 (by decide) ?_
    refine xw_dup2 dX3_gets_73 rfl rfl ?_
    obtain ⟨a20, ho, hvc⟩ := hvc
    subst ho
    obtain ⟨hcK, i21, hx9, hb9, hi9, n22, hv9, hvc⟩ := hvc
    refine xw_iald (j := 3) dX3_gets_74 rfl hcK hx9 hb9 hi9 hv9 ?_
    refine xw_iload dX3_gets_75 rfl ?_
    refine xw_isub dX3_gets_77 ?_
    obtain ⟨hcK, i23, hx9, hb9, hi9, hvc⟩ := hvc
    refine xw_iast (j := 3) dX3_gets_78 rfl hcK (Or.inl rfl) hx9 hb9 hi9 (fun h24 eh9 => ?_)
    replace hvc := hvc h24 eh9
    refine xw_aload_n dX3_gets_79 rfl ?_
    obtain ⟨hcK, o25, hvK, hvc⟩ := hvc
    refine xw_get dX3_gets_80 hcX3 in_X3 (kf := 4) (by decide) q2983 (fun _ _ _ _ z => z) hcK hvK ?_
    refine xw_bipush (9 : Int32) dX3_gets_83 (by decide) ?_
    refine xw_dup2 dX3_gets_85 rfl rfl ?_
    obtain ⟨a26, ho, hvc⟩ := hvc
    subst ho
    obtain ⟨hcK, i27, hx9, hb9, hi9, n28, hv9, hvc⟩ := hvc
    refine xw_iald (j := 3) dX3_gets_86 rfl hcK hx9 hb9 hi9 hv9 ?_
    refine xw_iload dX3_gets_87 rfl ?_
    refine xw_iadd dX3_gets_89 ?_
    obtain ⟨hcK, i29, hx9, hb9, hi9, hvc⟩ := hvc
    refine xw_iast (j := 3) dX3_gets_90 rfl hcK (Or.inl rfl) hx9 hb9 hi9 (fun h30 eh9 => ?_)
    replace hvc := hvc h30 eh9
    refine xw_aload_n dX3_gets_91 rfl ?_
    obtain ⟨hcK, o31, hvK, hvc⟩ := hvc
    refine xw_get dX3_gets_92 hcX3 in_X3 (kf := 4) (by decide) q2983 (fun _ _ _ _ z => z) hcK hvK ?_
    refine xw_bipush (13 : Int32) dX3_gets_95 (by decide) ?_
    refine xw_bipush (6 : Int32) dX3_gets_97 (by decide) ?_
    refine xw_iload_n dX3_gets_99 rfl ?_
    refine xw_imul dX3_gets_100 ?_
    refine xw_iadd dX3_gets_101 ?_
    refine xw_iconst (5 : Int32) dX3_gets_102 (by decide) ?_
    refine xw_iadd dX3_gets_103 ?_
    refine xw_dup2 dX3_gets_104 rfl rfl ?_
    obtain ⟨a32, ho, hvc⟩ := hvc
    subst ho
    obtain ⟨hcK, i33, hx9, hb9, hi9, n34, hv9, hvc⟩ := hvc
    refine xw_iald (j := 3) dX3_gets_105 rfl hcK hx9 hb9 hi9 hv9 ?_
    refine xw_iload dX3_gets_106 rfl ?_
    refine xw_iadd dX3_gets_108 ?_
    obtain ⟨hcK, i35, hx9, hb9, hi9, hvc⟩ := hvc
    refine xw_iast (j := 3) dX3_gets_109 rfl hcK (Or.inl rfl) hx9 hb9 hi9 (fun h36 eh9 => ?_)
    replace hvc := hvc h36 eh9
    refine xw_iload_n dX3_gets_110 rfl ?_
    refine xw_iconst (4 : Int32) dX3_gets_111 (by decide) ?_
    refine xw_idiv dX3_gets_112 (by decide) ?_
    refine xw_istore dX3_gets_113 (Nat.le_of_ble_eq_true rfl) (L9 := [some (xr (some this)), some (xi x1), some (xi x2), some (xi x3), some (xi ((x3 * n14) / (10 : Int32))), some (xi (x3 / (4 : Int32)))]) rfl ?_
    refine xw_aload_n dX3_gets_115 rfl ?_
    obtain ⟨hcK, o37, hvK, hvc⟩ := hvc
    refine xw_get dX3_gets_116 hcX3 in_X3 (kf := 4) (by decide) q2983 (fun _ _ _ _ z => z) hcK hvK ?_
    refine xw_bipush (10 : Int32) dX3_gets_119 (by decide) ?_
    refine xw_dup2 dX3_gets_121 rfl rfl ?_
    obtain ⟨a38, ho, hvc⟩ := hvc
    subst ho
    obtain ⟨hcK, i39, hx9, hb9, hi9, n40, hv9, hvc⟩ := hvc
    refine xw_iald (j := 3) dX3_gets_122 rfl hcK hx9 hb9 hi9 hv9 ?_
    refine xw_iload dX3_gets_123 rfl ?_
    refine xw_iadd dX3_gets_125 ?_
    obtain ⟨hcK, i41, hx9, hb9, hi9, hvc⟩ := hvc
    refine xw_iast (j := 3) dX3_gets_126 rfl hcK (Or.inl rfl) hx9 hb9 hi9 (fun h42 eh9 => ?_)
    replace hvc := hvc h42 eh9
    refine xw_aload_n dX3_gets_127 rfl ?_
    obtain ⟨hcK, o43, hvK, hvc⟩ := hvc
    refine xw_get dX3_gets_128 hcX3 in_X3 (kf := 4) (by decide) q2983 (fun _ _ _ _ z => z) hcK hvK ?_
    refine xw_iconst (1 : Int32) dX3_gets_131 (by decide) ?_
    refine xw_dup2 dX3_gets_132 rfl rfl ?_
    obtain ⟨a44, ho, hvc⟩ := hvc
    subst ho
    obtain ⟨hcK, i45, hx9, hb9, hi9, n46, hv9, hvc⟩ := hvc
    refine xw_iald (j := 3) dX3_gets_133 rfl hcK hx9 hb9 hi9 hv9 ?_
    refine xw_iload dX3_gets_134 rfl ?_
    refine xw_iadd dX3_gets_136 ?_
    obtain ⟨hcK, i47, hx9, hb9, hi9, hvc⟩ := hvc
    refine xw_iast (j := 3) dX3_gets_137 rfl hcK (Or.inl rfl) hx9 hb9 hi9 (fun h48 eh9 => ?_)
    replace hvc := hvc h48 eh9
    refine xw_aload_n dX3_gets_138 rfl ?_
    obtain ⟨hcK, o49, hvK, hvc⟩ := hvc
    refine xw_get dX3_gets_139 hcX3 in_X3 (kf := 4) (by decide) q2983 (fun _ _ _ _ z => z) hcK hvK ?_
    refine xw_iconst (1 : Int32) dX3_gets_142 (by decide) ?_
    obtain ⟨a50, ho, hvc⟩ := hvc
    subst ho
    obtain ⟨hcK, i51, hx9, hb9, hi9, n52, hv9, hvc⟩ := hvc
    refine xw_iald (j := 3) dX3_gets_143 rfl hcK hx9 hb9 hi9 hv9 ?_
    refine xw_sipush (999 : Int32) dX3_gets_144 (by decide) ?_
    refine xw_icmp_gt 151 dX3_gets_147 rfl (fun hc => ?_) (fun hc => ?_)
    · replace hvc := hvc.1 hc
      refine xw_aload_n dX3_gets_151 rfl ?_
      obtain ⟨hcK, o53, hvK, hvc⟩ := hvc
      refine xw_get dX3_gets_152 hcX3 in_X3 (kf := 4) (by decide) q2983 (fun _ _ _ _ z => z) hcK hvK ?_
      refine xw_bipush (11 : Int32) dX3_gets_155 (by decide) ?_
      refine xw_dup2 dX3_gets_157 rfl rfl ?_
      obtain ⟨a54, ho, hvc⟩ := hvc
      subst ho
      obtain ⟨hcK, i55, hx9, hb9, hi9, n56, hv9, hvc⟩ := hvc
      refine xw_iald (j := 3) dX3_gets_158 rfl hcK hx9 hb9 hi9 hv9 ?_
      refine xw_aload_n dX3_gets_159 rfl ?_
      obtain ⟨hcK, o57, hvK, hvc⟩ := hvc
      refine xw_get dX3_gets_160 hcX3 in_X3 (kf := 4) (by decide) q2983 (fun _ _ _ _ z => z) hcK hvK ?_
      refine xw_iconst (1 : Int32) dX3_gets_163 (by decide) ?_
      obtain ⟨a58, ho, hvc⟩ := hvc
      subst ho
      obtain ⟨hcK, i59, hx9, hb9, hi9, n60, hv9, hvc⟩ := hvc
      refine xw_iald (j := 3) dX3_gets_164 rfl hcK hx9 hb9 hi9 hv9 ?_
      refine xw_sipush (999 : Int32) dX3_gets_165 (by decide) ?_
      refine xw_isub dX3_gets_168 ?_
      refine xw_iadd dX3_gets_169 ?_
      obtain ⟨hcK, i61, hx9, hb9, hi9, hvc⟩ := hvc
      refine xw_iast (j := 3) dX3_gets_170 rfl hcK (Or.inl rfl) hx9 hb9 hi9 (fun h62 eh9 => ?_)
      replace hvc := hvc h62 eh9
      refine xw_aload_n dX3_gets_171 rfl ?_
      obtain ⟨hcK, o63, hvK, hvc⟩ := hvc
      refine xw_get dX3_gets_172 hcX3 in_X3 (kf := 4) (by decide) q2983 (fun _ _ _ _ z => z) hcK hvK ?_
      refine xw_iconst (1 : Int32) dX3_gets_175 (by decide) ?_
      refine xw_sipush (999 : Int32) dX3_gets_176 (by decide) ?_
      obtain ⟨a64, ho, hvc⟩ := hvc
      subst ho
      obtain ⟨hcK, i65, hx9, hb9, hi9, hvc⟩ := hvc
      refine xw_iast (j := 3) dX3_gets_179 rfl hcK (Or.inl rfl) hx9 hb9 hi9 (fun h66 eh9 => ?_)
      replace hvc := hvc h66 eh9
      exact xw_vret dX3_gets_180 rfl hvc
    · replace hvc := hvc.2 hc
      exact xw_vret dX3_gets_150 rfl hvc
  · replace hvc := hvc.2 hc
    refine xw_aload_n dX3_gets_55 rfl ?_
    obtain ⟨hcK, o67, hvK, hvc⟩ := hvc
    refine xw_get dX3_gets_56 hcX3 in_X3 (kf := 4) (by decide) q2983 (fun _ _ _ _ z => z) hcK hvK ?_
    refine xw_iconst (1 : Int32) dX3_gets_59 (by decide) ?_
    obtain ⟨a68, ho, hvc⟩ := hvc
    subst ho
    obtain ⟨hcK, i69, hx9, hb9, hi9, n70, hv9, hvc⟩ := hvc
    refine xw_iald (j := 3) dX3_gets_60 rfl hcK hx9 hb9 hi9 hv9 ?_
    refine xw_goto 66 dX3_gets_61 rfl ?_
    refine xw_istore dX3_gets_66 (Nat.le_of_ble_eq_true rfl) (L9 := [some (xr (some this)), some (xi x1), some (xi x2), some (xi x3), some (xi n70), none]) rfl ?_
    refine xw_aload_n dX3_gets_68 rfl ?_
    obtain ⟨hcK, o71, hvK, hvc⟩ := hvc
    refine xw_get dX3_gets_69 hcX3 in_X3 (kf := 4) (by decide) q2983 (fun _ _ _ _ z => z) hcK hvK ?_
    refine xw_iconst (1 : Int32) dX3_gets_72 (by decide) ?_
    refine xw_dup2 dX3_gets_73 rfl rfl ?_
    obtain ⟨a72, ho, hvc⟩ := hvc
    subst ho
    obtain ⟨hcK, i73, hx9, hb9, hi9, n74, hv9, hvc⟩ := hvc
    refine xw_iald (j := 3) dX3_gets_74 rfl hcK hx9 hb9 hi9 hv9 ?_
    refine xw_iload dX3_gets_75 rfl ?_
    refine xw_isub dX3_gets_77 ?_
    obtain ⟨hcK, i75, hx9, hb9, hi9, hvc⟩ := hvc
    refine xw_iast (j := 3) dX3_gets_78 rfl hcK (Or.inl rfl) hx9 hb9 hi9 (fun h76 eh9 => ?_)
    replace hvc := hvc h76 eh9
    refine xw_aload_n dX3_gets_79 rfl ?_
    obtain ⟨hcK, o77, hvK, hvc⟩ := hvc
    refine xw_get dX3_gets_80 hcX3 in_X3 (kf := 4) (by decide) q2983 (fun _ _ _ _ z => z) hcK hvK ?_
    refine xw_bipush (9 : Int32) dX3_gets_83 (by decide) ?_
    refine xw_dup2 dX3_gets_85 rfl rfl ?_
    obtain ⟨a78, ho, hvc⟩ := hvc
    subst ho
    obtain ⟨hcK, i79, hx9, hb9, hi9, n80, hv9, hvc⟩ := hvc
    refine xw_iald (j := 3) dX3_gets_86 rfl hcK hx9 hb9 hi9 hv9 ?_
    refine xw_iload dX3_gets_87 rfl ?_
    refine xw_iadd dX3_gets_89 ?_
    obtain ⟨hcK, i81, hx9, hb9, hi9, hvc⟩ := hvc
    refine xw_iast (j := 3) dX3_gets_90 rfl hcK (Or.inl rfl) hx9 hb9 hi9 (fun h82 eh9 => ?_)
    replace hvc := hvc h82 eh9
    refine xw_aload_n dX3_gets_91 rfl ?_
    obtain ⟨hcK, o83, hvK, hvc⟩ := hvc
    refine xw_get dX3_gets_92 hcX3 in_X3 (kf := 4) (by decide) q2983 (fun _ _ _ _ z => z) hcK hvK ?_
    refine xw_bipush (13 : Int32) dX3_gets_95 (by decide) ?_
    refine xw_bipush (6 : Int32) dX3_gets_97 (by decide) ?_
    refine xw_iload_n dX3_gets_99 rfl ?_
    refine xw_imul dX3_gets_100 ?_
    refine xw_iadd dX3_gets_101 ?_
    refine xw_iconst (5 : Int32) dX3_gets_102 (by decide) ?_
    refine xw_iadd dX3_gets_103 ?_
    refine xw_dup2 dX3_gets_104 rfl rfl ?_
    obtain ⟨a84, ho, hvc⟩ := hvc
    subst ho
    obtain ⟨hcK, i85, hx9, hb9, hi9, n86, hv9, hvc⟩ := hvc
    refine xw_iald (j := 3) dX3_gets_105 rfl hcK hx9 hb9 hi9 hv9 ?_
    refine xw_iload dX3_gets_106 rfl ?_
    refine xw_iadd dX3_gets_108 ?_
    obtain ⟨hcK, i87, hx9, hb9, hi9, hvc⟩ := hvc
    refine xw_iast (j := 3) dX3_gets_109 rfl hcK (Or.inl rfl) hx9 hb9 hi9 (fun h88 eh9 => ?_)
    replace hvc := hvc h88 eh9
    refine xw_iload_n dX3_gets_110 rfl ?_
    refine xw_iconst (4 : Int32) dX3_gets_111 (by decide) ?_
    refine xw_idiv dX3_gets_112 (by decide) ?_
    refine xw_istore dX3_gets_113 (Nat.le_of_ble_eq_true rfl) (L9 := [some (xr (some this)), some (xi x1), some (xi x2), some (xi x3), some (xi n70), some (xi (x3 / (4 : Int32)))]) rfl ?_
    refine xw_aload_n dX3_gets_115 rfl ?_
    obtain ⟨hcK, o89, hvK, hvc⟩ := hvc
    refine xw_get dX3_gets_116 hcX3 in_X3 (kf := 4) (by decide) q2983 (fun _ _ _ _ z => z) hcK hvK ?_
    refine xw_bipush (10 : Int32) dX3_gets_119 (by decide) ?_
    refine xw_dup2 dX3_gets_121 rfl rfl ?_
    obtain ⟨a90, ho, hvc⟩ := hvc
    subst ho
    obtain ⟨hcK, i91, hx9, hb9, hi9, n92, hv9, hvc⟩ := hvc
    refine xw_iald (j := 3) dX3_gets_122 rfl hcK hx9 hb9 hi9 hv9 ?_
    refine xw_iload dX3_gets_123 rfl ?_
    refine xw_iadd dX3_gets_125 ?_
    obtain ⟨hcK, i93, hx9, hb9, hi9, hvc⟩ := hvc
    refine xw_iast (j := 3) dX3_gets_126 rfl hcK (Or.inl rfl) hx9 hb9 hi9 (fun h94 eh9 => ?_)
    replace hvc := hvc h94 eh9
    refine xw_aload_n dX3_gets_127 rfl ?_
    obtain ⟨hcK, o95, hvK, hvc⟩ := hvc
    refine xw_get dX3_gets_128 hcX3 in_X3 (kf := 4) (by decide) q2983 (fun _ _ _ _ z => z) hcK hvK ?_
    refine xw_iconst (1 : Int32) dX3_gets_131 (by decide) ?_
    refine xw_dup2 dX3_gets_132 rfl rfl ?_
    obtain ⟨a96, ho, hvc⟩ := hvc
    subst ho
    obtain ⟨hcK, i97, hx9, hb9, hi9, n98, hv9, hvc⟩ := hvc
    refine xw_iald (j := 3) dX3_gets_133 rfl hcK hx9 hb9 hi9 hv9 ?_
    refine xw_iload dX3_gets_134 rfl ?_
    refine xw_iadd dX3_gets_136 ?_
    obtain ⟨hcK, i99, hx9, hb9, hi9, hvc⟩ := hvc
    refine xw_iast (j := 3) dX3_gets_137 rfl hcK (Or.inl rfl) hx9 hb9 hi9 (fun h100 eh9 => ?_)
    replace hvc := hvc h100 eh9
    refine xw_aload_n dX3_gets_138 rfl ?_
    obtain ⟨hcK, o101, hvK, hvc⟩ := hvc
    refine xw_get dX3_gets_139 hcX3 in_X3 (kf := 4) (by decide) q2983 (fun _ _ _ _ z => z) hcK hvK ?_
    refine xw_iconst (1 : Int32) dX3_gets_142 (by decide) ?_
    obtain ⟨a102, ho, hvc⟩ := hvc
    subst ho
    obtain ⟨hcK, i103, hx9, hb9, hi9, n104, hv9, hvc⟩ := hvc
    refine xw_iald (j := 3) dX3_gets_143 rfl hcK hx9 hb9 hi9 hv9 ?_
    refine xw_sipush (999 : Int32) dX3_gets_144 (by decide) ?_
    refine xw_icmp_gt 151 dX3_gets_147 rfl (fun hc => ?_) (fun hc => ?_)
    · replace hvc := hvc.1 hc
      refine xw_aload_n dX3_gets_151 rfl ?_
      obtain ⟨hcK, o105, hvK, hvc⟩ := hvc
      refine xw_get dX3_gets_152 hcX3 in_X3 (kf := 4) (by decide) q2983 (fun _ _ _ _ z => z) hcK hvK ?_
      refine xw_bipush (11 : Int32) dX3_gets_155 (by decide) ?_
      refine xw_dup2 dX3_gets_157 rfl rfl ?_
      obtain ⟨a106, ho, hvc⟩ := hvc
      subst ho
      obtain ⟨hcK, i107, hx9, hb9, hi9, n108, hv9, hvc⟩ := hvc
      refine xw_iald (j := 3) dX3_gets_158 rfl hcK hx9 hb9 hi9 hv9 ?_
      refine xw_aload_n dX3_gets_159 rfl ?_
      obtain ⟨hcK, o109, hvK, hvc⟩ := hvc
      refine xw_get dX3_gets_160 hcX3 in_X3 (kf := 4) (by decide) q2983 (fun _ _ _ _ z => z) hcK hvK ?_
      refine xw_iconst (1 : Int32) dX3_gets_163 (by decide) ?_
      obtain ⟨a110, ho, hvc⟩ := hvc
      subst ho
      obtain ⟨hcK, i111, hx9, hb9, hi9, n112, hv9, hvc⟩ := hvc
      refine xw_iald (j := 3) dX3_gets_164 rfl hcK hx9 hb9 hi9 hv9 ?_
      refine xw_sipush (999 : Int32) dX3_gets_165 (by decide) ?_
      refine xw_isub dX3_gets_168 ?_
      refine xw_iadd dX3_gets_169 ?_
      obtain ⟨hcK, i113, hx9, hb9, hi9, hvc⟩ := hvc
      refine xw_iast (j := 3) dX3_gets_170 rfl hcK (Or.inl rfl) hx9 hb9 hi9 (fun h114 eh9 => ?_)
      replace hvc := hvc h114 eh9
      refine xw_aload_n dX3_gets_171 rfl ?_
      obtain ⟨hcK, o115, hvK, hvc⟩ := hvc
      refine xw_get dX3_gets_172 hcX3 in_X3 (kf := 4) (by decide) q2983 (fun _ _ _ _ z => z) hcK hvK ?_
      refine xw_iconst (1 : Int32) dX3_gets_175 (by decide) ?_
      refine xw_sipush (999 : Int32) dX3_gets_176 (by decide) ?_
      obtain ⟨a116, ho, hvc⟩ := hvc
      subst ho
      obtain ⟨hcK, i117, hx9, hb9, hi9, hvc⟩ := hvc
      refine xw_iast (j := 3) dX3_gets_179 rfl hcK (Or.inl rfl) hx9 hb9 hi9 (fun h118 eh9 => ?_)
      replace hvc := hvc h118 eh9
      exact xw_vret dX3_gets_180 rfl hvc
    · replace hvc := hvc.2 hc
      exact xw_vret dX3_gets_150 rfl hvc

theorem vc_X3_sinks {G : xG} {d K : Nat} {Q : xR → xH → Prop} {h : xH} {this : Nat} {x1 : Int32} {x2 : Int32}
    (hvc : xcls h this = 6 ∧ xCall G d K mX3_siteIs [xr (some this), xi x1, xi (3 : Int32)] h (xkI (fun n3 h1 k2 => ((x2 = 0 → ((¬ x2 = 0 → Q (.inl none) h1) ∧ (x2 = 0 → xcls h1 this = 6 ∧ xCall G d k2 mX3_siteIs [xr (some this), xi x1, xi (2 : Int32)] h1 (xkI (fun n6 h4 k5 => ((n3 ≤ n6 → Q (.inl none) h4) ∧ (¬ n3 ≤ n6 → xcls h4 this = 6 ∧ xCall G d k5 mX3_setsSite [xr (some this), xi x1, xi (3 : Int32), xi (n3 - (1 : Int32))] h4 (xkV (fun h7 k8 => Q (.inl none) h7) (fun q h _ => Q (.inr q) h))))) (fun q h _ => Q (.inr q) h))))) ∧ (¬ x2 = 0 → (((40 : Int32) ≤ n3 → ((¬ x2 = 0 → Q (.inl none) h1) ∧ (x2 = 0 → xcls h1 this = 6 ∧ xCall G d k2 mX3_siteIs [xr (some this), xi x1, xi (2 : Int32)] h1 (xkI (fun n11 h9 k10 => ((n3 ≤ n11 → Q (.inl none) h9) ∧ (¬ n3 ≤ n11 → xcls h9 this = 6 ∧ xCall G d k10 mX3_setsSite [xr (some this), xi x1, xi (3 : Int32), xi (n3 - (1 : Int32))] h9 (xkV (fun h12 k13 => Q (.inl none) h12) (fun q h _ => Q (.inr q) h))))) (fun q h _ => Q (.inr q) h))))) ∧ (¬ (40 : Int32) ≤ n3 → xcls h1 this = 6 ∧ xCall G d k2 mX3_setsSite [xr (some this), xi x1, xi (3 : Int32), xi (n3 + (1 : Int32))] h1 (xkV (fun h14 k15 => ((¬ x2 = 0 → Q (.inl none) h14) ∧ (x2 = 0 → xcls h14 this = 6 ∧ xCall G d k15 mX3_siteIs [xr (some this), xi x1, xi (2 : Int32)] h14 (xkI (fun n18 h16 k17 => ((n3 ≤ n18 → Q (.inl none) h16) ∧ (¬ n3 ≤ n18 → xcls h16 this = 6 ∧ xCall G d k17 mX3_setsSite [xr (some this), xi x1, xi (3 : Int32), xi (n3 - (1 : Int32))] h16 (xkV (fun h19 k20 => Q (.inl none) h19) (fun q h _ => Q (.inr q) h))))) (fun q h _ => Q (.inr q) h))))) (fun q h _ => Q (.inr q) h))))))) (fun q h _ => Q (.inr q) h))) : xCn G mX3_sinks d K [xr (some this), xi x1, xi x2] h Q := by
  refine xCn_of px_X3_sinks rfl rfl (Nat.le_of_ble_eq_true rfl) ?_
  show xWp G mX3_sinks d K Q K 0 [some (xr (some this)), some (xi x1), some (xi x2), none] [] h
  refine xw_aload_n dX3_sinks_0 rfl ?_
  refine xw_iload_n dX3_sinks_1 rfl ?_
  refine xw_iconst (3 : Int32) dX3_sinks_2 (by decide) ?_
  obtain ⟨hcK, hvc⟩ := hvc
  obtain ⟨d9, k9, hd9, hk9, hC9⟩ := hvc
  refine xw_callV dX3_sinks_3 px_X3_siteIs pm_X3_siteIs q3109 q3111 qs51 hcX3 hcK (As := [xi x1, xi (3 : Int32)]) (rest := []) rfl rfl (Nat.le_of_ble_eq_true rfl) hd9 hk9 hC9 (xkI_n fun n3 h1 hvc => ?_) (fun q h hq => xTh_out0 rfl hq)
  refine xw_istore_n dX3_sinks_6 (Nat.le_of_ble_eq_true rfl) (L9 := [some (xr (some this)), some (xi x1), some (xi x2), some (xi n3)]) rfl ?_
  refine xw_iload_n dX3_sinks_7 rfl ?_
  refine xw_if_eq 26 dX3_sinks_8 rfl (fun hc => ?_) (fun hc => ?_)
  · replace hvc := hvc.1 hc
    refine xw_iload_n dX3_sinks_26 rfl ?_
    refine xw_if_ne 49 dX3_sinks_27 rfl (fun hc => ?_) (fun hc => ?_)
    · replace hvc := hvc.1 hc
      exact xw_vret dX3_sinks_49 rfl hvc
    · replace hvc := hvc.2 hc
      refine xw_iload_n dX3_sinks_30 rfl ?_
      refine xw_aload_n dX3_sinks_31 rfl ?_
      refine xw_iload_n dX3_sinks_32 rfl ?_
      refine xw_iconst (2 : Int32) dX3_sinks_33 (by decide) ?_
      obtain ⟨hcK, hvc⟩ := hvc
      obtain ⟨d9, k9, hd9, hk9, hC9⟩ := hvc
      refine xw_callV dX3_sinks_34 px_X3_siteIs pm_X3_siteIs q3109 q3111 qs51 hcX3 hcK (As := [xi x1, xi (2 : Int32)]) (rest := [xi n3]) rfl rfl (Nat.le_of_ble_eq_true rfl) hd9 hk9 hC9 (xkI_n fun n6 h4 hvc => ?_) (fun q h hq => xTh_out0 rfl hq)
      refine xw_icmp_le 49 dX3_sinks_37 rfl (fun hc => ?_) (fun hc => ?_)
      · replace hvc := hvc.1 hc
        exact xw_vret dX3_sinks_49 rfl hvc
      · replace hvc := hvc.2 hc
        refine xw_aload_n dX3_sinks_40 rfl ?_
        refine xw_iload_n dX3_sinks_41 rfl ?_
        refine xw_iconst (3 : Int32) dX3_sinks_42 (by decide) ?_
        refine xw_iload_n dX3_sinks_43 rfl ?_
        refine xw_iconst (1 : Int32) dX3_sinks_44 (by decide) ?_
        refine xw_isub dX3_sinks_45 ?_
        obtain ⟨hcK, hvc⟩ := hvc
        obtain ⟨d9, k9, hd9, hk9, hC9⟩ := hvc
        refine xw_callV dX3_sinks_46 px_X3_setsSite pm_X3_setsSite q3117 q3119 qs53 hcX3 hcK (As := [xi x1, xi (3 : Int32), xi (n3 - (1 : Int32))]) (rest := []) rfl rfl (Nat.le_of_ble_eq_true rfl) hd9 hk9 hC9 (xkV_n fun h7 hvc => ?_) (fun q h hq => xTh_out0 rfl hq)
        exact xw_vret dX3_sinks_49 rfl hvc
  · replace hvc := hvc.2 hc
    refine xw_iload_n dX3_sinks_11 rfl ?_
    refine xw_bipush (40 : Int32) dX3_sinks_12 (by decide) ?_
    refine xw_icmp_ge 26 dX3_sinks_14 rfl (fun hc => ?_) (fun hc => ?_)
    · replace hvc := hvc.1 hc
      refine xw_iload_n dX3_sinks_26 rfl ?_
      refine xw_if_ne 49 dX3_sinks_27 rfl (fun hc => ?_) (fun hc => ?_)
      · replace hvc := hvc.1 hc
        exact xw_vret dX3_sinks_49 rfl hvc
      · replace hvc := hvc.2 hc
        refine xw_iload_n dX3_sinks_30 rfl ?_
        refine xw_aload_n dX3_sinks_31 rfl ?_
        refine xw_iload_n dX3_sinks_32 rfl ?_
        refine xw_iconst (2 : Int32) dX3_sinks_33 (by decide) ?_
        obtain ⟨hcK, hvc⟩ := hvc
        obtain ⟨d9, k9, hd9, hk9, hC9⟩ := hvc
        refine xw_callV dX3_sinks_34 px_X3_siteIs pm_X3_siteIs q3109 q3111 qs51 hcX3 hcK (As := [xi x1, xi (2 : Int32)]) (rest := [xi n3]) rfl rfl (Nat.le_of_ble_eq_true rfl) hd9 hk9 hC9 (xkI_n fun n11 h9 hvc => ?_) (fun q h hq => xTh_out0 rfl hq)
        refine xw_icmp_le 49 dX3_sinks_37 rfl (fun hc => ?_) (fun hc => ?_)
        · replace hvc := hvc.1 hc
          exact xw_vret dX3_sinks_49 rfl hvc
        · replace hvc := hvc.2 hc
          refine xw_aload_n dX3_sinks_40 rfl ?_
          refine xw_iload_n dX3_sinks_41 rfl ?_
          refine xw_iconst (3 : Int32) dX3_sinks_42 (by decide) ?_
          refine xw_iload_n dX3_sinks_43 rfl ?_
          refine xw_iconst (1 : Int32) dX3_sinks_44 (by decide) ?_
          refine xw_isub dX3_sinks_45 ?_
          obtain ⟨hcK, hvc⟩ := hvc
          obtain ⟨d9, k9, hd9, hk9, hC9⟩ := hvc
          refine xw_callV dX3_sinks_46 px_X3_setsSite pm_X3_setsSite q3117 q3119 qs53 hcX3 hcK (As := [xi x1, xi (3 : Int32), xi (n3 - (1 : Int32))]) (rest := []) rfl rfl (Nat.le_of_ble_eq_true rfl) hd9 hk9 hC9 (xkV_n fun h12 hvc => ?_) (fun q h hq => xTh_out0 rfl hq)
          exact xw_vret dX3_sinks_49 rfl hvc
    · replace hvc := hvc.2 hc
      refine xw_aload_n dX3_sinks_17 rfl ?_
      refine xw_iload_n dX3_sinks_18 rfl ?_
      refine xw_iconst (3 : Int32) dX3_sinks_19 (by decide) ?_
      refine xw_iload_n dX3_sinks_20 rfl ?_
      refine xw_iconst (1 : Int32) dX3_sinks_21 (by decide) ?_
      refine xw_iadd dX3_sinks_22 ?_
      obtain ⟨hcK, hvc⟩ := hvc
      obtain ⟨d9, k9, hd9, hk9, hC9⟩ := hvc
      refine xw_callV dX3_sinks_23 px_X3_setsSite pm_X3_setsSite q3117 q3119 qs53 hcX3 hcK (As := [xi x1, xi (3 : Int32), xi (n3 + (1 : Int32))]) (rest := []) rfl rfl (Nat.le_of_ble_eq_true rfl) hd9 hk9 hC9 (xkV_n fun h14 hvc => ?_) (fun q h hq => xTh_out0 rfl hq)
      refine xw_iload_n dX3_sinks_26 rfl ?_
      refine xw_if_ne 49 dX3_sinks_27 rfl (fun hc => ?_) (fun hc => ?_)
      · replace hvc := hvc.1 hc
        exact xw_vret dX3_sinks_49 rfl hvc
      · replace hvc := hvc.2 hc
        refine xw_iload_n dX3_sinks_30 rfl ?_
        refine xw_aload_n dX3_sinks_31 rfl ?_
        refine xw_iload_n dX3_sinks_32 rfl ?_
        refine xw_iconst (2 : Int32) dX3_sinks_33 (by decide) ?_
        obtain ⟨hcK, hvc⟩ := hvc
        obtain ⟨d9, k9, hd9, hk9, hC9⟩ := hvc
        refine xw_callV dX3_sinks_34 px_X3_siteIs pm_X3_siteIs q3109 q3111 qs51 hcX3 hcK (As := [xi x1, xi (2 : Int32)]) (rest := [xi n3]) rfl rfl (Nat.le_of_ble_eq_true rfl) hd9 hk9 hC9 (xkI_n fun n18 h16 hvc => ?_) (fun q h hq => xTh_out0 rfl hq)
        refine xw_icmp_le 49 dX3_sinks_37 rfl (fun hc => ?_) (fun hc => ?_)
        · replace hvc := hvc.1 hc
          exact xw_vret dX3_sinks_49 rfl hvc
        · replace hvc := hvc.2 hc
          refine xw_aload_n dX3_sinks_40 rfl ?_
          refine xw_iload_n dX3_sinks_41 rfl ?_
          refine xw_iconst (3 : Int32) dX3_sinks_42 (by decide) ?_
          refine xw_iload_n dX3_sinks_43 rfl ?_
          refine xw_iconst (1 : Int32) dX3_sinks_44 (by decide) ?_
          refine xw_isub dX3_sinks_45 ?_
          obtain ⟨hcK, hvc⟩ := hvc
          obtain ⟨d9, k9, hd9, hk9, hC9⟩ := hvc
          refine xw_callV dX3_sinks_46 px_X3_setsSite pm_X3_setsSite q3117 q3119 qs53 hcX3 hcK (As := [xi x1, xi (3 : Int32), xi (n3 - (1 : Int32))]) (rest := []) rfl rfl (Nat.le_of_ble_eq_true rfl) hd9 hk9 hC9 (xkV_n fun h19 hvc => ?_) (fun q h hq => xTh_out0 rfl hq)
          exact xw_vret dX3_sinks_49 rfl hvc

theorem vc_X3_thirstIn {G : xG} {d K : Nat} {Q : xR → xH → Prop} {h : xH} {this : Nat} {x1 : Int32}
    (hvc : xCall G d K mX3_isBetween [xi x1, xi (0 : Int32), xi (30 : Int32)] h (xkI (fun n3 h1 k2 => ((¬ n3 = 0 → xcls h1 this = 6 ∧ xCall G d k2 mX3_thinks [xr (some this)] h1 (xkV (fun h4 k5 => xcls h4 this = 6 ∧ xCall G d k5 mX3_passes [xr (some this), xi x1] h4 (xkI (fun n8 h6 k7 => xcls h6 this = 6 ∧ xCall G d k7 mX3_forgets [xr (some this)] h6 (xkV (fun h9 k10 => Q (.inl (some (xi n8))) h9) (fun q h _ => Q (.inr q) h))) (fun q h _ => Q (.inr q) h))) (fun q h _ => Q (.inr q) h))) ∧ (n3 = 0 → Q (.inl (some (xi (-2 : Int32)))) h1))) (fun q h _ => Q (.inr q) h))) : xCn G mX3_thirstIn d K [xr (some this), xi x1] h Q := by
  refine xCn_of px_X3_thirstIn rfl rfl (Nat.le_of_ble_eq_true rfl) ?_
  show xWp G mX3_thirstIn d K Q K 0 [some (xr (some this)), some (xi x1), none] [] h
  refine xw_iload_n dX3_thirstIn_0 rfl ?_
  refine xw_iconst (0 : Int32) dX3_thirstIn_1 (by decide) ?_
  refine xw_bipush (30 : Int32) dX3_thirstIn_2 (by decide) ?_
  obtain ⟨d9, k9, hd9, hk9, hC9⟩ := hvc
  refine xw_callS dX3_thirstIn_4 px_X3_isBetween pm_X3_isBetween q3047 q3048 (As := [xi x1, xi (0 : Int32), xi (30 : Int32)]) (rest := []) rfl rfl (Nat.le_of_ble_eq_true rfl) hd9 hk9 hC9 (xkI_n fun n3 h1 hvc => ?_) (fun q h hq => xTh_out0 rfl hq)
  refine xw_if_ne 13 dX3_thirstIn_7 rfl (fun hc => ?_) (fun hc => ?_)
  · replace hvc := hvc.1 hc
    refine xw_aload_n dX3_thirstIn_13 rfl ?_
    obtain ⟨hcK, hvc⟩ := hvc
    obtain ⟨d9, k9, hd9, hk9, hC9⟩ := hvc
    refine xw_callV dX3_thirstIn_14 px_X3_thinks pm_X3_thinks q3085 q3087 qs46 hcX3 hcK (As := []) (rest := []) rfl rfl (Nat.le_of_ble_eq_true rfl) hd9 hk9 hC9 (xkV_n fun h4 hvc => ?_) (fun q h hq => xTh_out0 rfl hq)
    refine xw_aload_n dX3_thirstIn_17 rfl ?_
    refine xw_iload_n dX3_thirstIn_18 rfl ?_
    obtain ⟨hcK, hvc⟩ := hvc
    obtain ⟨d9, k9, hd9, hk9, hC9⟩ := hvc
    refine xw_callV dX3_thirstIn_19 px_X3_passes pm_X3_passes q3234 q3236 qs74 hcX3 hcK (As := [xi x1]) (rest := []) rfl rfl (Nat.le_of_ble_eq_true rfl) hd9 hk9 hC9 (xkI_n fun n8 h6 hvc => ?_) (fun q h hq => xTh_out0 rfl hq)
    refine xw_istore_n dX3_thirstIn_22 (Nat.le_of_ble_eq_true rfl) (L9 := [some (xr (some this)), some (xi x1), some (xi n8)]) rfl ?_
    refine xw_aload_n dX3_thirstIn_23 rfl ?_
    obtain ⟨hcK, hvc⟩ := hvc
    obtain ⟨d9, k9, hd9, hk9, hC9⟩ := hvc
    refine xw_callV dX3_thirstIn_24 px_X3_forgets pm_X3_forgets q3262 q3264 qs80 hcX3 hcK (As := []) (rest := []) rfl rfl (Nat.le_of_ble_eq_true rfl) hd9 hk9 hC9 (xkV_n fun h9 hvc => ?_) (fun q h hq => xTh_out0 rfl hq)
    refine xw_iload_n dX3_thirstIn_27 rfl ?_
    exact xw_iret dX3_thirstIn_28 rfl hvc
  · replace hvc := hvc.2 hc
    refine xw_bipush (-2 : Int32) dX3_thirstIn_10 (by decide) ?_
    exact xw_iret dX3_thirstIn_12 rfl hvc

theorem vc_X3_forgets {G : xG} {d K : Nat} {Q : xR → xH → Prop} {h : xH} {this : Nat}
    (hvc : xWp G mX3_forgets d K Q K 2 [some (xr (some this)), some (xi (0 : Int32))] [] h) : xCn G mX3_forgets d K [xr (some this)] h Q := by
  refine xCn_of px_X3_forgets rfl rfl (Nat.le_of_ble_eq_true rfl) ?_
  show xWp G mX3_forgets d K Q K 0 [some (xr (some this)), none] [] h
  refine xw_iconst (0 : Int32) dX3_forgets_0 (by decide) ?_
  refine xw_istore_n dX3_forgets_1 (Nat.le_of_ble_eq_true rfl) (L9 := [some (xr (some this)), some (xi (0 : Int32))]) rfl ?_
  exact hvc

theorem vc_X3_forgets_2 {G : xG} {d K k : Nat} {Q : xR → xH → Prop} {h : xH} {this : Nat} {x1 : Int32}
    (hvc : (((112 : Int32) ≤ x1 → Q (.inl none) h) ∧ (¬ (112 : Int32) ≤ x1 → xcls h this = 6 ∧ ∃ o1 : Option Nat, xval h this 4 = xr o1 ∧ xcls h this = 6 ∧ ∃ o2 : Option Nat, xval h this 7 = xr o2 ∧ ∃ a3, o2 = some a3 ∧ xcls h a3 = 1003 ∧ ∃ i4 : Nat, x1 = nI i4 ∧ i4 < 2147483648 ∧ i4 < xlen h a3 ∧ ∃ n5 : Int32, xval h a3 i4 = xi n5 ∧ ∃ a6, o1 = some a6 ∧ xcls h a6 = 1003 ∧ ∃ i7 : Nat, x1 = nI i7 ∧ i7 < 2147483648 ∧ i7 < xlen h a6 ∧ ∀ h8 : xH, h8 = xput h a6 i7 (xi n5) → xWp G mX3_forgets d K Q k 2 [some (xr (some this)), some (xi (x1 + (1 : Int32)))] [] h8))) : xWp G mX3_forgets d K Q k 2 [some (xr (some this)), some (xi x1)] [] h := by
  refine xw_iload_n dX3_forgets_2 rfl ?_
  refine xw_bipush (112 : Int32) dX3_forgets_3 (by decide) ?_
  refine xw_icmp_ge 26 dX3_forgets_5 rfl (fun hc => ?_) (fun hc => ?_)
  · replace hvc := hvc.1 hc
    exact xw_vret dX3_forgets_26 rfl hvc
  · replace hvc := hvc.2 hc
    refine xw_aload_n dX3_forgets_8 rfl ?_
    obtain ⟨hcK, o1, hvK, hvc⟩ := hvc
    refine xw_get dX3_forgets_9 hcX3 in_X3 (kf := 4) (by decide) q2983 (fun _ _ _ _ z => z) hcK hvK ?_
    refine xw_iload_n dX3_forgets_12 rfl ?_
    refine xw_aload_n dX3_forgets_13 rfl ?_
    obtain ⟨hcK, o2, hvK, hvc⟩ := hvc
    refine xw_get dX3_forgets_14 hcX3 in_X3 (kf := 7) (by decide) q2986 (fun _ _ _ _ z => z) hcK hvK ?_
    refine xw_iload_n dX3_forgets_17 rfl ?_
    obtain ⟨a3, ho, hvc⟩ := hvc
    subst ho
    obtain ⟨hcK, i4, hx9, hb9, hi9, n5, hv9, hvc⟩ := hvc
    refine xw_iald (j := 3) dX3_forgets_18 rfl hcK hx9 hb9 hi9 hv9 ?_
    obtain ⟨a6, ho, hvc⟩ := hvc
    subst ho
    obtain ⟨hcK, i7, hx9, hb9, hi9, hvc⟩ := hvc
    refine xw_iast (j := 3) dX3_forgets_19 rfl hcK (Or.inl rfl) hx9 hb9 hi9 (fun h8 eh9 => ?_)
    replace hvc := hvc h8 eh9
    refine xw_iinc (1 : Int32) dX3_forgets_20 rfl (by decide) (Nat.le_of_ble_eq_true rfl) (L9 := [some (xr (some this)), some (xi (x1 + (1 : Int32)))]) rfl ?_
    refine xw_goto 2 dX3_forgets_23 rfl ?_
    exact hvc

theorem vc_X3_hamletOf {G : xG} {d K : Nat} {Q : xR → xH → Prop} {h : xH} {this : Nat} {x1 : Int32} {x2 : Int32}
    (hvc : xcls h this = 6 ∧ xCall G d K mX3_isHamlet [xr (some this), xi x1] h (xkI (fun n3 h1 k2 => ((¬ n3 = 0 → ((x2 = (0 : Int32) → xcls h1 this = 6 ∧ xCall G d k2 mX3_hamletIs [xr (some this), xi x1, xi x2] h1 (xkI (fun n6 h4 k5 => Q (.inl (some (xi n6))) h4) (fun q h _ => Q (.inr q) h))) ∧ (x2 = (1 : Int32) → xcls h1 this = 6 ∧ xCall G d k2 mX3_hamletIs [xr (some this), xi x1, xi x2] h1 (xkI (fun n9 h7 k8 => Q (.inl (some (xi n9))) h7) (fun q h _ => Q (.inr q) h))) ∧ (x2 = (2 : Int32) → xcls h1 this = 6 ∧ xCall G d k2 mX3_hamletIs [xr (some this), xi x1, xi x2] h1 (xkI (fun n12 h10 k11 => Q (.inl (some (xi n12))) h10) (fun q h _ => Q (.inr q) h))) ∧ (x2 = (3 : Int32) → xcls h1 this = 6 ∧ xCall G d k2 mX3_well [xr (some this), xi x1] h1 (xkI (fun n15 h13 k14 => xcls h13 this = 6 ∧ xCall G d k14 mX3_orNothing [xr (some this), xi n15] h13 (xkI (fun n18 h16 k17 => Q (.inl (some (xi n18))) h16) (fun q h _ => Q (.inr q) h))) (fun q h _ => Q (.inr q) h))) ∧ (x2 = (4 : Int32) → xcls h1 this = 6 ∧ xCall G d k2 mX3_well [xr (some this), xi x1] h1 (xkI (fun n21 h19 k20 => ((0 ≤ n21 → xcls h19 this = 6 ∧ xCall G d k20 mX3_well [xr (some this), xi x1] h19 (xkI (fun n24 h22 k23 => xcls h22 this = 6 ∧ xCall G d k23 mX3_far [xr (some this), xi x1, xi n24] h22 (xkI (fun n27 h25 k26 => Q (.inl (some (xi n27))) h25) (fun q h _ => Q (.inr q) h))) (fun q h _ => Q (.inr q) h))) ∧ (¬ 0 ≤ n21 → Q (.inl (some (xi (-6 : Int32)))) h19))) (fun q h _ => Q (.inr q) h))) ∧ (x2 = (5 : Int32) → xcls h1 this = 6 ∧ xCall G d k2 mX3_hamletIs [xr (some this), xi x1, xi (3 : Int32)] h1 (xkI (fun n30 h28 k29 => Q (.inl (some (xi n30))) h28) (fun q h _ => Q (.inr q) h))) ∧ (x2 = (6 : Int32) → xcls h1 this = 6 ∧ xCall G d k2 mX3_hamletIs [xr (some this), xi x1, xi (4 : Int32)] h1 (xkI (fun n33 h31 k32 => Q (.inl (some (xi n33))) h31) (fun q h _ => Q (.inr q) h))) ∧ (x2 = (7 : Int32) → xcls h1 this = 6 ∧ xCall G d k2 mX3_hamletIs [xr (some this), xi x1, xi (5 : Int32)] h1 (xkI (fun n36 h34 k35 => Q (.inl (some (xi n36))) h34) (fun q h _ => Q (.inr q) h))) ∧ ((x2.toInt < 0 ∨ 7 < x2.toInt) → Q (.inl (some (xi (-2 : Int32)))) h1))) ∧ (n3 = 0 → Q (.inl (some (xi (-1 : Int32)))) h1))) (fun q h _ => Q (.inr q) h))) : xCn G mX3_hamletOf d K [xr (some this), xi x1, xi x2] h Q := by
  refine xCn_of px_X3_hamletOf rfl rfl (Nat.le_of_ble_eq_true rfl) ?_
  show xWp G mX3_hamletOf d K Q K 0 [some (xr (some this)), some (xi x1), some (xi x2)] [] h
  refine xw_aload_n dX3_hamletOf_0 rfl ?_
  refine xw_iload_n dX3_hamletOf_1 rfl ?_
  obtain ⟨hcK, hvc⟩ := hvc
  obtain ⟨d9, k9, hd9, hk9, hC9⟩ := hvc
  refine xw_callV dX3_hamletOf_2 px_X3_isHamlet pm_X3_isHamlet q3270 q3272 qs81 hcX3 hcK (As := [xi x1]) (rest := []) rfl rfl (Nat.le_of_ble_eq_true rfl) hd9 hk9 hC9 (xkI_n fun n3 h1 hvc => ?_) (fun q h hq => xTh_out0 rfl hq)
  refine xw_if_ne 10 dX3_hamletOf_5 rfl (fun hc => ?_) (fun hc => ?_)
  · replace hvc := hvc.1 hc
    refine xw_iload_n dX3_hamletOf_10 rfl ?_
    obtain ⟨hv1, hvc⟩ := hvc
    by_cases c0 : x2 = (0 : Int32)
    · replace hvc := hv1 c0
      refine xw_tableIn 56 dX3_hamletOf_11 (by rw [c0]; decide) (by rw [c0]; decide) (by rw [c0]; rfl) rfl ?_
      refine xw_aload_n dX3_hamletOf_56 rfl ?_
      refine xw_iload_n dX3_hamletOf_57 rfl ?_
      refine xw_iload_n dX3_hamletOf_58 rfl ?_
      obtain ⟨hcK, hvc⟩ := hvc
      obtain ⟨d9, k9, hd9, hk9, hC9⟩ := hvc
      refine xw_callV dX3_hamletOf_59 px_X3_hamletIs pm_X3_hamletIs q3069 q3071 qs42 hcX3 hcK (As := [xi x1, xi x2]) (rest := []) rfl rfl (Nat.le_of_ble_eq_true rfl) hd9 hk9 hC9 (xkI_n fun n6 h4 hvc => ?_) (fun q h hq => xTh_out0 rfl hq)
      exact xw_iret dX3_hamletOf_62 rfl hvc
    obtain ⟨hv1, hvc⟩ := hvc
    by_cases c1 : x2 = (1 : Int32)
    · replace hvc := hv1 c1
      refine xw_tableIn 56 dX3_hamletOf_11 (by rw [c1]; decide) (by rw [c1]; decide) (by rw [c1]; rfl) rfl ?_
      refine xw_aload_n dX3_hamletOf_56 rfl ?_
      refine xw_iload_n dX3_hamletOf_57 rfl ?_
      refine xw_iload_n dX3_hamletOf_58 rfl ?_
      obtain ⟨hcK, hvc⟩ := hvc
      obtain ⟨d9, k9, hd9, hk9, hC9⟩ := hvc
      refine xw_callV dX3_hamletOf_59 px_X3_hamletIs pm_X3_hamletIs q3069 q3071 qs42 hcX3 hcK (As := [xi x1, xi x2]) (rest := []) rfl rfl (Nat.le_of_ble_eq_true rfl) hd9 hk9 hC9 (xkI_n fun n9 h7 hvc => ?_) (fun q h hq => xTh_out0 rfl hq)
      exact xw_iret dX3_hamletOf_62 rfl hvc
    obtain ⟨hv1, hvc⟩ := hvc
    by_cases c2 : x2 = (2 : Int32)
    · replace hvc := hv1 c2
      refine xw_tableIn 56 dX3_hamletOf_11 (by rw [c2]; decide) (by rw [c2]; decide) (by rw [c2]; rfl) rfl ?_
      refine xw_aload_n dX3_hamletOf_56 rfl ?_
      refine xw_iload_n dX3_hamletOf_57 rfl ?_
      refine xw_iload_n dX3_hamletOf_58 rfl ?_
      obtain ⟨hcK, hvc⟩ := hvc
      obtain ⟨d9, k9, hd9, hk9, hC9⟩ := hvc
      refine xw_callV dX3_hamletOf_59 px_X3_hamletIs pm_X3_hamletIs q3069 q3071 qs42 hcX3 hcK (As := [xi x1, xi x2]) (rest := []) rfl rfl (Nat.le_of_ble_eq_true rfl) hd9 hk9 hC9 (xkI_n fun n12 h10 hvc => ?_) (fun q h hq => xTh_out0 rfl hq)
      exact xw_iret dX3_hamletOf_62 rfl hvc
    obtain ⟨hv1, hvc⟩ := hvc
    by_cases c3 : x2 = (3 : Int32)
    · replace hvc := hv1 c3
      refine xw_tableIn 63 dX3_hamletOf_11 (by rw [c3]; decide) (by rw [c3]; decide) (by rw [c3]; rfl) rfl ?_
      refine xw_aload_n dX3_hamletOf_63 rfl ?_
      refine xw_aload_n dX3_hamletOf_64 rfl ?_
      refine xw_iload_n dX3_hamletOf_65 rfl ?_
      obtain ⟨hcK, hvc⟩ := hvc
      obtain ⟨d9, k9, hd9, hk9, hC9⟩ := hvc
      refine xw_callV dX3_hamletOf_66 px_X3_well pm_X3_well q3141 q3143 qs58 hcX3 hcK (As := [xi x1]) (rest := [xr (some this)]) rfl rfl (Nat.le_of_ble_eq_true rfl) hd9 hk9 hC9 (xkI_n fun n15 h13 hvc => ?_) (fun q h hq => xTh_out0 rfl hq)
      obtain ⟨hcK, hvc⟩ := hvc
      obtain ⟨d9, k9, hd9, hk9, hC9⟩ := hvc
      refine xw_callV dX3_hamletOf_69 px_X3_orNothing pm_X3_orNothing q3274 q3276 qs82 hcX3 hcK (As := [xi n15]) (rest := []) rfl rfl (Nat.le_of_ble_eq_true rfl) hd9 hk9 hC9 (xkI_n fun n18 h16 hvc => ?_) (fun q h hq => xTh_out0 rfl hq)
      exact xw_iret dX3_hamletOf_72 rfl hvc
    obtain ⟨hv1, hvc⟩ := hvc
    by_cases c4 : x2 = (4 : Int32)
    · replace hvc := hv1 c4
      refine xw_tableIn 73 dX3_hamletOf_11 (by rw [c4]; decide) (by rw [c4]; decide) (by rw [c4]; rfl) rfl ?_
      refine xw_aload_n dX3_hamletOf_73 rfl ?_
      refine xw_iload_n dX3_hamletOf_74 rfl ?_
      obtain ⟨hcK, hvc⟩ := hvc
      obtain ⟨d9, k9, hd9, hk9, hC9⟩ := hvc
      refine xw_callV dX3_hamletOf_75 px_X3_well pm_X3_well q3141 q3143 qs58 hcX3 hcK (As := [xi x1]) (rest := []) rfl rfl (Nat.le_of_ble_eq_true rfl) hd9 hk9 hC9 (xkI_n fun n21 h19 hvc => ?_) (fun q h hq => xTh_out0 rfl hq)
      refine xw_if_ge 86 dX3_hamletOf_78 rfl (fun hc => ?_) (fun hc => ?_)
      · replace hvc := hvc.1 hc
        refine xw_aload_n dX3_hamletOf_86 rfl ?_
        refine xw_iload_n dX3_hamletOf_87 rfl ?_
        refine xw_aload_n dX3_hamletOf_88 rfl ?_
        refine xw_iload_n dX3_hamletOf_89 rfl ?_
        obtain ⟨hcK, hvc⟩ := hvc
        obtain ⟨d9, k9, hd9, hk9, hC9⟩ := hvc
        refine xw_callV dX3_hamletOf_90 px_X3_well pm_X3_well q3141 q3143 qs58 hcX3 hcK (As := [xi x1]) (rest := [xi x1, xr (some this)]) rfl rfl (Nat.le_of_ble_eq_true rfl) hd9 hk9 hC9 (xkI_n fun n24 h22 hvc => ?_) (fun q h hq => xTh_out0 rfl hq)
        obtain ⟨hcK, hvc⟩ := hvc
        obtain ⟨d9, k9, hd9, hk9, hC9⟩ := hvc
        refine xw_callV dX3_hamletOf_93 px_X3_far pm_X3_far q3156 q3158 qs61 hcX3 hcK (As := [xi x1, xi n24]) (rest := []) rfl rfl (Nat.le_of_ble_eq_true rfl) hd9 hk9 hC9 (xkI_n fun n27 h25 hvc => ?_) (fun q h hq => xTh_out0 rfl hq)
        exact xw_iret dX3_hamletOf_96 rfl hvc
      · replace hvc := hvc.2 hc
        refine xw_bipush (-6 : Int32) dX3_hamletOf_81 (by decide) ?_
        refine xw_goto 96 dX3_hamletOf_83 rfl ?_
        exact xw_iret dX3_hamletOf_96 rfl hvc
    obtain ⟨hv1, hvc⟩ := hvc
    by_cases c5 : x2 = (5 : Int32)
    · replace hvc := hv1 c5
      refine xw_tableIn 97 dX3_hamletOf_11 (by rw [c5]; decide) (by rw [c5]; decide) (by rw [c5]; rfl) rfl ?_
      refine xw_aload_n dX3_hamletOf_97 rfl ?_
      refine xw_iload_n dX3_hamletOf_98 rfl ?_
      refine xw_iconst (3 : Int32) dX3_hamletOf_99 (by decide) ?_
      obtain ⟨hcK, hvc⟩ := hvc
      obtain ⟨d9, k9, hd9, hk9, hC9⟩ := hvc
      refine xw_callV dX3_hamletOf_100 px_X3_hamletIs pm_X3_hamletIs q3069 q3071 qs42 hcX3 hcK (As := [xi x1, xi (3 : Int32)]) (rest := []) rfl rfl (Nat.le_of_ble_eq_true rfl) hd9 hk9 hC9 (xkI_n fun n30 h28 hvc => ?_) (fun q h hq => xTh_out0 rfl hq)
      exact xw_iret dX3_hamletOf_103 rfl hvc
    obtain ⟨hv1, hvc⟩ := hvc
    by_cases c6 : x2 = (6 : Int32)
    · replace hvc := hv1 c6
      refine xw_tableIn 104 dX3_hamletOf_11 (by rw [c6]; decide) (by rw [c6]; decide) (by rw [c6]; rfl) rfl ?_
      refine xw_aload_n dX3_hamletOf_104 rfl ?_
      refine xw_iload_n dX3_hamletOf_105 rfl ?_
      refine xw_iconst (4 : Int32) dX3_hamletOf_106 (by decide) ?_
      obtain ⟨hcK, hvc⟩ := hvc
      obtain ⟨d9, k9, hd9, hk9, hC9⟩ := hvc
      refine xw_callV dX3_hamletOf_107 px_X3_hamletIs pm_X3_hamletIs q3069 q3071 qs42 hcX3 hcK (As := [xi x1, xi (4 : Int32)]) (rest := []) rfl rfl (Nat.le_of_ble_eq_true rfl) hd9 hk9 hC9 (xkI_n fun n33 h31 hvc => ?_) (fun q h hq => xTh_out0 rfl hq)
      exact xw_iret dX3_hamletOf_110 rfl hvc
    obtain ⟨hv1, hvc⟩ := hvc
    by_cases c7 : x2 = (7 : Int32)
    · replace hvc := hv1 c7
      refine xw_tableIn 111 dX3_hamletOf_11 (by rw [c7]; decide) (by rw [c7]; decide) (by rw [c7]; rfl) rfl ?_
      refine xw_aload_n dX3_hamletOf_111 rfl ?_
      refine xw_iload_n dX3_hamletOf_112 rfl ?_
      refine xw_iconst (5 : Int32) dX3_hamletOf_113 (by decide) ?_
      obtain ⟨hcK, hvc⟩ := hvc
      obtain ⟨d9, k9, hd9, hk9, hC9⟩ := hvc
      refine xw_callV dX3_hamletOf_114 px_X3_hamletIs pm_X3_hamletIs q3069 q3071 qs42 hcX3 hcK (As := [xi x1, xi (5 : Int32)]) (rest := []) rfl rfl (Nat.le_of_ble_eq_true rfl) hd9 hk9 hC9 (xkI_n fun n36 h34 hvc => ?_) (fun q h hq => xTh_out0 rfl hq)
      exact xw_iret dX3_hamletOf_117 rfl hvc
    have hout : (x2).toInt < (0 : Int) ∨ (7 : Int) < (x2).toInt := by
      have e0 : ¬ (x2).toInt = (0 : Int) := fun z => c0 (Int32.toInt_inj.mp (z.trans (by decide)))
      have e1 : ¬ (x2).toInt = (1 : Int) := fun z => c1 (Int32.toInt_inj.mp (z.trans (by decide)))
      have e2 : ¬ (x2).toInt = (2 : Int) := fun z => c2 (Int32.toInt_inj.mp (z.trans (by decide)))
      have e3 : ¬ (x2).toInt = (3 : Int) := fun z => c3 (Int32.toInt_inj.mp (z.trans (by decide)))
      have e4 : ¬ (x2).toInt = (4 : Int) := fun z => c4 (Int32.toInt_inj.mp (z.trans (by decide)))
      have e5 : ¬ (x2).toInt = (5 : Int) := fun z => c5 (Int32.toInt_inj.mp (z.trans (by decide)))
      have e6 : ¬ (x2).toInt = (6 : Int) := fun z => c6 (Int32.toInt_inj.mp (z.trans (by decide)))
      have e7 : ¬ (x2).toInt = (7 : Int) := fun z => c7 (Int32.toInt_inj.mp (z.trans (by decide)))
      omega
    replace hvc := hvc hout
    refine xw_tableOut 118 dX3_hamletOf_11 hout rfl ?_
    refine xw_bipush (-2 : Int32) dX3_hamletOf_118 (by decide) ?_
    exact xw_iret dX3_hamletOf_120 rfl hvc
  · replace hvc := hvc.2 hc
    refine xw_iconst (-1 : Int32) dX3_hamletOf_8 (by decide) ?_
    exact xw_iret dX3_hamletOf_9 rfl hvc

theorem vc_X3_isHamlet {G : xG} {d K : Nat} {Q : xR → xH → Prop} {h : xH} {this : Nat} {x1 : Int32}
    (hvc : xcls h this = 6 ∧ ∃ o1 : Option Nat, xval h this 4 = xr o1 ∧ ∃ a2, o1 = some a2 ∧ xcls h a2 = 1003 ∧ ∃ i3 : Nat, (2 : Int32) = nI i3 ∧ i3 < 2147483648 ∧ i3 < xlen h a2 ∧ ∃ n4 : Int32, xval h a2 i3 = xi n4 ∧ xCall G d K mX3_isBetween [xi x1, xi (0 : Int32), xi (n4 - (1 : Int32))] h (xkI (fun n7 h5 k6 => (n7 = 0 ∨ n7 = 1) ∧ Q (.inl (some (xi n7))) h5) (fun q h _ => Q (.inr q) h))) : xCn G mX3_isHamlet d K [xr (some this), xi x1] h Q := by
  refine xCn_of px_X3_isHamlet rfl rfl (Nat.le_of_ble_eq_true rfl) ?_
  show xWp G mX3_isHamlet d K Q K 0 [some (xr (some this)), some (xi x1)] [] h
  refine xw_iload_n dX3_isHamlet_0 rfl ?_
  refine xw_iconst (0 : Int32) dX3_isHamlet_1 (by decide) ?_
  refine xw_aload_n dX3_isHamlet_2 rfl ?_
  obtain ⟨hcK, o1, hvK, hvc⟩ := hvc
  refine xw_get dX3_isHamlet_3 hcX3 in_X3 (kf := 4) (by decide) q2983 (fun _ _ _ _ z => z) hcK hvK ?_
  refine xw_iconst (2 : Int32) dX3_isHamlet_6 (by decide) ?_
  obtain ⟨a2, ho, hvc⟩ := hvc
  subst ho
  obtain ⟨hcK, i3, hx9, hb9, hi9, n4, hv9, hvc⟩ := hvc
  refine xw_iald (j := 3) dX3_isHamlet_7 rfl hcK hx9 hb9 hi9 hv9 ?_
  refine xw_iconst (1 : Int32) dX3_isHamlet_8 (by decide) ?_
  refine xw_isub dX3_isHamlet_9 ?_
  obtain ⟨d9, k9, hd9, hk9, hC9⟩ := hvc
  refine xw_callS dX3_isHamlet_10 px_X3_isBetween pm_X3_isBetween q3047 q3048 (As := [xi x1, xi (0 : Int32), xi (n4 - (1 : Int32))]) (rest := []) rfl rfl (Nat.le_of_ble_eq_true rfl) hd9 hk9 hC9 (xkI_n fun n7 h5 hvc => ?_) (fun q h hq => xTh_out0 rfl hq)
  exact xw_zret dX3_isHamlet_13 rfl (xnb hvc.1).1 hvc.2

theorem vc_X3_orNothing {G : xG} {d K : Nat} {Q : xR → xH → Prop} {h : xH} {this : Nat} {x1 : Int32}
    (hvc : ((0 ≤ x1 → Q (.inl (some (xi x1))) h) ∧ (¬ 0 ≤ x1 → Q (.inl (some (xi (-6 : Int32)))) h))) : xCn G mX3_orNothing d K [xr (some this), xi x1] h Q := by
  refine xCn_of px_X3_orNothing rfl rfl (Nat.le_of_ble_eq_true rfl) ?_
  show xWp G mX3_orNothing d K Q K 0 [some (xr (some this)), some (xi x1)] [] h
  refine xw_iload_n dX3_orNothing_0 rfl ?_
  refine xw_if_ge 9 dX3_orNothing_1 rfl (fun hc => ?_) (fun hc => ?_)
  · replace hvc := hvc.1 hc
    refine xw_iload_n dX3_orNothing_9 rfl ?_
    exact xw_iret dX3_orNothing_10 rfl hvc
  · replace hvc := hvc.2 hc
    refine xw_bipush (-6 : Int32) dX3_orNothing_4 (by decide) ?_
    refine xw_goto 10 dX3_orNothing_6 rfl ?_
    exact xw_iret dX3_orNothing_10 rfl hvc

theorem vc_X3_siteOf {G : xG} {d K : Nat} {Q : xR → xH → Prop} {h : xH} {this : Nat} {x1 : Int32} {x2 : Int32}
    (hvc : xcls h this = 6 ∧ xCall G d K mX3_isSite [xr (some this), xi x1] h (xkI (fun n3 h1 k2 => ((¬ n3 = 0 → ((x2 = (0 : Int32) → xcls h1 this = 6 ∧ xCall G d k2 mX3_siteIs [xr (some this), xi x1, xi x2] h1 (xkI (fun n6 h4 k5 => Q (.inl (some (xi n6))) h4) (fun q h _ => Q (.inr q) h))) ∧ (x2 = (1 : Int32) → xcls h1 this = 6 ∧ xCall G d k2 mX3_siteIs [xr (some this), xi x1, xi x2] h1 (xkI (fun n9 h7 k8 => Q (.inl (some (xi n9))) h7) (fun q h _ => Q (.inr q) h))) ∧ (x2 = (2 : Int32) → xcls h1 this = 6 ∧ xCall G d k2 mX3_siteIs [xr (some this), xi x1, xi (x2 + (1 : Int32))] h1 (xkI (fun n12 h10 k11 => Q (.inl (some (xi n12))) h10) (fun q h _ => Q (.inr q) h))) ∧ (x2 = (3 : Int32) → xcls h1 this = 6 ∧ xCall G d k2 mX3_siteIs [xr (some this), xi x1, xi (x2 + (1 : Int32))] h1 (xkI (fun n15 h13 k14 => Q (.inl (some (xi n15))) h13) (fun q h _ => Q (.inr q) h))) ∧ (x2 = (4 : Int32) → xcls h1 this = 6 ∧ xCall G d k2 mX3_siteIs [xr (some this), xi x1, xi (x2 + (1 : Int32))] h1 (xkI (fun n18 h16 k17 => Q (.inl (some (xi n18))) h16) (fun q h _ => Q (.inr q) h))) ∧ (x2 = (5 : Int32) → xcls h1 this = 6 ∧ xCall G d k2 mX3_siteIs [xr (some this), xi x1, xi (x2 + (1 : Int32))] h1 (xkI (fun n21 h19 k20 => Q (.inl (some (xi n21))) h19) (fun q h _ => Q (.inr q) h))) ∧ (x2 = (6 : Int32) → xcls h1 this = 6 ∧ xCall G d k2 mX3_gives [xr (some this), xi x1] h1 (xkI (fun n24 h22 k23 => Q (.inl (some (xi n24))) h22) (fun q h _ => Q (.inr q) h))) ∧ (x2 = (7 : Int32) → xcls h1 this = 6 ∧ xCall G d k2 mX3_asked [xr (some this), xi x1] h1 (xkI (fun n27 h25 k26 => Q (.inl (some (xi n27))) h25) (fun q h _ => Q (.inr q) h))) ∧ (x2 = (8 : Int32) → xcls h1 this = 6 ∧ xCall G d k2 mX3_hamletsOf [xr (some this), xi x1] h1 (xkI (fun n30 h28 k29 => Q (.inl (some (xi n30))) h28) (fun q h _ => Q (.inr q) h))) ∧ (x2 = (9 : Int32) → xcls h1 this = 6 ∧ xCall G d k2 mX3_siteIs [xr (some this), xi x1, xi (7 : Int32)] h1 (xkI (fun n33 h31 k32 => Q (.inl (some (xi n33))) h31) (fun q h _ => Q (.inr q) h))) ∧ ((x2.toInt < 0 ∨ 9 < x2.toInt) → Q (.inl (some (xi (-2 : Int32)))) h1))) ∧ (n3 = 0 → Q (.inl (some (xi (-1 : Int32)))) h1))) (fun q h _ => Q (.inr q) h))) : xCn G mX3_siteOf d K [xr (some this), xi x1, xi x2] h Q := by
  refine xCn_of px_X3_siteOf rfl rfl (Nat.le_of_ble_eq_true rfl) ?_
  show xWp G mX3_siteOf d K Q K 0 [some (xr (some this)), some (xi x1), some (xi x2)] [] h
  refine xw_aload_n dX3_siteOf_0 rfl ?_
  refine xw_iload_n dX3_siteOf_1 rfl ?_
  obtain ⟨hcK, hvc⟩ := hvc
  obtain ⟨d9, k9, hd9, hk9, hC9⟩ := hvc
  refine xw_callV dX3_siteOf_2 px_X3_isSite pm_X3_isSite q3129 q3131 qs55 hcX3 hcK (As := [xi x1]) (rest := []) rfl rfl (Nat.le_of_ble_eq_true rfl) hd9 hk9 hC9 (xkI_n fun n3 h1 hvc => ?_) (fun q h hq => xTh_out0 rfl hq)
  refine xw_if_ne 10 dX3_siteOf_5 rfl (fun hc => ?_) (fun hc => ?_)
  · replace hvc := hvc.1 hc
    refine xw_iload_n dX3_siteOf_10 rfl ?_
    obtain ⟨hv1, hvc⟩ := hvc
    by_cases c0 : x2 = (0 : Int32)
    · replace hvc := hv1 c0
      refine xw_tableIn 64 dX3_siteOf_11 (by rw [c0]; decide) (by rw [c0]; decide) (by rw [c0]; rfl) rfl ?_
      refine xw_aload_n dX3_siteOf_64 rfl ?_
      refine xw_iload_n dX3_siteOf_65 rfl ?_
      refine xw_iload_n dX3_siteOf_66 rfl ?_
      obtain ⟨hcK, hvc⟩ := hvc
      obtain ⟨d9, k9, hd9, hk9, hC9⟩ := hvc
      refine xw_callV dX3_siteOf_67 px_X3_siteIs pm_X3_siteIs q3109 q3111 qs51 hcX3 hcK (As := [xi x1, xi x2]) (rest := []) rfl rfl (Nat.le_of_ble_eq_true rfl) hd9 hk9 hC9 (xkI_n fun n6 h4 hvc => ?_) (fun q h hq => xTh_out0 rfl hq)
      exact xw_iret dX3_siteOf_70 rfl hvc
    obtain ⟨hv1, hvc⟩ := hvc
    by_cases c1 : x2 = (1 : Int32)
    · replace hvc := hv1 c1
      refine xw_tableIn 64 dX3_siteOf_11 (by rw [c1]; decide) (by rw [c1]; decide) (by rw [c1]; rfl) rfl ?_
      refine xw_aload_n dX3_siteOf_64 rfl ?_
      refine xw_iload_n dX3_siteOf_65 rfl ?_
      refine xw_iload_n dX3_siteOf_66 rfl ?_
      obtain ⟨hcK, hvc⟩ := hvc
      obtain ⟨d9, k9, hd9, hk9, hC9⟩ := hvc
      refine xw_callV dX3_siteOf_67 px_X3_siteIs pm_X3_siteIs q3109 q3111 qs51 hcX3 hcK (As := [xi x1, xi x2]) (rest := []) rfl rfl (Nat.le_of_ble_eq_true rfl) hd9 hk9 hC9 (xkI_n fun n9 h7 hvc => ?_) (fun q h hq => xTh_out0 rfl hq)
      exact xw_iret dX3_siteOf_70 rfl hvc
    obtain ⟨hv1, hvc⟩ := hvc
    by_cases c2 : x2 = (2 : Int32)
    · replace hvc := hv1 c2
      refine xw_tableIn 71 dX3_siteOf_11 (by rw [c2]; decide) (by rw [c2]; decide) (by rw [c2]; rfl) rfl ?_
      refine xw_aload_n dX3_siteOf_71 rfl ?_
      refine xw_iload_n dX3_siteOf_72 rfl ?_
      refine xw_iload_n dX3_siteOf_73 rfl ?_
      refine xw_iconst (1 : Int32) dX3_siteOf_74 (by decide) ?_
      refine xw_iadd dX3_siteOf_75 ?_
      obtain ⟨hcK, hvc⟩ := hvc
      obtain ⟨d9, k9, hd9, hk9, hC9⟩ := hvc
      refine xw_callV dX3_siteOf_76 px_X3_siteIs pm_X3_siteIs q3109 q3111 qs51 hcX3 hcK (As := [xi x1, xi (x2 + (1 : Int32))]) (rest := []) rfl rfl (Nat.le_of_ble_eq_true rfl) hd9 hk9 hC9 (xkI_n fun n12 h10 hvc => ?_) (fun q h hq => xTh_out0 rfl hq)
      exact xw_iret dX3_siteOf_79 rfl hvc
    obtain ⟨hv1, hvc⟩ := hvc
    by_cases c3 : x2 = (3 : Int32)
    · replace hvc := hv1 c3
      refine xw_tableIn 71 dX3_siteOf_11 (by rw [c3]; decide) (by rw [c3]; decide) (by rw [c3]; rfl) rfl ?_
      refine xw_aload_n dX3_siteOf_71 rfl ?_
      refine xw_iload_n dX3_siteOf_72 rfl ?_
      refine xw_iload_n dX3_siteOf_73 rfl ?_
      refine xw_iconst (1 : Int32) dX3_siteOf_74 (by decide) ?_
      refine xw_iadd dX3_siteOf_75 ?_
      obtain ⟨hcK, hvc⟩ := hvc
      obtain ⟨d9, k9, hd9, hk9, hC9⟩ := hvc
      refine xw_callV dX3_siteOf_76 px_X3_siteIs pm_X3_siteIs q3109 q3111 qs51 hcX3 hcK (As := [xi x1, xi (x2 + (1 : Int32))]) (rest := []) rfl rfl (Nat.le_of_ble_eq_true rfl) hd9 hk9 hC9 (xkI_n fun n15 h13 hvc => ?_) (fun q h hq => xTh_out0 rfl hq)
      exact xw_iret dX3_siteOf_79 rfl hvc
    obtain ⟨hv1, hvc⟩ := hvc
    by_cases c4 : x2 = (4 : Int32)
    · replace hvc := hv1 c4
      refine xw_tableIn 71 dX3_siteOf_11 (by rw [c4]; decide) (by rw [c4]; decide) (by rw [c4]; rfl) rfl ?_
      refine xw_aload_n dX3_siteOf_71 rfl ?_
      refine xw_iload_n dX3_siteOf_72 rfl ?_
      refine xw_iload_n dX3_siteOf_73 rfl ?_
      refine xw_iconst (1 : Int32) dX3_siteOf_74 (by decide) ?_
      refine xw_iadd dX3_siteOf_75 ?_
      obtain ⟨hcK, hvc⟩ := hvc
      obtain ⟨d9, k9, hd9, hk9, hC9⟩ := hvc
      refine xw_callV dX3_siteOf_76 px_X3_siteIs pm_X3_siteIs q3109 q3111 qs51 hcX3 hcK (As := [xi x1, xi (x2 + (1 : Int32))]) (rest := []) rfl rfl (Nat.le_of_ble_eq_true rfl) hd9 hk9 hC9 (xkI_n fun n18 h16 hvc => ?_) (fun q h hq => xTh_out0 rfl hq)
      exact xw_iret dX3_siteOf_79 rfl hvc
    obtain ⟨hv1, hvc⟩ := hvc
    by_cases c5 : x2 = (5 : Int32)
    · replace hvc := hv1 c5
      refine xw_tableIn 71 dX3_siteOf_11 (by rw [c5]; decide) (by rw [c5]; decide) (by rw [c5]; rfl) rfl ?_
      refine xw_aload_n dX3_siteOf_71 rfl ?_
      refine xw_iload_n dX3_siteOf_72 rfl ?_
      refine xw_iload_n dX3_siteOf_73 rfl ?_
      refine xw_iconst (1 : Int32) dX3_siteOf_74 (by decide) ?_
      refine xw_iadd dX3_siteOf_75 ?_
      obtain ⟨hcK, hvc⟩ := hvc
      obtain ⟨d9, k9, hd9, hk9, hC9⟩ := hvc
      refine xw_callV dX3_siteOf_76 px_X3_siteIs pm_X3_siteIs q3109 q3111 qs51 hcX3 hcK (As := [xi x1, xi (x2 + (1 : Int32))]) (rest := []) rfl rfl (Nat.le_of_ble_eq_true rfl) hd9 hk9 hC9 (xkI_n fun n21 h19 hvc => ?_) (fun q h hq => xTh_out0 rfl hq)
      exact xw_iret dX3_siteOf_79 rfl hvc
    obtain ⟨hv1, hvc⟩ := hvc
    by_cases c6 : x2 = (6 : Int32)
    · replace hvc := hv1 c6
      refine xw_tableIn 80 dX3_siteOf_11 (by rw [c6]; decide) (by rw [c6]; decide) (by rw [c6]; rfl) rfl ?_
      refine xw_aload_n dX3_siteOf_80 rfl ?_
      refine xw_iload_n dX3_siteOf_81 rfl ?_
      obtain ⟨hcK, hvc⟩ := hvc
      obtain ⟨d9, k9, hd9, hk9, hC9⟩ := hvc
      refine xw_callV dX3_siteOf_82 px_X3_gives pm_X3_gives q3202 q3204 qs69 hcX3 hcK (As := [xi x1]) (rest := []) rfl rfl (Nat.le_of_ble_eq_true rfl) hd9 hk9 hC9 (xkI_n fun n24 h22 hvc => ?_) (fun q h hq => xTh_out0 rfl hq)
      exact xw_iret dX3_siteOf_85 rfl hvc
    obtain ⟨hv1, hvc⟩ := hvc
    by_cases c7 : x2 = (7 : Int32)
    · replace hvc := hv1 c7
      refine xw_tableIn 86 dX3_siteOf_11 (by rw [c7]; decide) (by rw [c7]; decide) (by rw [c7]; rfl) rfl ?_
      refine xw_aload_n dX3_siteOf_86 rfl ?_
      refine xw_iload_n dX3_siteOf_87 rfl ?_
      obtain ⟨hcK, hvc⟩ := hvc
      obtain ⟨d9, k9, hd9, hk9, hC9⟩ := hvc
      refine xw_callV dX3_siteOf_88 px_X3_asked pm_X3_asked q3282 q3284 qs83 hcX3 hcK (As := [xi x1]) (rest := []) rfl rfl (Nat.le_of_ble_eq_true rfl) hd9 hk9 hC9 (xkI_n fun n27 h25 hvc => ?_) (fun q h hq => xTh_out0 rfl hq)
      exact xw_iret dX3_siteOf_91 rfl hvc
    obtain ⟨hv1, hvc⟩ := hvc
    by_cases c8 : x2 = (8 : Int32)
    · replace hvc := hv1 c8
      refine xw_tableIn 92 dX3_siteOf_11 (by rw [c8]; decide) (by rw [c8]; decide) (by rw [c8]; rfl) rfl ?_
      refine xw_aload_n dX3_siteOf_92 rfl ?_
      refine xw_iload_n dX3_siteOf_93 rfl ?_
      obtain ⟨hcK, hvc⟩ := hvc
      obtain ⟨d9, k9, hd9, hk9, hC9⟩ := hvc
      refine xw_callV dX3_siteOf_94 px_X3_hamletsOf pm_X3_hamletsOf q3137 q3139 qs57 hcX3 hcK (As := [xi x1]) (rest := []) rfl rfl (Nat.le_of_ble_eq_true rfl) hd9 hk9 hC9 (xkI_n fun n30 h28 hvc => ?_) (fun q h hq => xTh_out0 rfl hq)
      exact xw_iret dX3_siteOf_97 rfl hvc
    obtain ⟨hv1, hvc⟩ := hvc
    by_cases c9 : x2 = (9 : Int32)
    · replace hvc := hv1 c9
      refine xw_tableIn 98 dX3_siteOf_11 (by rw [c9]; decide) (by rw [c9]; decide) (by rw [c9]; rfl) rfl ?_
      refine xw_aload_n dX3_siteOf_98 rfl ?_
      refine xw_iload_n dX3_siteOf_99 rfl ?_
      refine xw_bipush (7 : Int32) dX3_siteOf_100 (by decide) ?_
      obtain ⟨hcK, hvc⟩ := hvc
      obtain ⟨d9, k9, hd9, hk9, hC9⟩ := hvc
      refine xw_callV dX3_siteOf_102 px_X3_siteIs pm_X3_siteIs q3109 q3111 qs51 hcX3 hcK (As := [xi x1, xi (7 : Int32)]) (rest := []) rfl rfl (Nat.le_of_ble_eq_true rfl) hd9 hk9 hC9 (xkI_n fun n33 h31 hvc => ?_) (fun q h hq => xTh_out0 rfl hq)
      exact xw_iret dX3_siteOf_105 rfl hvc
    have hout : (x2).toInt < (0 : Int) ∨ (9 : Int) < (x2).toInt := by
      have e0 : ¬ (x2).toInt = (0 : Int) := fun z => c0 (Int32.toInt_inj.mp (z.trans (by decide)))
      have e1 : ¬ (x2).toInt = (1 : Int) := fun z => c1 (Int32.toInt_inj.mp (z.trans (by decide)))
      have e2 : ¬ (x2).toInt = (2 : Int) := fun z => c2 (Int32.toInt_inj.mp (z.trans (by decide)))
      have e3 : ¬ (x2).toInt = (3 : Int) := fun z => c3 (Int32.toInt_inj.mp (z.trans (by decide)))
      have e4 : ¬ (x2).toInt = (4 : Int) := fun z => c4 (Int32.toInt_inj.mp (z.trans (by decide)))
      have e5 : ¬ (x2).toInt = (5 : Int) := fun z => c5 (Int32.toInt_inj.mp (z.trans (by decide)))
      have e6 : ¬ (x2).toInt = (6 : Int) := fun z => c6 (Int32.toInt_inj.mp (z.trans (by decide)))
      have e7 : ¬ (x2).toInt = (7 : Int) := fun z => c7 (Int32.toInt_inj.mp (z.trans (by decide)))
      have e8 : ¬ (x2).toInt = (8 : Int) := fun z => c8 (Int32.toInt_inj.mp (z.trans (by decide)))
      have e9 : ¬ (x2).toInt = (9 : Int) := fun z => c9 (Int32.toInt_inj.mp (z.trans (by decide)))
      omega
    replace hvc := hvc hout
    refine xw_tableOut 106 dX3_siteOf_11 hout rfl ?_
    refine xw_bipush (-2 : Int32) dX3_siteOf_106 (by decide) ?_
    exact xw_iret dX3_siteOf_108 rfl hvc
  · replace hvc := hvc.2 hc
    refine xw_iconst (-1 : Int32) dX3_siteOf_8 (by decide) ?_
    exact xw_iret dX3_siteOf_9 rfl hvc

theorem vc_X3_asked {G : xG} {d K : Nat} {Q : xR → xH → Prop} {h : xH} {this : Nat} {x1 : Int32}
    (hvc : xWp G mX3_asked d K Q K 4 [some (xr (some this)), some (xi x1), some (xi (0 : Int32)), some (xi (0 : Int32))] [] h) : xCn G mX3_asked d K [xr (some this), xi x1] h Q := by
  refine xCn_of px_X3_asked rfl rfl (Nat.le_of_ble_eq_true rfl) ?_
  show xWp G mX3_asked d K Q K 0 [some (xr (some this)), some (xi x1), none, none] [] h
  refine xw_iconst (0 : Int32) dX3_asked_0 (by decide) ?_
  refine xw_istore_n dX3_asked_1 (Nat.le_of_ble_eq_true rfl) (L9 := [some (xr (some this)), some (xi x1), some (xi (0 : Int32)), none]) rfl ?_
  refine xw_iconst (0 : Int32) dX3_asked_2 (by decide) ?_
  refine xw_istore_n dX3_asked_3 (Nat.le_of_ble_eq_true rfl) (L9 := [some (xr (some this)), some (xi x1), some (xi (0 : Int32)), some (xi (0 : Int32))]) rfl ?_
  exact hvc

theorem vc_X3_asked_4 {G : xG} {d K k : Nat} {Q : xR → xH → Prop} {h : xH} {this : Nat} {x1 : Int32} {x2 : Int32} {x3 : Int32}
    (hvc : xcls h this = 6 ∧ ∃ o1 : Option Nat, xval h this 4 = xr o1 ∧ ∃ a2, o1 = some a2 ∧ xcls h a2 = 1003 ∧ ∃ i3 : Nat, (2 : Int32) = nI i3 ∧ i3 < 2147483648 ∧ i3 < xlen h a2 ∧ ∃ n4 : Int32, xval h a2 i3 = xi n4 ∧ ((n4 ≤ x3 → Q (.inl (some (xi x2))) h) ∧ (¬ n4 ≤ x3 → xcls h this = 6 ∧ xCall G d k mX3_well [xr (some this), xi x3] h (xkI (fun n7 h5 k6 => ((¬ n7 = x1 → xWp G mX3_asked d K Q k6 4 [some (xr (some this)), some (xi x1), some (xi (x2 + (0 : Int32))), some (xi (x3 + (1 : Int32)))] [] h5) ∧ (n7 = x1 → xcls h5 this = 6 ∧ xCall G d k6 mX3_hamletIs [xr (some this), xi x3, xi (2 : Int32)] h5 (xkI (fun n10 h8 k9 => xWp G mX3_asked d K Q k9 4 [some (xr (some this)), some (xi x1), some (xi (x2 + n10)), some (xi (x3 + (1 : Int32)))] [] h8) (fun q h _ => Q (.inr q) h))))) (fun q h _ => Q (.inr q) h))))) : xWp G mX3_asked d K Q k 4 [some (xr (some this)), some (xi x1), some (xi x2), some (xi x3)] [] h := by
  refine xw_iload_n dX3_asked_4 rfl ?_
  refine xw_aload_n dX3_asked_5 rfl ?_
  obtain ⟨hcK, o1, hvK, hvc⟩ := hvc
  refine xw_get dX3_asked_6 hcX3 in_X3 (kf := 4) (by decide) q2983 (fun _ _ _ _ z => z) hcK hvK ?_
  refine xw_iconst (2 : Int32) dX3_asked_9 (by decide) ?_
  obtain ⟨a2, ho, hvc⟩ := hvc
  subst ho
  obtain ⟨hcK, i3, hx9, hb9, hi9, n4, hv9, hvc⟩ := hvc
  refine xw_iald (j := 3) dX3_asked_10 rfl hcK hx9 hb9 hi9 hv9 ?_
  refine xw_icmp_ge 42 dX3_asked_11 rfl (fun hc => ?_) (fun hc => ?_)
  · replace hvc := hvc.1 hc
    refine xw_iload_n dX3_asked_42 rfl ?_
    exact xw_iret dX3_asked_43 rfl hvc
  · replace hvc := hvc.2 hc
    refine xw_iload_n dX3_asked_14 rfl ?_
    refine xw_aload_n dX3_asked_15 rfl ?_
    refine xw_iload_n dX3_asked_16 rfl ?_
    obtain ⟨hcK, hvc⟩ := hvc
    obtain ⟨d9, k9, hd9, hk9, hC9⟩ := hvc
    refine xw_callV dX3_asked_17 px_X3_well pm_X3_well q3141 q3143 qs58 hcX3 hcK (As := [xi x3]) (rest := [xi x2]) rfl rfl (Nat.le_of_ble_eq_true rfl) hd9 hk9 hC9 (xkI_n fun n7 h5 hvc => ?_) (fun q h hq => xTh_out0 rfl hq)
    refine xw_iload_n dX3_asked_20 rfl ?_
    refine xw_icmp_ne 33 dX3_asked_21 rfl (fun hc => ?_) (fun hc => ?_)
    · replace hvc := hvc.1 hc
      refine xw_iconst (0 : Int32) dX3_asked_33 (by decide) ?_
      refine xw_iadd dX3_asked_34 ?_
      refine xw_istore_n dX3_asked_35 (Nat.le_of_ble_eq_true rfl) (L9 := [some (xr (some this)), some (xi x1), some (xi (x2 + (0 : Int32))), some (xi x3)]) rfl ?_
      refine xw_iinc (1 : Int32) dX3_asked_36 rfl (by decide) (Nat.le_of_ble_eq_true rfl) (L9 := [some (xr (some this)), some (xi x1), some (xi (x2 + (0 : Int32))), some (xi (x3 + (1 : Int32)))]) rfl ?_
      refine xw_goto 4 dX3_asked_39 rfl ?_
      exact hvc
    · replace hvc := hvc.2 hc
      refine xw_aload_n dX3_asked_24 rfl ?_
      refine xw_iload_n dX3_asked_25 rfl ?_
      refine xw_iconst (2 : Int32) dX3_asked_26 (by decide) ?_
      obtain ⟨hcK, hvc⟩ := hvc
      obtain ⟨d9, k9, hd9, hk9, hC9⟩ := hvc
      refine xw_callV dX3_asked_27 px_X3_hamletIs pm_X3_hamletIs q3069 q3071 qs42 hcX3 hcK (As := [xi x3, xi (2 : Int32)]) (rest := [xi x2]) rfl rfl (Nat.le_of_ble_eq_true rfl) hd9 hk9 hC9 (xkI_n fun n10 h8 hvc => ?_) (fun q h hq => xTh_out0 rfl hq)
      refine xw_goto 34 dX3_asked_30 rfl ?_
      refine xw_iadd dX3_asked_34 ?_
      refine xw_istore_n dX3_asked_35 (Nat.le_of_ble_eq_true rfl) (L9 := [some (xr (some this)), some (xi x1), some (xi (x2 + n10)), some (xi x3)]) rfl ?_
      refine xw_iinc (1 : Int32) dX3_asked_36 rfl (by decide) (Nat.le_of_ble_eq_true rfl) (L9 := [some (xr (some this)), some (xi x1), some (xi (x2 + n10)), some (xi (x3 + (1 : Int32)))]) rfl ?_
      refine xw_goto 4 dX3_asked_39 rfl ?_
      exact hvc

theorem vc_X3_drinker {G : xG} {d K : Nat} {Q : xR → xH → Prop} {h : xH} {this : Nat} {x1 : Int32} {x2 : Int32}
    (hvc : xcls h this = 6 ∧ xCall G d K mX3_isSite [xr (some this), xi x1] h (xkI (fun n3 h1 k2 => ((¬ n3 = 0 → xWp G mX3_drinker d K Q k2 15 [some (xr (some this)), some (xi x1), some (xi x2), some (xi (0 : Int32)), some (xi (0 : Int32))] [] h1) ∧ (n3 = 0 → Q (.inl (some (xi (-1 : Int32)))) h1))) (fun q h _ => Q (.inr q) h))) : xCn G mX3_drinker d K [xr (some this), xi x1, xi x2] h Q := by
  refine xCn_of px_X3_drinker rfl rfl (Nat.le_of_ble_eq_true rfl) ?_
  show xWp G mX3_drinker d K Q K 0 [some (xr (some this)), some (xi x1), some (xi x2), none, none] [] h
  refine xw_aload_n dX3_drinker_0 rfl ?_
  refine xw_iload_n dX3_drinker_1 rfl ?_
  obtain ⟨hcK, hvc⟩ := hvc
  obtain ⟨d9, k9, hd9, hk9, hC9⟩ := hvc
  refine xw_callV dX3_drinker_2 px_X3_isSite pm_X3_isSite q3129 q3131 qs55 hcX3 hcK (As := [xi x1]) (rest := []) rfl rfl (Nat.le_of_ble_eq_true rfl) hd9 hk9 hC9 (xkI_n fun n3 h1 hvc => ?_) (fun q h hq => xTh_out0 rfl hq)
  refine xw_if_ne 10 dX3_drinker_5 rfl (fun hc => ?_) (fun hc => ?_)
  · replace hvc := hvc.1 hc
    refine xw_iconst (0 : Int32) dX3_drinker_10 (by decide) ?_
    refine xw_istore_n dX3_drinker_11 (Nat.le_of_ble_eq_true rfl) (L9 := [some (xr (some this)), some (xi x1), some (xi x2), some (xi (0 : Int32)), none]) rfl ?_
    refine xw_iconst (0 : Int32) dX3_drinker_12 (by decide) ?_
    refine xw_istore dX3_drinker_13 (Nat.le_of_ble_eq_true rfl) (L9 := [some (xr (some this)), some (xi x1), some (xi x2), some (xi (0 : Int32)), some (xi (0 : Int32))]) rfl ?_
    exact hvc
  · replace hvc := hvc.2 hc
    refine xw_iconst (-1 : Int32) dX3_drinker_8 (by decide) ?_
    exact xw_iret dX3_drinker_9 rfl hvc

theorem vc_X3_drinker_15 {G : xG} {d K k : Nat} {Q : xR → xH → Prop} {h : xH} {this : Nat} {x1 : Int32} {x2 : Int32} {x3 : Int32} {x4 : Int32}
    (hvc : xcls h this = 6 ∧ ∃ o4 : Option Nat, xval h this 4 = xr o4 ∧ ∃ a5, o4 = some a5 ∧ xcls h a5 = 1003 ∧ ∃ i6 : Nat, (2 : Int32) = nI i6 ∧ i6 < 2147483648 ∧ i6 < xlen h a5 ∧ ∃ n7 : Int32, xval h a5 i6 = xi n7 ∧ ((n7 ≤ x4 → Q (.inl (some (xi (-1 : Int32)))) h) ∧ (¬ n7 ≤ x4 → xcls h this = 6 ∧ xCall G d k mX3_well [xr (some this), xi x4] h (xkI (fun n10 h8 k9 => ((n10 = x1 → ((¬ x3 = x2 → xWp G mX3_drinker d K Q k9 15 [some (xr (some this)), some (xi x1), some (xi x2), some (xi (x3 + (1 : Int32))), some (xi (x4 + (1 : Int32)))] [] h8) ∧ (x3 = x2 → Q (.inl (some (xi x4))) h8))) ∧ (¬ n10 = x1 → xWp G mX3_drinker d K Q k9 15 [some (xr (some this)), some (xi x1), some (xi x2), some (xi x3), some (xi (x4 + (1 : Int32)))] [] h8))) (fun q h _ => Q (.inr q) h))))) : xWp G mX3_drinker d K Q k 15 [some (xr (some this)), some (xi x1), some (xi x2), some (xi x3), some (xi x4)] [] h := by
  refine xw_iload dX3_drinker_15 rfl ?_
  refine xw_aload_n dX3_drinker_17 rfl ?_
  obtain ⟨hcK, o4, hvK, hvc⟩ := hvc
  refine xw_get dX3_drinker_18 hcX3 in_X3 (kf := 4) (by decide) q2983 (fun _ _ _ _ z => z) hcK hvK ?_
  refine xw_iconst (2 : Int32) dX3_drinker_21 (by decide) ?_
  obtain ⟨a5, ho, hvc⟩ := hvc
  subst ho
  obtain ⟨hcK, i6, hx9, hb9, hi9, n7, hv9, hvc⟩ := hvc
  refine xw_iald (j := 3) dX3_drinker_22 rfl hcK hx9 hb9 hi9 hv9 ?_
  refine xw_icmp_ge 56 dX3_drinker_23 rfl (fun hc => ?_) (fun hc => ?_)
  · replace hvc := hvc.1 hc
    refine xw_iconst (-1 : Int32) dX3_drinker_56 (by decide) ?_
    exact xw_iret dX3_drinker_57 rfl hvc
  · replace hvc := hvc.2 hc
    refine xw_aload_n dX3_drinker_26 rfl ?_
    refine xw_iload dX3_drinker_27 rfl ?_
    obtain ⟨hcK, hvc⟩ := hvc
    obtain ⟨d9, k9, hd9, hk9, hC9⟩ := hvc
    refine xw_callV dX3_drinker_29 px_X3_well pm_X3_well q3141 q3143 qs58 hcX3 hcK (As := [xi x4]) (rest := []) rfl rfl (Nat.le_of_ble_eq_true rfl) hd9 hk9 hC9 (xkI_n fun n10 h8 hvc => ?_) (fun q h hq => xTh_out0 rfl hq)
    refine xw_iload_n dX3_drinker_32 rfl ?_
    refine xw_icmp_eq 39 dX3_drinker_33 rfl (fun hc => ?_) (fun hc => ?_)
    · replace hvc := hvc.1 hc
      refine xw_iload_n dX3_drinker_39 rfl ?_
      refine xw_iload_n dX3_drinker_40 rfl ?_
      refine xw_icmp_ne 47 dX3_drinker_41 rfl (fun hc => ?_) (fun hc => ?_)
      · replace hvc := hvc.1 hc
        refine xw_iinc (1 : Int32) dX3_drinker_47 rfl (by decide) (Nat.le_of_ble_eq_true rfl) (L9 := [some (xr (some this)), some (xi x1), some (xi x2), some (xi (x3 + (1 : Int32))), some (xi x4)]) rfl ?_
        refine xw_iinc (1 : Int32) dX3_drinker_50 rfl (by decide) (Nat.le_of_ble_eq_true rfl) (L9 := [some (xr (some this)), some (xi x1), some (xi x2), some (xi (x3 + (1 : Int32))), some (xi (x4 + (1 : Int32)))]) rfl ?_
        refine xw_goto 15 dX3_drinker_53 rfl ?_
        exact hvc
      · replace hvc := hvc.2 hc
        refine xw_iload dX3_drinker_44 rfl ?_
        exact xw_iret dX3_drinker_46 rfl hvc
    · replace hvc := hvc.2 hc
      refine xw_goto 50 dX3_drinker_36 rfl ?_
      refine xw_iinc (1 : Int32) dX3_drinker_50 rfl (by decide) (Nat.le_of_ble_eq_true rfl) (L9 := [some (xr (some this)), some (xi x1), some (xi x2), some (xi x3), some (xi (x4 + (1 : Int32)))]) rfl ?_
      refine xw_goto 15 dX3_drinker_53 rfl ?_
      exact hvc

theorem vc_X3_cost {G : xG} {d K : Nat} {Q : xR → xH → Prop} {h : xH} {this : Nat} {x1 : Int32}
    (hvc : xcls h this = 6 ∧ xCall G d K mX3_isSet [xr (some this), xi x1] h (xkI (fun n3 h1 k2 => ((¬ n3 = 0 → xcls h1 this = 6 ∧ xCall G d k2 mX3_isPlan [xr (some this), xi x1] h1 (xkI (fun n6 h4 k5 => ((n6 = 0 → Q (.inl (some (xi (-6 : Int32)))) h4) ∧ (¬ n6 = 0 → xcls h4 this = 6 ∧ xCall G d k5 mX3_costOf [xr (some this), xi x1] h4 (xkI (fun n9 h7 k8 => Q (.inl (some (xi n9))) h7) (fun q h _ => Q (.inr q) h))))) (fun q h _ => Q (.inr q) h))) ∧ (n3 = 0 → Q (.inl (some (xi (-2 : Int32)))) h1))) (fun q h _ => Q (.inr q) h))) : xCn G mX3_cost d K [xr (some this), xi x1] h Q := by
  refine xCn_of px_X3_cost rfl rfl (Nat.le_of_ble_eq_true rfl) ?_
  show xWp G mX3_cost d K Q K 0 [some (xr (some this)), some (xi x1)] [] h
  refine xw_aload_n dX3_cost_0 rfl ?_
  refine xw_iload_n dX3_cost_1 rfl ?_
  obtain ⟨hcK, hvc⟩ := hvc
  obtain ⟨d9, k9, hd9, hk9, hC9⟩ := hvc
  refine xw_callV dX3_cost_2 px_X3_isSet pm_X3_isSet q3294 q3296 qs84 hcX3 hcK (As := [xi x1]) (rest := []) rfl rfl (Nat.le_of_ble_eq_true rfl) hd9 hk9 hC9 (xkI_n fun n3 h1 hvc => ?_) (fun q h hq => xTh_out0 rfl hq)
  refine xw_if_ne 13 dX3_cost_5 rfl (fun hc => ?_) (fun hc => ?_)
  · replace hvc := hvc.1 hc
    refine xw_aload_n dX3_cost_13 rfl ?_
    refine xw_iload_n dX3_cost_14 rfl ?_
    obtain ⟨hcK, hvc⟩ := hvc
    obtain ⟨d9, k9, hd9, hk9, hC9⟩ := hvc
    refine xw_callV dX3_cost_15 px_X3_isPlan pm_X3_isPlan q3298 q3300 qs85 hcX3 hcK (As := [xi x1]) (rest := []) rfl rfl (Nat.le_of_ble_eq_true rfl) hd9 hk9 hC9 (xkI_n fun n6 h4 hvc => ?_) (fun q h hq => xTh_out0 rfl hq)
    refine xw_if_eq 29 dX3_cost_18 rfl (fun hc => ?_) (fun hc => ?_)
    · replace hvc := hvc.1 hc
      refine xw_bipush (-6 : Int32) dX3_cost_29 (by decide) ?_
      exact xw_iret dX3_cost_31 rfl hvc
    · replace hvc := hvc.2 hc
      refine xw_aload_n dX3_cost_21 rfl ?_
      refine xw_iload_n dX3_cost_22 rfl ?_
      obtain ⟨hcK, hvc⟩ := hvc
      obtain ⟨d9, k9, hd9, hk9, hC9⟩ := hvc
      refine xw_callV dX3_cost_23 px_X3_costOf pm_X3_costOf q3302 q3304 qs86 hcX3 hcK (As := [xi x1]) (rest := []) rfl rfl (Nat.le_of_ble_eq_true rfl) hd9 hk9 hC9 (xkI_n fun n9 h7 hvc => ?_) (fun q h hq => xTh_out0 rfl hq)
      refine xw_goto 31 dX3_cost_26 rfl ?_
      exact xw_iret dX3_cost_31 rfl hvc
  · replace hvc := hvc.2 hc
    refine xw_bipush (-2 : Int32) dX3_cost_8 (by decide) ?_
    refine xw_goto 31 dX3_cost_10 rfl ?_
    exact xw_iret dX3_cost_31 rfl hvc

theorem vc_X3_isSet {G : xG} {d K : Nat} {Q : xR → xH → Prop} {h : xH} {this : Nat} {x1 : Int32}
    (hvc : xcls h this = 6 ∧ ∃ o1 : Option Nat, xval h this 4 = xr o1 ∧ ∃ a2, o1 = some a2 ∧ xcls h a2 = 1003 ∧ ∃ i3 : Nat, (3 : Int32) = nI i3 ∧ i3 < 2147483648 ∧ i3 < xlen h a2 ∧ ∃ n4 : Int32, xval h a2 i3 = xi n4 ∧ xCall G d K mX3_isBetween [xi x1, xi (0 : Int32), xi (((1 : Int32) <<< (n4 &&& 31)) - (1 : Int32))] h (xkI (fun n7 h5 k6 => (n7 = 0 ∨ n7 = 1) ∧ Q (.inl (some (xi n7))) h5) (fun q h _ => Q (.inr q) h))) : xCn G mX3_isSet d K [xr (some this), xi x1] h Q := by
  refine xCn_of px_X3_isSet rfl rfl (Nat.le_of_ble_eq_true rfl) ?_
  show xWp G mX3_isSet d K Q K 0 [some (xr (some this)), some (xi x1)] [] h
  refine xw_iload_n dX3_isSet_0 rfl ?_
  refine xw_iconst (0 : Int32) dX3_isSet_1 (by decide) ?_
  refine xw_iconst (1 : Int32) dX3_isSet_2 (by decide) ?_
  refine xw_aload_n dX3_isSet_3 rfl ?_
  obtain ⟨hcK, o1, hvK, hvc⟩ := hvc
  refine xw_get dX3_isSet_4 hcX3 in_X3 (kf := 4) (by decide) q2983 (fun _ _ _ _ z => z) hcK hvK ?_
  refine xw_iconst (3 : Int32) dX3_isSet_7 (by decide) ?_
  obtain ⟨a2, ho, hvc⟩ := hvc
  subst ho
  obtain ⟨hcK, i3, hx9, hb9, hi9, n4, hv9, hvc⟩ := hvc
  refine xw_iald (j := 3) dX3_isSet_8 rfl hcK hx9 hb9 hi9 hv9 ?_
  refine xw_ishl dX3_isSet_9 ?_
  refine xw_iconst (1 : Int32) dX3_isSet_10 (by decide) ?_
  refine xw_isub dX3_isSet_11 ?_
  obtain ⟨d9, k9, hd9, hk9, hC9⟩ := hvc
  refine xw_callS dX3_isSet_12 px_X3_isBetween pm_X3_isBetween q3047 q3048 (As := [xi x1, xi (0 : Int32), xi (((1 : Int32) <<< (n4 &&& 31)) - (1 : Int32))]) (rest := []) rfl rfl (Nat.le_of_ble_eq_true rfl) hd9 hk9 hC9 (xkI_n fun n7 h5 hvc => ?_) (fun q h hq => xTh_out0 rfl hq)
  exact xw_zret dX3_isSet_15 rfl (xnb hvc.1).1 hvc.2

theorem vc_X3_isPlan {G : xG} {d K : Nat} {Q : xR → xH → Prop} {h : xH} {this : Nat} {x1 : Int32}
    (hvc : ((¬ x1 = 0 → Q (.inl (some (xi (1 : Int32)))) h) ∧ (x1 = 0 → xcls h this = 6 ∧ ∃ o1 : Option Nat, xval h this 4 = xr o1 ∧ ∃ a2, o1 = some a2 ∧ xcls h a2 = 1003 ∧ ∃ i3 : Nat, (2 : Int32) = nI i3 ∧ i3 < 2147483648 ∧ i3 < xlen h a2 ∧ ∃ n4 : Int32, xval h a2 i3 = xi n4 ∧ ((¬ n4 = 0 → Q (.inl (some (xi (0 : Int32)))) h) ∧ (n4 = 0 → Q (.inl (some (xi (1 : Int32)))) h))))) : xCn G mX3_isPlan d K [xr (some this), xi x1] h Q := by
  refine xCn_of px_X3_isPlan rfl rfl (Nat.le_of_ble_eq_true rfl) ?_
  show xWp G mX3_isPlan d K Q K 0 [some (xr (some this)), some (xi x1)] [] h
  refine xw_iload_n dX3_isPlan_0 rfl ?_
  refine xw_if_ne 13 dX3_isPlan_1 rfl (fun hc => ?_) (fun hc => ?_)
  · replace hvc := hvc.1 hc
    refine xw_iconst (1 : Int32) dX3_isPlan_13 (by decide) ?_
    refine xw_goto 18 dX3_isPlan_14 rfl ?_
    exact xw_zret dX3_isPlan_18 rfl rfl hvc
  · replace hvc := hvc.2 hc
    refine xw_aload_n dX3_isPlan_4 rfl ?_
    obtain ⟨hcK, o1, hvK, hvc⟩ := hvc
    refine xw_get dX3_isPlan_5 hcX3 in_X3 (kf := 4) (by decide) q2983 (fun _ _ _ _ z => z) hcK hvK ?_
    refine xw_iconst (2 : Int32) dX3_isPlan_8 (by decide) ?_
    obtain ⟨a2, ho, hvc⟩ := hvc
    subst ho
    obtain ⟨hcK, i3, hx9, hb9, hi9, n4, hv9, hvc⟩ := hvc
    refine xw_iald (j := 3) dX3_isPlan_9 rfl hcK hx9 hb9 hi9 hv9 ?_
    refine xw_if_ne 17 dX3_isPlan_10 rfl (fun hc => ?_) (fun hc => ?_)
    · replace hvc := hvc.1 hc
      refine xw_iconst (0 : Int32) dX3_isPlan_17 (by decide) ?_
      exact xw_zret dX3_isPlan_18 rfl rfl hvc
    · replace hvc := hvc.2 hc
      refine xw_iconst (1 : Int32) dX3_isPlan_13 (by decide) ?_
      refine xw_goto 18 dX3_isPlan_14 rfl ?_
      exact xw_zret dX3_isPlan_18 rfl rfl hvc

theorem vc_X3_costOf {G : xG} {d K : Nat} {Q : xR → xH → Prop} {h : xH} {this : Nat} {x1 : Int32}
    (hvc : xWp G mX3_costOf d K Q K 4 [some (xr (some this)), some (xi x1), some (xi (0 : Int32)), some (xi (0 : Int32))] [] h) : xCn G mX3_costOf d K [xr (some this), xi x1] h Q := by
  refine xCn_of px_X3_costOf rfl rfl (Nat.le_of_ble_eq_true rfl) ?_
  show xWp G mX3_costOf d K Q K 0 [some (xr (some this)), some (xi x1), none, none] [] h
  refine xw_iconst (0 : Int32) dX3_costOf_0 (by decide) ?_
  refine xw_istore_n dX3_costOf_1 (Nat.le_of_ble_eq_true rfl) (L9 := [some (xr (some this)), some (xi x1), some (xi (0 : Int32)), none]) rfl ?_
  refine xw_iconst (0 : Int32) dX3_costOf_2 (by decide) ?_
  refine xw_istore_n dX3_costOf_3 (Nat.le_of_ble_eq_true rfl) (L9 := [some (xr (some this)), some (xi x1), some (xi (0 : Int32)), some (xi (0 : Int32))]) rfl ?_
  exact hvc

theorem vc_X3_costOf_4 {G : xG} {d K k : Nat} {Q : xR → xH → Prop} {h : xH} {this : Nat} {x1 : Int32} {x2 : Int32} {x3 : Int32}
    (hvc : xcls h this = 6 ∧ ∃ o1 : Option Nat, xval h this 4 = xr o1 ∧ ∃ a2, o1 = some a2 ∧ xcls h a2 = 1003 ∧ ∃ i3 : Nat, (3 : Int32) = nI i3 ∧ i3 < 2147483648 ∧ i3 < xlen h a2 ∧ ∃ n4 : Int32, xval h a2 i3 = xi n4 ∧ ((n4 ≤ x3 → xWp G mX3_costOf d K Q k 42 [some (xr (some this)), some (xi x1), some (xi x2), some (xi (0 : Int32))] [] h) ∧ (¬ n4 ≤ x3 → xCall G d k mX3_has [xi x1, xi x3] h (xkI (fun n7 h5 k6 => ((n7 = 0 → xWp G mX3_costOf d K Q k6 4 [some (xr (some this)), some (xi x1), some (xi (x2 + (0 : Int32))), some (xi (x3 + (1 : Int32)))] [] h5) ∧ (¬ n7 = 0 → xcls h5 this = 6 ∧ xCall G d k6 mX3_price [xr (some this), xi x3] h5 (xkI (fun n10 h8 k9 => xWp G mX3_costOf d K Q k9 4 [some (xr (some this)), some (xi x1), some (xi (x2 + n10)), some (xi (x3 + (1 : Int32)))] [] h8) (fun q h _ => Q (.inr q) h))))) (fun q h _ => Q (.inr q) h))))) : xWp G mX3_costOf d K Q k 4 [some (xr (some this)), some (xi x1), some (xi x2), some (xi x3)] [] h := by
  refine xw_iload_n dX3_costOf_4 rfl ?_
  refine xw_aload_n dX3_costOf_5 rfl ?_
  obtain ⟨hcK, o1, hvK, hvc⟩ := hvc
  refine xw_get dX3_costOf_6 hcX3 in_X3 (kf := 4) (by decide) q2983 (fun _ _ _ _ z => z) hcK hvK ?_
  refine xw_iconst (3 : Int32) dX3_costOf_9 (by decide) ?_
  obtain ⟨a2, ho, hvc⟩ := hvc
  subst ho
  obtain ⟨hcK, i3, hx9, hb9, hi9, n4, hv9, hvc⟩ := hvc
  refine xw_iald (j := 3) dX3_costOf_10 rfl hcK hx9 hb9 hi9 hv9 ?_
  refine xw_icmp_ge 40 dX3_costOf_11 rfl (fun hc => ?_) (fun hc => ?_)
  · replace hvc := hvc.1 hc
    refine xw_iconst (0 : Int32) dX3_costOf_40 (by decide) ?_
    refine xw_istore_n dX3_costOf_41 (Nat.le_of_ble_eq_true rfl) (L9 := [some (xr (some this)), some (xi x1), some (xi x2), some (xi (0 : Int32))]) rfl ?_
    exact hvc
  · replace hvc := hvc.2 hc
    refine xw_iload_n dX3_costOf_14 rfl ?_
    refine xw_iload_n dX3_costOf_15 rfl ?_
    refine xw_iload_n dX3_costOf_16 rfl ?_
    obtain ⟨d9, k9, hd9, hk9, hC9⟩ := hvc
    refine xw_callS dX3_costOf_17 px_X3_has pm_X3_has q3153 q3154 (As := [xi x1, xi x3]) (rest := [xi x2]) rfl rfl (Nat.le_of_ble_eq_true rfl) hd9 hk9 hC9 (xkI_n fun n7 h5 hvc => ?_) (fun q h hq => xTh_out0 rfl hq)
    refine xw_if_eq 31 dX3_costOf_20 rfl (fun hc => ?_) (fun hc => ?_)
    · replace hvc := hvc.1 hc
      refine xw_iconst (0 : Int32) dX3_costOf_31 (by decide) ?_
      refine xw_iadd dX3_costOf_32 ?_
      refine xw_istore_n dX3_costOf_33 (Nat.le_of_ble_eq_true rfl) (L9 := [some (xr (some this)), some (xi x1), some (xi (x2 + (0 : Int32))), some (xi x3)]) rfl ?_
      refine xw_iinc (1 : Int32) dX3_costOf_34 rfl (by decide) (Nat.le_of_ble_eq_true rfl) (L9 := [some (xr (some this)), some (xi x1), some (xi (x2 + (0 : Int32))), some (xi (x3 + (1 : Int32)))]) rfl ?_
      refine xw_goto 4 dX3_costOf_37 rfl ?_
      exact hvc
    · replace hvc := hvc.2 hc
      refine xw_aload_n dX3_costOf_23 rfl ?_
      refine xw_iload_n dX3_costOf_24 rfl ?_
      obtain ⟨hcK, hvc⟩ := hvc
      obtain ⟨d9, k9, hd9, hk9, hC9⟩ := hvc
      refine xw_callV dX3_costOf_25 px_X3_price pm_X3_price q3163 q3165 qs62 hcX3 hcK (As := [xi x3]) (rest := [xi x2]) rfl rfl (Nat.le_of_ble_eq_true rfl) hd9 hk9 hC9 (xkI_n fun n10 h8 hvc => ?_) (fun q h hq => xTh_out0 rfl hq)
      refine xw_goto 32 dX3_costOf_28 rfl ?_
      refine xw_iadd dX3_costOf_32 ?_
      refine xw_istore_n dX3_costOf_33 (Nat.le_of_ble_eq_true rfl) (L9 := [some (xr (some this)), some (xi x1), some (xi (x2 + n10)), some (xi x3)]) rfl ?_
      refine xw_iinc (1 : Int32) dX3_costOf_34 rfl (by decide) (Nat.le_of_ble_eq_true rfl) (L9 := [some (xr (some this)), some (xi x1), some (xi (x2 + n10)), some (xi (x3 + (1 : Int32)))]) rfl ?_
      refine xw_goto 4 dX3_costOf_37 rfl ?_
      exact hvc

theorem vc_X3_costOf_42 {G : xG} {d K k : Nat} {Q : xR → xH → Prop} {h : xH} {this : Nat} {x1 : Int32} {x2 : Int32} {x3 : Int32}
    (hvc : xcls h this = 6 ∧ ∃ o11 : Option Nat, xval h this 4 = xr o11 ∧ ∃ a12, o11 = some a12 ∧ xcls h a12 = 1003 ∧ ∃ i13 : Nat, (2 : Int32) = nI i13 ∧ i13 < 2147483648 ∧ i13 < xlen h a12 ∧ ∃ n14 : Int32, xval h a12 i13 = xi n14 ∧ ((n14 ≤ x3 → Q (.inl (some (xi x2))) h) ∧ (¬ n14 ≤ x3 → xcls h this = 6 ∧ xCall G d k mX3_hamletIs [xr (some this), xi x3, xi (2 : Int32)] h (xkI (fun n17 h15 k16 => xcls h15 this = 6 ∧ xCall G d k16 mX3_nearest [xr (some this), xi x3, xi x1] h15 (xkI (fun n20 h18 k19 => xcls h18 this = 6 ∧ xCall G d k19 mX3_far [xr (some this), xi x3, xi n20] h18 (xkI (fun n23 h21 k22 => xWp G mX3_costOf d K Q k22 42 [some (xr (some this)), some (xi x1), some (xi (x2 + (n17 * n23))), some (xi (x3 + (1 : Int32)))] [] h21) (fun q h _ => Q (.inr q) h))) (fun q h _ => Q (.inr q) h))) (fun q h _ => Q (.inr q) h))))) : xWp G mX3_costOf d K Q k 42 [some (xr (some this)), some (xi x1), some (xi x2), some (xi x3)] [] h := by
  refine xw_iload_n dX3_costOf_42 rfl ?_
  refine xw_aload_n dX3_costOf_43 rfl ?_
  obtain ⟨hcK, o11, hvK, hvc⟩ := hvc
  refine xw_get dX3_costOf_44 hcX3 in_X3 (kf := 4) (by decide) q2983 (fun _ _ _ _ z => z) hcK hvK ?_
  refine xw_iconst (2 : Int32) dX3_costOf_47 (by decide) ?_
  obtain ⟨a12, ho, hvc⟩ := hvc
  subst ho
  obtain ⟨hcK, i13, hx9, hb9, hi9, n14, hv9, hvc⟩ := hvc
  refine xw_iald (j := 3) dX3_costOf_48 rfl hcK hx9 hb9 hi9 hv9 ?_
  refine xw_icmp_ge 79 dX3_costOf_49 rfl (fun hc => ?_) (fun hc => ?_)
  · replace hvc := hvc.1 hc
    refine xw_iload_n dX3_costOf_79 rfl ?_
    exact xw_iret dX3_costOf_80 rfl hvc
  · replace hvc := hvc.2 hc
    refine xw_iload_n dX3_costOf_52 rfl ?_
    refine xw_aload_n dX3_costOf_53 rfl ?_
    refine xw_iload_n dX3_costOf_54 rfl ?_
    refine xw_iconst (2 : Int32) dX3_costOf_55 (by decide) ?_
    obtain ⟨hcK, hvc⟩ := hvc
    obtain ⟨d9, k9, hd9, hk9, hC9⟩ := hvc
    refine xw_callV dX3_costOf_56 px_X3_hamletIs pm_X3_hamletIs q3069 q3071 qs42 hcX3 hcK (As := [xi x3, xi (2 : Int32)]) (rest := [xi x2]) rfl rfl (Nat.le_of_ble_eq_true rfl) hd9 hk9 hC9 (xkI_n fun n17 h15 hvc => ?_) (fun q h hq => xTh_out0 rfl hq)
    refine xw_aload_n dX3_costOf_59 rfl ?_
    refine xw_iload_n dX3_costOf_60 rfl ?_
    refine xw_aload_n dX3_costOf_61 rfl ?_
    refine xw_iload_n dX3_costOf_62 rfl ?_
    refine xw_iload_n dX3_costOf_63 rfl ?_
    obtain ⟨hcK, hvc⟩ := hvc
    obtain ⟨d9, k9, hd9, hk9, hC9⟩ := hvc
    refine xw_callV dX3_costOf_64 px_X3_nearest pm_X3_nearest q3149 q3151 qs60 hcX3 hcK (As := [xi x3, xi x1]) (rest := [xi x3, xr (some this), xi n17, xi x2]) rfl rfl (Nat.le_of_ble_eq_true rfl) hd9 hk9 hC9 (xkI_n fun n20 h18 hvc => ?_) (fun q h hq => xTh_out0 rfl hq)
    obtain ⟨hcK, hvc⟩ := hvc
    obtain ⟨d9, k9, hd9, hk9, hC9⟩ := hvc
    refine xw_callV dX3_costOf_67 px_X3_far pm_X3_far q3156 q3158 qs61 hcX3 hcK (As := [xi x3, xi n20]) (rest := [xi n17, xi x2]) rfl rfl (Nat.le_of_ble_eq_true rfl) hd9 hk9 hC9 (xkI_n fun n23 h21 hvc => ?_) (fun q h hq => xTh_out0 rfl hq)
    refine xw_imul dX3_costOf_70 ?_
    refine xw_iadd dX3_costOf_71 ?_
    refine xw_istore_n dX3_costOf_72 (Nat.le_of_ble_eq_true rfl) (L9 := [some (xr (some this)), some (xi x1), some (xi (x2 + (n17 * n23))), some (xi x3)]) rfl ?_
    refine xw_iinc (1 : Int32) dX3_costOf_73 rfl (by decide) (Nat.le_of_ble_eq_true rfl) (L9 := [some (xr (some this)), some (xi x1), some (xi (x2 + (n17 * n23))), some (xi (x3 + (1 : Int32)))]) rfl ?_
    refine xw_goto 42 dX3_costOf_76 rfl ?_
    exact hvc

theorem vc_X3_cheapest {G : xG} {d K : Nat} {Q : xR → xH → Prop} {h : xH} {this : Nat}
    (hvc : xcls h this = 6 ∧ xCall G d K mX3_best [xr (some this)] h (xkI (fun n3 h1 k2 => Q (.inl (some (xi n3))) h1) (fun q h _ => Q (.inr q) h))) : xCn G mX3_cheapest d K [xr (some this)] h Q := by
  refine xCn_of px_X3_cheapest rfl rfl (Nat.le_of_ble_eq_true rfl) ?_
  show xWp G mX3_cheapest d K Q K 0 [some (xr (some this))] [] h
  refine xw_aload_n dX3_cheapest_0 rfl ?_
  obtain ⟨hcK, hvc⟩ := hvc
  obtain ⟨d9, k9, hd9, hk9, hC9⟩ := hvc
  refine xw_callV dX3_cheapest_1 px_X3_best pm_X3_best q3310 q3312 qs87 hcX3 hcK (As := []) (rest := []) rfl rfl (Nat.le_of_ble_eq_true rfl) hd9 hk9 hC9 (xkI_n fun n3 h1 hvc => ?_) (fun q h hq => xTh_out0 rfl hq)
  exact xw_iret dX3_cheapest_4 rfl hvc

theorem vc_X3_best {G : xG} {d K : Nat} {Q : xR → xH → Prop} {h : xH} {this : Nat}
    (hvc : xWp G mX3_best d K Q K 5 [some (xr (some this)), some (xi (-6 : Int32)), some (xi (0 : Int32))] [] h) : xCn G mX3_best d K [xr (some this)] h Q := by
  refine xCn_of px_X3_best rfl rfl (Nat.le_of_ble_eq_true rfl) ?_
  show xWp G mX3_best d K Q K 0 [some (xr (some this)), none, none] [] h
  refine xw_bipush (-6 : Int32) dX3_best_0 (by decide) ?_
  refine xw_istore_n dX3_best_2 (Nat.le_of_ble_eq_true rfl) (L9 := [some (xr (some this)), some (xi (-6 : Int32)), none]) rfl ?_
  refine xw_iconst (0 : Int32) dX3_best_3 (by decide) ?_
  refine xw_istore_n dX3_best_4 (Nat.le_of_ble_eq_true rfl) (L9 := [some (xr (some this)), some (xi (-6 : Int32)), some (xi (0 : Int32))]) rfl ?_
  exact hvc

theorem vc_X3_best_5 {G : xG} {d K k : Nat} {Q : xR → xH → Prop} {h : xH} {this : Nat} {x1 : Int32} {x2 : Int32}
    (hvc : xcls h this = 6 ∧ ∃ o1 : Option Nat, xval h this 4 = xr o1 ∧ ∃ a2, o1 = some a2 ∧ xcls h a2 = 1003 ∧ ∃ i3 : Nat, (3 : Int32) = nI i3 ∧ i3 < 2147483648 ∧ i3 < xlen h a2 ∧ ∃ n4 : Int32, xval h a2 i3 = xi n4 ∧ ((((1 : Int32) <<< (n4 &&& 31)) ≤ x2 → Q (.inl (some (xi x1))) h) ∧ (¬ ((1 : Int32) <<< (n4 &&& 31)) ≤ x2 → xcls h this = 6 ∧ xCall G d k mX3_isPlan [xr (some this), xi x2] h (xkI (fun n7 h5 k6 => ((n7 = 0 → xWp G mX3_best d K Q k6 5 [some (xr (some this)), some (xi x1), some (xi (x2 + (1 : Int32)))] [] h5) ∧ (¬ n7 = 0 → ((x1 < 0 → xWp G mX3_best d K Q k6 5 [some (xr (some this)), some (xi x2), some (xi (x2 + (1 : Int32)))] [] h5) ∧ (¬ x1 < 0 → xcls h5 this = 6 ∧ xCall G d k6 mX3_costOf [xr (some this), xi x2] h5 (xkI (fun n10 h8 k9 => xcls h8 this = 6 ∧ xCall G d k9 mX3_costOf [xr (some this), xi x1] h8 (xkI (fun n13 h11 k12 => ((n13 ≤ n10 → xWp G mX3_best d K Q k12 5 [some (xr (some this)), some (xi x1), some (xi (x2 + (1 : Int32)))] [] h11) ∧ (¬ n13 ≤ n10 → xWp G mX3_best d K Q k12 5 [some (xr (some this)), some (xi x2), some (xi (x2 + (1 : Int32)))] [] h11))) (fun q h _ => Q (.inr q) h))) (fun q h _ => Q (.inr q) h))))))) (fun q h _ => Q (.inr q) h))))) : xWp G mX3_best d K Q k 5 [some (xr (some this)), some (xi x1), some (xi x2)] [] h := by
  refine xw_iload_n dX3_best_5 rfl ?_
  refine xw_iconst (1 : Int32) dX3_best_6 (by decide) ?_
  refine xw_aload_n dX3_best_7 rfl ?_
  obtain ⟨hcK, o1, hvK, hvc⟩ := hvc
  refine xw_get dX3_best_8 hcX3 in_X3 (kf := 4) (by decide) q2983 (fun _ _ _ _ z => z) hcK hvK ?_
  refine xw_iconst (3 : Int32) dX3_best_11 (by decide) ?_
  obtain ⟨a2, ho, hvc⟩ := hvc
  subst ho
  obtain ⟨hcK, i3, hx9, hb9, hi9, n4, hv9, hvc⟩ := hvc
  refine xw_iald (j := 3) dX3_best_12 rfl hcK hx9 hb9 hi9 hv9 ?_
  refine xw_ishl dX3_best_13 ?_
  refine xw_icmp_ge 54 dX3_best_14 rfl (fun hc => ?_) (fun hc => ?_)
  · replace hvc := hvc.1 hc
    refine xw_iload_n dX3_best_54 rfl ?_
    exact xw_iret dX3_best_55 rfl hvc
  · replace hvc := hvc.2 hc
    refine xw_aload_n dX3_best_17 rfl ?_
    refine xw_iload_n dX3_best_18 rfl ?_
    obtain ⟨hcK, hvc⟩ := hvc
    obtain ⟨d9, k9, hd9, hk9, hC9⟩ := hvc
    refine xw_callV dX3_best_19 px_X3_isPlan pm_X3_isPlan q3298 q3300 qs85 hcX3 hcK (As := [xi x2]) (rest := []) rfl rfl (Nat.le_of_ble_eq_true rfl) hd9 hk9 hC9 (xkI_n fun n7 h5 hvc => ?_) (fun q h hq => xTh_out0 rfl hq)
    refine xw_if_eq 46 dX3_best_22 rfl (fun hc => ?_) (fun hc => ?_)
    · replace hvc := hvc.1 hc
      refine xw_iload_n dX3_best_46 rfl ?_
      refine xw_istore_n dX3_best_47 (Nat.le_of_ble_eq_true rfl) (L9 := [some (xr (some this)), some (xi x1), some (xi x2)]) rfl ?_
      refine xw_iinc (1 : Int32) dX3_best_48 rfl (by decide) (Nat.le_of_ble_eq_true rfl) (L9 := [some (xr (some this)), some (xi x1), some (xi (x2 + (1 : Int32)))]) rfl ?_
      refine xw_goto 5 dX3_best_51 rfl ?_
      exact hvc
    · replace hvc := hvc.2 hc
      refine xw_iload_n dX3_best_25 rfl ?_
      refine xw_if_lt 42 dX3_best_26 rfl (fun hc => ?_) (fun hc => ?_)
      · replace hvc := hvc.1 hc
        refine xw_iload_n dX3_best_42 rfl ?_
        refine xw_goto 47 dX3_best_43 rfl ?_
        refine xw_istore_n dX3_best_47 (Nat.le_of_ble_eq_true rfl) (L9 := [some (xr (some this)), some (xi x2), some (xi x2)]) rfl ?_
        refine xw_iinc (1 : Int32) dX3_best_48 rfl (by decide) (Nat.le_of_ble_eq_true rfl) (L9 := [some (xr (some this)), some (xi x2), some (xi (x2 + (1 : Int32)))]) rfl ?_
        refine xw_goto 5 dX3_best_51 rfl ?_
        exact hvc
      · replace hvc := hvc.2 hc
        refine xw_aload_n dX3_best_29 rfl ?_
        refine xw_iload_n dX3_best_30 rfl ?_
        obtain ⟨hcK, hvc⟩ := hvc
        obtain ⟨d9, k9, hd9, hk9, hC9⟩ := hvc
        refine xw_callV dX3_best_31 px_X3_costOf pm_X3_costOf q3302 q3304 qs86 hcX3 hcK (As := [xi x2]) (rest := []) rfl rfl (Nat.le_of_ble_eq_true rfl) hd9 hk9 hC9 (xkI_n fun n10 h8 hvc => ?_) (fun q h hq => xTh_out0 rfl hq)
        refine xw_aload_n dX3_best_34 rfl ?_
        refine xw_iload_n dX3_best_35 rfl ?_
        obtain ⟨hcK, hvc⟩ := hvc
        obtain ⟨d9, k9, hd9, hk9, hC9⟩ := hvc
        refine xw_callV dX3_best_36 px_X3_costOf pm_X3_costOf q3302 q3304 qs86 hcX3 hcK (As := [xi x1]) (rest := [xi n10]) rfl rfl (Nat.le_of_ble_eq_true rfl) hd9 hk9 hC9 (xkI_n fun n13 h11 hvc => ?_) (fun q h hq => xTh_out0 rfl hq)
        refine xw_icmp_ge 46 dX3_best_39 rfl (fun hc => ?_) (fun hc => ?_)
        · replace hvc := hvc.1 hc
          refine xw_iload_n dX3_best_46 rfl ?_
          refine xw_istore_n dX3_best_47 (Nat.le_of_ble_eq_true rfl) (L9 := [some (xr (some this)), some (xi x1), some (xi x2)]) rfl ?_
          refine xw_iinc (1 : Int32) dX3_best_48 rfl (by decide) (Nat.le_of_ble_eq_true rfl) (L9 := [some (xr (some this)), some (xi x1), some (xi (x2 + (1 : Int32)))]) rfl ?_
          refine xw_goto 5 dX3_best_51 rfl ?_
          exact hvc
        · replace hvc := hvc.2 hc
          refine xw_iload_n dX3_best_42 rfl ?_
          refine xw_goto 47 dX3_best_43 rfl ?_
          refine xw_istore_n dX3_best_47 (Nat.le_of_ble_eq_true rfl) (L9 := [some (xr (some this)), some (xi x2), some (xi x2)]) rfl ?_
          refine xw_iinc (1 : Int32) dX3_best_48 rfl (by decide) (Nat.le_of_ble_eq_true rfl) (L9 := [some (xr (some this)), some (xi x2), some (xi (x2 + (1 : Int32)))]) rfl ?_
          refine xw_goto 5 dX3_best_51 rfl ?_
          exact hvc

theorem vc_X3_cheapestAgain {G : xG} {d K : Nat} {Q : xR → xH → Prop} {h : xH} {this : Nat}
    (hvc : xcls h this = 6 ∧ ∀ h1 : xH, h1 = xput h this 11 (xi (-6 : Int32)) → xcls h1 this = 6 ∧ ∃ o2 : Option Nat, xval h1 this 4 = xr o2 ∧ ∃ a3, o2 = some a3 ∧ xcls h1 a3 = 1003 ∧ ∃ i4 : Nat, (3 : Int32) = nI i4 ∧ i4 < 2147483648 ∧ i4 < xlen h1 a3 ∧ ∃ n5 : Int32, xval h1 a3 i4 = xi n5 ∧ xcls h1 this = 6 ∧ xCall G d K mX3_finds [xr (some this), xi ((1 : Int32) <<< (n5 &&& 31))] h1 (xkV (fun h6 k7 => xcls h6 this = 6 ∧ ∃ n8 : Int32, xval h6 this 11 = xi n8 ∧ Q (.inl (some (xi n8))) h6) (fun q h _ => Q (.inr q) h))) : xCn G mX3_cheapestAgain d K [xr (some this)] h Q := by
  refine xCn_of px_X3_cheapestAgain rfl rfl (Nat.le_of_ble_eq_true rfl) ?_
  show xWp G mX3_cheapestAgain d K Q K 0 [some (xr (some this))] [] h
  refine xw_aload_n dX3_cheapestAgain_0 rfl ?_
  refine xw_bipush (-6 : Int32) dX3_cheapestAgain_1 (by decide) ?_
  obtain ⟨hcK, hvc⟩ := hvc
  refine xw_put dX3_cheapestAgain_3 hcX3 in_X3 tyX3_ok xnmX3 (kf := 11) (by decide) q2990 (fun _ _ _ _ z => z) rfl rfl rfl hcK (Or.inl rfl) (fun h1 eh9 => ?_)
  replace hvc := hvc h1 eh9
  refine xw_aload_n dX3_cheapestAgain_6 rfl ?_
  refine xw_iconst (1 : Int32) dX3_cheapestAgain_7 (by decide) ?_
  refine xw_aload_n dX3_cheapestAgain_8 rfl ?_
  obtain ⟨hcK, o2, hvK, hvc⟩ := hvc
  refine xw_get dX3_cheapestAgain_9 hcX3 in_X3 (kf := 4) (by decide) q2983 (fun _ _ _ _ z => z) hcK hvK ?_
  refine xw_iconst (3 : Int32) dX3_cheapestAgain_12 (by decide) ?_
  obtain ⟨a3, ho, hvc⟩ := hvc
  subst ho
  obtain ⟨hcK, i4, hx9, hb9, hi9, n5, hv9, hvc⟩ := hvc
  refine xw_iald (j := 3) dX3_cheapestAgain_13 rfl hcK hx9 hb9 hi9 hv9 ?_
  refine xw_ishl dX3_cheapestAgain_14 ?_
  obtain ⟨hcK, hvc⟩ := hvc
  obtain ⟨d9, k9, hd9, hk9, hC9⟩ := hvc
  refine xw_callV dX3_cheapestAgain_15 px_X3_finds pm_X3_finds q3318 q3320 qs88 hcX3 hcK (As := [xi ((1 : Int32) <<< (n5 &&& 31))]) (rest := []) rfl rfl (Nat.le_of_ble_eq_true rfl) hd9 hk9 hC9 (xkV_n fun h6 hvc => ?_) (fun q h hq => xTh_out0 rfl hq)
  refine xw_aload_n dX3_cheapestAgain_18 rfl ?_
  obtain ⟨hcK, n8, hvK, hvc⟩ := hvc
  refine xw_get dX3_cheapestAgain_19 hcX3 in_X3 (kf := 11) (by decide) q2990 (fun _ _ _ _ z => z) hcK hvK ?_
  exact xw_iret dX3_cheapestAgain_22 rfl hvc

theorem vc_X3_finds {G : xG} {d K : Nat} {Q : xR → xH → Prop} {h : xH} {this : Nat} {x1 : Int32}
    (hvc : xWp G mX3_finds d K Q K 2 [some (xr (some this)), some (xi x1), some (xi (0 : Int32)), none, none] [] h) : xCn G mX3_finds d K [xr (some this), xi x1] h Q := by
  refine xCn_of px_X3_finds rfl rfl (Nat.le_of_ble_eq_true rfl) ?_
  show xWp G mX3_finds d K Q K 0 [some (xr (some this)), some (xi x1), none, none, none] [] h
  refine xw_iconst (0 : Int32) dX3_finds_0 (by decide) ?_
  refine xw_istore_n dX3_finds_1 (Nat.le_of_ble_eq_true rfl) (L9 := [some (xr (some this)), some (xi x1), some (xi (0 : Int32)), none, none]) rfl ?_
  exact hvc

theorem vc_X3_finds_2 {G : xG} {d K k : Nat} {Q : xR → xH → Prop} {h : xH} {this : Nat} {x1 : Int32} {x2 : Int32}
    (hvc : ((x1 ≤ x2 → Q (.inl none) h) ∧ (¬ x1 ≤ x2 → xcls h this = 6 ∧ xCall G d k mX3_isPlan [xr (some this), xi x2] h (xkI (fun n3 h1 k2 => ((¬ n3 = 0 → xWp G mX3_finds d K Q k2 23 [some (xr (some this)), some (xi x1), some (xi x2), some (xi (0 : Int32)), some (xi (0 : Int32))] [] h1) ∧ (n3 = 0 → xWp G mX3_finds d K Q k2 2 [some (xr (some this)), some (xi x1), some (xi (x2 + (1 : Int32))), none, none] [] h1))) (fun q h _ => Q (.inr q) h))))) : xWp G mX3_finds d K Q k 2 [some (xr (some this)), some (xi x1), some (xi x2), none, none] [] h := by
  refine xw_iload_n dX3_finds_2 rfl ?_
  refine xw_iload_n dX3_finds_3 rfl ?_
  refine xw_icmp_ge 122 dX3_finds_4 rfl (fun hc => ?_) (fun hc => ?_)
  · replace hvc := hvc.1 hc
    exact xw_vret dX3_finds_122 rfl hvc
  · replace hvc := hvc.2 hc
    refine xw_aload_n dX3_finds_7 rfl ?_
    refine xw_iload_n dX3_finds_8 rfl ?_
    obtain ⟨hcK, hvc⟩ := hvc
    obtain ⟨d9, k9, hd9, hk9, hC9⟩ := hvc
    refine xw_callV dX3_finds_9 px_X3_isPlan pm_X3_isPlan q3298 q3300 qs85 hcX3 hcK (As := [xi x2]) (rest := []) rfl rfl (Nat.le_of_ble_eq_true rfl) hd9 hk9 hC9 (xkI_n fun n3 h1 hvc => ?_) (fun q h hq => xTh_out0 rfl hq)
    refine xw_if_ne 18 dX3_finds_12 rfl (fun hc => ?_) (fun hc => ?_)
    · replace hvc := hvc.1 hc
      refine xw_iconst (0 : Int32) dX3_finds_18 (by decide) ?_
      refine xw_istore_n dX3_finds_19 (Nat.le_of_ble_eq_true rfl) (L9 := [some (xr (some this)), some (xi x1), some (xi x2), some (xi (0 : Int32)), none]) rfl ?_
      refine xw_iconst (0 : Int32) dX3_finds_20 (by decide) ?_
      refine xw_istore dX3_finds_21 (Nat.le_of_ble_eq_true rfl) (L9 := [some (xr (some this)), some (xi x1), some (xi x2), some (xi (0 : Int32)), some (xi (0 : Int32))]) rfl ?_
      exact hvc
    · replace hvc := hvc.2 hc
      refine xw_goto 116 dX3_finds_15 rfl ?_
      refine xw_iinc (1 : Int32) dX3_finds_116 rfl (by decide) (Nat.le_of_ble_eq_true rfl) (L9 := [some (xr (some this)), some (xi x1), some (xi (x2 + (1 : Int32))), none, none]) rfl ?_
      refine xw_goto 2 dX3_finds_119 rfl ?_
      exact hvc

theorem vc_X3_finds_23 {G : xG} {d K k : Nat} {Q : xR → xH → Prop} {h : xH} {this : Nat} {x1 : Int32} {x2 : Int32} {x3 : Int32} {x4 : Int32}
    (hvc : xcls h this = 6 ∧ ∃ o4 : Option Nat, xval h this 4 = xr o4 ∧ ∃ a5, o4 = some a5 ∧ xcls h a5 = 1003 ∧ ∃ i6 : Nat, (3 : Int32) = nI i6 ∧ i6 < 2147483648 ∧ i6 < xlen h a5 ∧ ∃ n7 : Int32, xval h a5 i6 = xi n7 ∧ ((n7 ≤ x4 → xcls h this = 6 ∧ ∃ n8 : Int32, xval h this 11 = xi n8 ∧ ((n8 < 0 → xcls h this = 6 ∧ xCall G d k mX3_costOf [xr (some this), xi x2] h (xkI (fun n11 h9 k10 => xcls h9 this = 6 ∧ ∃ n12 : Int32, xval h9 this 11 = xi n12 ∧ ((n12 < 0 → xcls h9 this = 6 ∧ ∀ h13 : xH, h13 = xput h9 this 11 (xi n11) → xWp G mX3_finds d K Q k10 2 [some (xr (some this)), some (xi x1), some (xi (x2 + (1 : Int32))), none, none] [] h13) ∧ (¬ n12 < 0 → xcls h9 this = 6 ∧ ∃ n14 : Int32, xval h9 this 11 = xi n14 ∧ ((n14 ≤ n11 → xcls h9 this = 6 ∧ ∃ n15 : Int32, xval h9 this 11 = xi n15 ∧ xcls h9 this = 6 ∧ ∀ h16 : xH, h16 = xput h9 this 11 (xi n15) → xWp G mX3_finds d K Q k10 2 [some (xr (some this)), some (xi x1), some (xi (x2 + (1 : Int32))), none, none] [] h16) ∧ (¬ n14 ≤ n11 → xcls h9 this = 6 ∧ ∀ h17 : xH, h17 = xput h9 this 11 (xi n11) → xWp G mX3_finds d K Q k10 2 [some (xr (some this)), some (xi x1), some (xi (x2 + (1 : Int32))), none, none] [] h17))))) (fun q h _ => Q (.inr q) h))) ∧ (¬ n8 < 0 → xcls h this = 6 ∧ ∃ n18 : Int32, xval h this 11 = xi n18 ∧ ((x3 ≤ n18 → xcls h this = 6 ∧ xCall G d k mX3_costOf [xr (some this), xi x2] h (xkI (fun n21 h19 k20 => xcls h19 this = 6 ∧ ∃ n22 : Int32, xval h19 this 11 = xi n22 ∧ ((n22 < 0 → xcls h19 this = 6 ∧ ∀ h23 : xH, h23 = xput h19 this 11 (xi n21) → xWp G mX3_finds d K Q k20 2 [some (xr (some this)), some (xi x1), some (xi (x2 + (1 : Int32))), none, none] [] h23) ∧ (¬ n22 < 0 → xcls h19 this = 6 ∧ ∃ n24 : Int32, xval h19 this 11 = xi n24 ∧ ((n24 ≤ n21 → xcls h19 this = 6 ∧ ∃ n25 : Int32, xval h19 this 11 = xi n25 ∧ xcls h19 this = 6 ∧ ∀ h26 : xH, h26 = xput h19 this 11 (xi n25) → xWp G mX3_finds d K Q k20 2 [some (xr (some this)), some (xi x1), some (xi (x2 + (1 : Int32))), none, none] [] h26) ∧ (¬ n24 ≤ n21 → xcls h19 this = 6 ∧ ∀ h27 : xH, h27 = xput h19 this 11 (xi n21) → xWp G mX3_finds d K Q k20 2 [some (xr (some this)), some (xi x1), some (xi (x2 + (1 : Int32))), none, none] [] h27))))) (fun q h _ => Q (.inr q) h))) ∧ (¬ x3 ≤ n18 → xWp G mX3_finds d K Q k 2 [some (xr (some this)), some (xi x1), some (xi (x2 + (1 : Int32))), none, none] [] h))))) ∧ (¬ n7 ≤ x4 → xCall G d k mX3_has [xi x2, xi x4] h (xkI (fun n30 h28 k29 => ((n30 = 0 → xWp G mX3_finds d K Q k29 23 [some (xr (some this)), some (xi x1), some (xi x2), some (xi (x3 + (0 : Int32))), some (xi (x4 + (1 : Int32)))] [] h28) ∧ (¬ n30 = 0 → xcls h28 this = 6 ∧ xCall G d k29 mX3_price [xr (some this), xi x4] h28 (xkI (fun n33 h31 k32 => xWp G mX3_finds d K Q k32 23 [some (xr (some this)), some (xi x1), some (xi x2), some (xi (x3 + n33)), some (xi (x4 + (1 : Int32)))] [] h31) (fun q h _ => Q (.inr q) h))))) (fun q h _ => Q (.inr q) h))))) : xWp G mX3_finds d K Q k 23 [some (xr (some this)), some (xi x1), some (xi x2), some (xi x3), some (xi x4)] [] h := by
  refine xw_iload dX3_finds_23 rfl ?_
  refine xw_aload_n dX3_finds_25 rfl ?_
  obtain ⟨hcK, o4, hvK, hvc⟩ := hvc
  refine xw_get dX3_finds_26 hcX3 in_X3 (kf := 4) (by decide) q2983 (fun _ _ _ _ z => z) hcK hvK ?_
  refine xw_iconst (3 : Int32) dX3_finds_29 (by decide) ?_
  obtain ⟨a5, ho, hvc⟩ := hvc
  subst ho
  obtain ⟨hcK, i6, hx9, hb9, hi9, n7, hv9, hvc⟩ := hvc
  refine xw_iald (j := 3) dX3_finds_30 rfl hcK hx9 hb9 hi9 hv9 ?_
  refine xw_icmp_ge 62 dX3_finds_31 rfl (fun hc => ?_) (fun hc => ?_)
  · replace hvc := hvc.1 hc
    refine xw_aload_n dX3_finds_62 rfl ?_
    obtain ⟨hcK, n8, hvK, hvc⟩ := hvc
    refine xw_get dX3_finds_63 hcX3 in_X3 (kf := 11) (by decide) q2990 (fun _ _ _ _ z => z) hcK hvK ?_
    refine xw_if_lt 80 dX3_finds_66 rfl (fun hc => ?_) (fun hc => ?_)
    · replace hvc := hvc.1 hc
      refine xw_aload_n dX3_finds_80 rfl ?_
      refine xw_iload_n dX3_finds_81 rfl ?_
      obtain ⟨hcK, hvc⟩ := hvc
      obtain ⟨d9, k9, hd9, hk9, hC9⟩ := hvc
      refine xw_callV dX3_finds_82 px_X3_costOf pm_X3_costOf q3302 q3304 qs86 hcX3 hcK (As := [xi x2]) (rest := []) rfl rfl (Nat.le_of_ble_eq_true rfl) hd9 hk9 hC9 (xkI_n fun n11 h9 hvc => ?_) (fun q h hq => xTh_out0 rfl hq)
      refine xw_istore dX3_finds_85 (Nat.le_of_ble_eq_true rfl) (L9 := [some (xr (some this)), some (xi x1), some (xi x2), some (xi x3), some (xi n11)]) rfl ?_
      refine xw_aload_n dX3_finds_87 rfl ?_
      refine xw_aload_n dX3_finds_88 rfl ?_
      obtain ⟨hcK, n12, hvK, hvc⟩ := hvc
      refine xw_get dX3_finds_89 hcX3 in_X3 (kf := 11) (by decide) q2990 (fun _ _ _ _ z => z) hcK hvK ?_
      refine xw_if_lt 104 dX3_finds_92 rfl (fun hc => ?_) (fun hc => ?_)
      · replace hvc := hvc.1 hc
        refine xw_iload dX3_finds_104 rfl ?_
        refine xw_goto 113 dX3_finds_106 rfl ?_
        obtain ⟨hcK, hvc⟩ := hvc
        refine xw_put dX3_finds_113 hcX3 in_X3 tyX3_ok xnmX3 (kf := 11) (by decide) q2990 (fun _ _ _ _ z => z) rfl rfl rfl hcK (Or.inl rfl) (fun h13 eh9 => ?_)
        replace hvc := hvc h13 eh9
        refine xw_iinc (1 : Int32) dX3_finds_116 rfl (by decide) (Nat.le_of_ble_eq_true rfl) (L9 := [some (xr (some this)), some (xi x1), some (xi (x2 + (1 : Int32))), some (xi x3), some (xi n11)]) rfl ?_
        refine xw_goto 2 dX3_finds_119 rfl ?_
        exact xWp_loc hvc (And.intro rfl (And.intro rfl (And.intro rfl trivial)))
      · replace hvc := hvc.2 hc
        refine xw_iload dX3_finds_95 rfl ?_
        refine xw_aload_n dX3_finds_97 rfl ?_
        obtain ⟨hcK, n14, hvK, hvc⟩ := hvc
        refine xw_get dX3_finds_98 hcX3 in_X3 (kf := 11) (by decide) q2990 (fun _ _ _ _ z => z) hcK hvK ?_
        refine xw_icmp_ge 109 dX3_finds_101 rfl (fun hc => ?_) (fun hc => ?_)
        · replace hvc := hvc.1 hc
          refine xw_aload_n dX3_finds_109 rfl ?_
          obtain ⟨hcK, n15, hvK, hvc⟩ := hvc
          refine xw_get dX3_finds_110 hcX3 in_X3 (kf := 11) (by decide) q2990 (fun _ _ _ _ z => z) hcK hvK ?_
          obtain ⟨hcK, hvc⟩ := hvc
          refine xw_put dX3_finds_113 hcX3 in_X3 tyX3_ok xnmX3 (kf := 11) (by decide) q2990 (fun _ _ _ _ z => z) rfl rfl rfl hcK (Or.inl rfl) (fun h16 eh9 => ?_)
          replace hvc := hvc h16 eh9
          refine xw_iinc (1 : Int32) dX3_finds_116 rfl (by decide) (Nat.le_of_ble_eq_true rfl) (L9 := [some (xr (some this)), some (xi x1), some (xi (x2 + (1 : Int32))), some (xi x3), some (xi n11)]) rfl ?_
          refine xw_goto 2 dX3_finds_119 rfl ?_
          exact xWp_loc hvc (And.intro rfl (And.intro rfl (And.intro rfl trivial)))
        · replace hvc := hvc.2 hc
          refine xw_iload dX3_finds_104 rfl ?_
          refine xw_goto 113 dX3_finds_106 rfl ?_
          obtain ⟨hcK, hvc⟩ := hvc
          refine xw_put dX3_finds_113 hcX3 in_X3 tyX3_ok xnmX3 (kf := 11) (by decide) q2990 (fun _ _ _ _ z => z) rfl rfl rfl hcK (Or.inl rfl) (fun h17 eh9 => ?_)
          replace hvc := hvc h17 eh9
          refine xw_iinc (1 : Int32) dX3_finds_116 rfl (by decide) (Nat.le_of_ble_eq_true rfl) (L9 := [some (xr (some this)), some (xi x1), some (xi (x2 + (1 : Int32))), some (xi x3), some (xi n11)]) rfl ?_
          refine xw_goto 2 dX3_finds_119 rfl ?_
          exact xWp_loc hvc (And.intro rfl (And.intro rfl (And.intro rfl trivial)))
    · replace hvc := hvc.2 hc
      refine xw_iload_n dX3_finds_69 rfl ?_
      refine xw_aload_n dX3_finds_70 rfl ?_
      obtain ⟨hcK, n18, hvK, hvc⟩ := hvc
      refine xw_get dX3_finds_71 hcX3 in_X3 (kf := 11) (by decide) q2990 (fun _ _ _ _ z => z) hcK hvK ?_
      refine xw_icmp_le 80 dX3_finds_74 rfl (fun hc => ?_) (fun hc => ?_)
      · replace hvc := hvc.1 hc
        refine xw_aload_n dX3_finds_80 rfl ?_
        refine xw_iload_n dX3_finds_81 rfl ?_
        obtain ⟨hcK, hvc⟩ := hvc
        obtain ⟨d9, k9, hd9, hk9, hC9⟩ := hvc
        refine xw_callV dX3_finds_82 px_X3_costOf pm_X3_costOf q3302 q3304 qs86 hcX3 hcK (As := [xi x2]) (rest := []) rfl rfl (Nat.le_of_ble_eq_true rfl) hd9 hk9 hC9 (xkI_n fun n21 h19 hvc => ?_) (fun q h hq => xTh_out0 rfl hq)
        refine xw_istore dX3_finds_85 (Nat.le_of_ble_eq_true rfl) (L9 := [some (xr (some this)), some (xi x1), some (xi x2), some (xi x3), some (xi n21)]) rfl ?_
        refine xw_aload_n dX3_finds_87 rfl ?_
        refine xw_aload_n dX3_finds_88 rfl ?_
        obtain ⟨hcK, n22, hvK, hvc⟩ := hvc
        refine xw_get dX3_finds_89 hcX3 in_X3 (kf := 11) (by decide) q2990 (fun _ _ _ _ z => z) hcK hvK ?_
        refine xw_if_lt 104 dX3_finds_92 rfl (fun hc => ?_) (fun hc => ?_)
        · replace hvc := hvc.1 hc
          refine xw_iload dX3_finds_104 rfl ?_
          refine xw_goto 113 dX3_finds_106 rfl ?_
          obtain ⟨hcK, hvc⟩ := hvc
          refine xw_put dX3_finds_113 hcX3 in_X3 tyX3_ok xnmX3 (kf := 11) (by decide) q2990 (fun _ _ _ _ z => z) rfl rfl rfl hcK (Or.inl rfl) (fun h23 eh9 => ?_)
          replace hvc := hvc h23 eh9
          refine xw_iinc (1 : Int32) dX3_finds_116 rfl (by decide) (Nat.le_of_ble_eq_true rfl) (L9 := [some (xr (some this)), some (xi x1), some (xi (x2 + (1 : Int32))), some (xi x3), some (xi n21)]) rfl ?_
          refine xw_goto 2 dX3_finds_119 rfl ?_
          exact xWp_loc hvc (And.intro rfl (And.intro rfl (And.intro rfl trivial)))
        · replace hvc := hvc.2 hc
          refine xw_iload dX3_finds_95 rfl ?_
          refine xw_aload_n dX3_finds_97 rfl ?_
          obtain ⟨hcK, n24, hvK, hvc⟩ := hvc
          refine xw_get dX3_finds_98 hcX3 in_X3 (kf := 11) (by decide) q2990 (fun _ _ _ _ z => z) hcK hvK ?_
          refine xw_icmp_ge 109 dX3_finds_101 rfl (fun hc => ?_) (fun hc => ?_)
          · replace hvc := hvc.1 hc
            refine xw_aload_n dX3_finds_109 rfl ?_
            obtain ⟨hcK, n25, hvK, hvc⟩ := hvc
            refine xw_get dX3_finds_110 hcX3 in_X3 (kf := 11) (by decide) q2990 (fun _ _ _ _ z => z) hcK hvK ?_
            obtain ⟨hcK, hvc⟩ := hvc
            refine xw_put dX3_finds_113 hcX3 in_X3 tyX3_ok xnmX3 (kf := 11) (by decide) q2990 (fun _ _ _ _ z => z) rfl rfl rfl hcK (Or.inl rfl) (fun h26 eh9 => ?_)
            replace hvc := hvc h26 eh9
            refine xw_iinc (1 : Int32) dX3_finds_116 rfl (by decide) (Nat.le_of_ble_eq_true rfl) (L9 := [some (xr (some this)), some (xi x1), some (xi (x2 + (1 : Int32))), some (xi x3), some (xi n21)]) rfl ?_
            refine xw_goto 2 dX3_finds_119 rfl ?_
            exact xWp_loc hvc (And.intro rfl (And.intro rfl (And.intro rfl trivial)))
          · replace hvc := hvc.2 hc
            refine xw_iload dX3_finds_104 rfl ?_
            refine xw_goto 113 dX3_finds_106 rfl ?_
            obtain ⟨hcK, hvc⟩ := hvc
            refine xw_put dX3_finds_113 hcX3 in_X3 tyX3_ok xnmX3 (kf := 11) (by decide) q2990 (fun _ _ _ _ z => z) rfl rfl rfl hcK (Or.inl rfl) (fun h27 eh9 => ?_)
            replace hvc := hvc h27 eh9
            refine xw_iinc (1 : Int32) dX3_finds_116 rfl (by decide) (Nat.le_of_ble_eq_true rfl) (L9 := [some (xr (some this)), some (xi x1), some (xi (x2 + (1 : Int32))), some (xi x3), some (xi n21)]) rfl ?_
            refine xw_goto 2 dX3_finds_119 rfl ?_
            exact xWp_loc hvc (And.intro rfl (And.intro rfl (And.intro rfl trivial)))
      · replace hvc := hvc.2 hc
        refine xw_goto 116 dX3_finds_77 rfl ?_
        refine xw_iinc (1 : Int32) dX3_finds_116 rfl (by decide) (Nat.le_of_ble_eq_true rfl) (L9 := [some (xr (some this)), some (xi x1), some (xi (x2 + (1 : Int32))), some (xi x3), some (xi x4)]) rfl ?_
        refine xw_goto 2 dX3_finds_119 rfl ?_
        exact xWp_loc hvc (And.intro rfl (And.intro rfl (And.intro rfl trivial)))
  · replace hvc := hvc.2 hc
    refine xw_iload_n dX3_finds_34 rfl ?_
    refine xw_iload_n dX3_finds_35 rfl ?_
    refine xw_iload dX3_finds_36 rfl ?_
    obtain ⟨d9, k9, hd9, hk9, hC9⟩ := hvc
    refine xw_callS dX3_finds_38 px_X3_has pm_X3_has q3153 q3154 (As := [xi x2, xi x4]) (rest := [xi x3]) rfl rfl (Nat.le_of_ble_eq_true rfl) hd9 hk9 hC9 (xkI_n fun n30 h28 hvc => ?_) (fun q h hq => xTh_out0 rfl hq)
    refine xw_if_eq 53 dX3_finds_41 rfl (fun hc => ?_) (fun hc => ?_)
    · replace hvc := hvc.1 hc
      refine xw_iconst (0 : Int32) dX3_finds_53 (by decide) ?_
      refine xw_iadd dX3_finds_54 ?_
      refine xw_istore_n dX3_finds_55 (Nat.le_of_ble_eq_true rfl) (L9 := [some (xr (some this)), some (xi x1), some (xi x2), some (xi (x3 + (0 : Int32))), some (xi x4)]) rfl ?_
      refine xw_iinc (1 : Int32) dX3_finds_56 rfl (by decide) (Nat.le_of_ble_eq_true rfl) (L9 := [some (xr (some this)), some (xi x1), some (xi x2), some (xi (x3 + (0 : Int32))), some (xi (x4 + (1 : Int32)))]) rfl ?_
      refine xw_goto 23 dX3_finds_59 rfl ?_
      exact hvc
    · replace hvc := hvc.2 hc
      refine xw_aload_n dX3_finds_44 rfl ?_
      refine xw_iload dX3_finds_45 rfl ?_
      obtain ⟨hcK, hvc⟩ := hvc
      obtain ⟨d9, k9, hd9, hk9, hC9⟩ := hvc
      refine xw_callV dX3_finds_47 px_X3_price pm_X3_price q3163 q3165 qs62 hcX3 hcK (As := [xi x4]) (rest := [xi x3]) rfl rfl (Nat.le_of_ble_eq_true rfl) hd9 hk9 hC9 (xkI_n fun n33 h31 hvc => ?_) (fun q h hq => xTh_out0 rfl hq)
      refine xw_goto 54 dX3_finds_50 rfl ?_
      refine xw_iadd dX3_finds_54 ?_
      refine xw_istore_n dX3_finds_55 (Nat.le_of_ble_eq_true rfl) (L9 := [some (xr (some this)), some (xi x1), some (xi x2), some (xi (x3 + n33)), some (xi x4)]) rfl ?_
      refine xw_iinc (1 : Int32) dX3_finds_56 rfl (by decide) (Nat.le_of_ble_eq_true rfl) (L9 := [some (xr (some this)), some (xi x1), some (xi x2), some (xi (x3 + n33)), some (xi (x4 + (1 : Int32)))]) rfl ?_
      refine xw_goto 23 dX3_finds_59 rfl ?_
      exact hvc

theorem vc_X3_greedy {G : xG} {d K : Nat} {Q : xR → xH → Prop} {h : xH} {this : Nat}
    (hvc : xWp G mX3_greedy d K Q K 4 [some (xr (some this)), some (xi (0 : Int32)), some (xi (1 : Int32)), none] [] h) : xCn G mX3_greedy d K [xr (some this)] h Q := by
  refine xCn_of px_X3_greedy rfl rfl (Nat.le_of_ble_eq_true rfl) ?_
  show xWp G mX3_greedy d K Q K 0 [some (xr (some this)), none, none, none] [] h
  refine xw_iconst (0 : Int32) dX3_greedy_0 (by decide) ?_
  refine xw_istore_n dX3_greedy_1 (Nat.le_of_ble_eq_true rfl) (L9 := [some (xr (some this)), some (xi (0 : Int32)), none, none]) rfl ?_
  refine xw_iconst (1 : Int32) dX3_greedy_2 (by decide) ?_
  refine xw_istore_n dX3_greedy_3 (Nat.le_of_ble_eq_true rfl) (L9 := [some (xr (some this)), some (xi (0 : Int32)), some (xi (1 : Int32)), none]) rfl ?_
  exact hvc

theorem vc_X3_greedy_4 {G : xG} {d K k : Nat} {Q : xR → xH → Prop} {h : xH} {this : Nat} {x1 : Int32} {x2 : Int32}
    (hvc : ((x2 = 0 → xcls h this = 6 ∧ xCall G d k mX3_isPlan [xr (some this), xi x1] h (xkI (fun n3 h1 k2 => ((n3 = 0 → Q (.inl (some (xi (-6 : Int32)))) h1) ∧ (¬ n3 = 0 → Q (.inl (some (xi x1))) h1))) (fun q h _ => Q (.inr q) h))) ∧ (¬ x2 = 0 → xcls h this = 6 ∧ xCall G d k mX3_next [xr (some this), xi x1] h (xkI (fun n6 h4 k5 => ((n6 < 0 → (((0 : Int32) = 0 → xWp G mX3_greedy d K Q k5 4 [some (xr (some this)), some (xi (x1 ||| (0 : Int32))), some (xi (0 : Int32)), none] [] h4) ∧ (¬ (0 : Int32) = 0 → xWp G mX3_greedy d K Q k5 4 [some (xr (some this)), some (xi (x1 ||| ((1 : Int32) <<< (n6 &&& 31)))), some (xi (0 : Int32)), none] [] h4))) ∧ (¬ n6 < 0 → xcls h4 this = 6 ∧ xCall G d k5 mX3_isPlan [xr (some this), xi x1] h4 (xkI (fun n9 h7 k8 => ((n9 = 0 → (((1 : Int32) = 0 → xWp G mX3_greedy d K Q k8 4 [some (xr (some this)), some (xi (x1 ||| (0 : Int32))), some (xi (1 : Int32)), none] [] h7) ∧ (¬ (1 : Int32) = 0 → xWp G mX3_greedy d K Q k8 4 [some (xr (some this)), some (xi (x1 ||| ((1 : Int32) <<< (n6 &&& 31)))), some (xi (1 : Int32)), none] [] h7))) ∧ (¬ n9 = 0 → xcls h7 this = 6 ∧ xCall G d k8 mX3_costOf [xr (some this), xi (x1 ||| ((1 : Int32) <<< (n6 &&& 31)))] h7 (xkI (fun n12 h10 k11 => xcls h10 this = 6 ∧ xCall G d k11 mX3_costOf [xr (some this), xi x1] h10 (xkI (fun n15 h13 k14 => ((n15 ≤ n12 → (((0 : Int32) = 0 → xWp G mX3_greedy d K Q k14 4 [some (xr (some this)), some (xi (x1 ||| (0 : Int32))), some (xi (0 : Int32)), none] [] h13) ∧ (¬ (0 : Int32) = 0 → xWp G mX3_greedy d K Q k14 4 [some (xr (some this)), some (xi (x1 ||| ((1 : Int32) <<< (n6 &&& 31)))), some (xi (0 : Int32)), none] [] h13))) ∧ (¬ n15 ≤ n12 → (((1 : Int32) = 0 → xWp G mX3_greedy d K Q k14 4 [some (xr (some this)), some (xi (x1 ||| (0 : Int32))), some (xi (1 : Int32)), none] [] h13) ∧ (¬ (1 : Int32) = 0 → xWp G mX3_greedy d K Q k14 4 [some (xr (some this)), some (xi (x1 ||| ((1 : Int32) <<< (n6 &&& 31)))), some (xi (1 : Int32)), none] [] h13))))) (fun q h _ => Q (.inr q) h))) (fun q h _ => Q (.inr q) h))))) (fun q h _ => Q (.inr q) h))))) (fun q h _ => Q (.inr q) h))))) : xWp G mX3_greedy d K Q k 4 [some (xr (some this)), some (xi x1), some (xi x2), none] [] h := by
  refine xw_iload_n dX3_greedy_4 rfl ?_
  refine xw_if_eq 66 dX3_greedy_5 rfl (fun hc => ?_) (fun hc => ?_)
  · replace hvc := hvc.1 hc
    refine xw_aload_n dX3_greedy_66 rfl ?_
    refine xw_iload_n dX3_greedy_67 rfl ?_
    obtain ⟨hcK, hvc⟩ := hvc
    obtain ⟨d9, k9, hd9, hk9, hC9⟩ := hvc
    refine xw_callV dX3_greedy_68 px_X3_isPlan pm_X3_isPlan q3298 q3300 qs85 hcX3 hcK (As := [xi x1]) (rest := []) rfl rfl (Nat.le_of_ble_eq_true rfl) hd9 hk9 hC9 (xkI_n fun n3 h1 hvc => ?_) (fun q h hq => xTh_out0 rfl hq)
    refine xw_if_eq 78 dX3_greedy_71 rfl (fun hc => ?_) (fun hc => ?_)
    · replace hvc := hvc.1 hc
      refine xw_bipush (-6 : Int32) dX3_greedy_78 (by decide) ?_
      exact xw_iret dX3_greedy_80 rfl hvc
    · replace hvc := hvc.2 hc
      refine xw_iload_n dX3_greedy_74 rfl ?_
      refine xw_goto 80 dX3_greedy_75 rfl ?_
      exact xw_iret dX3_greedy_80 rfl hvc
  · replace hvc := hvc.2 hc
    refine xw_aload_n dX3_greedy_8 rfl ?_
    refine xw_iload_n dX3_greedy_9 rfl ?_
    obtain ⟨hcK, hvc⟩ := hvc
    obtain ⟨d9, k9, hd9, hk9, hC9⟩ := hvc
    refine xw_callV dX3_greedy_10 px_X3_next pm_X3_next q3326 q3328 qs89 hcX3 hcK (As := [xi x1]) (rest := []) rfl rfl (Nat.le_of_ble_eq_true rfl) hd9 hk9 hC9 (xkI_n fun n6 h4 hvc => ?_) (fun q h hq => xTh_out0 rfl hq)
    refine xw_istore_n dX3_greedy_13 (Nat.le_of_ble_eq_true rfl) (L9 := [some (xr (some this)), some (xi x1), some (xi x2), some (xi n6)]) rfl ?_
    refine xw_iload_n dX3_greedy_14 rfl ?_
    refine xw_if_lt 47 dX3_greedy_15 rfl (fun hc => ?_) (fun hc => ?_)
    · replace hvc := hvc.1 hc
      refine xw_iconst (0 : Int32) dX3_greedy_47 (by decide) ?_
      refine xw_istore_n dX3_greedy_48 (Nat.le_of_ble_eq_true rfl) (L9 := [some (xr (some this)), some (xi x1), some (xi (0 : Int32)), some (xi n6)]) rfl ?_
      refine xw_iload_n dX3_greedy_49 rfl ?_
      refine xw_iload_n dX3_greedy_50 rfl ?_
      refine xw_if_eq 60 dX3_greedy_51 rfl (fun hc => ?_) (fun hc => ?_)
      · replace hvc := hvc.1 hc
        refine xw_iconst (0 : Int32) dX3_greedy_60 (by decide) ?_
        refine xw_ior dX3_greedy_61 ?_
        refine xw_istore_n dX3_greedy_62 (Nat.le_of_ble_eq_true rfl) (L9 := [some (xr (some this)), some (xi (x1 ||| (0 : Int32))), some (xi (0 : Int32)), some (xi n6)]) rfl ?_
        refine xw_goto 4 dX3_greedy_63 rfl ?_
        exact xWp_loc hvc (And.intro rfl (And.intro rfl (And.intro rfl trivial)))
      · replace hvc := hvc.2 hc
        refine xw_iconst (1 : Int32) dX3_greedy_54 (by decide) ?_
        refine xw_iload_n dX3_greedy_55 rfl ?_
        refine xw_ishl dX3_greedy_56 ?_
        refine xw_goto 61 dX3_greedy_57 rfl ?_
        refine xw_ior dX3_greedy_61 ?_
        refine xw_istore_n dX3_greedy_62 (Nat.le_of_ble_eq_true rfl) (L9 := [some (xr (some this)), some (xi (x1 ||| ((1 : Int32) <<< (n6 &&& 31)))), some (xi (0 : Int32)), some (xi n6)]) rfl ?_
        refine xw_goto 4 dX3_greedy_63 rfl ?_
        exact xWp_loc hvc (And.intro rfl (And.intro rfl (And.intro rfl trivial)))
    · replace hvc := hvc.2 hc
      refine xw_aload_n dX3_greedy_18 rfl ?_
      refine xw_iload_n dX3_greedy_19 rfl ?_
      obtain ⟨hcK, hvc⟩ := hvc
      obtain ⟨d9, k9, hd9, hk9, hC9⟩ := hvc
      refine xw_callV dX3_greedy_20 px_X3_isPlan pm_X3_isPlan q3298 q3300 qs85 hcX3 hcK (As := [xi x1]) (rest := []) rfl rfl (Nat.le_of_ble_eq_true rfl) hd9 hk9 hC9 (xkI_n fun n9 h7 hvc => ?_) (fun q h hq => xTh_out0 rfl hq)
      refine xw_if_eq 43 dX3_greedy_23 rfl (fun hc => ?_) (fun hc => ?_)
      · replace hvc := hvc.1 hc
        refine xw_iconst (1 : Int32) dX3_greedy_43 (by decide) ?_
        refine xw_goto 48 dX3_greedy_44 rfl ?_
        refine xw_istore_n dX3_greedy_48 (Nat.le_of_ble_eq_true rfl) (L9 := [some (xr (some this)), some (xi x1), some (xi (1 : Int32)), some (xi n6)]) rfl ?_
        refine xw_iload_n dX3_greedy_49 rfl ?_
        refine xw_iload_n dX3_greedy_50 rfl ?_
        refine xw_if_eq 60 dX3_greedy_51 rfl (fun hc => ?_) (fun hc => ?_)
        · replace hvc := hvc.1 hc
          refine xw_iconst (0 : Int32) dX3_greedy_60 (by decide) ?_
          refine xw_ior dX3_greedy_61 ?_
          refine xw_istore_n dX3_greedy_62 (Nat.le_of_ble_eq_true rfl) (L9 := [some (xr (some this)), some (xi (x1 ||| (0 : Int32))), some (xi (1 : Int32)), some (xi n6)]) rfl ?_
          refine xw_goto 4 dX3_greedy_63 rfl ?_
          exact xWp_loc hvc (And.intro rfl (And.intro rfl (And.intro rfl trivial)))
        · replace hvc := hvc.2 hc
          refine xw_iconst (1 : Int32) dX3_greedy_54 (by decide) ?_
          refine xw_iload_n dX3_greedy_55 rfl ?_
          refine xw_ishl dX3_greedy_56 ?_
          refine xw_goto 61 dX3_greedy_57 rfl ?_
          refine xw_ior dX3_greedy_61 ?_
          refine xw_istore_n dX3_greedy_62 (Nat.le_of_ble_eq_true rfl) (L9 := [some (xr (some this)), some (xi (x1 ||| ((1 : Int32) <<< (n6 &&& 31)))), some (xi (1 : Int32)), some (xi n6)]) rfl ?_
          refine xw_goto 4 dX3_greedy_63 rfl ?_
          exact xWp_loc hvc (And.intro rfl (And.intro rfl (And.intro rfl trivial)))
      · replace hvc := hvc.2 hc
        refine xw_aload_n dX3_greedy_26 rfl ?_
        refine xw_iload_n dX3_greedy_27 rfl ?_
        refine xw_iconst (1 : Int32) dX3_greedy_28 (by decide) ?_
        refine xw_iload_n dX3_greedy_29 rfl ?_
        refine xw_ishl dX3_greedy_30 ?_
        refine xw_ior dX3_greedy_31 ?_
        obtain ⟨hcK, hvc⟩ := hvc
        obtain ⟨d9, k9, hd9, hk9, hC9⟩ := hvc
        refine xw_callV dX3_greedy_32 px_X3_costOf pm_X3_costOf q3302 q3304 qs86 hcX3 hcK (As := [xi (x1 ||| ((1 : Int32) <<< (n6 &&& 31)))]) (rest := []) rfl rfl (Nat.le_of_ble_eq_true rfl) hd9 hk9 hC9 (xkI_n fun n12 h10 hvc => ?_) (fun q h hq => xTh_out0 rfl hq)
        refine xw_aload_n dX3_greedy_35 rfl ?_
        refine xw_iload_n dX3_greedy_36 rfl ?_
        obtain ⟨hcK, hvc⟩ := hvc
        obtain ⟨d9, k9, hd9, hk9, hC9⟩ := hvc
        refine xw_callV dX3_greedy_37 px_X3_costOf pm_X3_costOf q3302 q3304 qs86 hcX3 hcK (As := [xi x1]) (rest := [xi n12]) rfl rfl (Nat.le_of_ble_eq_true rfl) hd9 hk9 hC9 (xkI_n fun n15 h13 hvc => ?_) (fun q h hq => xTh_out0 rfl hq)
        refine xw_icmp_ge 47 dX3_greedy_40 rfl (fun hc => ?_) (fun hc => ?_)
        · replace hvc := hvc.1 hc
          refine xw_iconst (0 : Int32) dX3_greedy_47 (by decide) ?_
          refine xw_istore_n dX3_greedy_48 (Nat.le_of_ble_eq_true rfl) (L9 := [some (xr (some this)), some (xi x1), some (xi (0 : Int32)), some (xi n6)]) rfl ?_
          refine xw_iload_n dX3_greedy_49 rfl ?_
          refine xw_iload_n dX3_greedy_50 rfl ?_
          refine xw_if_eq 60 dX3_greedy_51 rfl (fun hc => ?_) (fun hc => ?_)
          · replace hvc := hvc.1 hc
            refine xw_iconst (0 : Int32) dX3_greedy_60 (by decide) ?_
            refine xw_ior dX3_greedy_61 ?_
            refine xw_istore_n dX3_greedy_62 (Nat.le_of_ble_eq_true rfl) (L9 := [some (xr (some this)), some (xi (x1 ||| (0 : Int32))), some (xi (0 : Int32)), some (xi n6)]) rfl ?_
            refine xw_goto 4 dX3_greedy_63 rfl ?_
            exact xWp_loc hvc (And.intro rfl (And.intro rfl (And.intro rfl trivial)))
          · replace hvc := hvc.2 hc
            refine xw_iconst (1 : Int32) dX3_greedy_54 (by decide) ?_
            refine xw_iload_n dX3_greedy_55 rfl ?_
            refine xw_ishl dX3_greedy_56 ?_
            refine xw_goto 61 dX3_greedy_57 rfl ?_
            refine xw_ior dX3_greedy_61 ?_
            refine xw_istore_n dX3_greedy_62 (Nat.le_of_ble_eq_true rfl) (L9 := [some (xr (some this)), some (xi (x1 ||| ((1 : Int32) <<< (n6 &&& 31)))), some (xi (0 : Int32)), some (xi n6)]) rfl ?_
            refine xw_goto 4 dX3_greedy_63 rfl ?_
            exact xWp_loc hvc (And.intro rfl (And.intro rfl (And.intro rfl trivial)))
        · replace hvc := hvc.2 hc
          refine xw_iconst (1 : Int32) dX3_greedy_43 (by decide) ?_
          refine xw_goto 48 dX3_greedy_44 rfl ?_
          refine xw_istore_n dX3_greedy_48 (Nat.le_of_ble_eq_true rfl) (L9 := [some (xr (some this)), some (xi x1), some (xi (1 : Int32)), some (xi n6)]) rfl ?_
          refine xw_iload_n dX3_greedy_49 rfl ?_
          refine xw_iload_n dX3_greedy_50 rfl ?_
          refine xw_if_eq 60 dX3_greedy_51 rfl (fun hc => ?_) (fun hc => ?_)
          · replace hvc := hvc.1 hc
            refine xw_iconst (0 : Int32) dX3_greedy_60 (by decide) ?_
            refine xw_ior dX3_greedy_61 ?_
            refine xw_istore_n dX3_greedy_62 (Nat.le_of_ble_eq_true rfl) (L9 := [some (xr (some this)), some (xi (x1 ||| (0 : Int32))), some (xi (1 : Int32)), some (xi n6)]) rfl ?_
            refine xw_goto 4 dX3_greedy_63 rfl ?_
            exact xWp_loc hvc (And.intro rfl (And.intro rfl (And.intro rfl trivial)))
          · replace hvc := hvc.2 hc
            refine xw_iconst (1 : Int32) dX3_greedy_54 (by decide) ?_
            refine xw_iload_n dX3_greedy_55 rfl ?_
            refine xw_ishl dX3_greedy_56 ?_
            refine xw_goto 61 dX3_greedy_57 rfl ?_
            refine xw_ior dX3_greedy_61 ?_
            refine xw_istore_n dX3_greedy_62 (Nat.le_of_ble_eq_true rfl) (L9 := [some (xr (some this)), some (xi (x1 ||| ((1 : Int32) <<< (n6 &&& 31)))), some (xi (1 : Int32)), some (xi n6)]) rfl ?_
            refine xw_goto 4 dX3_greedy_63 rfl ?_
            exact xWp_loc hvc (And.intro rfl (And.intro rfl (And.intro rfl trivial)))

theorem vc_X3_next {G : xG} {d K : Nat} {Q : xR → xH → Prop} {h : xH} {this : Nat} {x1 : Int32}
    (hvc : xWp G mX3_next d K Q K 4 [some (xr (some this)), some (xi x1), some (xi (-1 : Int32)), some (xi (0 : Int32))] [] h) : xCn G mX3_next d K [xr (some this), xi x1] h Q := by
  refine xCn_of px_X3_next rfl rfl (Nat.le_of_ble_eq_true rfl) ?_
  show xWp G mX3_next d K Q K 0 [some (xr (some this)), some (xi x1), none, none] [] h
  refine xw_iconst (-1 : Int32) dX3_next_0 (by decide) ?_
  refine xw_istore_n dX3_next_1 (Nat.le_of_ble_eq_true rfl) (L9 := [some (xr (some this)), some (xi x1), some (xi (-1 : Int32)), none]) rfl ?_
  refine xw_iconst (0 : Int32) dX3_next_2 (by decide) ?_
  refine xw_istore_n dX3_next_3 (Nat.le_of_ble_eq_true rfl) (L9 := [some (xr (some this)), some (xi x1), some (xi (-1 : Int32)), some (xi (0 : Int32))]) rfl ?_
  exact hvc

theorem vc_X3_next_4 {G : xG} {d K k : Nat} {Q : xR → xH → Prop} {h : xH} {this : Nat} {x1 : Int32} {x2 : Int32} {x3 : Int32}
    (hvc : xcls h this = 6 ∧ ∃ o1 : Option Nat, xval h this 4 = xr o1 ∧ ∃ a2, o1 = some a2 ∧ xcls h a2 = 1003 ∧ ∃ i3 : Nat, (3 : Int32) = nI i3 ∧ i3 < 2147483648 ∧ i3 < xlen h a2 ∧ ∃ n4 : Int32, xval h a2 i3 = xi n4 ∧ ((n4 ≤ x3 → Q (.inl (some (xi x2))) h) ∧ (¬ n4 ≤ x3 → xCall G d k mX3_has [xi x1, xi x3] h (xkI (fun n7 h5 k6 => ((n7 = 0 → ((x2 < 0 → xWp G mX3_next d K Q k6 4 [some (xr (some this)), some (xi x1), some (xi x3), some (xi (x3 + (1 : Int32)))] [] h5) ∧ (¬ x2 < 0 → xcls h5 this = 6 ∧ xCall G d k6 mX3_costOf [xr (some this), xi (x1 ||| ((1 : Int32) <<< (x3 &&& 31)))] h5 (xkI (fun n10 h8 k9 => xcls h8 this = 6 ∧ xCall G d k9 mX3_costOf [xr (some this), xi (x1 ||| ((1 : Int32) <<< (x2 &&& 31)))] h8 (xkI (fun n13 h11 k12 => ((n13 ≤ n10 → xWp G mX3_next d K Q k12 4 [some (xr (some this)), some (xi x1), some (xi x2), some (xi (x3 + (1 : Int32)))] [] h11) ∧ (¬ n13 ≤ n10 → xWp G mX3_next d K Q k12 4 [some (xr (some this)), some (xi x1), some (xi x3), some (xi (x3 + (1 : Int32)))] [] h11))) (fun q h _ => Q (.inr q) h))) (fun q h _ => Q (.inr q) h))))) ∧ (¬ n7 = 0 → xWp G mX3_next d K Q k6 4 [some (xr (some this)), some (xi x1), some (xi x2), some (xi (x3 + (1 : Int32)))] [] h5))) (fun q h _ => Q (.inr q) h))))) : xWp G mX3_next d K Q k 4 [some (xr (some this)), some (xi x1), some (xi x2), some (xi x3)] [] h := by
  refine xw_iload_n dX3_next_4 rfl ?_
  refine xw_aload_n dX3_next_5 rfl ?_
  obtain ⟨hcK, o1, hvK, hvc⟩ := hvc
  refine xw_get dX3_next_6 hcX3 in_X3 (kf := 4) (by decide) q2983 (fun _ _ _ _ z => z) hcK hvK ?_
  refine xw_iconst (3 : Int32) dX3_next_9 (by decide) ?_
  obtain ⟨a2, ho, hvc⟩ := hvc
  subst ho
  obtain ⟨hcK, i3, hx9, hb9, hi9, n4, hv9, hvc⟩ := hvc
  refine xw_iald (j := 3) dX3_next_10 rfl hcK hx9 hb9 hi9 hv9 ?_
  refine xw_icmp_ge 62 dX3_next_11 rfl (fun hc => ?_) (fun hc => ?_)
  · replace hvc := hvc.1 hc
    refine xw_iload_n dX3_next_62 rfl ?_
    exact xw_iret dX3_next_63 rfl hvc
  · replace hvc := hvc.2 hc
    refine xw_iload_n dX3_next_14 rfl ?_
    refine xw_iload_n dX3_next_15 rfl ?_
    obtain ⟨d9, k9, hd9, hk9, hC9⟩ := hvc
    refine xw_callS dX3_next_16 px_X3_has pm_X3_has q3153 q3154 (As := [xi x1, xi x3]) (rest := []) rfl rfl (Nat.le_of_ble_eq_true rfl) hd9 hk9 hC9 (xkI_n fun n7 h5 hvc => ?_) (fun q h hq => xTh_out0 rfl hq)
    refine xw_if_eq 25 dX3_next_19 rfl (fun hc => ?_) (fun hc => ?_)
    · replace hvc := hvc.1 hc
      refine xw_iload_n dX3_next_25 rfl ?_
      refine xw_if_lt 50 dX3_next_26 rfl (fun hc => ?_) (fun hc => ?_)
      · replace hvc := hvc.1 hc
        refine xw_iload_n dX3_next_50 rfl ?_
        refine xw_goto 55 dX3_next_51 rfl ?_
        refine xw_istore_n dX3_next_55 (Nat.le_of_ble_eq_true rfl) (L9 := [some (xr (some this)), some (xi x1), some (xi x3), some (xi x3)]) rfl ?_
        refine xw_iinc (1 : Int32) dX3_next_56 rfl (by decide) (Nat.le_of_ble_eq_true rfl) (L9 := [some (xr (some this)), some (xi x1), some (xi x3), some (xi (x3 + (1 : Int32)))]) rfl ?_
        refine xw_goto 4 dX3_next_59 rfl ?_
        exact hvc
      · replace hvc := hvc.2 hc
        refine xw_aload_n dX3_next_29 rfl ?_
        refine xw_iload_n dX3_next_30 rfl ?_
        refine xw_iconst (1 : Int32) dX3_next_31 (by decide) ?_
        refine xw_iload_n dX3_next_32 rfl ?_
        refine xw_ishl dX3_next_33 ?_
        refine xw_ior dX3_next_34 ?_
        obtain ⟨hcK, hvc⟩ := hvc
        obtain ⟨d9, k9, hd9, hk9, hC9⟩ := hvc
        refine xw_callV dX3_next_35 px_X3_costOf pm_X3_costOf q3302 q3304 qs86 hcX3 hcK (As := [xi (x1 ||| ((1 : Int32) <<< (x3 &&& 31)))]) (rest := []) rfl rfl (Nat.le_of_ble_eq_true rfl) hd9 hk9 hC9 (xkI_n fun n10 h8 hvc => ?_) (fun q h hq => xTh_out0 rfl hq)
        refine xw_aload_n dX3_next_38 rfl ?_
        refine xw_iload_n dX3_next_39 rfl ?_
        refine xw_iconst (1 : Int32) dX3_next_40 (by decide) ?_
        refine xw_iload_n dX3_next_41 rfl ?_
        refine xw_ishl dX3_next_42 ?_
        refine xw_ior dX3_next_43 ?_
        obtain ⟨hcK, hvc⟩ := hvc
        obtain ⟨d9, k9, hd9, hk9, hC9⟩ := hvc
        refine xw_callV dX3_next_44 px_X3_costOf pm_X3_costOf q3302 q3304 qs86 hcX3 hcK (As := [xi (x1 ||| ((1 : Int32) <<< (x2 &&& 31)))]) (rest := [xi n10]) rfl rfl (Nat.le_of_ble_eq_true rfl) hd9 hk9 hC9 (xkI_n fun n13 h11 hvc => ?_) (fun q h hq => xTh_out0 rfl hq)
        refine xw_icmp_ge 54 dX3_next_47 rfl (fun hc => ?_) (fun hc => ?_)
        · replace hvc := hvc.1 hc
          refine xw_iload_n dX3_next_54 rfl ?_
          refine xw_istore_n dX3_next_55 (Nat.le_of_ble_eq_true rfl) (L9 := [some (xr (some this)), some (xi x1), some (xi x2), some (xi x3)]) rfl ?_
          refine xw_iinc (1 : Int32) dX3_next_56 rfl (by decide) (Nat.le_of_ble_eq_true rfl) (L9 := [some (xr (some this)), some (xi x1), some (xi x2), some (xi (x3 + (1 : Int32)))]) rfl ?_
          refine xw_goto 4 dX3_next_59 rfl ?_
          exact hvc
        · replace hvc := hvc.2 hc
          refine xw_iload_n dX3_next_50 rfl ?_
          refine xw_goto 55 dX3_next_51 rfl ?_
          refine xw_istore_n dX3_next_55 (Nat.le_of_ble_eq_true rfl) (L9 := [some (xr (some this)), some (xi x1), some (xi x3), some (xi x3)]) rfl ?_
          refine xw_iinc (1 : Int32) dX3_next_56 rfl (by decide) (Nat.le_of_ble_eq_true rfl) (L9 := [some (xr (some this)), some (xi x1), some (xi x3), some (xi (x3 + (1 : Int32)))]) rfl ?_
          refine xw_goto 4 dX3_next_59 rfl ?_
          exact hvc
    · replace hvc := hvc.2 hc
      refine xw_goto 56 dX3_next_22 rfl ?_
      refine xw_iinc (1 : Int32) dX3_next_56 rfl (by decide) (Nat.le_of_ble_eq_true rfl) (L9 := [some (xr (some this)), some (xi x1), some (xi x2), some (xi (x3 + (1 : Int32)))]) rfl ?_
      refine xw_goto 4 dX3_next_59 rfl ?_
      exact hvc

theorem vc_X3_swap {G : xG} {d K : Nat} {Q : xR → xH → Prop} {h : xH} {this : Nat} {x1 : Int32}
    (hvc : xcls h this = 6 ∧ xCall G d K mX3_isSet [xr (some this), xi x1] h (xkI (fun n3 h1 k2 => ((¬ n3 = 0 → ((¬ x1 = 0 → xcls h1 this = 6 ∧ xCall G d k2 mX3_costOf [xr (some this), xi x1] h1 (xkI (fun n6 h4 k5 => xWp G mX3_swap d K Q k5 30 [some (xr (some this)), some (xi x1), some (xi (-6 : Int32)), some (xi n6), some (xi (0 : Int32)), none, none] [] h4) (fun q h _ => Q (.inr q) h))) ∧ (x1 = 0 → Q (.inl (some (xi (-6 : Int32)))) h1))) ∧ (n3 = 0 → Q (.inl (some (xi (-2 : Int32)))) h1))) (fun q h _ => Q (.inr q) h))) : xCn G mX3_swap d K [xr (some this), xi x1] h Q := by
  refine xCn_of px_X3_swap rfl rfl (Nat.le_of_ble_eq_true rfl) ?_
  show xWp G mX3_swap d K Q K 0 [some (xr (some this)), some (xi x1), none, none, none, none, none] [] h
  refine xw_aload_n dX3_swap_0 rfl ?_
  refine xw_iload_n dX3_swap_1 rfl ?_
  obtain ⟨hcK, hvc⟩ := hvc
  obtain ⟨d9, k9, hd9, hk9, hC9⟩ := hvc
  refine xw_callV dX3_swap_2 px_X3_isSet pm_X3_isSet q3294 q3296 qs84 hcX3 hcK (As := [xi x1]) (rest := []) rfl rfl (Nat.le_of_ble_eq_true rfl) hd9 hk9 hC9 (xkI_n fun n3 h1 hvc => ?_) (fun q h hq => xTh_out0 rfl hq)
  refine xw_if_ne 11 dX3_swap_5 rfl (fun hc => ?_) (fun hc => ?_)
  · replace hvc := hvc.1 hc
    refine xw_iload_n dX3_swap_11 rfl ?_
    refine xw_if_ne 18 dX3_swap_12 rfl (fun hc => ?_) (fun hc => ?_)
    · replace hvc := hvc.1 hc
      refine xw_bipush (-6 : Int32) dX3_swap_18 (by decide) ?_
      refine xw_istore_n dX3_swap_20 (Nat.le_of_ble_eq_true rfl) (L9 := [some (xr (some this)), some (xi x1), some (xi (-6 : Int32)), none, none, none, none]) rfl ?_
      refine xw_aload_n dX3_swap_21 rfl ?_
      refine xw_iload_n dX3_swap_22 rfl ?_
      obtain ⟨hcK, hvc⟩ := hvc
      obtain ⟨d9, k9, hd9, hk9, hC9⟩ := hvc
      refine xw_callV dX3_swap_23 px_X3_costOf pm_X3_costOf q3302 q3304 qs86 hcX3 hcK (As := [xi x1]) (rest := []) rfl rfl (Nat.le_of_ble_eq_true rfl) hd9 hk9 hC9 (xkI_n fun n6 h4 hvc => ?_) (fun q h hq => xTh_out0 rfl hq)
      refine xw_istore_n dX3_swap_26 (Nat.le_of_ble_eq_true rfl) (L9 := [some (xr (some this)), some (xi x1), some (xi (-6 : Int32)), some (xi n6), none, none, none]) rfl ?_
      refine xw_iconst (0 : Int32) dX3_swap_27 (by decide) ?_
      refine xw_istore dX3_swap_28 (Nat.le_of_ble_eq_true rfl) (L9 := [some (xr (some this)), some (xi x1), some (xi (-6 : Int32)), some (xi n6), some (xi (0 : Int32)), none, none]) rfl ?_
      exact hvc
    · replace hvc := hvc.2 hc
      refine xw_bipush (-6 : Int32) dX3_swap_15 (by decide) ?_
      exact xw_iret dX3_swap_17 rfl hvc
  · replace hvc := hvc.2 hc
    refine xw_bipush (-2 : Int32) dX3_swap_8 (by decide) ?_
    exact xw_iret dX3_swap_10 rfl hvc

theorem vc_X3_swap_30 {G : xG} {d K k : Nat} {Q : xR → xH → Prop} {h : xH} {this : Nat} {x1 : Int32} {x2 : Int32} {x3 : Int32} {x4 : Int32}
    (hvc : xcls h this = 6 ∧ ∃ o7 : Option Nat, xval h this 4 = xr o7 ∧ ∃ a8, o7 = some a8 ∧ xcls h a8 = 1003 ∧ ∃ i9 : Nat, (3 : Int32) = nI i9 ∧ i9 < 2147483648 ∧ i9 < xlen h a8 ∧ ∃ n10 : Int32, xval h a8 i9 = xi n10 ∧ ((n10 ≤ x4 → Q (.inl (some (xi x2))) h) ∧ (¬ n10 ≤ x4 → xWp G mX3_swap d K Q k 44 [some (xr (some this)), some (xi x1), some (xi x2), some (xi x3), some (xi x4), some (xi (0 : Int32)), none] [] h))) : xWp G mX3_swap d K Q k 30 [some (xr (some this)), some (xi x1), some (xi x2), some (xi x3), some (xi x4), none, none] [] h := by
  refine xw_iload dX3_swap_30 rfl ?_
  refine xw_aload_n dX3_swap_32 rfl ?_
  obtain ⟨hcK, o7, hvK, hvc⟩ := hvc
  refine xw_get dX3_swap_33 hcX3 in_X3 (kf := 4) (by decide) q2983 (fun _ _ _ _ z => z) hcK hvK ?_
  refine xw_iconst (3 : Int32) dX3_swap_36 (by decide) ?_
  obtain ⟨a8, ho, hvc⟩ := hvc
  subst ho
  obtain ⟨hcK, i9, hx9, hb9, hi9, n10, hv9, hvc⟩ := hvc
  refine xw_iald (j := 3) dX3_swap_37 rfl hcK hx9 hb9 hi9 hv9 ?_
  refine xw_icmp_ge 128 dX3_swap_38 rfl (fun hc => ?_) (fun hc => ?_)
  · replace hvc := hvc.1 hc
    refine xw_iload_n dX3_swap_128 rfl ?_
    exact xw_iret dX3_swap_129 rfl hvc
  · replace hvc := hvc.2 hc
    refine xw_iconst (0 : Int32) dX3_swap_41 (by decide) ?_
    refine xw_istore dX3_swap_42 (Nat.le_of_ble_eq_true rfl) (L9 := [some (xr (some this)), some (xi x1), some (xi x2), some (xi x3), some (xi x4), some (xi (0 : Int32)), none]) rfl ?_
    exact hvc

theorem vc_X3_swap_44 {G : xG} {d K k : Nat} {Q : xR → xH → Prop} {h : xH} {this : Nat} {x1 : Int32} {x2 : Int32} {x3 : Int32} {x4 : Int32} {x5 : Int32}
    (hvc : xcls h this = 6 ∧ ∃ o11 : Option Nat, xval h this 4 = xr o11 ∧ ∃ a12, o11 = some a12 ∧ xcls h a12 = 1003 ∧ ∃ i13 : Nat, (3 : Int32) = nI i13 ∧ i13 < 2147483648 ∧ i13 < xlen h a12 ∧ ∃ n14 : Int32, xval h a12 i13 = xi n14 ∧ ((n14 ≤ x5 → xWp G mX3_swap d K Q k 30 [some (xr (some this)), some (xi x1), some (xi x2), some (xi x3), some (xi (x4 + (1 : Int32))), none, none] [] h) ∧ (¬ n14 ≤ x5 → xCall G d k mX3_has [xi x1, xi x4] h (xkI (fun n17 h15 k16 => ((n17 = 0 → xWp G mX3_swap d K Q k16 44 [some (xr (some this)), some (xi x1), some (xi x2), some (xi x3), some (xi x4), some (xi (x5 + (1 : Int32))), none] [] h15) ∧ (¬ n17 = 0 → xCall G d k16 mX3_has [xi x1, xi x5] h15 (xkI (fun n20 h18 k19 => ((n20 = 0 → (∀ n21 : Int32, n21 = ((x1 &&& (((1 : Int32) <<< (x4 &&& 31)) ^^^ (-1 : Int32))) ||| ((1 : Int32) <<< (x5 &&& 31))) → xcls h18 this = 6 ∧ xCall G d k19 mX3_costOf [xr (some this), xi n21] h18 (xkI (fun n24 h22 k23 => ((n24 < x3 → xWp G mX3_swap d K Q k23 44 [some (xr (some this)), some (xi x1), some (xi (((10 : Int32) * x4) + x5)), some (xi n24), some (xi x4), some (xi (x5 + (1 : Int32))), none] [] h22) ∧ (¬ n24 < x3 → xWp G mX3_swap d K Q k23 44 [some (xr (some this)), some (xi x1), some (xi x2), some (xi x3), some (xi x4), some (xi (x5 + (1 : Int32))), none] [] h22))) (fun q h _ => Q (.inr q) h)))) ∧ (¬ n20 = 0 → xWp G mX3_swap d K Q k19 44 [some (xr (some this)), some (xi x1), some (xi x2), some (xi x3), some (xi x4), some (xi (x5 + (1 : Int32))), none] [] h18))) (fun q h _ => Q (.inr q) h))))) (fun q h _ => Q (.inr q) h))))) : xWp G mX3_swap d K Q k 44 [some (xr (some this)), some (xi x1), some (xi x2), some (xi x3), some (xi x4), some (xi x5), none] [] h := by
  refine xw_iload dX3_swap_44 rfl ?_
  refine xw_aload_n dX3_swap_46 rfl ?_
  obtain ⟨hcK, o11, hvK, hvc⟩ := hvc
  refine xw_get dX3_swap_47 hcX3 in_X3 (kf := 4) (by decide) q2983 (fun _ _ _ _ z => z) hcK hvK ?_
  refine xw_iconst (3 : Int32) dX3_swap_50 (by decide) ?_
  obtain ⟨a12, ho, hvc⟩ := hvc
  subst ho
  obtain ⟨hcK, i13, hx9, hb9, hi9, n14, hv9, hvc⟩ := hvc
  refine xw_iald (j := 3) dX3_swap_51 rfl hcK hx9 hb9 hi9 hv9 ?_
  refine xw_icmp_ge 122 dX3_swap_52 rfl (fun hc => ?_) (fun hc => ?_)
  · replace hvc := hvc.1 hc
    refine xw_iinc (1 : Int32) dX3_swap_122 rfl (by decide) (Nat.le_of_ble_eq_true rfl) (L9 := [some (xr (some this)), some (xi x1), some (xi x2), some (xi x3), some (xi (x4 + (1 : Int32))), some (xi x5), none]) rfl ?_
    refine xw_goto 30 dX3_swap_125 rfl ?_
    exact xWp_loc hvc (And.intro rfl (And.intro rfl (And.intro rfl (And.intro rfl (And.intro rfl trivial)))))
  · replace hvc := hvc.2 hc
    refine xw_iload_n dX3_swap_55 rfl ?_
    refine xw_iload dX3_swap_56 rfl ?_
    obtain ⟨d9, k9, hd9, hk9, hC9⟩ := hvc
    refine xw_callS dX3_swap_58 px_X3_has pm_X3_has q3153 q3154 (As := [xi x1, xi x4]) (rest := []) rfl rfl (Nat.le_of_ble_eq_true rfl) hd9 hk9 hC9 (xkI_n fun n17 h15 hvc => ?_) (fun q h hq => xTh_out0 rfl hq)
    refine xw_if_eq 116 dX3_swap_61 rfl (fun hc => ?_) (fun hc => ?_)
    · replace hvc := hvc.1 hc
      refine xw_iinc (1 : Int32) dX3_swap_116 rfl (by decide) (Nat.le_of_ble_eq_true rfl) (L9 := [some (xr (some this)), some (xi x1), some (xi x2), some (xi x3), some (xi x4), some (xi (x5 + (1 : Int32))), none]) rfl ?_
      refine xw_goto 44 dX3_swap_119 rfl ?_
      exact hvc
    · replace hvc := hvc.2 hc
      refine xw_iload_n dX3_swap_64 rfl ?_
      refine xw_iload dX3_swap_65 rfl ?_
      obtain ⟨d9, k9, hd9, hk9, hC9⟩ := hvc
      refine xw_callS dX3_swap_67 px_X3_has pm_X3_has q3153 q3154 (As := [xi x1, xi x5]) (rest := []) rfl rfl (Nat.le_of_ble_eq_true rfl) hd9 hk9 hC9 (xkI_n fun n20 h18 hvc => ?_) (fun q h hq => xTh_out0 rfl hq)
      refine xw_if_eq 76 dX3_swap_70 rfl (fun hc => ?_) (fun hc => ?_)
      · replace hvc := hvc.1 hc
        refine xw_aload_n dX3_swap_76 rfl ?_
        refine xw_iload_n dX3_swap_77 rfl ?_
        refine xw_iconst (1 : Int32) dX3_swap_78 (by decide) ?_
        refine xw_iload dX3_swap_79 rfl ?_
        refine xw_ishl dX3_swap_81 ?_
        refine xw_iconst (-1 : Int32) dX3_swap_82 (by decide) ?_
        refine xw_ixor dX3_swap_83 ?_
        refine xw_iand dX3_swap_84 ?_
        refine xw_iconst (1 : Int32) dX3_swap_85 (by decide) ?_
        refine xw_iload dX3_swap_86 rfl ?_
        refine xw_ishl dX3_swap_88 ?_
        refine xw_ior dX3_swap_89 ?_
        obtain ⟨n21, he9⟩ : ∃ z, z = ((x1 &&& (((1 : Int32) <<< (x4 &&& 31)) ^^^ (-1 : Int32))) ||| ((1 : Int32) <<< (x5 &&& 31))) := ⟨_, rfl⟩
        rw [← he9]
        replace hvc := hvc n21 he9
        obtain ⟨hcK, hvc⟩ := hvc
        obtain ⟨d9, k9, hd9, hk9, hC9⟩ := hvc
        refine xw_callV dX3_swap_90 px_X3_costOf pm_X3_costOf q3302 q3304 qs86 hcX3 hcK (As := [xi n21]) (rest := []) rfl rfl (Nat.le_of_ble_eq_true rfl) hd9 hk9 hC9 (xkI_n fun n24 h22 hvc => ?_) (fun q h hq => xTh_out0 rfl hq)
        refine xw_istore dX3_swap_93 (Nat.le_of_ble_eq_true rfl) (L9 := [some (xr (some this)), some (xi x1), some (xi x2), some (xi x3), some (xi x4), some (xi x5), some (xi n24)]) rfl ?_
        refine xw_iload dX3_swap_95 rfl ?_
        refine xw_iload_n dX3_swap_97 rfl ?_
        refine xw_icmp_lt 104 dX3_swap_98 rfl (fun hc => ?_) (fun hc => ?_)
        · replace hvc := hvc.1 hc
          refine xw_iload dX3_swap_104 rfl ?_
          refine xw_istore_n dX3_swap_106 (Nat.le_of_ble_eq_true rfl) (L9 := [some (xr (some this)), some (xi x1), some (xi x2), some (xi n24), some (xi x4), some (xi x5), some (xi n24)]) rfl ?_
          refine xw_bipush (10 : Int32) dX3_swap_107 (by decide) ?_
          refine xw_iload dX3_swap_109 rfl ?_
          refine xw_imul dX3_swap_111 ?_
          refine xw_iload dX3_swap_112 rfl ?_
          refine xw_iadd dX3_swap_114 ?_
          refine xw_istore_n dX3_swap_115 (Nat.le_of_ble_eq_true rfl) (L9 := [some (xr (some this)), some (xi x1), some (xi (((10 : Int32) * x4) + x5)), some (xi n24), some (xi x4), some (xi x5), some (xi n24)]) rfl ?_
          refine xw_iinc (1 : Int32) dX3_swap_116 rfl (by decide) (Nat.le_of_ble_eq_true rfl) (L9 := [some (xr (some this)), some (xi x1), some (xi (((10 : Int32) * x4) + x5)), some (xi n24), some (xi x4), some (xi (x5 + (1 : Int32))), some (xi n24)]) rfl ?_
          refine xw_goto 44 dX3_swap_119 rfl ?_
          exact xWp_loc hvc (And.intro rfl (And.intro rfl (And.intro rfl (And.intro rfl (And.intro rfl (And.intro rfl trivial))))))
        · replace hvc := hvc.2 hc
          refine xw_goto 116 dX3_swap_101 rfl ?_
          refine xw_iinc (1 : Int32) dX3_swap_116 rfl (by decide) (Nat.le_of_ble_eq_true rfl) (L9 := [some (xr (some this)), some (xi x1), some (xi x2), some (xi x3), some (xi x4), some (xi (x5 + (1 : Int32))), some (xi n24)]) rfl ?_
          refine xw_goto 44 dX3_swap_119 rfl ?_
          exact xWp_loc hvc (And.intro rfl (And.intro rfl (And.intro rfl (And.intro rfl (And.intro rfl (And.intro rfl trivial))))))
      · replace hvc := hvc.2 hc
        refine xw_goto 116 dX3_swap_73 rfl ?_
        refine xw_iinc (1 : Int32) dX3_swap_116 rfl (by decide) (Nat.le_of_ble_eq_true rfl) (L9 := [some (xr (some this)), some (xi x1), some (xi x2), some (xi x3), some (xi x4), some (xi (x5 + (1 : Int32))), none]) rfl ?_
        refine xw_goto 44 dX3_swap_119 rfl ?_
        exact hvc

theorem vc_X3_saves {G : xG} {d K : Nat} {Q : xR → xH → Prop} {h : xH} {this : Nat} {x1 : Int32}
    (hvc : xcls h this = 6 ∧ xCall G d K mX3_isSite [xr (some this), xi x1] h (xkI (fun n3 h1 k2 => ((n3 = 0 → Q (.inl (some (xi (-10000 : Int32)))) h1) ∧ (¬ n3 = 0 → xcls h1 this = 6 ∧ xCall G d k2 mX3_isWell [xr (some this), xi x1] h1 (xkI (fun n6 h4 k5 => ((¬ n6 = 0 → Q (.inl (some (xi (-10000 : Int32)))) h4) ∧ (n6 = 0 → xcls h4 this = 6 ∧ xCall G d k5 mX3_openOnes [xr (some this)] h4 (xkI (fun n9 h7 k8 => ((¬ n9 = 0 → xcls h7 this = 6 ∧ xCall G d k8 mX3_openOnes [xr (some this)] h7 (xkI (fun n12 h10 k11 => xcls h10 this = 6 ∧ xCall G d k11 mX3_costOf [xr (some this), xi n12] h10 (xkI (fun n15 h13 k14 => xcls h13 this = 6 ∧ xCall G d k14 mX3_openOnes [xr (some this)] h13 (xkI (fun n18 h16 k17 => xcls h16 this = 6 ∧ xCall G d k17 mX3_costOf [xr (some this), xi (n18 ||| ((1 : Int32) <<< (x1 &&& 31)))] h16 (xkI (fun n21 h19 k20 => Q (.inl (some (xi (n15 - n21)))) h19) (fun q h _ => Q (.inr q) h))) (fun q h _ => Q (.inr q) h))) (fun q h _ => Q (.inr q) h))) (fun q h _ => Q (.inr q) h))) ∧ (n9 = 0 → Q (.inl (some (xi (-10000 : Int32)))) h7))) (fun q h _ => Q (.inr q) h))))) (fun q h _ => Q (.inr q) h))))) (fun q h _ => Q (.inr q) h))) : xCn G mX3_saves d K [xr (some this), xi x1] h Q := by
  refine xCn_of px_X3_saves rfl rfl (Nat.le_of_ble_eq_true rfl) ?_
  show xWp G mX3_saves d K Q K 0 [some (xr (some this)), some (xi x1)] [] h
  refine xw_aload_n dX3_saves_0 rfl ?_
  refine xw_iload_n dX3_saves_1 rfl ?_
  obtain ⟨hcK, hvc⟩ := hvc
  obtain ⟨d9, k9, hd9, hk9, hC9⟩ := hvc
  refine xw_callV dX3_saves_2 px_X3_isSite pm_X3_isSite q3129 q3131 qs55 hcX3 hcK (As := [xi x1]) (rest := []) rfl rfl (Nat.le_of_ble_eq_true rfl) hd9 hk9 hC9 (xkI_n fun n3 h1 hvc => ?_) (fun q h hq => xTh_out0 rfl hq)
  refine xw_if_eq 23 dX3_saves_5 rfl (fun hc => ?_) (fun hc => ?_)
  · replace hvc := hvc.1 hc
    refine xw_sipush (-10000 : Int32) dX3_saves_23 (by decide) ?_
    exact xw_iret dX3_saves_26 rfl hvc
  · replace hvc := hvc.2 hc
    refine xw_aload_n dX3_saves_8 rfl ?_
    refine xw_iload_n dX3_saves_9 rfl ?_
    obtain ⟨hcK, hvc⟩ := hvc
    obtain ⟨d9, k9, hd9, hk9, hC9⟩ := hvc
    refine xw_callV dX3_saves_10 px_X3_isWell pm_X3_isWell q3133 q3135 qs56 hcX3 hcK (As := [xi x1]) (rest := []) rfl rfl (Nat.le_of_ble_eq_true rfl) hd9 hk9 hC9 (xkI_n fun n6 h4 hvc => ?_) (fun q h hq => xTh_out0 rfl hq)
    refine xw_if_ne 23 dX3_saves_13 rfl (fun hc => ?_) (fun hc => ?_)
    · replace hvc := hvc.1 hc
      refine xw_sipush (-10000 : Int32) dX3_saves_23 (by decide) ?_
      exact xw_iret dX3_saves_26 rfl hvc
    · replace hvc := hvc.2 hc
      refine xw_aload_n dX3_saves_16 rfl ?_
      obtain ⟨hcK, hvc⟩ := hvc
      obtain ⟨d9, k9, hd9, hk9, hC9⟩ := hvc
      refine xw_callV dX3_saves_17 px_X3_openOnes pm_X3_openOnes q3145 q3147 qs59 hcX3 hcK (As := []) (rest := []) rfl rfl (Nat.le_of_ble_eq_true rfl) hd9 hk9 hC9 (xkI_n fun n9 h7 hvc => ?_) (fun q h hq => xTh_out0 rfl hq)
      refine xw_if_ne 27 dX3_saves_20 rfl (fun hc => ?_) (fun hc => ?_)
      · replace hvc := hvc.1 hc
        refine xw_aload_n dX3_saves_27 rfl ?_
        refine xw_aload_n dX3_saves_28 rfl ?_
        obtain ⟨hcK, hvc⟩ := hvc
        obtain ⟨d9, k9, hd9, hk9, hC9⟩ := hvc
        refine xw_callV dX3_saves_29 px_X3_openOnes pm_X3_openOnes q3145 q3147 qs59 hcX3 hcK (As := []) (rest := [xr (some this)]) rfl rfl (Nat.le_of_ble_eq_true rfl) hd9 hk9 hC9 (xkI_n fun n12 h10 hvc => ?_) (fun q h hq => xTh_out0 rfl hq)
        obtain ⟨hcK, hvc⟩ := hvc
        obtain ⟨d9, k9, hd9, hk9, hC9⟩ := hvc
        refine xw_callV dX3_saves_32 px_X3_costOf pm_X3_costOf q3302 q3304 qs86 hcX3 hcK (As := [xi n12]) (rest := []) rfl rfl (Nat.le_of_ble_eq_true rfl) hd9 hk9 hC9 (xkI_n fun n15 h13 hvc => ?_) (fun q h hq => xTh_out0 rfl hq)
        refine xw_aload_n dX3_saves_35 rfl ?_
        refine xw_aload_n dX3_saves_36 rfl ?_
        obtain ⟨hcK, hvc⟩ := hvc
        obtain ⟨d9, k9, hd9, hk9, hC9⟩ := hvc
        refine xw_callV dX3_saves_37 px_X3_openOnes pm_X3_openOnes q3145 q3147 qs59 hcX3 hcK (As := []) (rest := [xr (some this), xi n15]) rfl rfl (Nat.le_of_ble_eq_true rfl) hd9 hk9 hC9 (xkI_n fun n18 h16 hvc => ?_) (fun q h hq => xTh_out0 rfl hq)
        refine xw_iconst (1 : Int32) dX3_saves_40 (by decide) ?_
        refine xw_iload_n dX3_saves_41 rfl ?_
        refine xw_ishl dX3_saves_42 ?_
        refine xw_ior dX3_saves_43 ?_
        obtain ⟨hcK, hvc⟩ := hvc
        obtain ⟨d9, k9, hd9, hk9, hC9⟩ := hvc
        refine xw_callV dX3_saves_44 px_X3_costOf pm_X3_costOf q3302 q3304 qs86 hcX3 hcK (As := [xi (n18 ||| ((1 : Int32) <<< (x1 &&& 31)))]) (rest := [xi n15]) rfl rfl (Nat.le_of_ble_eq_true rfl) hd9 hk9 hC9 (xkI_n fun n21 h19 hvc => ?_) (fun q h hq => xTh_out0 rfl hq)
        refine xw_isub dX3_saves_47 ?_
        exact xw_iret dX3_saves_48 rfl hvc
      · replace hvc := hvc.2 hc
        refine xw_sipush (-10000 : Int32) dX3_saves_23 (by decide) ?_
        exact xw_iret dX3_saves_26 rfl hvc

theorem vc_X3_thirsty {G : xG} {d K : Nat} {Q : xR → xH → Prop} {h : xH} {this : Nat} {x1 : Int32}
    (hvc : xWp G mX3_thirsty d K Q K 2 [some (xr (some this)), some (xi x1), some (xi (0 : Int32)), none, none] [] h) : xCn G mX3_thirsty d K [xr (some this), xi x1] h Q := by
  refine xCn_of px_X3_thirsty rfl rfl (Nat.le_of_ble_eq_true rfl) ?_
  show xWp G mX3_thirsty d K Q K 0 [some (xr (some this)), some (xi x1), none, none, none] [] h
  refine xw_iconst (0 : Int32) dX3_thirsty_0 (by decide) ?_
  refine xw_istore_n dX3_thirsty_1 (Nat.le_of_ble_eq_true rfl) (L9 := [some (xr (some this)), some (xi x1), some (xi (0 : Int32)), none, none]) rfl ?_
  exact hvc

theorem vc_X3_thirsty_2 {G : xG} {d K k : Nat} {Q : xR → xH → Prop} {h : xH} {this : Nat} {x1 : Int32} {x2 : Int32}
    (hvc : xcls h this = 6 ∧ ∃ o1 : Option Nat, xval h this 4 = xr o1 ∧ ∃ a2, o1 = some a2 ∧ xcls h a2 = 1003 ∧ ∃ i3 : Nat, (2 : Int32) = nI i3 ∧ i3 < 2147483648 ∧ i3 < xlen h a2 ∧ ∃ n4 : Int32, xval h a2 i3 = xi n4 ∧ ((n4 ≤ x2 → Q (.inl (some (xi (-1 : Int32)))) h) ∧ (¬ n4 ≤ x2 → xWp G mX3_thirsty d K Q k 17 [some (xr (some this)), some (xi x1), some (xi x2), some (xi (0 : Int32)), some (xi (0 : Int32))] [] h))) : xWp G mX3_thirsty d K Q k 2 [some (xr (some this)), some (xi x1), some (xi x2), none, none] [] h := by
  refine xw_iload_n dX3_thirsty_2 rfl ?_
  refine xw_aload_n dX3_thirsty_3 rfl ?_
  obtain ⟨hcK, o1, hvK, hvc⟩ := hvc
  refine xw_get dX3_thirsty_4 hcX3 in_X3 (kf := 4) (by decide) q2983 (fun _ _ _ _ z => z) hcK hvK ?_
  refine xw_iconst (2 : Int32) dX3_thirsty_7 (by decide) ?_
  obtain ⟨a2, ho, hvc⟩ := hvc
  subst ho
  obtain ⟨hcK, i3, hx9, hb9, hi9, n4, hv9, hvc⟩ := hvc
  refine xw_iald (j := 3) dX3_thirsty_8 rfl hcK hx9 hb9 hi9 hv9 ?_
  refine xw_icmp_ge 65 dX3_thirsty_9 rfl (fun hc => ?_) (fun hc => ?_)
  · replace hvc := hvc.1 hc
    refine xw_iconst (-1 : Int32) dX3_thirsty_65 (by decide) ?_
    exact xw_iret dX3_thirsty_66 rfl hvc
  · replace hvc := hvc.2 hc
    refine xw_iconst (0 : Int32) dX3_thirsty_12 (by decide) ?_
    refine xw_istore_n dX3_thirsty_13 (Nat.le_of_ble_eq_true rfl) (L9 := [some (xr (some this)), some (xi x1), some (xi x2), some (xi (0 : Int32)), none]) rfl ?_
    refine xw_iconst (0 : Int32) dX3_thirsty_14 (by decide) ?_
    refine xw_istore dX3_thirsty_15 (Nat.le_of_ble_eq_true rfl) (L9 := [some (xr (some this)), some (xi x1), some (xi x2), some (xi (0 : Int32)), some (xi (0 : Int32))]) rfl ?_
    exact hvc

theorem vc_X3_thirsty_17 {G : xG} {d K k : Nat} {Q : xR → xH → Prop} {h : xH} {this : Nat} {x1 : Int32} {x2 : Int32} {x3 : Int32} {x4 : Int32}
    (hvc : xcls h this = 6 ∧ ∃ o5 : Option Nat, xval h this 4 = xr o5 ∧ ∃ a6, o5 = some a6 ∧ xcls h a6 = 1003 ∧ ∃ i7 : Nat, (2 : Int32) = nI i7 ∧ i7 < 2147483648 ∧ i7 < xlen h a6 ∧ ∃ n8 : Int32, xval h a6 i7 = xi n8 ∧ ((n8 ≤ x4 → ((¬ x3 = x1 → xWp G mX3_thirsty d K Q k 2 [some (xr (some this)), some (xi x1), some (xi (x2 + (1 : Int32))), none, none] [] h) ∧ (x3 = x1 → Q (.inl (some (xi x2))) h))) ∧ (¬ n8 ≤ x4 → xcls h this = 6 ∧ xCall G d k mX3_isThirstier [xr (some this), xi x4, xi x2] h (xkI (fun n11 h9 k10 => ((n11 = 0 → xWp G mX3_thirsty d K Q k10 17 [some (xr (some this)), some (xi x1), some (xi x2), some (xi (x3 + (0 : Int32))), some (xi (x4 + (1 : Int32)))] [] h9) ∧ (¬ n11 = 0 → xWp G mX3_thirsty d K Q k10 17 [some (xr (some this)), some (xi x1), some (xi x2), some (xi (x3 + (1 : Int32))), some (xi (x4 + (1 : Int32)))] [] h9))) (fun q h _ => Q (.inr q) h))))) : xWp G mX3_thirsty d K Q k 17 [some (xr (some this)), some (xi x1), some (xi x2), some (xi x3), some (xi x4)] [] h := by
  refine xw_iload dX3_thirsty_17 rfl ?_
  refine xw_aload_n dX3_thirsty_19 rfl ?_
  obtain ⟨hcK, o5, hvK, hvc⟩ := hvc
  refine xw_get dX3_thirsty_20 hcX3 in_X3 (kf := 4) (by decide) q2983 (fun _ _ _ _ z => z) hcK hvK ?_
  refine xw_iconst (2 : Int32) dX3_thirsty_23 (by decide) ?_
  obtain ⟨a6, ho, hvc⟩ := hvc
  subst ho
  obtain ⟨hcK, i7, hx9, hb9, hi9, n8, hv9, hvc⟩ := hvc
  refine xw_iald (j := 3) dX3_thirsty_24 rfl hcK hx9 hb9 hi9 hv9 ?_
  refine xw_icmp_ge 52 dX3_thirsty_25 rfl (fun hc => ?_) (fun hc => ?_)
  · replace hvc := hvc.1 hc
    refine xw_iload_n dX3_thirsty_52 rfl ?_
    refine xw_iload_n dX3_thirsty_53 rfl ?_
    refine xw_icmp_ne 59 dX3_thirsty_54 rfl (fun hc => ?_) (fun hc => ?_)
    · replace hvc := hvc.1 hc
      refine xw_iinc (1 : Int32) dX3_thirsty_59 rfl (by decide) (Nat.le_of_ble_eq_true rfl) (L9 := [some (xr (some this)), some (xi x1), some (xi (x2 + (1 : Int32))), some (xi x3), some (xi x4)]) rfl ?_
      refine xw_goto 2 dX3_thirsty_62 rfl ?_
      exact xWp_loc hvc (And.intro rfl (And.intro rfl (And.intro rfl trivial)))
    · replace hvc := hvc.2 hc
      refine xw_iload_n dX3_thirsty_57 rfl ?_
      exact xw_iret dX3_thirsty_58 rfl hvc
  · replace hvc := hvc.2 hc
    refine xw_iload_n dX3_thirsty_28 rfl ?_
    refine xw_aload_n dX3_thirsty_29 rfl ?_
    refine xw_iload dX3_thirsty_30 rfl ?_
    refine xw_iload_n dX3_thirsty_32 rfl ?_
    obtain ⟨hcK, hvc⟩ := hvc
    obtain ⟨d9, k9, hd9, hk9, hC9⟩ := hvc
    refine xw_callV dX3_thirsty_33 px_X3_isThirstier pm_X3_isThirstier q3342 q3344 qs90 hcX3 hcK (As := [xi x4, xi x2]) (rest := [xi x3]) rfl rfl (Nat.le_of_ble_eq_true rfl) hd9 hk9 hC9 (xkI_n fun n11 h9 hvc => ?_) (fun q h hq => xTh_out0 rfl hq)
    refine xw_if_eq 43 dX3_thirsty_36 rfl (fun hc => ?_) (fun hc => ?_)
    · replace hvc := hvc.1 hc
      refine xw_iconst (0 : Int32) dX3_thirsty_43 (by decide) ?_
      refine xw_iadd dX3_thirsty_44 ?_
      refine xw_istore_n dX3_thirsty_45 (Nat.le_of_ble_eq_true rfl) (L9 := [some (xr (some this)), some (xi x1), some (xi x2), some (xi (x3 + (0 : Int32))), some (xi x4)]) rfl ?_
      refine xw_iinc (1 : Int32) dX3_thirsty_46 rfl (by decide) (Nat.le_of_ble_eq_true rfl) (L9 := [some (xr (some this)), some (xi x1), some (xi x2), some (xi (x3 + (0 : Int32))), some (xi (x4 + (1 : Int32)))]) rfl ?_
      refine xw_goto 17 dX3_thirsty_49 rfl ?_
      exact hvc
    · replace hvc := hvc.2 hc
      refine xw_iconst (1 : Int32) dX3_thirsty_39 (by decide) ?_
      refine xw_goto 44 dX3_thirsty_40 rfl ?_
      refine xw_iadd dX3_thirsty_44 ?_
      refine xw_istore_n dX3_thirsty_45 (Nat.le_of_ble_eq_true rfl) (L9 := [some (xr (some this)), some (xi x1), some (xi x2), some (xi (x3 + (1 : Int32))), some (xi x4)]) rfl ?_
      refine xw_iinc (1 : Int32) dX3_thirsty_46 rfl (by decide) (Nat.le_of_ble_eq_true rfl) (L9 := [some (xr (some this)), some (xi x1), some (xi x2), some (xi (x3 + (1 : Int32))), some (xi (x4 + (1 : Int32)))]) rfl ?_
      refine xw_goto 17 dX3_thirsty_49 rfl ?_
      exact hvc

theorem vc_X3_isThirstier {G : xG} {d K : Nat} {Q : xR → xH → Prop} {h : xH} {this : Nat} {x1 : Int32} {x2 : Int32}
    (hvc : xcls h this = 6 ∧ xCall G d K mX3_hamletIs [xr (some this), xi x1, xi (3 : Int32)] h (xkI (fun n3 h1 k2 => xcls h1 this = 6 ∧ xCall G d k2 mX3_hamletIs [xr (some this), xi x2, xi (3 : Int32)] h1 (xkI (fun n6 h4 k5 => ((n3 = n6 → xcls h4 this = 6 ∧ xCall G d k5 mX3_hamletIs [xr (some this), xi x1, xi (2 : Int32)] h4 (xkI (fun n9 h7 k8 => xcls h7 this = 6 ∧ xCall G d k8 mX3_hamletIs [xr (some this), xi x2, xi (2 : Int32)] h7 (xkI (fun n12 h10 k11 => ((n9 = n12 → ((x2 ≤ x1 → Q (.inl (some (xi (0 : Int32)))) h10) ∧ (¬ x2 ≤ x1 → Q (.inl (some (xi (1 : Int32)))) h10))) ∧ (¬ n9 = n12 → xcls h10 this = 6 ∧ xCall G d k11 mX3_hamletIs [xr (some this), xi x1, xi (2 : Int32)] h10 (xkI (fun n15 h13 k14 => xcls h13 this = 6 ∧ xCall G d k14 mX3_hamletIs [xr (some this), xi x2, xi (2 : Int32)] h13 (xkI (fun n18 h16 k17 => ((n15 ≤ n18 → Q (.inl (some (xi (0 : Int32)))) h16) ∧ (¬ n15 ≤ n18 → Q (.inl (some (xi (1 : Int32)))) h16))) (fun q h _ => Q (.inr q) h))) (fun q h _ => Q (.inr q) h))))) (fun q h _ => Q (.inr q) h))) (fun q h _ => Q (.inr q) h))) ∧ (¬ n3 = n6 → xcls h4 this = 6 ∧ xCall G d k5 mX3_hamletIs [xr (some this), xi x1, xi (3 : Int32)] h4 (xkI (fun n21 h19 k20 => xcls h19 this = 6 ∧ xCall G d k20 mX3_hamletIs [xr (some this), xi x2, xi (3 : Int32)] h19 (xkI (fun n24 h22 k23 => ((n21 ≤ n24 → Q (.inl (some (xi (0 : Int32)))) h22) ∧ (¬ n21 ≤ n24 → Q (.inl (some (xi (1 : Int32)))) h22))) (fun q h _ => Q (.inr q) h))) (fun q h _ => Q (.inr q) h))))) (fun q h _ => Q (.inr q) h))) (fun q h _ => Q (.inr q) h))) : xCn G mX3_isThirstier d K [xr (some this), xi x1, xi x2] h Q := by
  refine xCn_of px_X3_isThirstier rfl rfl (Nat.le_of_ble_eq_true rfl) ?_
  show xWp G mX3_isThirstier d K Q K 0 [some (xr (some this)), some (xi x1), some (xi x2)] [] h
  refine xw_aload_n dX3_isThirstier_0 rfl ?_
  refine xw_iload_n dX3_isThirstier_1 rfl ?_
  refine xw_iconst (3 : Int32) dX3_isThirstier_2 (by decide) ?_
  obtain ⟨hcK, hvc⟩ := hvc
  obtain ⟨d9, k9, hd9, hk9, hC9⟩ := hvc
  refine xw_callV dX3_isThirstier_3 px_X3_hamletIs pm_X3_hamletIs q3069 q3071 qs42 hcX3 hcK (As := [xi x1, xi (3 : Int32)]) (rest := []) rfl rfl (Nat.le_of_ble_eq_true rfl) hd9 hk9 hC9 (xkI_n fun n3 h1 hvc => ?_) (fun q h hq => xTh_out0 rfl hq)
  refine xw_aload_n dX3_isThirstier_6 rfl ?_
  refine xw_iload_n dX3_isThirstier_7 rfl ?_
  refine xw_iconst (3 : Int32) dX3_isThirstier_8 (by decide) ?_
  obtain ⟨hcK, hvc⟩ := hvc
  obtain ⟨d9, k9, hd9, hk9, hC9⟩ := hvc
  refine xw_callV dX3_isThirstier_9 px_X3_hamletIs pm_X3_hamletIs q3069 q3071 qs42 hcX3 hcK (As := [xi x2, xi (3 : Int32)]) (rest := [xi n3]) rfl rfl (Nat.le_of_ble_eq_true rfl) hd9 hk9 hC9 (xkI_n fun n6 h4 hvc => ?_) (fun q h hq => xTh_out0 rfl hq)
  refine xw_icmp_eq 36 dX3_isThirstier_12 rfl (fun hc => ?_) (fun hc => ?_)
  · replace hvc := hvc.1 hc
    refine xw_aload_n dX3_isThirstier_36 rfl ?_
    refine xw_iload_n dX3_isThirstier_37 rfl ?_
    refine xw_iconst (2 : Int32) dX3_isThirstier_38 (by decide) ?_
    obtain ⟨hcK, hvc⟩ := hvc
    obtain ⟨d9, k9, hd9, hk9, hC9⟩ := hvc
    refine xw_callV dX3_isThirstier_39 px_X3_hamletIs pm_X3_hamletIs q3069 q3071 qs42 hcX3 hcK (As := [xi x1, xi (2 : Int32)]) (rest := []) rfl rfl (Nat.le_of_ble_eq_true rfl) hd9 hk9 hC9 (xkI_n fun n9 h7 hvc => ?_) (fun q h hq => xTh_out0 rfl hq)
    refine xw_aload_n dX3_isThirstier_42 rfl ?_
    refine xw_iload_n dX3_isThirstier_43 rfl ?_
    refine xw_iconst (2 : Int32) dX3_isThirstier_44 (by decide) ?_
    obtain ⟨hcK, hvc⟩ := hvc
    obtain ⟨d9, k9, hd9, hk9, hC9⟩ := hvc
    refine xw_callV dX3_isThirstier_45 px_X3_hamletIs pm_X3_hamletIs q3069 q3071 qs42 hcX3 hcK (As := [xi x2, xi (2 : Int32)]) (rest := [xi n9]) rfl rfl (Nat.le_of_ble_eq_true rfl) hd9 hk9 hC9 (xkI_n fun n12 h10 hvc => ?_) (fun q h hq => xTh_out0 rfl hq)
    refine xw_icmp_eq 74 dX3_isThirstier_48 rfl (fun hc => ?_) (fun hc => ?_)
    · replace hvc := hvc.1 hc
      refine xw_iload_n dX3_isThirstier_74 rfl ?_
      refine xw_iload_n dX3_isThirstier_75 rfl ?_
      refine xw_icmp_ge 83 dX3_isThirstier_76 rfl (fun hc => ?_) (fun hc => ?_)
      · replace hvc := hvc.1 hc
        refine xw_iconst (0 : Int32) dX3_isThirstier_83 (by decide) ?_
        exact xw_zret dX3_isThirstier_84 rfl rfl hvc
      · replace hvc := hvc.2 hc
        refine xw_iconst (1 : Int32) dX3_isThirstier_79 (by decide) ?_
        refine xw_goto 84 dX3_isThirstier_80 rfl ?_
        exact xw_zret dX3_isThirstier_84 rfl rfl hvc
    · replace hvc := hvc.2 hc
      refine xw_aload_n dX3_isThirstier_51 rfl ?_
      refine xw_iload_n dX3_isThirstier_52 rfl ?_
      refine xw_iconst (2 : Int32) dX3_isThirstier_53 (by decide) ?_
      obtain ⟨hcK, hvc⟩ := hvc
      obtain ⟨d9, k9, hd9, hk9, hC9⟩ := hvc
      refine xw_callV dX3_isThirstier_54 px_X3_hamletIs pm_X3_hamletIs q3069 q3071 qs42 hcX3 hcK (As := [xi x1, xi (2 : Int32)]) (rest := []) rfl rfl (Nat.le_of_ble_eq_true rfl) hd9 hk9 hC9 (xkI_n fun n15 h13 hvc => ?_) (fun q h hq => xTh_out0 rfl hq)
      refine xw_aload_n dX3_isThirstier_57 rfl ?_
      refine xw_iload_n dX3_isThirstier_58 rfl ?_
      refine xw_iconst (2 : Int32) dX3_isThirstier_59 (by decide) ?_
      obtain ⟨hcK, hvc⟩ := hvc
      obtain ⟨d9, k9, hd9, hk9, hC9⟩ := hvc
      refine xw_callV dX3_isThirstier_60 px_X3_hamletIs pm_X3_hamletIs q3069 q3071 qs42 hcX3 hcK (As := [xi x2, xi (2 : Int32)]) (rest := [xi n15]) rfl rfl (Nat.le_of_ble_eq_true rfl) hd9 hk9 hC9 (xkI_n fun n18 h16 hvc => ?_) (fun q h hq => xTh_out0 rfl hq)
      refine xw_icmp_le 70 dX3_isThirstier_63 rfl (fun hc => ?_) (fun hc => ?_)
      · replace hvc := hvc.1 hc
        refine xw_iconst (0 : Int32) dX3_isThirstier_70 (by decide) ?_
        refine xw_goto 84 dX3_isThirstier_71 rfl ?_
        exact xw_zret dX3_isThirstier_84 rfl rfl hvc
      · replace hvc := hvc.2 hc
        refine xw_iconst (1 : Int32) dX3_isThirstier_66 (by decide) ?_
        refine xw_goto 84 dX3_isThirstier_67 rfl ?_
        exact xw_zret dX3_isThirstier_84 rfl rfl hvc
  · replace hvc := hvc.2 hc
    refine xw_aload_n dX3_isThirstier_15 rfl ?_
    refine xw_iload_n dX3_isThirstier_16 rfl ?_
    refine xw_iconst (3 : Int32) dX3_isThirstier_17 (by decide) ?_
    obtain ⟨hcK, hvc⟩ := hvc
    obtain ⟨d9, k9, hd9, hk9, hC9⟩ := hvc
    refine xw_callV dX3_isThirstier_18 px_X3_hamletIs pm_X3_hamletIs q3069 q3071 qs42 hcX3 hcK (As := [xi x1, xi (3 : Int32)]) (rest := []) rfl rfl (Nat.le_of_ble_eq_true rfl) hd9 hk9 hC9 (xkI_n fun n21 h19 hvc => ?_) (fun q h hq => xTh_out0 rfl hq)
    refine xw_aload_n dX3_isThirstier_21 rfl ?_
    refine xw_iload_n dX3_isThirstier_22 rfl ?_
    refine xw_iconst (3 : Int32) dX3_isThirstier_23 (by decide) ?_
    obtain ⟨hcK, hvc⟩ := hvc
    obtain ⟨d9, k9, hd9, hk9, hC9⟩ := hvc
    refine xw_callV dX3_isThirstier_24 px_X3_hamletIs pm_X3_hamletIs q3069 q3071 qs42 hcX3 hcK (As := [xi x2, xi (3 : Int32)]) (rest := [xi n21]) rfl rfl (Nat.le_of_ble_eq_true rfl) hd9 hk9 hC9 (xkI_n fun n24 h22 hvc => ?_) (fun q h hq => xTh_out0 rfl hq)
    refine xw_icmp_le 34 dX3_isThirstier_27 rfl (fun hc => ?_) (fun hc => ?_)
    · replace hvc := hvc.1 hc
      refine xw_iconst (0 : Int32) dX3_isThirstier_34 (by decide) ?_
      exact xw_zret dX3_isThirstier_35 rfl rfl hvc
    · replace hvc := hvc.2 hc
      refine xw_iconst (1 : Int32) dX3_isThirstier_30 (by decide) ?_
      refine xw_goto 35 dX3_isThirstier_31 rfl ?_
      exact xw_zret dX3_isThirstier_35 rfl rfl hvc

theorem vc_X3_strained {G : xG} {d K : Nat} {Q : xR → xH → Prop} {h : xH} {this : Nat} {x1 : Int32}
    (hvc : xWp G mX3_strained d K Q K 2 [some (xr (some this)), some (xi x1), some (xi (0 : Int32)), none, none] [] h) : xCn G mX3_strained d K [xr (some this), xi x1] h Q := by
  refine xCn_of px_X3_strained rfl rfl (Nat.le_of_ble_eq_true rfl) ?_
  show xWp G mX3_strained d K Q K 0 [some (xr (some this)), some (xi x1), none, none, none] [] h
  refine xw_iconst (0 : Int32) dX3_strained_0 (by decide) ?_
  refine xw_istore_n dX3_strained_1 (Nat.le_of_ble_eq_true rfl) (L9 := [some (xr (some this)), some (xi x1), some (xi (0 : Int32)), none, none]) rfl ?_
  exact hvc

theorem vc_X3_strained_2 {G : xG} {d K k : Nat} {Q : xR → xH → Prop} {h : xH} {this : Nat} {x1 : Int32} {x2 : Int32}
    (hvc : xcls h this = 6 ∧ ∃ o1 : Option Nat, xval h this 4 = xr o1 ∧ ∃ a2, o1 = some a2 ∧ xcls h a2 = 1003 ∧ ∃ i3 : Nat, (3 : Int32) = nI i3 ∧ i3 < 2147483648 ∧ i3 < xlen h a2 ∧ ∃ n4 : Int32, xval h a2 i3 = xi n4 ∧ ((n4 ≤ x2 → Q (.inl (some (xi (-1 : Int32)))) h) ∧ (¬ n4 ≤ x2 → xcls h this = 6 ∧ xCall G d k mX3_isWell [xr (some this), xi x2] h (xkI (fun n7 h5 k6 => ((¬ n7 = 0 → xWp G mX3_strained d K Q k6 28 [some (xr (some this)), some (xi x1), some (xi x2), some (xi (0 : Int32)), some (xi (0 : Int32))] [] h5) ∧ (n7 = 0 → xWp G mX3_strained d K Q k6 2 [some (xr (some this)), some (xi x1), some (xi (x2 + (1 : Int32))), none, none] [] h5))) (fun q h _ => Q (.inr q) h))))) : xWp G mX3_strained d K Q k 2 [some (xr (some this)), some (xi x1), some (xi x2), none, none] [] h := by
  refine xw_iload_n dX3_strained_2 rfl ?_
  refine xw_aload_n dX3_strained_3 rfl ?_
  obtain ⟨hcK, o1, hvK, hvc⟩ := hvc
  refine xw_get dX3_strained_4 hcX3 in_X3 (kf := 4) (by decide) q2983 (fun _ _ _ _ z => z) hcK hvK ?_
  refine xw_iconst (3 : Int32) dX3_strained_7 (by decide) ?_
  obtain ⟨a2, ho, hvc⟩ := hvc
  subst ho
  obtain ⟨hcK, i3, hx9, hb9, hi9, n4, hv9, hvc⟩ := hvc
  refine xw_iald (j := 3) dX3_strained_8 rfl hcK hx9 hb9 hi9 hv9 ?_
  refine xw_icmp_ge 109 dX3_strained_9 rfl (fun hc => ?_) (fun hc => ?_)
  · replace hvc := hvc.1 hc
    refine xw_iconst (-1 : Int32) dX3_strained_109 (by decide) ?_
    exact xw_iret dX3_strained_110 rfl hvc
  · replace hvc := hvc.2 hc
    refine xw_aload_n dX3_strained_12 rfl ?_
    refine xw_iload_n dX3_strained_13 rfl ?_
    obtain ⟨hcK, hvc⟩ := hvc
    obtain ⟨d9, k9, hd9, hk9, hC9⟩ := hvc
    refine xw_callV dX3_strained_14 px_X3_isWell pm_X3_isWell q3133 q3135 qs56 hcX3 hcK (As := [xi x2]) (rest := []) rfl rfl (Nat.le_of_ble_eq_true rfl) hd9 hk9 hC9 (xkI_n fun n7 h5 hvc => ?_) (fun q h hq => xTh_out0 rfl hq)
    refine xw_if_ne 23 dX3_strained_17 rfl (fun hc => ?_) (fun hc => ?_)
    · replace hvc := hvc.1 hc
      refine xw_iconst (0 : Int32) dX3_strained_23 (by decide) ?_
      refine xw_istore_n dX3_strained_24 (Nat.le_of_ble_eq_true rfl) (L9 := [some (xr (some this)), some (xi x1), some (xi x2), some (xi (0 : Int32)), none]) rfl ?_
      refine xw_iconst (0 : Int32) dX3_strained_25 (by decide) ?_
      refine xw_istore dX3_strained_26 (Nat.le_of_ble_eq_true rfl) (L9 := [some (xr (some this)), some (xi x1), some (xi x2), some (xi (0 : Int32)), some (xi (0 : Int32))]) rfl ?_
      exact hvc
    · replace hvc := hvc.2 hc
      refine xw_goto 103 dX3_strained_20 rfl ?_
      refine xw_iinc (1 : Int32) dX3_strained_103 rfl (by decide) (Nat.le_of_ble_eq_true rfl) (L9 := [some (xr (some this)), some (xi x1), some (xi (x2 + (1 : Int32))), none, none]) rfl ?_
      refine xw_goto 2 dX3_strained_106 rfl ?_
      exact hvc

theorem vc_X3_strained_28 {G : xG} {d K k : Nat} {Q : xR → xH → Prop} {h : xH} {this : Nat} {x1 : Int32} {x2 : Int32} {x3 : Int32} {x4 : Int32}
    (hvc : xcls h this = 6 ∧ ∃ o8 : Option Nat, xval h this 4 = xr o8 ∧ ∃ a9, o8 = some a9 ∧ xcls h a9 = 1003 ∧ ∃ i10 : Nat, (3 : Int32) = nI i10 ∧ i10 < 2147483648 ∧ i10 < xlen h a9 ∧ ∃ n11 : Int32, xval h a9 i10 = xi n11 ∧ ((n11 ≤ x4 → ((¬ x3 = x1 → xWp G mX3_strained d K Q k 2 [some (xr (some this)), some (xi x1), some (xi (x2 + (1 : Int32))), none, none] [] h) ∧ (x3 = x1 → Q (.inl (some (xi x2))) h))) ∧ (¬ n11 ≤ x4 → xcls h this = 6 ∧ xCall G d k mX3_isWell [xr (some this), xi x4] h (xkI (fun n14 h12 k13 => ((n14 = 0 → xWp G mX3_strained d K Q k13 28 [some (xr (some this)), some (xi x1), some (xi x2), some (xi (x3 + (0 : Int32))), some (xi (x4 + (1 : Int32)))] [] h12) ∧ (¬ n14 = 0 → xcls h12 this = 6 ∧ xCall G d k13 mX3_spare [xr (some this), xi x4] h12 (xkI (fun n17 h15 k16 => xcls h15 this = 6 ∧ xCall G d k16 mX3_spare [xr (some this), xi x2] h15 (xkI (fun n20 h18 k19 => ((n17 < n20 → xWp G mX3_strained d K Q k19 28 [some (xr (some this)), some (xi x1), some (xi x2), some (xi (x3 + (1 : Int32))), some (xi (x4 + (1 : Int32)))] [] h18) ∧ (¬ n17 < n20 → xcls h18 this = 6 ∧ xCall G d k19 mX3_spare [xr (some this), xi x4] h18 (xkI (fun n23 h21 k22 => xcls h21 this = 6 ∧ xCall G d k22 mX3_spare [xr (some this), xi x2] h21 (xkI (fun n26 h24 k25 => ((¬ n23 = n26 → xWp G mX3_strained d K Q k25 28 [some (xr (some this)), some (xi x1), some (xi x2), some (xi (x3 + (0 : Int32))), some (xi (x4 + (1 : Int32)))] [] h24) ∧ (n23 = n26 → ((x2 ≤ x4 → xWp G mX3_strained d K Q k25 28 [some (xr (some this)), some (xi x1), some (xi x2), some (xi (x3 + (0 : Int32))), some (xi (x4 + (1 : Int32)))] [] h24) ∧ (¬ x2 ≤ x4 → xWp G mX3_strained d K Q k25 28 [some (xr (some this)), some (xi x1), some (xi x2), some (xi (x3 + (1 : Int32))), some (xi (x4 + (1 : Int32)))] [] h24))))) (fun q h _ => Q (.inr q) h))) (fun q h _ => Q (.inr q) h))))) (fun q h _ => Q (.inr q) h))) (fun q h _ => Q (.inr q) h))))) (fun q h _ => Q (.inr q) h))))) : xWp G mX3_strained d K Q k 28 [some (xr (some this)), some (xi x1), some (xi x2), some (xi x3), some (xi x4)] [] h := by
  refine xw_iload dX3_strained_28 rfl ?_
  refine xw_aload_n dX3_strained_30 rfl ?_
  obtain ⟨hcK, o8, hvK, hvc⟩ := hvc
  refine xw_get dX3_strained_31 hcX3 in_X3 (kf := 4) (by decide) q2983 (fun _ _ _ _ z => z) hcK hvK ?_
  refine xw_iconst (3 : Int32) dX3_strained_34 (by decide) ?_
  obtain ⟨a9, ho, hvc⟩ := hvc
  subst ho
  obtain ⟨hcK, i10, hx9, hb9, hi9, n11, hv9, hvc⟩ := hvc
  refine xw_iald (j := 3) dX3_strained_35 rfl hcK hx9 hb9 hi9 hv9 ?_
  refine xw_icmp_ge 96 dX3_strained_36 rfl (fun hc => ?_) (fun hc => ?_)
  · replace hvc := hvc.1 hc
    refine xw_iload_n dX3_strained_96 rfl ?_
    refine xw_iload_n dX3_strained_97 rfl ?_
    refine xw_icmp_ne 103 dX3_strained_98 rfl (fun hc => ?_) (fun hc => ?_)
    · replace hvc := hvc.1 hc
      refine xw_iinc (1 : Int32) dX3_strained_103 rfl (by decide) (Nat.le_of_ble_eq_true rfl) (L9 := [some (xr (some this)), some (xi x1), some (xi (x2 + (1 : Int32))), some (xi x3), some (xi x4)]) rfl ?_
      refine xw_goto 2 dX3_strained_106 rfl ?_
      exact xWp_loc hvc (And.intro rfl (And.intro rfl (And.intro rfl trivial)))
    · replace hvc := hvc.2 hc
      refine xw_iload_n dX3_strained_101 rfl ?_
      exact xw_iret dX3_strained_102 rfl hvc
  · replace hvc := hvc.2 hc
    refine xw_iload_n dX3_strained_39 rfl ?_
    refine xw_aload_n dX3_strained_40 rfl ?_
    refine xw_iload dX3_strained_41 rfl ?_
    obtain ⟨hcK, hvc⟩ := hvc
    obtain ⟨d9, k9, hd9, hk9, hC9⟩ := hvc
    refine xw_callV dX3_strained_43 px_X3_isWell pm_X3_isWell q3133 q3135 qs56 hcX3 hcK (As := [xi x4]) (rest := [xi x3]) rfl rfl (Nat.le_of_ble_eq_true rfl) hd9 hk9 hC9 (xkI_n fun n14 h12 hvc => ?_) (fun q h hq => xTh_out0 rfl hq)
    refine xw_if_eq 87 dX3_strained_46 rfl (fun hc => ?_) (fun hc => ?_)
    · replace hvc := hvc.1 hc
      refine xw_iconst (0 : Int32) dX3_strained_87 (by decide) ?_
      refine xw_iadd dX3_strained_88 ?_
      refine xw_istore_n dX3_strained_89 (Nat.le_of_ble_eq_true rfl) (L9 := [some (xr (some this)), some (xi x1), some (xi x2), some (xi (x3 + (0 : Int32))), some (xi x4)]) rfl ?_
      refine xw_iinc (1 : Int32) dX3_strained_90 rfl (by decide) (Nat.le_of_ble_eq_true rfl) (L9 := [some (xr (some this)), some (xi x1), some (xi x2), some (xi (x3 + (0 : Int32))), some (xi (x4 + (1 : Int32)))]) rfl ?_
      refine xw_goto 28 dX3_strained_93 rfl ?_
      exact hvc
    · replace hvc := hvc.2 hc
      refine xw_aload_n dX3_strained_49 rfl ?_
      refine xw_iload dX3_strained_50 rfl ?_
      obtain ⟨hcK, hvc⟩ := hvc
      obtain ⟨d9, k9, hd9, hk9, hC9⟩ := hvc
      refine xw_callV dX3_strained_52 px_X3_spare pm_X3_spare q3350 q3352 qs91 hcX3 hcK (As := [xi x4]) (rest := [xi x3]) rfl rfl (Nat.le_of_ble_eq_true rfl) hd9 hk9 hC9 (xkI_n fun n17 h15 hvc => ?_) (fun q h hq => xTh_out0 rfl hq)
      refine xw_aload_n dX3_strained_55 rfl ?_
      refine xw_iload_n dX3_strained_56 rfl ?_
      obtain ⟨hcK, hvc⟩ := hvc
      obtain ⟨d9, k9, hd9, hk9, hC9⟩ := hvc
      refine xw_callV dX3_strained_57 px_X3_spare pm_X3_spare q3350 q3352 qs91 hcX3 hcK (As := [xi x2]) (rest := [xi n17, xi x3]) rfl rfl (Nat.le_of_ble_eq_true rfl) hd9 hk9 hC9 (xkI_n fun n20 h18 hvc => ?_) (fun q h hq => xTh_out0 rfl hq)
      refine xw_icmp_lt 83 dX3_strained_60 rfl (fun hc => ?_) (fun hc => ?_)
      · replace hvc := hvc.1 hc
        refine xw_iconst (1 : Int32) dX3_strained_83 (by decide) ?_
        refine xw_goto 88 dX3_strained_84 rfl ?_
        refine xw_iadd dX3_strained_88 ?_
        refine xw_istore_n dX3_strained_89 (Nat.le_of_ble_eq_true rfl) (L9 := [some (xr (some this)), some (xi x1), some (xi x2), some (xi (x3 + (1 : Int32))), some (xi x4)]) rfl ?_
        refine xw_iinc (1 : Int32) dX3_strained_90 rfl (by decide) (Nat.le_of_ble_eq_true rfl) (L9 := [some (xr (some this)), some (xi x1), some (xi x2), some (xi (x3 + (1 : Int32))), some (xi (x4 + (1 : Int32)))]) rfl ?_
        refine xw_goto 28 dX3_strained_93 rfl ?_
        exact hvc
      · replace hvc := hvc.2 hc
        refine xw_aload_n dX3_strained_63 rfl ?_
        refine xw_iload dX3_strained_64 rfl ?_
        obtain ⟨hcK, hvc⟩ := hvc
        obtain ⟨d9, k9, hd9, hk9, hC9⟩ := hvc
        refine xw_callV dX3_strained_66 px_X3_spare pm_X3_spare q3350 q3352 qs91 hcX3 hcK (As := [xi x4]) (rest := [xi x3]) rfl rfl (Nat.le_of_ble_eq_true rfl) hd9 hk9 hC9 (xkI_n fun n23 h21 hvc => ?_) (fun q h hq => xTh_out0 rfl hq)
        refine xw_aload_n dX3_strained_69 rfl ?_
        refine xw_iload_n dX3_strained_70 rfl ?_
        obtain ⟨hcK, hvc⟩ := hvc
        obtain ⟨d9, k9, hd9, hk9, hC9⟩ := hvc
        refine xw_callV dX3_strained_71 px_X3_spare pm_X3_spare q3350 q3352 qs91 hcX3 hcK (As := [xi x2]) (rest := [xi n23, xi x3]) rfl rfl (Nat.le_of_ble_eq_true rfl) hd9 hk9 hC9 (xkI_n fun n26 h24 hvc => ?_) (fun q h hq => xTh_out0 rfl hq)
        refine xw_icmp_ne 87 dX3_strained_74 rfl (fun hc => ?_) (fun hc => ?_)
        · replace hvc := hvc.1 hc
          refine xw_iconst (0 : Int32) dX3_strained_87 (by decide) ?_
          refine xw_iadd dX3_strained_88 ?_
          refine xw_istore_n dX3_strained_89 (Nat.le_of_ble_eq_true rfl) (L9 := [some (xr (some this)), some (xi x1), some (xi x2), some (xi (x3 + (0 : Int32))), some (xi x4)]) rfl ?_
          refine xw_iinc (1 : Int32) dX3_strained_90 rfl (by decide) (Nat.le_of_ble_eq_true rfl) (L9 := [some (xr (some this)), some (xi x1), some (xi x2), some (xi (x3 + (0 : Int32))), some (xi (x4 + (1 : Int32)))]) rfl ?_
          refine xw_goto 28 dX3_strained_93 rfl ?_
          exact hvc
        · replace hvc := hvc.2 hc
          refine xw_iload dX3_strained_77 rfl ?_
          refine xw_iload_n dX3_strained_79 rfl ?_
          refine xw_icmp_ge 87 dX3_strained_80 rfl (fun hc => ?_) (fun hc => ?_)
          · replace hvc := hvc.1 hc
            refine xw_iconst (0 : Int32) dX3_strained_87 (by decide) ?_
            refine xw_iadd dX3_strained_88 ?_
            refine xw_istore_n dX3_strained_89 (Nat.le_of_ble_eq_true rfl) (L9 := [some (xr (some this)), some (xi x1), some (xi x2), some (xi (x3 + (0 : Int32))), some (xi x4)]) rfl ?_
            refine xw_iinc (1 : Int32) dX3_strained_90 rfl (by decide) (Nat.le_of_ble_eq_true rfl) (L9 := [some (xr (some this)), some (xi x1), some (xi x2), some (xi (x3 + (0 : Int32))), some (xi (x4 + (1 : Int32)))]) rfl ?_
            refine xw_goto 28 dX3_strained_93 rfl ?_
            exact hvc
          · replace hvc := hvc.2 hc
            refine xw_iconst (1 : Int32) dX3_strained_83 (by decide) ?_
            refine xw_goto 88 dX3_strained_84 rfl ?_
            refine xw_iadd dX3_strained_88 ?_
            refine xw_istore_n dX3_strained_89 (Nat.le_of_ble_eq_true rfl) (L9 := [some (xr (some this)), some (xi x1), some (xi x2), some (xi (x3 + (1 : Int32))), some (xi x4)]) rfl ?_
            refine xw_iinc (1 : Int32) dX3_strained_90 rfl (by decide) (Nat.le_of_ble_eq_true rfl) (L9 := [some (xr (some this)), some (xi x1), some (xi x2), some (xi (x3 + (1 : Int32))), some (xi (x4 + (1 : Int32)))]) rfl ?_
            refine xw_goto 28 dX3_strained_93 rfl ?_
            exact hvc

theorem vc_X3_spare {G : xG} {d K : Nat} {Q : xR → xH → Prop} {h : xH} {this : Nat} {x1 : Int32}
    (hvc : xcls h this = 6 ∧ xCall G d K mX3_gives [xr (some this), xi x1] h (xkI (fun n3 h1 k2 => xcls h1 this = 6 ∧ xCall G d k2 mX3_asked [xr (some this), xi x1] h1 (xkI (fun n6 h4 k5 => Q (.inl (some (xi (n3 - n6)))) h4) (fun q h _ => Q (.inr q) h))) (fun q h _ => Q (.inr q) h))) : xCn G mX3_spare d K [xr (some this), xi x1] h Q := by
  refine xCn_of px_X3_spare rfl rfl (Nat.le_of_ble_eq_true rfl) ?_
  show xWp G mX3_spare d K Q K 0 [some (xr (some this)), some (xi x1)] [] h
  refine xw_aload_n dX3_spare_0 rfl ?_
  refine xw_iload_n dX3_spare_1 rfl ?_
  obtain ⟨hcK, hvc⟩ := hvc
  obtain ⟨d9, k9, hd9, hk9, hC9⟩ := hvc
  refine xw_callV dX3_spare_2 px_X3_gives pm_X3_gives q3202 q3204 qs69 hcX3 hcK (As := [xi x1]) (rest := []) rfl rfl (Nat.le_of_ble_eq_true rfl) hd9 hk9 hC9 (xkI_n fun n3 h1 hvc => ?_) (fun q h hq => xTh_out0 rfl hq)
  refine xw_aload_n dX3_spare_5 rfl ?_
  refine xw_iload_n dX3_spare_6 rfl ?_
  obtain ⟨hcK, hvc⟩ := hvc
  obtain ⟨d9, k9, hd9, hk9, hC9⟩ := hvc
  refine xw_callV dX3_spare_7 px_X3_asked pm_X3_asked q3282 q3284 qs83 hcX3 hcK (As := [xi x1]) (rest := [xi n3]) rfl rfl (Nat.le_of_ble_eq_true rfl) hd9 hk9 hC9 (xkI_n fun n6 h4 hvc => ?_) (fun q h hq => xTh_out0 rfl hq)
  refine xw_isub dX3_spare_10 ?_
  exact xw_iret dX3_spare_11 rfl hvc

theorem vc_X3_isCounted {G : xG} {d K : Nat} {Q : xR → xH → Prop} {h : xH} {this : Nat}
    (hvc : xWp G mX3_isCounted d K Q K 6 [some (xr (some this)), some (xi (0 : Int32)), some (xi (0 : Int32)), some (xi (0 : Int32)), none, none] [] h) : xCn G mX3_isCounted d K [xr (some this)] h Q := by
  refine xCn_of px_X3_isCounted rfl rfl (Nat.le_of_ble_eq_true rfl) ?_
  show xWp G mX3_isCounted d K Q K 0 [some (xr (some this)), none, none, none, none, none] [] h
  refine xw_iconst (0 : Int32) dX3_isCounted_0 (by decide) ?_
  refine xw_istore_n dX3_isCounted_1 (Nat.le_of_ble_eq_true rfl) (L9 := [some (xr (some this)), some (xi (0 : Int32)), none, none, none, none]) rfl ?_
  refine xw_iconst (0 : Int32) dX3_isCounted_2 (by decide) ?_
  refine xw_istore_n dX3_isCounted_3 (Nat.le_of_ble_eq_true rfl) (L9 := [some (xr (some this)), some (xi (0 : Int32)), some (xi (0 : Int32)), none, none, none]) rfl ?_
  refine xw_iconst (0 : Int32) dX3_isCounted_4 (by decide) ?_
  refine xw_istore_n dX3_isCounted_5 (Nat.le_of_ble_eq_true rfl) (L9 := [some (xr (some this)), some (xi (0 : Int32)), some (xi (0 : Int32)), some (xi (0 : Int32)), none, none]) rfl ?_
  exact hvc

theorem vc_X3_isCounted_6 {G : xG} {d K k : Nat} {Q : xR → xH → Prop} {h : xH} {this : Nat} {x1 : Int32} {x2 : Int32} {x3 : Int32}
    (hvc : xcls h this = 6 ∧ ∃ o1 : Option Nat, xval h this 4 = xr o1 ∧ ∃ a2, o1 = some a2 ∧ xcls h a2 = 1003 ∧ ∃ i3 : Nat, (3 : Int32) = nI i3 ∧ i3 < 2147483648 ∧ i3 < xlen h a2 ∧ ∃ n4 : Int32, xval h a2 i3 = xi n4 ∧ ((n4 ≤ x3 → xWp G mX3_isCounted d K Q k 34 [some (xr (some this)), some (xi x1), some (xi x2), some (xi (0 : Int32)), none, none] [] h) ∧ (¬ n4 ≤ x3 → xcls h this = 6 ∧ xCall G d k mX3_siteIs [xr (some this), xi x3, xi (7 : Int32)] h (xkI (fun n7 h5 k6 => xWp G mX3_isCounted d K Q k6 6 [some (xr (some this)), some (xi (x1 + n7)), some (xi x2), some (xi (x3 + (1 : Int32))), none, none] [] h5) (fun q h _ => Q (.inr q) h))))) : xWp G mX3_isCounted d K Q k 6 [some (xr (some this)), some (xi x1), some (xi x2), some (xi x3), none, none] [] h := by
  refine xw_iload_n dX3_isCounted_6 rfl ?_
  refine xw_aload_n dX3_isCounted_7 rfl ?_
  obtain ⟨hcK, o1, hvK, hvc⟩ := hvc
  refine xw_get dX3_isCounted_8 hcX3 in_X3 (kf := 4) (by decide) q2983 (fun _ _ _ _ z => z) hcK hvK ?_
  refine xw_iconst (3 : Int32) dX3_isCounted_11 (by decide) ?_
  obtain ⟨a2, ho, hvc⟩ := hvc
  subst ho
  obtain ⟨hcK, i3, hx9, hb9, hi9, n4, hv9, hvc⟩ := hvc
  refine xw_iald (j := 3) dX3_isCounted_12 rfl hcK hx9 hb9 hi9 hv9 ?_
  refine xw_icmp_ge 32 dX3_isCounted_13 rfl (fun hc => ?_) (fun hc => ?_)
  · replace hvc := hvc.1 hc
    refine xw_iconst (0 : Int32) dX3_isCounted_32 (by decide) ?_
    refine xw_istore_n dX3_isCounted_33 (Nat.le_of_ble_eq_true rfl) (L9 := [some (xr (some this)), some (xi x1), some (xi x2), some (xi (0 : Int32)), none, none]) rfl ?_
    exact hvc
  · replace hvc := hvc.2 hc
    refine xw_iload_n dX3_isCounted_16 rfl ?_
    refine xw_aload_n dX3_isCounted_17 rfl ?_
    refine xw_iload_n dX3_isCounted_18 rfl ?_
    refine xw_bipush (7 : Int32) dX3_isCounted_19 (by decide) ?_
    obtain ⟨hcK, hvc⟩ := hvc
    obtain ⟨d9, k9, hd9, hk9, hC9⟩ := hvc
    refine xw_callV dX3_isCounted_21 px_X3_siteIs pm_X3_siteIs q3109 q3111 qs51 hcX3 hcK (As := [xi x3, xi (7 : Int32)]) (rest := [xi x1]) rfl rfl (Nat.le_of_ble_eq_true rfl) hd9 hk9 hC9 (xkI_n fun n7 h5 hvc => ?_) (fun q h hq => xTh_out0 rfl hq)
    refine xw_iadd dX3_isCounted_24 ?_
    refine xw_istore_n dX3_isCounted_25 (Nat.le_of_ble_eq_true rfl) (L9 := [some (xr (some this)), some (xi (x1 + n7)), some (xi x2), some (xi x3), none, none]) rfl ?_
    refine xw_iinc (1 : Int32) dX3_isCounted_26 rfl (by decide) (Nat.le_of_ble_eq_true rfl) (L9 := [some (xr (some this)), some (xi (x1 + n7)), some (xi x2), some (xi (x3 + (1 : Int32))), none, none]) rfl ?_
    refine xw_goto 6 dX3_isCounted_29 rfl ?_
    exact hvc

theorem vc_X3_isCounted_34 {G : xG} {d K k : Nat} {Q : xR → xH → Prop} {h : xH} {this : Nat} {x1 : Int32} {x2 : Int32} {x3 : Int32}
    (hvc : xcls h this = 6 ∧ ∃ o8 : Option Nat, xval h this 4 = xr o8 ∧ ∃ a9, o8 = some a9 ∧ xcls h a9 = 1003 ∧ ∃ i10 : Nat, (3 : Int32) = nI i10 ∧ i10 < 2147483648 ∧ i10 < xlen h a9 ∧ ∃ n11 : Int32, xval h a9 i10 = xi n11 ∧ ((n11 ≤ x3 → xWp G mX3_isCounted d K Q k 75 [some (xr (some this)), some (xi x1), some (xi x2), some (xi (0 : Int32)), some (xi (0 : Int32)), none] [] h) ∧ (¬ n11 ≤ x3 → xcls h this = 6 ∧ xCall G d k mX3_isWell [xr (some this), xi x3] h (xkI (fun n14 h12 k13 => ((n14 = 0 → xWp G mX3_isCounted d K Q k13 34 [some (xr (some this)), some (xi x1), some (xi (x2 + (0 : Int32))), some (xi (x3 + (1 : Int32))), none, none] [] h12) ∧ (¬ n14 = 0 → xcls h12 this = 6 ∧ xCall G d k13 mX3_hamletsOf [xr (some this), xi x3] h12 (xkI (fun n17 h15 k16 => xWp G mX3_isCounted d K Q k16 34 [some (xr (some this)), some (xi x1), some (xi (x2 + n17)), some (xi (x3 + (1 : Int32))), none, none] [] h15) (fun q h _ => Q (.inr q) h))))) (fun q h _ => Q (.inr q) h))))) : xWp G mX3_isCounted d K Q k 34 [some (xr (some this)), some (xi x1), some (xi x2), some (xi x3), none, none] [] h := by
  refine xw_iload_n dX3_isCounted_34 rfl ?_
  refine xw_aload_n dX3_isCounted_35 rfl ?_
  obtain ⟨hcK, o8, hvK, hvc⟩ := hvc
  refine xw_get dX3_isCounted_36 hcX3 in_X3 (kf := 4) (by decide) q2983 (fun _ _ _ _ z => z) hcK hvK ?_
  refine xw_iconst (3 : Int32) dX3_isCounted_39 (by decide) ?_
  obtain ⟨a9, ho, hvc⟩ := hvc
  subst ho
  obtain ⟨hcK, i10, hx9, hb9, hi9, n11, hv9, hvc⟩ := hvc
  refine xw_iald (j := 3) dX3_isCounted_40 rfl hcK hx9 hb9 hi9 hv9 ?_
  refine xw_icmp_ge 70 dX3_isCounted_41 rfl (fun hc => ?_) (fun hc => ?_)
  · replace hvc := hvc.1 hc
    refine xw_iconst (0 : Int32) dX3_isCounted_70 (by decide) ?_
    refine xw_istore_n dX3_isCounted_71 (Nat.le_of_ble_eq_true rfl) (L9 := [some (xr (some this)), some (xi x1), some (xi x2), some (xi (0 : Int32)), none, none]) rfl ?_
    refine xw_iconst (0 : Int32) dX3_isCounted_72 (by decide) ?_
    refine xw_istore dX3_isCounted_73 (Nat.le_of_ble_eq_true rfl) (L9 := [some (xr (some this)), some (xi x1), some (xi x2), some (xi (0 : Int32)), some (xi (0 : Int32)), none]) rfl ?_
    exact hvc
  · replace hvc := hvc.2 hc
    refine xw_iload_n dX3_isCounted_44 rfl ?_
    refine xw_aload_n dX3_isCounted_45 rfl ?_
    refine xw_iload_n dX3_isCounted_46 rfl ?_
    obtain ⟨hcK, hvc⟩ := hvc
    obtain ⟨d9, k9, hd9, hk9, hC9⟩ := hvc
    refine xw_callV dX3_isCounted_47 px_X3_isWell pm_X3_isWell q3133 q3135 qs56 hcX3 hcK (As := [xi x3]) (rest := [xi x2]) rfl rfl (Nat.le_of_ble_eq_true rfl) hd9 hk9 hC9 (xkI_n fun n14 h12 hvc => ?_) (fun q h hq => xTh_out0 rfl hq)
    refine xw_if_eq 61 dX3_isCounted_50 rfl (fun hc => ?_) (fun hc => ?_)
    · replace hvc := hvc.1 hc
      refine xw_iconst (0 : Int32) dX3_isCounted_61 (by decide) ?_
      refine xw_iadd dX3_isCounted_62 ?_
      refine xw_istore_n dX3_isCounted_63 (Nat.le_of_ble_eq_true rfl) (L9 := [some (xr (some this)), some (xi x1), some (xi (x2 + (0 : Int32))), some (xi x3), none, none]) rfl ?_
      refine xw_iinc (1 : Int32) dX3_isCounted_64 rfl (by decide) (Nat.le_of_ble_eq_true rfl) (L9 := [some (xr (some this)), some (xi x1), some (xi (x2 + (0 : Int32))), some (xi (x3 + (1 : Int32))), none, none]) rfl ?_
      refine xw_goto 34 dX3_isCounted_67 rfl ?_
      exact hvc
    · replace hvc := hvc.2 hc
      refine xw_aload_n dX3_isCounted_53 rfl ?_
      refine xw_iload_n dX3_isCounted_54 rfl ?_
      obtain ⟨hcK, hvc⟩ := hvc
      obtain ⟨d9, k9, hd9, hk9, hC9⟩ := hvc
      refine xw_callV dX3_isCounted_55 px_X3_hamletsOf pm_X3_hamletsOf q3137 q3139 qs57 hcX3 hcK (As := [xi x3]) (rest := [xi x2]) rfl rfl (Nat.le_of_ble_eq_true rfl) hd9 hk9 hC9 (xkI_n fun n17 h15 hvc => ?_) (fun q h hq => xTh_out0 rfl hq)
      refine xw_goto 62 dX3_isCounted_58 rfl ?_
      refine xw_iadd dX3_isCounted_62 ?_
      refine xw_istore_n dX3_isCounted_63 (Nat.le_of_ble_eq_true rfl) (L9 := [some (xr (some this)), some (xi x1), some (xi (x2 + n17)), some (xi x3), none, none]) rfl ?_
      refine xw_iinc (1 : Int32) dX3_isCounted_64 rfl (by decide) (Nat.le_of_ble_eq_true rfl) (L9 := [some (xr (some this)), some (xi x1), some (xi (x2 + n17)), some (xi (x3 + (1 : Int32))), none, none]) rfl ?_
      refine xw_goto 34 dX3_isCounted_67 rfl ?_
      exact hvc

theorem vc_X3_isCounted_75 {G : xG} {d K k : Nat} {Q : xR → xH → Prop} {h : xH} {this : Nat} {x1 : Int32} {x2 : Int32} {x3 : Int32} {x4 : Int32}
    (hvc : xcls h this = 6 ∧ ∃ o18 : Option Nat, xval h this 4 = xr o18 ∧ ∃ a19, o18 = some a19 ∧ xcls h a19 = 1003 ∧ ∃ i20 : Nat, (2 : Int32) = nI i20 ∧ i20 < 2147483648 ∧ i20 < xlen h a19 ∧ ∃ n21 : Int32, xval h a19 i20 = xi n21 ∧ ((n21 ≤ x4 → xcls h this = 6 ∧ xCall G d k mX3_best [xr (some this)] h (xkI (fun n24 h22 k23 => ((0 ≤ n24 → xcls h22 this = 6 ∧ xCall G d k23 mX3_costOf [xr (some this), xi n24] h22 (xkI (fun n27 h25 k26 => xcls h25 this = 6 ∧ xCall G d k26 mX3_cheapestAgain [xr (some this)] h25 (xkI (fun n30 h28 k29 => ((¬ n27 = n30 → ((¬ x1 = x3 → Q (.inl (some (xi (0 : Int32)))) h28) ∧ (x1 = x3 → (((0 : Int32) = 0 → Q (.inl (some (xi (0 : Int32)))) h28) ∧ (¬ (0 : Int32) = 0 → xcls h28 this = 6 ∧ xCall G d k29 mX3_pumpsOn [xr (some this)] h28 (xkI (fun n33 h31 k32 => xcls h31 this = 6 ∧ ∃ o34 : Option Nat, xval h31 this 4 = xr o34 ∧ ∃ a35, o34 = some a35 ∧ xcls h31 a35 = 1003 ∧ ∃ i36 : Nat, (4 : Int32) = nI i36 ∧ i36 < 2147483648 ∧ i36 < xlen h31 a35 ∧ ∃ n37 : Int32, xval h31 a35 i36 = xi n37 ∧ ((¬ (n33 + n37) = (3 : Int32) → Q (.inl (some (xi (0 : Int32)))) h31) ∧ ((n33 + n37) = (3 : Int32) → xcls h31 this = 6 ∧ xCall G d k32 mX3_openOnes [xr (some this)] h31 (xkI (fun n40 h38 k39 => ((n40 = 0 → Q (.inl (some (xi (1 : Int32)))) h38) ∧ (¬ n40 = 0 → xcls h38 this = 6 ∧ ∃ o41 : Option Nat, xval h38 this 4 = xr o41 ∧ ∃ a42, o41 = some a42 ∧ xcls h38 a42 = 1003 ∧ ∃ i43 : Nat, (2 : Int32) = nI i43 ∧ i43 < 2147483648 ∧ i43 < xlen h38 a42 ∧ ∃ n44 : Int32, xval h38 a42 i43 = xi n44 ∧ ((¬ x2 = n44 → Q (.inl (some (xi (0 : Int32)))) h38) ∧ (x2 = n44 → Q (.inl (some (xi (1 : Int32)))) h38))))) (fun q h _ => Q (.inr q) h))))) (fun q h _ => Q (.inr q) h))))))) ∧ (n27 = n30 → ((¬ x1 = x3 → Q (.inl (some (xi (0 : Int32)))) h28) ∧ (x1 = x3 → (((1 : Int32) = 0 → Q (.inl (some (xi (0 : Int32)))) h28) ∧ (¬ (1 : Int32) = 0 → xcls h28 this = 6 ∧ xCall G d k29 mX3_pumpsOn [xr (some this)] h28 (xkI (fun n47 h45 k46 => xcls h45 this = 6 ∧ ∃ o48 : Option Nat, xval h45 this 4 = xr o48 ∧ ∃ a49, o48 = some a49 ∧ xcls h45 a49 = 1003 ∧ ∃ i50 : Nat, (4 : Int32) = nI i50 ∧ i50 < 2147483648 ∧ i50 < xlen h45 a49 ∧ ∃ n51 : Int32, xval h45 a49 i50 = xi n51 ∧ ((¬ (n47 + n51) = (3 : Int32) → Q (.inl (some (xi (0 : Int32)))) h45) ∧ ((n47 + n51) = (3 : Int32) → xcls h45 this = 6 ∧ xCall G d k46 mX3_openOnes [xr (some this)] h45 (xkI (fun n54 h52 k53 => ((n54 = 0 → Q (.inl (some (xi (1 : Int32)))) h52) ∧ (¬ n54 = 0 → xcls h52 this = 6 ∧ ∃ o55 : Option Nat, xval h52 this 4 = xr o55 ∧ ∃ a56, o55 = some a56 ∧ xcls h52 a56 = 1003 ∧ ∃ i57 : Nat, (2 : Int32) = nI i57 ∧ i57 < 2147483648 ∧ i57 < xlen h52 a56 ∧ ∃ n58 : Int32, xval h52 a56 i57 = xi n58 ∧ ((¬ x2 = n58 → Q (.inl (some (xi (0 : Int32)))) h52) ∧ (x2 = n58 → Q (.inl (some (xi (1 : Int32)))) h52))))) (fun q h _ => Q (.inr q) h))))) (fun q h _ => Q (.inr q) h))))))))) (fun q h _ => Q (.inr q) h))) (fun q h _ => Q (.inr q) h))) ∧ (¬ 0 ≤ n24 → xcls h22 this = 6 ∧ xCall G d k23 mX3_cheapestAgain [xr (some this)] h22 (xkI (fun n61 h59 k60 => ((0 ≤ n61 → ((¬ x1 = x3 → Q (.inl (some (xi (0 : Int32)))) h59) ∧ (x1 = x3 → (((0 : Int32) = 0 → Q (.inl (some (xi (0 : Int32)))) h59) ∧ (¬ (0 : Int32) = 0 → xcls h59 this = 6 ∧ xCall G d k60 mX3_pumpsOn [xr (some this)] h59 (xkI (fun n64 h62 k63 => xcls h62 this = 6 ∧ ∃ o65 : Option Nat, xval h62 this 4 = xr o65 ∧ ∃ a66, o65 = some a66 ∧ xcls h62 a66 = 1003 ∧ ∃ i67 : Nat, (4 : Int32) = nI i67 ∧ i67 < 2147483648 ∧ i67 < xlen h62 a66 ∧ ∃ n68 : Int32, xval h62 a66 i67 = xi n68 ∧ ((¬ (n64 + n68) = (3 : Int32) → Q (.inl (some (xi (0 : Int32)))) h62) ∧ ((n64 + n68) = (3 : Int32) → xcls h62 this = 6 ∧ xCall G d k63 mX3_openOnes [xr (some this)] h62 (xkI (fun n71 h69 k70 => ((n71 = 0 → Q (.inl (some (xi (1 : Int32)))) h69) ∧ (¬ n71 = 0 → xcls h69 this = 6 ∧ ∃ o72 : Option Nat, xval h69 this 4 = xr o72 ∧ ∃ a73, o72 = some a73 ∧ xcls h69 a73 = 1003 ∧ ∃ i74 : Nat, (2 : Int32) = nI i74 ∧ i74 < 2147483648 ∧ i74 < xlen h69 a73 ∧ ∃ n75 : Int32, xval h69 a73 i74 = xi n75 ∧ ((¬ x2 = n75 → Q (.inl (some (xi (0 : Int32)))) h69) ∧ (x2 = n75 → Q (.inl (some (xi (1 : Int32)))) h69))))) (fun q h _ => Q (.inr q) h))))) (fun q h _ => Q (.inr q) h))))))) ∧ (¬ 0 ≤ n61 → ((¬ x1 = x3 → Q (.inl (some (xi (0 : Int32)))) h59) ∧ (x1 = x3 → (((1 : Int32) = 0 → Q (.inl (some (xi (0 : Int32)))) h59) ∧ (¬ (1 : Int32) = 0 → xcls h59 this = 6 ∧ xCall G d k60 mX3_pumpsOn [xr (some this)] h59 (xkI (fun n78 h76 k77 => xcls h76 this = 6 ∧ ∃ o79 : Option Nat, xval h76 this 4 = xr o79 ∧ ∃ a80, o79 = some a80 ∧ xcls h76 a80 = 1003 ∧ ∃ i81 : Nat, (4 : Int32) = nI i81 ∧ i81 < 2147483648 ∧ i81 < xlen h76 a80 ∧ ∃ n82 : Int32, xval h76 a80 i81 = xi n82 ∧ ((¬ (n78 + n82) = (3 : Int32) → Q (.inl (some (xi (0 : Int32)))) h76) ∧ ((n78 + n82) = (3 : Int32) → xcls h76 this = 6 ∧ xCall G d k77 mX3_openOnes [xr (some this)] h76 (xkI (fun n85 h83 k84 => ((n85 = 0 → Q (.inl (some (xi (1 : Int32)))) h83) ∧ (¬ n85 = 0 → xcls h83 this = 6 ∧ ∃ o86 : Option Nat, xval h83 this 4 = xr o86 ∧ ∃ a87, o86 = some a87 ∧ xcls h83 a87 = 1003 ∧ ∃ i88 : Nat, (2 : Int32) = nI i88 ∧ i88 < 2147483648 ∧ i88 < xlen h83 a87 ∧ ∃ n89 : Int32, xval h83 a87 i88 = xi n89 ∧ ((¬ x2 = n89 → Q (.inl (some (xi (0 : Int32)))) h83) ∧ (x2 = n89 → Q (.inl (some (xi (1 : Int32)))) h83))))) (fun q h _ => Q (.inr q) h))))) (fun q h _ => Q (.inr q) h))))))))) (fun q h _ => Q (.inr q) h))))) (fun q h _ => Q (.inr q) h))) ∧ (¬ n21 ≤ x4 → xcls h this = 6 ∧ xCall G d k mX3_hamletIs [xr (some this), xi x4, xi (4 : Int32)] h (xkI (fun n92 h90 k91 => xWp G mX3_isCounted d K Q k91 75 [some (xr (some this)), some (xi x1), some (xi x2), some (xi (x3 + n92)), some (xi (x4 + (1 : Int32))), none] [] h90) (fun q h _ => Q (.inr q) h))))) : xWp G mX3_isCounted d K Q k 75 [some (xr (some this)), some (xi x1), some (xi x2), some (xi x3), some (xi x4), none] [] h := by
  refine xw_iload dX3_isCounted_75 rfl ?_
  refine xw_aload_n dX3_isCounted_77 rfl ?_
  obtain ⟨hcK, o18, hvK, hvc⟩ := hvc
  refine xw_get dX3_isCounted_78 hcX3 in_X3 (kf := 4) (by decide) q2983 (fun _ _ _ _ z => z) hcK hvK ?_
  refine xw_iconst (2 : Int32) dX3_isCounted_81 (by decide) ?_
  obtain ⟨a19, ho, hvc⟩ := hvc
  subst ho
  obtain ⟨hcK, i20, hx9, hb9, hi9, n21, hv9, hvc⟩ := hvc
  refine xw_iald (j := 3) dX3_isCounted_82 rfl hcK hx9 hb9 hi9 hv9 ?_
  refine xw_icmp_ge 102 dX3_isCounted_83 rfl (fun hc => ?_) (fun hc => ?_)
  · replace hvc := hvc.1 hc
    refine xw_aload_n dX3_isCounted_102 rfl ?_
    obtain ⟨hcK, hvc⟩ := hvc
    obtain ⟨d9, k9, hd9, hk9, hC9⟩ := hvc
    refine xw_callV dX3_isCounted_103 px_X3_best pm_X3_best q3310 q3312 qs87 hcX3 hcK (As := []) (rest := []) rfl rfl (Nat.le_of_ble_eq_true rfl) hd9 hk9 hC9 (xkI_n fun n24 h22 hvc => ?_) (fun q h hq => xTh_out0 rfl hq)
    refine xw_istore dX3_isCounted_106 (Nat.le_of_ble_eq_true rfl) (L9 := [some (xr (some this)), some (xi x1), some (xi x2), some (xi x3), some (xi n24), none]) rfl ?_
    refine xw_iload dX3_isCounted_108 rfl ?_
    refine xw_if_ge 128 dX3_isCounted_110 rfl (fun hc => ?_) (fun hc => ?_)
    · replace hvc := hvc.1 hc
      refine xw_aload_n dX3_isCounted_128 rfl ?_
      refine xw_iload dX3_isCounted_129 rfl ?_
      obtain ⟨hcK, hvc⟩ := hvc
      obtain ⟨d9, k9, hd9, hk9, hC9⟩ := hvc
      refine xw_callV dX3_isCounted_131 px_X3_costOf pm_X3_costOf q3302 q3304 qs86 hcX3 hcK (As := [xi n24]) (rest := []) rfl rfl (Nat.le_of_ble_eq_true rfl) hd9 hk9 hC9 (xkI_n fun n27 h25 hvc => ?_) (fun q h hq => xTh_out0 rfl hq)
      refine xw_aload_n dX3_isCounted_134 rfl ?_
      obtain ⟨hcK, hvc⟩ := hvc
      obtain ⟨d9, k9, hd9, hk9, hC9⟩ := hvc
      refine xw_callV dX3_isCounted_135 px_X3_cheapestAgain pm_X3_cheapestAgain q3358 q3315 q3316 hcX3 hcK (As := []) (rest := [xi n27]) rfl rfl (Nat.le_of_ble_eq_true rfl) hd9 hk9 hC9 (xkI_n fun n30 h28 hvc => ?_) (fun q h hq => xTh_out0 rfl hq)
      refine xw_icmp_ne 145 dX3_isCounted_138 rfl (fun hc => ?_) (fun hc => ?_)
      · replace hvc := hvc.1 hc
        refine xw_iconst (0 : Int32) dX3_isCounted_145 (by decide) ?_
        refine xw_istore dX3_isCounted_146 (Nat.le_of_ble_eq_true rfl) (L9 := [some (xr (some this)), some (xi x1), some (xi x2), some (xi x3), some (xi n24), some (xi (0 : Int32))]) rfl ?_
        refine xw_iload_n dX3_isCounted_148 rfl ?_
        refine xw_iload_n dX3_isCounted_149 rfl ?_
        refine xw_icmp_ne 194 dX3_isCounted_150 rfl (fun hc => ?_) (fun hc => ?_)
        · replace hvc := hvc.1 hc
          refine xw_iconst (0 : Int32) dX3_isCounted_194 (by decide) ?_
          exact xw_zret dX3_isCounted_195 rfl rfl hvc
        · replace hvc := hvc.2 hc
          refine xw_iload dX3_isCounted_153 rfl ?_
          refine xw_if_eq 194 dX3_isCounted_155 rfl (fun hc => ?_) (fun hc => ?_)
          · replace hvc := hvc.1 hc
            refine xw_iconst (0 : Int32) dX3_isCounted_194 (by decide) ?_
            exact xw_zret dX3_isCounted_195 rfl rfl hvc
          · replace hvc := hvc.2 hc
            refine xw_aload_n dX3_isCounted_158 rfl ?_
            obtain ⟨hcK, hvc⟩ := hvc
            obtain ⟨d9, k9, hd9, hk9, hC9⟩ := hvc
            refine xw_callV dX3_isCounted_159 px_X3_pumpsOn pm_X3_pumpsOn q3359 q3361 qs92 hcX3 hcK (As := []) (rest := []) rfl rfl (Nat.le_of_ble_eq_true rfl) hd9 hk9 hC9 (xkI_n fun n33 h31 hvc => ?_) (fun q h hq => xTh_out0 rfl hq)
            refine xw_aload_n dX3_isCounted_162 rfl ?_
            obtain ⟨hcK, o34, hvK, hvc⟩ := hvc
            refine xw_get dX3_isCounted_163 hcX3 in_X3 (kf := 4) (by decide) q2983 (fun _ _ _ _ z => z) hcK hvK ?_
            refine xw_iconst (4 : Int32) dX3_isCounted_166 (by decide) ?_
            obtain ⟨a35, ho, hvc⟩ := hvc
            subst ho
            obtain ⟨hcK, i36, hx9, hb9, hi9, n37, hv9, hvc⟩ := hvc
            refine xw_iald (j := 3) dX3_isCounted_167 rfl hcK hx9 hb9 hi9 hv9 ?_
            refine xw_iadd dX3_isCounted_168 ?_
            refine xw_iconst (3 : Int32) dX3_isCounted_169 (by decide) ?_
            refine xw_icmp_ne 194 dX3_isCounted_170 rfl (fun hc => ?_) (fun hc => ?_)
            · replace hvc := hvc.1 hc
              refine xw_iconst (0 : Int32) dX3_isCounted_194 (by decide) ?_
              exact xw_zret dX3_isCounted_195 rfl rfl hvc
            · replace hvc := hvc.2 hc
              refine xw_aload_n dX3_isCounted_173 rfl ?_
              obtain ⟨hcK, hvc⟩ := hvc
              obtain ⟨d9, k9, hd9, hk9, hC9⟩ := hvc
              refine xw_callV dX3_isCounted_174 px_X3_openOnes pm_X3_openOnes q3145 q3147 qs59 hcX3 hcK (As := []) (rest := []) rfl rfl (Nat.le_of_ble_eq_true rfl) hd9 hk9 hC9 (xkI_n fun n40 h38 hvc => ?_) (fun q h hq => xTh_out0 rfl hq)
              refine xw_if_eq 190 dX3_isCounted_177 rfl (fun hc => ?_) (fun hc => ?_)
              · replace hvc := hvc.1 hc
                refine xw_iconst (1 : Int32) dX3_isCounted_190 (by decide) ?_
                refine xw_goto 195 dX3_isCounted_191 rfl ?_
                exact xw_zret dX3_isCounted_195 rfl rfl hvc
              · replace hvc := hvc.2 hc
                refine xw_iload_n dX3_isCounted_180 rfl ?_
                refine xw_aload_n dX3_isCounted_181 rfl ?_
                obtain ⟨hcK, o41, hvK, hvc⟩ := hvc
                refine xw_get dX3_isCounted_182 hcX3 in_X3 (kf := 4) (by decide) q2983 (fun _ _ _ _ z => z) hcK hvK ?_
                refine xw_iconst (2 : Int32) dX3_isCounted_185 (by decide) ?_
                obtain ⟨a42, ho, hvc⟩ := hvc
                subst ho
                obtain ⟨hcK, i43, hx9, hb9, hi9, n44, hv9, hvc⟩ := hvc
                refine xw_iald (j := 3) dX3_isCounted_186 rfl hcK hx9 hb9 hi9 hv9 ?_
                refine xw_icmp_ne 194 dX3_isCounted_187 rfl (fun hc => ?_) (fun hc => ?_)
                · replace hvc := hvc.1 hc
                  refine xw_iconst (0 : Int32) dX3_isCounted_194 (by decide) ?_
                  exact xw_zret dX3_isCounted_195 rfl rfl hvc
                · replace hvc := hvc.2 hc
                  refine xw_iconst (1 : Int32) dX3_isCounted_190 (by decide) ?_
                  refine xw_goto 195 dX3_isCounted_191 rfl ?_
                  exact xw_zret dX3_isCounted_195 rfl rfl hvc
      · replace hvc := hvc.2 hc
        refine xw_iconst (1 : Int32) dX3_isCounted_141 (by decide) ?_
        refine xw_goto 146 dX3_isCounted_142 rfl ?_
        refine xw_istore dX3_isCounted_146 (Nat.le_of_ble_eq_true rfl) (L9 := [some (xr (some this)), some (xi x1), some (xi x2), some (xi x3), some (xi n24), some (xi (1 : Int32))]) rfl ?_
        refine xw_iload_n dX3_isCounted_148 rfl ?_
        refine xw_iload_n dX3_isCounted_149 rfl ?_
        refine xw_icmp_ne 194 dX3_isCounted_150 rfl (fun hc => ?_) (fun hc => ?_)
        · replace hvc := hvc.1 hc
          refine xw_iconst (0 : Int32) dX3_isCounted_194 (by decide) ?_
          exact xw_zret dX3_isCounted_195 rfl rfl hvc
        · replace hvc := hvc.2 hc
          refine xw_iload dX3_isCounted_153 rfl ?_
          refine xw_if_eq 194 dX3_isCounted_155 rfl (fun hc => ?_) (fun hc => ?_)
          · replace hvc := hvc.1 hc
            refine xw_iconst (0 : Int32) dX3_isCounted_194 (by decide) ?_
            exact xw_zret dX3_isCounted_195 rfl rfl hvc
          · replace hvc := hvc.2 hc
            refine xw_aload_n dX3_isCounted_158 rfl ?_
            obtain ⟨hcK, hvc⟩ := hvc
            obtain ⟨d9, k9, hd9, hk9, hC9⟩ := hvc
            refine xw_callV dX3_isCounted_159 px_X3_pumpsOn pm_X3_pumpsOn q3359 q3361 qs92 hcX3 hcK (As := []) (rest := []) rfl rfl (Nat.le_of_ble_eq_true rfl) hd9 hk9 hC9 (xkI_n fun n47 h45 hvc => ?_) (fun q h hq => xTh_out0 rfl hq)
            refine xw_aload_n dX3_isCounted_162 rfl ?_
            obtain ⟨hcK, o48, hvK, hvc⟩ := hvc
            refine xw_get dX3_isCounted_163 hcX3 in_X3 (kf := 4) (by decide) q2983 (fun _ _ _ _ z => z) hcK hvK ?_
            refine xw_iconst (4 : Int32) dX3_isCounted_166 (by decide) ?_
            obtain ⟨a49, ho, hvc⟩ := hvc
            subst ho
            obtain ⟨hcK, i50, hx9, hb9, hi9, n51, hv9, hvc⟩ := hvc
            refine xw_iald (j := 3) dX3_isCounted_167 rfl hcK hx9 hb9 hi9 hv9 ?_
            refine xw_iadd dX3_isCounted_168 ?_
            refine xw_iconst (3 : Int32) dX3_isCounted_169 (by decide) ?_
            refine xw_icmp_ne 194 dX3_isCounted_170 rfl (fun hc => ?_) (fun hc => ?_)
            · replace hvc := hvc.1 hc
              refine xw_iconst (0 : Int32) dX3_isCounted_194 (by decide) ?_
              exact xw_zret dX3_isCounted_195 rfl rfl hvc
            · replace hvc := hvc.2 hc
              refine xw_aload_n dX3_isCounted_173 rfl ?_
              obtain ⟨hcK, hvc⟩ := hvc
              obtain ⟨d9, k9, hd9, hk9, hC9⟩ := hvc
              refine xw_callV dX3_isCounted_174 px_X3_openOnes pm_X3_openOnes q3145 q3147 qs59 hcX3 hcK (As := []) (rest := []) rfl rfl (Nat.le_of_ble_eq_true rfl) hd9 hk9 hC9 (xkI_n fun n54 h52 hvc => ?_) (fun q h hq => xTh_out0 rfl hq)
              refine xw_if_eq 190 dX3_isCounted_177 rfl (fun hc => ?_) (fun hc => ?_)
              · replace hvc := hvc.1 hc
                refine xw_iconst (1 : Int32) dX3_isCounted_190 (by decide) ?_
                refine xw_goto 195 dX3_isCounted_191 rfl ?_
                exact xw_zret dX3_isCounted_195 rfl rfl hvc
              · replace hvc := hvc.2 hc
                refine xw_iload_n dX3_isCounted_180 rfl ?_
                refine xw_aload_n dX3_isCounted_181 rfl ?_
                obtain ⟨hcK, o55, hvK, hvc⟩ := hvc
                refine xw_get dX3_isCounted_182 hcX3 in_X3 (kf := 4) (by decide) q2983 (fun _ _ _ _ z => z) hcK hvK ?_
                refine xw_iconst (2 : Int32) dX3_isCounted_185 (by decide) ?_
                obtain ⟨a56, ho, hvc⟩ := hvc
                subst ho
                obtain ⟨hcK, i57, hx9, hb9, hi9, n58, hv9, hvc⟩ := hvc
                refine xw_iald (j := 3) dX3_isCounted_186 rfl hcK hx9 hb9 hi9 hv9 ?_
                refine xw_icmp_ne 194 dX3_isCounted_187 rfl (fun hc => ?_) (fun hc => ?_)
                · replace hvc := hvc.1 hc
                  refine xw_iconst (0 : Int32) dX3_isCounted_194 (by decide) ?_
                  exact xw_zret dX3_isCounted_195 rfl rfl hvc
                · replace hvc := hvc.2 hc
                  refine xw_iconst (1 : Int32) dX3_isCounted_190 (by decide) ?_
                  refine xw_goto 195 dX3_isCounted_191 rfl ?_
                  exact xw_zret dX3_isCounted_195 rfl rfl hvc
    · replace hvc := hvc.2 hc
      refine xw_aload_n dX3_isCounted_113 rfl ?_
      obtain ⟨hcK, hvc⟩ := hvc
      obtain ⟨d9, k9, hd9, hk9, hC9⟩ := hvc
      refine xw_callV dX3_isCounted_114 px_X3_cheapestAgain pm_X3_cheapestAgain q3358 q3315 q3316 hcX3 hcK (As := []) (rest := []) rfl rfl (Nat.le_of_ble_eq_true rfl) hd9 hk9 hC9 (xkI_n fun n61 h59 hvc => ?_) (fun q h hq => xTh_out0 rfl hq)
      refine xw_if_ge 124 dX3_isCounted_117 rfl (fun hc => ?_) (fun hc => ?_)
      · replace hvc := hvc.1 hc
        refine xw_iconst (0 : Int32) dX3_isCounted_124 (by decide) ?_
        refine xw_goto 146 dX3_isCounted_125 rfl ?_
        refine xw_istore dX3_isCounted_146 (Nat.le_of_ble_eq_true rfl) (L9 := [some (xr (some this)), some (xi x1), some (xi x2), some (xi x3), some (xi n24), some (xi (0 : Int32))]) rfl ?_
        refine xw_iload_n dX3_isCounted_148 rfl ?_
        refine xw_iload_n dX3_isCounted_149 rfl ?_
        refine xw_icmp_ne 194 dX3_isCounted_150 rfl (fun hc => ?_) (fun hc => ?_)
        · replace hvc := hvc.1 hc
          refine xw_iconst (0 : Int32) dX3_isCounted_194 (by decide) ?_
          exact xw_zret dX3_isCounted_195 rfl rfl hvc
        · replace hvc := hvc.2 hc
          refine xw_iload dX3_isCounted_153 rfl ?_
          refine xw_if_eq 194 dX3_isCounted_155 rfl (fun hc => ?_) (fun hc => ?_)
          · replace hvc := hvc.1 hc
            refine xw_iconst (0 : Int32) dX3_isCounted_194 (by decide) ?_
            exact xw_zret dX3_isCounted_195 rfl rfl hvc
          · replace hvc := hvc.2 hc
            refine xw_aload_n dX3_isCounted_158 rfl ?_
            obtain ⟨hcK, hvc⟩ := hvc
            obtain ⟨d9, k9, hd9, hk9, hC9⟩ := hvc
            refine xw_callV dX3_isCounted_159 px_X3_pumpsOn pm_X3_pumpsOn q3359 q3361 qs92 hcX3 hcK (As := []) (rest := []) rfl rfl (Nat.le_of_ble_eq_true rfl) hd9 hk9 hC9 (xkI_n fun n64 h62 hvc => ?_) (fun q h hq => xTh_out0 rfl hq)
            refine xw_aload_n dX3_isCounted_162 rfl ?_
            obtain ⟨hcK, o65, hvK, hvc⟩ := hvc
            refine xw_get dX3_isCounted_163 hcX3 in_X3 (kf := 4) (by decide) q2983 (fun _ _ _ _ z => z) hcK hvK ?_
            refine xw_iconst (4 : Int32) dX3_isCounted_166 (by decide) ?_
            obtain ⟨a66, ho, hvc⟩ := hvc
            subst ho
            obtain ⟨hcK, i67, hx9, hb9, hi9, n68, hv9, hvc⟩ := hvc
            refine xw_iald (j := 3) dX3_isCounted_167 rfl hcK hx9 hb9 hi9 hv9 ?_
            refine xw_iadd dX3_isCounted_168 ?_
            refine xw_iconst (3 : Int32) dX3_isCounted_169 (by decide) ?_
            refine xw_icmp_ne 194 dX3_isCounted_170 rfl (fun hc => ?_) (fun hc => ?_)
            · replace hvc := hvc.1 hc
              refine xw_iconst (0 : Int32) dX3_isCounted_194 (by decide) ?_
              exact xw_zret dX3_isCounted_195 rfl rfl hvc
            · replace hvc := hvc.2 hc
              refine xw_aload_n dX3_isCounted_173 rfl ?_
              obtain ⟨hcK, hvc⟩ := hvc
              obtain ⟨d9, k9, hd9, hk9, hC9⟩ := hvc
              refine xw_callV dX3_isCounted_174 px_X3_openOnes pm_X3_openOnes q3145 q3147 qs59 hcX3 hcK (As := []) (rest := []) rfl rfl (Nat.le_of_ble_eq_true rfl) hd9 hk9 hC9 (xkI_n fun n71 h69 hvc => ?_) (fun q h hq => xTh_out0 rfl hq)
              refine xw_if_eq 190 dX3_isCounted_177 rfl (fun hc => ?_) (fun hc => ?_)
              · replace hvc := hvc.1 hc
                refine xw_iconst (1 : Int32) dX3_isCounted_190 (by decide) ?_
                refine xw_goto 195 dX3_isCounted_191 rfl ?_
                exact xw_zret dX3_isCounted_195 rfl rfl hvc
              · replace hvc := hvc.2 hc
                refine xw_iload_n dX3_isCounted_180 rfl ?_
                refine xw_aload_n dX3_isCounted_181 rfl ?_
                obtain ⟨hcK, o72, hvK, hvc⟩ := hvc
                refine xw_get dX3_isCounted_182 hcX3 in_X3 (kf := 4) (by decide) q2983 (fun _ _ _ _ z => z) hcK hvK ?_
                refine xw_iconst (2 : Int32) dX3_isCounted_185 (by decide) ?_
                obtain ⟨a73, ho, hvc⟩ := hvc
                subst ho
                obtain ⟨hcK, i74, hx9, hb9, hi9, n75, hv9, hvc⟩ := hvc
                refine xw_iald (j := 3) dX3_isCounted_186 rfl hcK hx9 hb9 hi9 hv9 ?_
                refine xw_icmp_ne 194 dX3_isCounted_187 rfl (fun hc => ?_) (fun hc => ?_)
                · replace hvc := hvc.1 hc
                  refine xw_iconst (0 : Int32) dX3_isCounted_194 (by decide) ?_
                  exact xw_zret dX3_isCounted_195 rfl rfl hvc
                · replace hvc := hvc.2 hc
                  refine xw_iconst (1 : Int32) dX3_isCounted_190 (by decide) ?_
                  refine xw_goto 195 dX3_isCounted_191 rfl ?_
                  exact xw_zret dX3_isCounted_195 rfl rfl hvc
      · replace hvc := hvc.2 hc
        refine xw_iconst (1 : Int32) dX3_isCounted_120 (by decide) ?_
        refine xw_goto 146 dX3_isCounted_121 rfl ?_
        refine xw_istore dX3_isCounted_146 (Nat.le_of_ble_eq_true rfl) (L9 := [some (xr (some this)), some (xi x1), some (xi x2), some (xi x3), some (xi n24), some (xi (1 : Int32))]) rfl ?_
        refine xw_iload_n dX3_isCounted_148 rfl ?_
        refine xw_iload_n dX3_isCounted_149 rfl ?_
        refine xw_icmp_ne 194 dX3_isCounted_150 rfl (fun hc => ?_) (fun hc => ?_)
        · replace hvc := hvc.1 hc
          refine xw_iconst (0 : Int32) dX3_isCounted_194 (by decide) ?_
          exact xw_zret dX3_isCounted_195 rfl rfl hvc
        · replace hvc := hvc.2 hc
          refine xw_iload dX3_isCounted_153 rfl ?_
          refine xw_if_eq 194 dX3_isCounted_155 rfl (fun hc => ?_) (fun hc => ?_)
          · replace hvc := hvc.1 hc
            refine xw_iconst (0 : Int32) dX3_isCounted_194 (by decide) ?_
            exact xw_zret dX3_isCounted_195 rfl rfl hvc
          · replace hvc := hvc.2 hc
            refine xw_aload_n dX3_isCounted_158 rfl ?_
            obtain ⟨hcK, hvc⟩ := hvc
            obtain ⟨d9, k9, hd9, hk9, hC9⟩ := hvc
            refine xw_callV dX3_isCounted_159 px_X3_pumpsOn pm_X3_pumpsOn q3359 q3361 qs92 hcX3 hcK (As := []) (rest := []) rfl rfl (Nat.le_of_ble_eq_true rfl) hd9 hk9 hC9 (xkI_n fun n78 h76 hvc => ?_) (fun q h hq => xTh_out0 rfl hq)
            refine xw_aload_n dX3_isCounted_162 rfl ?_
            obtain ⟨hcK, o79, hvK, hvc⟩ := hvc
            refine xw_get dX3_isCounted_163 hcX3 in_X3 (kf := 4) (by decide) q2983 (fun _ _ _ _ z => z) hcK hvK ?_
            refine xw_iconst (4 : Int32) dX3_isCounted_166 (by decide) ?_
            obtain ⟨a80, ho, hvc⟩ := hvc
            subst ho
            obtain ⟨hcK, i81, hx9, hb9, hi9, n82, hv9, hvc⟩ := hvc
            refine xw_iald (j := 3) dX3_isCounted_167 rfl hcK hx9 hb9 hi9 hv9 ?_
            refine xw_iadd dX3_isCounted_168 ?_
            refine xw_iconst (3 : Int32) dX3_isCounted_169 (by decide) ?_
            refine xw_icmp_ne 194 dX3_isCounted_170 rfl (fun hc => ?_) (fun hc => ?_)
            · replace hvc := hvc.1 hc
              refine xw_iconst (0 : Int32) dX3_isCounted_194 (by decide) ?_
              exact xw_zret dX3_isCounted_195 rfl rfl hvc
            · replace hvc := hvc.2 hc
              refine xw_aload_n dX3_isCounted_173 rfl ?_
              obtain ⟨hcK, hvc⟩ := hvc
              obtain ⟨d9, k9, hd9, hk9, hC9⟩ := hvc
              refine xw_callV dX3_isCounted_174 px_X3_openOnes pm_X3_openOnes q3145 q3147 qs59 hcX3 hcK (As := []) (rest := []) rfl rfl (Nat.le_of_ble_eq_true rfl) hd9 hk9 hC9 (xkI_n fun n85 h83 hvc => ?_) (fun q h hq => xTh_out0 rfl hq)
              refine xw_if_eq 190 dX3_isCounted_177 rfl (fun hc => ?_) (fun hc => ?_)
              · replace hvc := hvc.1 hc
                refine xw_iconst (1 : Int32) dX3_isCounted_190 (by decide) ?_
                refine xw_goto 195 dX3_isCounted_191 rfl ?_
                exact xw_zret dX3_isCounted_195 rfl rfl hvc
              · replace hvc := hvc.2 hc
                refine xw_iload_n dX3_isCounted_180 rfl ?_
                refine xw_aload_n dX3_isCounted_181 rfl ?_
                obtain ⟨hcK, o86, hvK, hvc⟩ := hvc
                refine xw_get dX3_isCounted_182 hcX3 in_X3 (kf := 4) (by decide) q2983 (fun _ _ _ _ z => z) hcK hvK ?_
                refine xw_iconst (2 : Int32) dX3_isCounted_185 (by decide) ?_
                obtain ⟨a87, ho, hvc⟩ := hvc
                subst ho
                obtain ⟨hcK, i88, hx9, hb9, hi9, n89, hv9, hvc⟩ := hvc
                refine xw_iald (j := 3) dX3_isCounted_186 rfl hcK hx9 hb9 hi9 hv9 ?_
                refine xw_icmp_ne 194 dX3_isCounted_187 rfl (fun hc => ?_) (fun hc => ?_)
                · replace hvc := hvc.1 hc
                  refine xw_iconst (0 : Int32) dX3_isCounted_194 (by decide) ?_
                  exact xw_zret dX3_isCounted_195 rfl rfl hvc
                · replace hvc := hvc.2 hc
                  refine xw_iconst (1 : Int32) dX3_isCounted_190 (by decide) ?_
                  refine xw_goto 195 dX3_isCounted_191 rfl ?_
                  exact xw_zret dX3_isCounted_195 rfl rfl hvc
  · replace hvc := hvc.2 hc
    refine xw_iload_n dX3_isCounted_86 rfl ?_
    refine xw_aload_n dX3_isCounted_87 rfl ?_
    refine xw_iload dX3_isCounted_88 rfl ?_
    refine xw_iconst (4 : Int32) dX3_isCounted_90 (by decide) ?_
    obtain ⟨hcK, hvc⟩ := hvc
    obtain ⟨d9, k9, hd9, hk9, hC9⟩ := hvc
    refine xw_callV dX3_isCounted_91 px_X3_hamletIs pm_X3_hamletIs q3069 q3071 qs42 hcX3 hcK (As := [xi x4, xi (4 : Int32)]) (rest := [xi x3]) rfl rfl (Nat.le_of_ble_eq_true rfl) hd9 hk9 hC9 (xkI_n fun n92 h90 hvc => ?_) (fun q h hq => xTh_out0 rfl hq)
    refine xw_iadd dX3_isCounted_94 ?_
    refine xw_istore_n dX3_isCounted_95 (Nat.le_of_ble_eq_true rfl) (L9 := [some (xr (some this)), some (xi x1), some (xi x2), some (xi (x3 + n92)), some (xi x4), none]) rfl ?_
    refine xw_iinc (1 : Int32) dX3_isCounted_96 rfl (by decide) (Nat.le_of_ble_eq_true rfl) (L9 := [some (xr (some this)), some (xi x1), some (xi x2), some (xi (x3 + n92)), some (xi (x4 + (1 : Int32))), none]) rfl ?_
    refine xw_goto 75 dX3_isCounted_99 rfl ?_
    exact hvc

theorem vc_X3_pumpsOn {G : xG} {d K : Nat} {Q : xR → xH → Prop} {h : xH} {this : Nat}
    (hvc : xWp G mX3_pumpsOn d K Q K 4 [some (xr (some this)), some (xi (0 : Int32)), some (xi (0 : Int32))] [] h) : xCn G mX3_pumpsOn d K [xr (some this)] h Q := by
  refine xCn_of px_X3_pumpsOn rfl rfl (Nat.le_of_ble_eq_true rfl) ?_
  show xWp G mX3_pumpsOn d K Q K 0 [some (xr (some this)), none, none] [] h
  refine xw_iconst (0 : Int32) dX3_pumpsOn_0 (by decide) ?_
  refine xw_istore_n dX3_pumpsOn_1 (Nat.le_of_ble_eq_true rfl) (L9 := [some (xr (some this)), some (xi (0 : Int32)), none]) rfl ?_
  refine xw_iconst (0 : Int32) dX3_pumpsOn_2 (by decide) ?_
  refine xw_istore_n dX3_pumpsOn_3 (Nat.le_of_ble_eq_true rfl) (L9 := [some (xr (some this)), some (xi (0 : Int32)), some (xi (0 : Int32))]) rfl ?_
  exact hvc

theorem vc_X3_pumpsOn_4 {G : xG} {d K k : Nat} {Q : xR → xH → Prop} {h : xH} {this : Nat} {x1 : Int32} {x2 : Int32}
    (hvc : xcls h this = 6 ∧ ∃ o1 : Option Nat, xval h this 4 = xr o1 ∧ ∃ a2, o1 = some a2 ∧ xcls h a2 = 1003 ∧ ∃ i3 : Nat, (3 : Int32) = nI i3 ∧ i3 < 2147483648 ∧ i3 < xlen h a2 ∧ ∃ n4 : Int32, xval h a2 i3 = xi n4 ∧ ((n4 ≤ x2 → Q (.inl (some (xi x1))) h) ∧ (¬ n4 ≤ x2 → xcls h this = 6 ∧ xCall G d k mX3_siteIs [xr (some this), xi x2, xi (6 : Int32)] h (xkI (fun n7 h5 k6 => xWp G mX3_pumpsOn d K Q k6 4 [some (xr (some this)), some (xi (x1 + n7)), some (xi (x2 + (1 : Int32)))] [] h5) (fun q h _ => Q (.inr q) h))))) : xWp G mX3_pumpsOn d K Q k 4 [some (xr (some this)), some (xi x1), some (xi x2)] [] h := by
  refine xw_iload_n dX3_pumpsOn_4 rfl ?_
  refine xw_aload_n dX3_pumpsOn_5 rfl ?_
  obtain ⟨hcK, o1, hvK, hvc⟩ := hvc
  refine xw_get dX3_pumpsOn_6 hcX3 in_X3 (kf := 4) (by decide) q2983 (fun _ _ _ _ z => z) hcK hvK ?_
  refine xw_iconst (3 : Int32) dX3_pumpsOn_9 (by decide) ?_
  obtain ⟨a2, ho, hvc⟩ := hvc
  subst ho
  obtain ⟨hcK, i3, hx9, hb9, hi9, n4, hv9, hvc⟩ := hvc
  refine xw_iald (j := 3) dX3_pumpsOn_10 rfl hcK hx9 hb9 hi9 hv9 ?_
  refine xw_icmp_ge 30 dX3_pumpsOn_11 rfl (fun hc => ?_) (fun hc => ?_)
  · replace hvc := hvc.1 hc
    refine xw_iload_n dX3_pumpsOn_30 rfl ?_
    exact xw_iret dX3_pumpsOn_31 rfl hvc
  · replace hvc := hvc.2 hc
    refine xw_iload_n dX3_pumpsOn_14 rfl ?_
    refine xw_aload_n dX3_pumpsOn_15 rfl ?_
    refine xw_iload_n dX3_pumpsOn_16 rfl ?_
    refine xw_bipush (6 : Int32) dX3_pumpsOn_17 (by decide) ?_
    obtain ⟨hcK, hvc⟩ := hvc
    obtain ⟨d9, k9, hd9, hk9, hC9⟩ := hvc
    refine xw_callV dX3_pumpsOn_19 px_X3_siteIs pm_X3_siteIs q3109 q3111 qs51 hcX3 hcK (As := [xi x2, xi (6 : Int32)]) (rest := [xi x1]) rfl rfl (Nat.le_of_ble_eq_true rfl) hd9 hk9 hC9 (xkI_n fun n7 h5 hvc => ?_) (fun q h hq => xTh_out0 rfl hq)
    refine xw_iadd dX3_pumpsOn_22 ?_
    refine xw_istore_n dX3_pumpsOn_23 (Nat.le_of_ble_eq_true rfl) (L9 := [some (xr (some this)), some (xi (x1 + n7)), some (xi x2)]) rfl ?_
    refine xw_iinc (1 : Int32) dX3_pumpsOn_24 rfl (by decide) (Nat.le_of_ble_eq_true rfl) (L9 := [some (xr (some this)), some (xi (x1 + n7)), some (xi (x2 + (1 : Int32)))]) rfl ?_
    refine xw_goto 4 dX3_pumpsOn_27 rfl ?_
    exact hvc

theorem vc_X3_meanWay {G : xG} {d K : Nat} {Q : xR → xH → Prop} {h : xH} {this : Nat}
    (hvc : xcls h this = 6 ∧ ∃ o1 : Option Nat, xval h this 4 = xr o1 ∧ ∃ a2, o1 = some a2 ∧ xcls h a2 = 1003 ∧ ∃ i3 : Nat, (2 : Int32) = nI i3 ∧ i3 < 2147483648 ∧ i3 < xlen h a2 ∧ ∃ n4 : Int32, xval h a2 i3 = xi n4 ∧ ((n4 = 0 → Q (.inl (some (xd FP.dconst0))) h) ∧ (¬ n4 = 0 → xcls h this = 6 ∧ xCall G d K mX3_openOnes [xr (some this)] h (xkI (fun n7 h5 k6 => ((¬ n7 = 0 → xWp G mX3_meanWay d K Q k6 22 [some (xr (some this)), some (xi (0 : Int32)), some (xi (0 : Int32))] [] h5) ∧ (n7 = 0 → Q (.inl (some (xd FP.dconst0))) h5))) (fun q h _ => Q (.inr q) h))))) : xCn G mX3_meanWay d K [xr (some this)] h Q := by
  refine xCn_of px_X3_meanWay rfl rfl (Nat.le_of_ble_eq_true rfl) ?_
  show xWp G mX3_meanWay d K Q K 0 [some (xr (some this)), none, none] [] h
  refine xw_aload_n dX3_meanWay_0 rfl ?_
  obtain ⟨hcK, o1, hvK, hvc⟩ := hvc
  refine xw_get dX3_meanWay_1 hcX3 in_X3 (kf := 4) (by decide) q2983 (fun _ _ _ _ z => z) hcK hvK ?_
  refine xw_iconst (2 : Int32) dX3_meanWay_4 (by decide) ?_
  obtain ⟨a2, ho, hvc⟩ := hvc
  subst ho
  obtain ⟨hcK, i3, hx9, hb9, hi9, n4, hv9, hvc⟩ := hvc
  refine xw_iald (j := 3) dX3_meanWay_5 rfl hcK hx9 hb9 hi9 hv9 ?_
  refine xw_if_eq 16 dX3_meanWay_6 rfl (fun hc => ?_) (fun hc => ?_)
  · replace hvc := hvc.1 hc
    refine xw_dconst0 dX3_meanWay_16 ?_
    exact xw_dret dX3_meanWay_17 rfl hvc
  · replace hvc := hvc.2 hc
    refine xw_aload_n dX3_meanWay_9 rfl ?_
    obtain ⟨hcK, hvc⟩ := hvc
    obtain ⟨d9, k9, hd9, hk9, hC9⟩ := hvc
    refine xw_callV dX3_meanWay_10 px_X3_openOnes pm_X3_openOnes q3145 q3147 qs59 hcX3 hcK (As := []) (rest := []) rfl rfl (Nat.le_of_ble_eq_true rfl) hd9 hk9 hC9 (xkI_n fun n7 h5 hvc => ?_) (fun q h hq => xTh_out0 rfl hq)
    refine xw_if_ne 18 dX3_meanWay_13 rfl (fun hc => ?_) (fun hc => ?_)
    · replace hvc := hvc.1 hc
      refine xw_iconst (0 : Int32) dX3_meanWay_18 (by decide) ?_
      refine xw_istore_n dX3_meanWay_19 (Nat.le_of_ble_eq_true rfl) (L9 := [some (xr (some this)), some (xi (0 : Int32)), none]) rfl ?_
      refine xw_iconst (0 : Int32) dX3_meanWay_20 (by decide) ?_
      refine xw_istore_n dX3_meanWay_21 (Nat.le_of_ble_eq_true rfl) (L9 := [some (xr (some this)), some (xi (0 : Int32)), some (xi (0 : Int32))]) rfl ?_
      exact hvc
    · replace hvc := hvc.2 hc
      refine xw_dconst0 dX3_meanWay_16 ?_
      exact xw_dret dX3_meanWay_17 rfl hvc

theorem vc_X3_meanWay_22 {G : xG} {d K k : Nat} {Q : xR → xH → Prop} {h : xH} {this : Nat} {x1 : Int32} {x2 : Int32}
    (hvc : xcls h this = 6 ∧ ∃ o8 : Option Nat, xval h this 4 = xr o8 ∧ ∃ a9, o8 = some a9 ∧ xcls h a9 = 1003 ∧ ∃ i10 : Nat, (2 : Int32) = nI i10 ∧ i10 < 2147483648 ∧ i10 < xlen h a9 ∧ ∃ n11 : Int32, xval h a9 i10 = xi n11 ∧ ((n11 ≤ x2 → xcls h this = 6 ∧ xCall G d k mX3_people [xr (some this)] h (xkI (fun n14 h12 k13 => vf_n64 (FP.ddiv (FP.i2d x1) (FP.i2d n14)) ∧ Q (.inl (some (xd (FP.ddiv (FP.i2d x1) (FP.i2d n14))))) h12) (fun q h _ => Q (.inr q) h))) ∧ (¬ n11 ≤ x2 → xcls h this = 6 ∧ xCall G d k mX3_hamletIs [xr (some this), xi x2, xi (2 : Int32)] h (xkI (fun n17 h15 k16 => xcls h15 this = 6 ∧ xCall G d k16 mX3_well [xr (some this), xi x2] h15 (xkI (fun n20 h18 k19 => xcls h18 this = 6 ∧ xCall G d k19 mX3_far [xr (some this), xi x2, xi n20] h18 (xkI (fun n23 h21 k22 => xWp G mX3_meanWay d K Q k22 22 [some (xr (some this)), some (xi (x1 + (n17 * n23))), some (xi (x2 + (1 : Int32)))] [] h21) (fun q h _ => Q (.inr q) h))) (fun q h _ => Q (.inr q) h))) (fun q h _ => Q (.inr q) h))))) : xWp G mX3_meanWay d K Q k 22 [some (xr (some this)), some (xi x1), some (xi x2)] [] h := by
  refine xw_iload_n dX3_meanWay_22 rfl ?_
  refine xw_aload_n dX3_meanWay_23 rfl ?_
  obtain ⟨hcK, o8, hvK, hvc⟩ := hvc
  refine xw_get dX3_meanWay_24 hcX3 in_X3 (kf := 4) (by decide) q2983 (fun _ _ _ _ z => z) hcK hvK ?_
  refine xw_iconst (2 : Int32) dX3_meanWay_27 (by decide) ?_
  obtain ⟨a9, ho, hvc⟩ := hvc
  subst ho
  obtain ⟨hcK, i10, hx9, hb9, hi9, n11, hv9, hvc⟩ := hvc
  refine xw_iald (j := 3) dX3_meanWay_28 rfl hcK hx9 hb9 hi9 hv9 ?_
  refine xw_icmp_ge 58 dX3_meanWay_29 rfl (fun hc => ?_) (fun hc => ?_)
  · replace hvc := hvc.1 hc
    refine xw_iload_n dX3_meanWay_58 rfl ?_
    refine xw_i2d dX3_meanWay_59 ?_
    refine xw_aload_n dX3_meanWay_60 rfl ?_
    obtain ⟨hcK, hvc⟩ := hvc
    obtain ⟨d9, k9, hd9, hk9, hC9⟩ := hvc
    refine xw_callV dX3_meanWay_61 px_X3_people pm_X3_people q3367 q3369 qs93 hcX3 hcK (As := []) (rest := [xd (FP.i2d x1)]) rfl rfl (Nat.le_of_ble_eq_true rfl) hd9 hk9 hC9 (xkI_n fun n14 h12 hvc => ?_) (fun q h hq => xTh_out0 rfl hq)
    refine xw_i2d dX3_meanWay_64 ?_
    obtain ⟨hne, hvc⟩ := hvc
    refine xw_ddiv dX3_meanWay_65 hne ?_
    exact xw_dret dX3_meanWay_66 rfl hvc
  · replace hvc := hvc.2 hc
    refine xw_iload_n dX3_meanWay_32 rfl ?_
    refine xw_aload_n dX3_meanWay_33 rfl ?_
    refine xw_iload_n dX3_meanWay_34 rfl ?_
    refine xw_iconst (2 : Int32) dX3_meanWay_35 (by decide) ?_
    obtain ⟨hcK, hvc⟩ := hvc
    obtain ⟨d9, k9, hd9, hk9, hC9⟩ := hvc
    refine xw_callV dX3_meanWay_36 px_X3_hamletIs pm_X3_hamletIs q3069 q3071 qs42 hcX3 hcK (As := [xi x2, xi (2 : Int32)]) (rest := [xi x1]) rfl rfl (Nat.le_of_ble_eq_true rfl) hd9 hk9 hC9 (xkI_n fun n17 h15 hvc => ?_) (fun q h hq => xTh_out0 rfl hq)
    refine xw_aload_n dX3_meanWay_39 rfl ?_
    refine xw_iload_n dX3_meanWay_40 rfl ?_
    refine xw_aload_n dX3_meanWay_41 rfl ?_
    refine xw_iload_n dX3_meanWay_42 rfl ?_
    obtain ⟨hcK, hvc⟩ := hvc
    obtain ⟨d9, k9, hd9, hk9, hC9⟩ := hvc
    refine xw_callV dX3_meanWay_43 px_X3_well pm_X3_well q3141 q3143 qs58 hcX3 hcK (As := [xi x2]) (rest := [xi x2, xr (some this), xi n17, xi x1]) rfl rfl (Nat.le_of_ble_eq_true rfl) hd9 hk9 hC9 (xkI_n fun n20 h18 hvc => ?_) (fun q h hq => xTh_out0 rfl hq)
    obtain ⟨hcK, hvc⟩ := hvc
    obtain ⟨d9, k9, hd9, hk9, hC9⟩ := hvc
    refine xw_callV dX3_meanWay_46 px_X3_far pm_X3_far q3156 q3158 qs61 hcX3 hcK (As := [xi x2, xi n20]) (rest := [xi n17, xi x1]) rfl rfl (Nat.le_of_ble_eq_true rfl) hd9 hk9 hC9 (xkI_n fun n23 h21 hvc => ?_) (fun q h hq => xTh_out0 rfl hq)
    refine xw_imul dX3_meanWay_49 ?_
    refine xw_iadd dX3_meanWay_50 ?_
    refine xw_istore_n dX3_meanWay_51 (Nat.le_of_ble_eq_true rfl) (L9 := [some (xr (some this)), some (xi (x1 + (n17 * n23))), some (xi x2)]) rfl ?_
    refine xw_iinc (1 : Int32) dX3_meanWay_52 rfl (by decide) (Nat.le_of_ble_eq_true rfl) (L9 := [some (xr (some this)), some (xi (x1 + (n17 * n23))), some (xi (x2 + (1 : Int32)))]) rfl ?_
    refine xw_goto 22 dX3_meanWay_55 rfl ?_
    exact hvc

theorem vc_X3_people {G : xG} {d K : Nat} {Q : xR → xH → Prop} {h : xH} {this : Nat}
    (hvc : xWp G mX3_people d K Q K 4 [some (xr (some this)), some (xi (0 : Int32)), some (xi (0 : Int32))] [] h) : xCn G mX3_people d K [xr (some this)] h Q := by
  refine xCn_of px_X3_people rfl rfl (Nat.le_of_ble_eq_true rfl) ?_
  show xWp G mX3_people d K Q K 0 [some (xr (some this)), none, none] [] h
  refine xw_iconst (0 : Int32) dX3_people_0 (by decide) ?_
  refine xw_istore_n dX3_people_1 (Nat.le_of_ble_eq_true rfl) (L9 := [some (xr (some this)), some (xi (0 : Int32)), none]) rfl ?_
  refine xw_iconst (0 : Int32) dX3_people_2 (by decide) ?_
  refine xw_istore_n dX3_people_3 (Nat.le_of_ble_eq_true rfl) (L9 := [some (xr (some this)), some (xi (0 : Int32)), some (xi (0 : Int32))]) rfl ?_
  exact hvc

theorem vc_X3_people_4 {G : xG} {d K k : Nat} {Q : xR → xH → Prop} {h : xH} {this : Nat} {x1 : Int32} {x2 : Int32}
    (hvc : xcls h this = 6 ∧ ∃ o1 : Option Nat, xval h this 4 = xr o1 ∧ ∃ a2, o1 = some a2 ∧ xcls h a2 = 1003 ∧ ∃ i3 : Nat, (2 : Int32) = nI i3 ∧ i3 < 2147483648 ∧ i3 < xlen h a2 ∧ ∃ n4 : Int32, xval h a2 i3 = xi n4 ∧ ((n4 ≤ x2 → Q (.inl (some (xi x1))) h) ∧ (¬ n4 ≤ x2 → xcls h this = 6 ∧ xCall G d k mX3_hamletIs [xr (some this), xi x2, xi (2 : Int32)] h (xkI (fun n7 h5 k6 => xWp G mX3_people d K Q k6 4 [some (xr (some this)), some (xi (x1 + n7)), some (xi (x2 + (1 : Int32)))] [] h5) (fun q h _ => Q (.inr q) h))))) : xWp G mX3_people d K Q k 4 [some (xr (some this)), some (xi x1), some (xi x2)] [] h := by
  refine xw_iload_n dX3_people_4 rfl ?_
  refine xw_aload_n dX3_people_5 rfl ?_
  obtain ⟨hcK, o1, hvK, hvc⟩ := hvc
  refine xw_get dX3_people_6 hcX3 in_X3 (kf := 4) (by decide) q2983 (fun _ _ _ _ z => z) hcK hvK ?_
  refine xw_iconst (2 : Int32) dX3_people_9 (by decide) ?_
  obtain ⟨a2, ho, hvc⟩ := hvc
  subst ho
  obtain ⟨hcK, i3, hx9, hb9, hi9, n4, hv9, hvc⟩ := hvc
  refine xw_iald (j := 3) dX3_people_10 rfl hcK hx9 hb9 hi9 hv9 ?_
  refine xw_icmp_ge 29 dX3_people_11 rfl (fun hc => ?_) (fun hc => ?_)
  · replace hvc := hvc.1 hc
    refine xw_iload_n dX3_people_29 rfl ?_
    exact xw_iret dX3_people_30 rfl hvc
  · replace hvc := hvc.2 hc
    refine xw_iload_n dX3_people_14 rfl ?_
    refine xw_aload_n dX3_people_15 rfl ?_
    refine xw_iload_n dX3_people_16 rfl ?_
    refine xw_iconst (2 : Int32) dX3_people_17 (by decide) ?_
    obtain ⟨hcK, hvc⟩ := hvc
    obtain ⟨d9, k9, hd9, hk9, hC9⟩ := hvc
    refine xw_callV dX3_people_18 px_X3_hamletIs pm_X3_hamletIs q3069 q3071 qs42 hcX3 hcK (As := [xi x2, xi (2 : Int32)]) (rest := [xi x1]) rfl rfl (Nat.le_of_ble_eq_true rfl) hd9 hk9 hC9 (xkI_n fun n7 h5 hvc => ?_) (fun q h hq => xTh_out0 rfl hq)
    refine xw_iadd dX3_people_21 ?_
    refine xw_istore_n dX3_people_22 (Nat.le_of_ble_eq_true rfl) (L9 := [some (xr (some this)), some (xi (x1 + n7)), some (xi x2)]) rfl ?_
    refine xw_iinc (1 : Int32) dX3_people_23 rfl (by decide) (Nat.le_of_ble_eq_true rfl) (L9 := [some (xr (some this)), some (xi (x1 + n7)), some (xi (x2 + (1 : Int32)))]) rfl ?_
    refine xw_goto 4 dX3_people_26 rfl ?_
    exact hvc

theorem vc_X3_waterShare {G : xG} {d K : Nat} {Q : xR → xH → Prop} {h : xH} {this : Nat}
    (hvc : xcls h this = 6 ∧ ∃ o1 : Option Nat, xval h this 4 = xr o1 ∧ ∃ a2, o1 = some a2 ∧ xcls h a2 = 1003 ∧ ∃ i3 : Nat, (6 : Int32) = nI i3 ∧ i3 < 2147483648 ∧ i3 < xlen h a2 ∧ ∃ n4 : Int32, xval h a2 i3 = xi n4 ∧ xcls h this = 6 ∧ ∃ o5 : Option Nat, xval h this 4 = xr o5 ∧ ∃ a6, o5 = some a6 ∧ xcls h a6 = 1003 ∧ ∃ i7 : Nat, (5 : Int32) = nI i7 ∧ i7 < 2147483648 ∧ i7 < xlen h a6 ∧ ∃ n8 : Int32, xval h a6 i7 = xi n8 ∧ ((¬ (n4 + n8) = 0 → xcls h this = 6 ∧ ∃ o9 : Option Nat, xval h this 4 = xr o9 ∧ ∃ a10, o9 = some a10 ∧ xcls h a10 = 1003 ∧ ∃ i11 : Nat, (6 : Int32) = nI i11 ∧ i11 < 2147483648 ∧ i11 < xlen h a10 ∧ ∃ n12 : Int32, xval h a10 i11 = xi n12 ∧ vf_n32 (FP.fdiv (FP.i2f n12) (FP.i2f (n4 + n8))) ∧ Q (.inl (some (xf (FP.fdiv (FP.i2f n12) (FP.i2f (n4 + n8)))))) h) ∧ ((n4 + n8) = 0 → Q (.inl (some (xf FP.fconst0))) h))) : xCn G mX3_waterShare d K [xr (some this)] h Q := by
  refine xCn_of px_X3_waterShare rfl rfl (Nat.le_of_ble_eq_true rfl) ?_
  show xWp G mX3_waterShare d K Q K 0 [some (xr (some this)), none] [] h
  refine xw_aload_n dX3_waterShare_0 rfl ?_
  obtain ⟨hcK, o1, hvK, hvc⟩ := hvc
  refine xw_get dX3_waterShare_1 hcX3 in_X3 (kf := 4) (by decide) q2983 (fun _ _ _ _ z => z) hcK hvK ?_
  refine xw_bipush (6 : Int32) dX3_waterShare_4 (by decide) ?_
  obtain ⟨a2, ho, hvc⟩ := hvc
  subst ho
  obtain ⟨hcK, i3, hx9, hb9, hi9, n4, hv9, hvc⟩ := hvc
  refine xw_iald (j := 3) dX3_waterShare_6 rfl hcK hx9 hb9 hi9 hv9 ?_
  refine xw_aload_n dX3_waterShare_7 rfl ?_
  obtain ⟨hcK, o5, hvK, hvc⟩ := hvc
  refine xw_get dX3_waterShare_8 hcX3 in_X3 (kf := 4) (by decide) q2983 (fun _ _ _ _ z => z) hcK hvK ?_
  refine xw_iconst (5 : Int32) dX3_waterShare_11 (by decide) ?_
  obtain ⟨a6, ho, hvc⟩ := hvc
  subst ho
  obtain ⟨hcK, i7, hx9, hb9, hi9, n8, hv9, hvc⟩ := hvc
  refine xw_iald (j := 3) dX3_waterShare_12 rfl hcK hx9 hb9 hi9 hv9 ?_
  refine xw_iadd dX3_waterShare_13 ?_
  refine xw_istore_n dX3_waterShare_14 (Nat.le_of_ble_eq_true rfl) (L9 := [some (xr (some this)), some (xi (n4 + n8))]) rfl ?_
  refine xw_iload_n dX3_waterShare_15 rfl ?_
  refine xw_if_ne 23 dX3_waterShare_16 rfl (fun hc => ?_) (fun hc => ?_)
  · replace hvc := hvc.1 hc
    refine xw_aload_n dX3_waterShare_23 rfl ?_
    obtain ⟨hcK, o9, hvK, hvc⟩ := hvc
    refine xw_get dX3_waterShare_24 hcX3 in_X3 (kf := 4) (by decide) q2983 (fun _ _ _ _ z => z) hcK hvK ?_
    refine xw_bipush (6 : Int32) dX3_waterShare_27 (by decide) ?_
    obtain ⟨a10, ho, hvc⟩ := hvc
    subst ho
    obtain ⟨hcK, i11, hx9, hb9, hi9, n12, hv9, hvc⟩ := hvc
    refine xw_iald (j := 3) dX3_waterShare_29 rfl hcK hx9 hb9 hi9 hv9 ?_
    refine xw_i2f dX3_waterShare_30 ?_
    refine xw_iload_n dX3_waterShare_31 rfl ?_
    refine xw_i2f dX3_waterShare_32 ?_
    obtain ⟨hne, hvc⟩ := hvc
    refine xw_fdiv dX3_waterShare_33 hne ?_
    exact xw_fret dX3_waterShare_34 rfl hvc
  · replace hvc := hvc.2 hc
    refine xw_fconst0 dX3_waterShare_19 ?_
    refine xw_goto 34 dX3_waterShare_20 rfl ?_
    exact xw_fret dX3_waterShare_34 rfl hvc

theorem vc_X3_account {G : xG} {d K : Nat} {Q : xR → xH → Prop} {h : xH} {this : Nat} {x1 : Int32}
    (hvc : ((x1 = (0 : Int32) → xcls h this = 6 ∧ ∃ o1 : Option Nat, xval h this 4 = xr o1 ∧ ∃ a2, o1 = some a2 ∧ xcls h a2 = 1003 ∧ ∃ i3 : Nat, x1 = nI i3 ∧ i3 < 2147483648 ∧ i3 < xlen h a2 ∧ ∃ n4 : Int32, xval h a2 i3 = xi n4 ∧ Q (.inl (some (xi n4))) h) ∧ (x1 = (1 : Int32) → xcls h this = 6 ∧ ∃ o5 : Option Nat, xval h this 4 = xr o5 ∧ ∃ a6, o5 = some a6 ∧ xcls h a6 = 1003 ∧ ∃ i7 : Nat, x1 = nI i7 ∧ i7 < 2147483648 ∧ i7 < xlen h a6 ∧ ∃ n8 : Int32, xval h a6 i7 = xi n8 ∧ Q (.inl (some (xi n8))) h) ∧ (x1 = (2 : Int32) → xcls h this = 6 ∧ ∃ o9 : Option Nat, xval h this 4 = xr o9 ∧ ∃ a10, o9 = some a10 ∧ xcls h a10 = 1003 ∧ ∃ i11 : Nat, x1 = nI i11 ∧ i11 < 2147483648 ∧ i11 < xlen h a10 ∧ ∃ n12 : Int32, xval h a10 i11 = xi n12 ∧ Q (.inl (some (xi n12))) h) ∧ (x1 = (3 : Int32) → xcls h this = 6 ∧ ∃ o13 : Option Nat, xval h this 4 = xr o13 ∧ ∃ a14, o13 = some a14 ∧ xcls h a14 = 1003 ∧ ∃ i15 : Nat, x1 = nI i15 ∧ i15 < 2147483648 ∧ i15 < xlen h a14 ∧ ∃ n16 : Int32, xval h a14 i15 = xi n16 ∧ Q (.inl (some (xi n16))) h) ∧ (x1 = (4 : Int32) → xcls h this = 6 ∧ xCall G d K mX3_openOnes [xr (some this)] h (xkI (fun n19 h17 k18 => xCall G d k18 mX3_sizeOf [xi n19] h17 (xkI (fun n22 h20 k21 => Q (.inl (some (xi n22))) h20) (fun q h _ => Q (.inr q) h))) (fun q h _ => Q (.inr q) h))) ∧ (x1 = (5 : Int32) → xcls h this = 6 ∧ xCall G d K mX3_people [xr (some this)] h (xkI (fun n25 h23 k24 => Q (.inl (some (xi n25))) h23) (fun q h _ => Q (.inr q) h))) ∧ (x1 = (6 : Int32) → xcls h this = 6 ∧ ∃ o26 : Option Nat, xval h this 4 = xr o26 ∧ ∃ a27, o26 = some a27 ∧ xcls h a27 = 1003 ∧ ∃ i28 : Nat, (4 : Int32) = nI i28 ∧ i28 < 2147483648 ∧ i28 < xlen h a27 ∧ ∃ n29 : Int32, xval h a27 i28 = xi n29 ∧ Q (.inl (some (xi n29))) h) ∧ (x1 = (7 : Int32) → xcls h this = 6 ∧ ∃ o30 : Option Nat, xval h this 4 = xr o30 ∧ ∃ a31, o30 = some a31 ∧ xcls h a31 = 1003 ∧ ∃ i32 : Nat, (x1 - (2 : Int32)) = nI i32 ∧ i32 < 2147483648 ∧ i32 < xlen h a31 ∧ ∃ n33 : Int32, xval h a31 i32 = xi n33 ∧ Q (.inl (some (xi n33))) h) ∧ (x1 = (8 : Int32) → xcls h this = 6 ∧ ∃ o34 : Option Nat, xval h this 4 = xr o34 ∧ ∃ a35, o34 = some a35 ∧ xcls h a35 = 1003 ∧ ∃ i36 : Nat, (x1 - (2 : Int32)) = nI i36 ∧ i36 < 2147483648 ∧ i36 < xlen h a35 ∧ ∃ n37 : Int32, xval h a35 i36 = xi n37 ∧ Q (.inl (some (xi n37))) h) ∧ (x1 = (9 : Int32) → xcls h this = 6 ∧ ∃ o38 : Option Nat, xval h this 4 = xr o38 ∧ ∃ a39, o38 = some a39 ∧ xcls h a39 = 1003 ∧ ∃ i40 : Nat, (x1 - (2 : Int32)) = nI i40 ∧ i40 < 2147483648 ∧ i40 < xlen h a39 ∧ ∃ n41 : Int32, xval h a39 i40 = xi n41 ∧ Q (.inl (some (xi n41))) h) ∧ (x1 = (10 : Int32) → xcls h this = 6 ∧ ∃ o42 : Option Nat, xval h this 4 = xr o42 ∧ ∃ a43, o42 = some a43 ∧ xcls h a43 = 1003 ∧ ∃ i44 : Nat, (x1 - (2 : Int32)) = nI i44 ∧ i44 < 2147483648 ∧ i44 < xlen h a43 ∧ ∃ n45 : Int32, xval h a43 i44 = xi n45 ∧ Q (.inl (some (xi n45))) h) ∧ (x1 = (11 : Int32) → xcls h this = 6 ∧ ∃ o46 : Option Nat, xval h this 4 = xr o46 ∧ ∃ a47, o46 = some a47 ∧ xcls h a47 = 1003 ∧ ∃ i48 : Nat, (x1 - (2 : Int32)) = nI i48 ∧ i48 < 2147483648 ∧ i48 < xlen h a47 ∧ ∃ n49 : Int32, xval h a47 i48 = xi n49 ∧ Q (.inl (some (xi n49))) h) ∧ (x1 = (12 : Int32) → xcls h this = 6 ∧ ∃ o50 : Option Nat, xval h this 4 = xr o50 ∧ ∃ a51, o50 = some a51 ∧ xcls h a51 = 1003 ∧ ∃ i52 : Nat, (x1 - (2 : Int32)) = nI i52 ∧ i52 < 2147483648 ∧ i52 < xlen h a51 ∧ ∃ n53 : Int32, xval h a51 i52 = xi n53 ∧ Q (.inl (some (xi n53))) h) ∧ (x1 = (13 : Int32) → xcls h this = 6 ∧ ∃ o54 : Option Nat, xval h this 4 = xr o54 ∧ ∃ a55, o54 = some a55 ∧ xcls h a55 = 1003 ∧ ∃ i56 : Nat, (x1 - (2 : Int32)) = nI i56 ∧ i56 < 2147483648 ∧ i56 < xlen h a55 ∧ ∃ n57 : Int32, xval h a55 i56 = xi n57 ∧ Q (.inl (some (xi n57))) h) ∧ (x1 = (14 : Int32) → xcls h this = 6 ∧ ∃ n58 : Int32, xval h this 15 = xi n58 ∧ Q (.inl (some (xi n58))) h) ∧ (x1 = (15 : Int32) → xcls h this = 6 ∧ ∃ n59 : Int32, xval h this 8 = xi n59 ∧ Q (.inl (some (xi n59))) h) ∧ ((x1.toInt < 0 ∨ 15 < x1.toInt) → Q (.inl (some (xi (-2 : Int32)))) h))) : xCn G mX3_account d K [xr (some this), xi x1] h Q := by
  refine xCn_of px_X3_account rfl rfl (Nat.le_of_ble_eq_true rfl) ?_
  show xWp G mX3_account d K Q K 0 [some (xr (some this)), some (xi x1)] [] h
  refine xw_iload_n dX3_account_0 rfl ?_
  obtain ⟨hv1, hvc⟩ := hvc
  by_cases c0 : x1 = (0 : Int32)
  · replace hvc := hv1 c0
    refine xw_tableIn 80 dX3_account_1 (by rw [c0]; decide) (by rw [c0]; decide) (by rw [c0]; rfl) rfl ?_
    refine xw_aload_n dX3_account_80 rfl ?_
    obtain ⟨hcK, o1, hvK, hvc⟩ := hvc
    refine xw_get dX3_account_81 hcX3 in_X3 (kf := 4) (by decide) q2983 (fun _ _ _ _ z => z) hcK hvK ?_
    refine xw_iload_n dX3_account_84 rfl ?_
    obtain ⟨a2, ho, hvc⟩ := hvc
    subst ho
    obtain ⟨hcK, i3, hx9, hb9, hi9, n4, hv9, hvc⟩ := hvc
    refine xw_iald (j := 3) dX3_account_85 rfl hcK hx9 hb9 hi9 hv9 ?_
    exact xw_iret dX3_account_86 rfl hvc
  obtain ⟨hv1, hvc⟩ := hvc
  by_cases c1 : x1 = (1 : Int32)
  · replace hvc := hv1 c1
    refine xw_tableIn 80 dX3_account_1 (by rw [c1]; decide) (by rw [c1]; decide) (by rw [c1]; rfl) rfl ?_
    refine xw_aload_n dX3_account_80 rfl ?_
    obtain ⟨hcK, o5, hvK, hvc⟩ := hvc
    refine xw_get dX3_account_81 hcX3 in_X3 (kf := 4) (by decide) q2983 (fun _ _ _ _ z => z) hcK hvK ?_
    refine xw_iload_n dX3_account_84 rfl ?_
    obtain ⟨a6, ho, hvc⟩ := hvc
    subst ho
    obtain ⟨hcK, i7, hx9, hb9, hi9, n8, hv9, hvc⟩ := hvc
    refine xw_iald (j := 3) dX3_account_85 rfl hcK hx9 hb9 hi9 hv9 ?_
    exact xw_iret dX3_account_86 rfl hvc
  obtain ⟨hv1, hvc⟩ := hvc
  by_cases c2 : x1 = (2 : Int32)
  · replace hvc := hv1 c2
    refine xw_tableIn 80 dX3_account_1 (by rw [c2]; decide) (by rw [c2]; decide) (by rw [c2]; rfl) rfl ?_
    refine xw_aload_n dX3_account_80 rfl ?_
    obtain ⟨hcK, o9, hvK, hvc⟩ := hvc
    refine xw_get dX3_account_81 hcX3 in_X3 (kf := 4) (by decide) q2983 (fun _ _ _ _ z => z) hcK hvK ?_
    refine xw_iload_n dX3_account_84 rfl ?_
    obtain ⟨a10, ho, hvc⟩ := hvc
    subst ho
    obtain ⟨hcK, i11, hx9, hb9, hi9, n12, hv9, hvc⟩ := hvc
    refine xw_iald (j := 3) dX3_account_85 rfl hcK hx9 hb9 hi9 hv9 ?_
    exact xw_iret dX3_account_86 rfl hvc
  obtain ⟨hv1, hvc⟩ := hvc
  by_cases c3 : x1 = (3 : Int32)
  · replace hvc := hv1 c3
    refine xw_tableIn 80 dX3_account_1 (by rw [c3]; decide) (by rw [c3]; decide) (by rw [c3]; rfl) rfl ?_
    refine xw_aload_n dX3_account_80 rfl ?_
    obtain ⟨hcK, o13, hvK, hvc⟩ := hvc
    refine xw_get dX3_account_81 hcX3 in_X3 (kf := 4) (by decide) q2983 (fun _ _ _ _ z => z) hcK hvK ?_
    refine xw_iload_n dX3_account_84 rfl ?_
    obtain ⟨a14, ho, hvc⟩ := hvc
    subst ho
    obtain ⟨hcK, i15, hx9, hb9, hi9, n16, hv9, hvc⟩ := hvc
    refine xw_iald (j := 3) dX3_account_85 rfl hcK hx9 hb9 hi9 hv9 ?_
    exact xw_iret dX3_account_86 rfl hvc
  obtain ⟨hv1, hvc⟩ := hvc
  by_cases c4 : x1 = (4 : Int32)
  · replace hvc := hv1 c4
    refine xw_tableIn 87 dX3_account_1 (by rw [c4]; decide) (by rw [c4]; decide) (by rw [c4]; rfl) rfl ?_
    refine xw_aload_n dX3_account_87 rfl ?_
    obtain ⟨hcK, hvc⟩ := hvc
    obtain ⟨d9, k9, hd9, hk9, hC9⟩ := hvc
    refine xw_callV dX3_account_88 px_X3_openOnes pm_X3_openOnes q3145 q3147 qs59 hcX3 hcK (As := []) (rest := []) rfl rfl (Nat.le_of_ble_eq_true rfl) hd9 hk9 hC9 (xkI_n fun n19 h17 hvc => ?_) (fun q h hq => xTh_out0 rfl hq)
    obtain ⟨d9, k9, hd9, hk9, hC9⟩ := hvc
    refine xw_callS dX3_account_91 px_X3_sizeOf pm_X3_sizeOf q3183 q3184 (As := [xi n19]) (rest := []) rfl rfl (Nat.le_of_ble_eq_true rfl) hd9 hk9 hC9 (xkI_n fun n22 h20 hvc => ?_) (fun q h hq => xTh_out0 rfl hq)
    exact xw_iret dX3_account_94 rfl hvc
  obtain ⟨hv1, hvc⟩ := hvc
  by_cases c5 : x1 = (5 : Int32)
  · replace hvc := hv1 c5
    refine xw_tableIn 95 dX3_account_1 (by rw [c5]; decide) (by rw [c5]; decide) (by rw [c5]; rfl) rfl ?_
    refine xw_aload_n dX3_account_95 rfl ?_
    obtain ⟨hcK, hvc⟩ := hvc
    obtain ⟨d9, k9, hd9, hk9, hC9⟩ := hvc
    refine xw_callV dX3_account_96 px_X3_people pm_X3_people q3367 q3369 qs93 hcX3 hcK (As := []) (rest := []) rfl rfl (Nat.le_of_ble_eq_true rfl) hd9 hk9 hC9 (xkI_n fun n25 h23 hvc => ?_) (fun q h hq => xTh_out0 rfl hq)
    exact xw_iret dX3_account_99 rfl hvc
  obtain ⟨hv1, hvc⟩ := hvc
  by_cases c6 : x1 = (6 : Int32)
  · replace hvc := hv1 c6
    refine xw_tableIn 100 dX3_account_1 (by rw [c6]; decide) (by rw [c6]; decide) (by rw [c6]; rfl) rfl ?_
    refine xw_aload_n dX3_account_100 rfl ?_
    obtain ⟨hcK, o26, hvK, hvc⟩ := hvc
    refine xw_get dX3_account_101 hcX3 in_X3 (kf := 4) (by decide) q2983 (fun _ _ _ _ z => z) hcK hvK ?_
    refine xw_iconst (4 : Int32) dX3_account_104 (by decide) ?_
    obtain ⟨a27, ho, hvc⟩ := hvc
    subst ho
    obtain ⟨hcK, i28, hx9, hb9, hi9, n29, hv9, hvc⟩ := hvc
    refine xw_iald (j := 3) dX3_account_105 rfl hcK hx9 hb9 hi9 hv9 ?_
    exact xw_iret dX3_account_106 rfl hvc
  obtain ⟨hv1, hvc⟩ := hvc
  by_cases c7 : x1 = (7 : Int32)
  · replace hvc := hv1 c7
    refine xw_tableIn 107 dX3_account_1 (by rw [c7]; decide) (by rw [c7]; decide) (by rw [c7]; rfl) rfl ?_
    refine xw_aload_n dX3_account_107 rfl ?_
    obtain ⟨hcK, o30, hvK, hvc⟩ := hvc
    refine xw_get dX3_account_108 hcX3 in_X3 (kf := 4) (by decide) q2983 (fun _ _ _ _ z => z) hcK hvK ?_
    refine xw_iload_n dX3_account_111 rfl ?_
    refine xw_iconst (2 : Int32) dX3_account_112 (by decide) ?_
    refine xw_isub dX3_account_113 ?_
    obtain ⟨a31, ho, hvc⟩ := hvc
    subst ho
    obtain ⟨hcK, i32, hx9, hb9, hi9, n33, hv9, hvc⟩ := hvc
    refine xw_iald (j := 3) dX3_account_114 rfl hcK hx9 hb9 hi9 hv9 ?_
    exact xw_iret dX3_account_115 rfl hvc
  obtain ⟨hv1, hvc⟩ := hvc
  by_cases c8 : x1 = (8 : Int32)
  · replace hvc := hv1 c8
    refine xw_tableIn 107 dX3_account_1 (by rw [c8]; decide) (by rw [c8]; decide) (by rw [c8]; rfl) rfl ?_
    refine xw_aload_n dX3_account_107 rfl ?_
    obtain ⟨hcK, o34, hvK, hvc⟩ := hvc
    refine xw_get dX3_account_108 hcX3 in_X3 (kf := 4) (by decide) q2983 (fun _ _ _ _ z => z) hcK hvK ?_
    refine xw_iload_n dX3_account_111 rfl ?_
    refine xw_iconst (2 : Int32) dX3_account_112 (by decide) ?_
    refine xw_isub dX3_account_113 ?_
    obtain ⟨a35, ho, hvc⟩ := hvc
    subst ho
    obtain ⟨hcK, i36, hx9, hb9, hi9, n37, hv9, hvc⟩ := hvc
    refine xw_iald (j := 3) dX3_account_114 rfl hcK hx9 hb9 hi9 hv9 ?_
    exact xw_iret dX3_account_115 rfl hvc
  obtain ⟨hv1, hvc⟩ := hvc
  by_cases c9 : x1 = (9 : Int32)
  · replace hvc := hv1 c9
    refine xw_tableIn 107 dX3_account_1 (by rw [c9]; decide) (by rw [c9]; decide) (by rw [c9]; rfl) rfl ?_
    refine xw_aload_n dX3_account_107 rfl ?_
    obtain ⟨hcK, o38, hvK, hvc⟩ := hvc
    refine xw_get dX3_account_108 hcX3 in_X3 (kf := 4) (by decide) q2983 (fun _ _ _ _ z => z) hcK hvK ?_
    refine xw_iload_n dX3_account_111 rfl ?_
    refine xw_iconst (2 : Int32) dX3_account_112 (by decide) ?_
    refine xw_isub dX3_account_113 ?_
    obtain ⟨a39, ho, hvc⟩ := hvc
    subst ho
    obtain ⟨hcK, i40, hx9, hb9, hi9, n41, hv9, hvc⟩ := hvc
    refine xw_iald (j := 3) dX3_account_114 rfl hcK hx9 hb9 hi9 hv9 ?_
    exact xw_iret dX3_account_115 rfl hvc
  obtain ⟨hv1, hvc⟩ := hvc
  by_cases c10 : x1 = (10 : Int32)
  · replace hvc := hv1 c10
    refine xw_tableIn 107 dX3_account_1 (by rw [c10]; decide) (by rw [c10]; decide) (by rw [c10]; rfl) rfl ?_
    refine xw_aload_n dX3_account_107 rfl ?_
    obtain ⟨hcK, o42, hvK, hvc⟩ := hvc
    refine xw_get dX3_account_108 hcX3 in_X3 (kf := 4) (by decide) q2983 (fun _ _ _ _ z => z) hcK hvK ?_
    refine xw_iload_n dX3_account_111 rfl ?_
    refine xw_iconst (2 : Int32) dX3_account_112 (by decide) ?_
    refine xw_isub dX3_account_113 ?_
    obtain ⟨a43, ho, hvc⟩ := hvc
    subst ho
    obtain ⟨hcK, i44, hx9, hb9, hi9, n45, hv9, hvc⟩ := hvc
    refine xw_iald (j := 3) dX3_account_114 rfl hcK hx9 hb9 hi9 hv9 ?_
    exact xw_iret dX3_account_115 rfl hvc
  obtain ⟨hv1, hvc⟩ := hvc
  by_cases c11 : x1 = (11 : Int32)
  · replace hvc := hv1 c11
    refine xw_tableIn 107 dX3_account_1 (by rw [c11]; decide) (by rw [c11]; decide) (by rw [c11]; rfl) rfl ?_
    refine xw_aload_n dX3_account_107 rfl ?_
    obtain ⟨hcK, o46, hvK, hvc⟩ := hvc
    refine xw_get dX3_account_108 hcX3 in_X3 (kf := 4) (by decide) q2983 (fun _ _ _ _ z => z) hcK hvK ?_
    refine xw_iload_n dX3_account_111 rfl ?_
    refine xw_iconst (2 : Int32) dX3_account_112 (by decide) ?_
    refine xw_isub dX3_account_113 ?_
    obtain ⟨a47, ho, hvc⟩ := hvc
    subst ho
    obtain ⟨hcK, i48, hx9, hb9, hi9, n49, hv9, hvc⟩ := hvc
    refine xw_iald (j := 3) dX3_account_114 rfl hcK hx9 hb9 hi9 hv9 ?_
    exact xw_iret dX3_account_115 rfl hvc
  obtain ⟨hv1, hvc⟩ := hvc
  by_cases c12 : x1 = (12 : Int32)
  · replace hvc := hv1 c12
    refine xw_tableIn 107 dX3_account_1 (by rw [c12]; decide) (by rw [c12]; decide) (by rw [c12]; rfl) rfl ?_
    refine xw_aload_n dX3_account_107 rfl ?_
    obtain ⟨hcK, o50, hvK, hvc⟩ := hvc
    refine xw_get dX3_account_108 hcX3 in_X3 (kf := 4) (by decide) q2983 (fun _ _ _ _ z => z) hcK hvK ?_
    refine xw_iload_n dX3_account_111 rfl ?_
    refine xw_iconst (2 : Int32) dX3_account_112 (by decide) ?_
    refine xw_isub dX3_account_113 ?_
    obtain ⟨a51, ho, hvc⟩ := hvc
    subst ho
    obtain ⟨hcK, i52, hx9, hb9, hi9, n53, hv9, hvc⟩ := hvc
    refine xw_iald (j := 3) dX3_account_114 rfl hcK hx9 hb9 hi9 hv9 ?_
    exact xw_iret dX3_account_115 rfl hvc
  obtain ⟨hv1, hvc⟩ := hvc
  by_cases c13 : x1 = (13 : Int32)
  · replace hvc := hv1 c13
    refine xw_tableIn 107 dX3_account_1 (by rw [c13]; decide) (by rw [c13]; decide) (by rw [c13]; rfl) rfl ?_
    refine xw_aload_n dX3_account_107 rfl ?_
    obtain ⟨hcK, o54, hvK, hvc⟩ := hvc
    refine xw_get dX3_account_108 hcX3 in_X3 (kf := 4) (by decide) q2983 (fun _ _ _ _ z => z) hcK hvK ?_
    refine xw_iload_n dX3_account_111 rfl ?_
    refine xw_iconst (2 : Int32) dX3_account_112 (by decide) ?_
    refine xw_isub dX3_account_113 ?_
    obtain ⟨a55, ho, hvc⟩ := hvc
    subst ho
    obtain ⟨hcK, i56, hx9, hb9, hi9, n57, hv9, hvc⟩ := hvc
    refine xw_iald (j := 3) dX3_account_114 rfl hcK hx9 hb9 hi9 hv9 ?_
    exact xw_iret dX3_account_115 rfl hvc
  obtain ⟨hv1, hvc⟩ := hvc
  by_cases c14 : x1 = (14 : Int32)
  · replace hvc := hv1 c14
    refine xw_tableIn 116 dX3_account_1 (by rw [c14]; decide) (by rw [c14]; decide) (by rw [c14]; rfl) rfl ?_
    refine xw_aload_n dX3_account_116 rfl ?_
    obtain ⟨hcK, n58, hvK, hvc⟩ := hvc
    refine xw_get dX3_account_117 hcX3 in_X3 (kf := 15) (by decide) q2994 (fun _ _ _ _ z => z) hcK hvK ?_
    exact xw_iret dX3_account_120 rfl hvc
  obtain ⟨hv1, hvc⟩ := hvc
  by_cases c15 : x1 = (15 : Int32)
  · replace hvc := hv1 c15
    refine xw_tableIn 121 dX3_account_1 (by rw [c15]; decide) (by rw [c15]; decide) (by rw [c15]; rfl) rfl ?_
    refine xw_aload_n dX3_account_121 rfl ?_
    obtain ⟨hcK, n59, hvK, hvc⟩ := hvc
    refine xw_get dX3_account_122 hcX3 in_X3 (kf := 8) (by decide) q2987 (fun _ _ _ _ z => z) hcK hvK ?_
    exact xw_iret dX3_account_125 rfl hvc
  have hout : (x1).toInt < (0 : Int) ∨ (15 : Int) < (x1).toInt := by
    have e0 : ¬ (x1).toInt = (0 : Int) := fun z => c0 (Int32.toInt_inj.mp (z.trans (by decide)))
    have e1 : ¬ (x1).toInt = (1 : Int) := fun z => c1 (Int32.toInt_inj.mp (z.trans (by decide)))
    have e2 : ¬ (x1).toInt = (2 : Int) := fun z => c2 (Int32.toInt_inj.mp (z.trans (by decide)))
    have e3 : ¬ (x1).toInt = (3 : Int) := fun z => c3 (Int32.toInt_inj.mp (z.trans (by decide)))
    have e4 : ¬ (x1).toInt = (4 : Int) := fun z => c4 (Int32.toInt_inj.mp (z.trans (by decide)))
    have e5 : ¬ (x1).toInt = (5 : Int) := fun z => c5 (Int32.toInt_inj.mp (z.trans (by decide)))
    have e6 : ¬ (x1).toInt = (6 : Int) := fun z => c6 (Int32.toInt_inj.mp (z.trans (by decide)))
    have e7 : ¬ (x1).toInt = (7 : Int) := fun z => c7 (Int32.toInt_inj.mp (z.trans (by decide)))
    have e8 : ¬ (x1).toInt = (8 : Int) := fun z => c8 (Int32.toInt_inj.mp (z.trans (by decide)))
    have e9 : ¬ (x1).toInt = (9 : Int) := fun z => c9 (Int32.toInt_inj.mp (z.trans (by decide)))
    have e10 : ¬ (x1).toInt = (10 : Int) := fun z => c10 (Int32.toInt_inj.mp (z.trans (by decide)))
    have e11 : ¬ (x1).toInt = (11 : Int) := fun z => c11 (Int32.toInt_inj.mp (z.trans (by decide)))
    have e12 : ¬ (x1).toInt = (12 : Int) := fun z => c12 (Int32.toInt_inj.mp (z.trans (by decide)))
    have e13 : ¬ (x1).toInt = (13 : Int) := fun z => c13 (Int32.toInt_inj.mp (z.trans (by decide)))
    have e14 : ¬ (x1).toInt = (14 : Int) := fun z => c14 (Int32.toInt_inj.mp (z.trans (by decide)))
    have e15 : ¬ (x1).toInt = (15 : Int) := fun z => c15 (Int32.toInt_inj.mp (z.trans (by decide)))
    omega
  replace hvc := hvc hout
  refine xw_tableOut 126 dX3_account_1 hout rfl ?_
  refine xw_bipush (-2 : Int32) dX3_account_126 (by decide) ?_
  exact xw_iret dX3_account_128 rfl hvc

theorem vc_X3_write {G : xG} {d K : Nat} {Q : xR → xH → Prop} {h : xH} {this : Nat} {x1 : Int32}
    (hvc : xcls h this = 6 ∧ xCall G d K mX3_isSite [xr (some this), xi x1] h (xkI (fun n3 h1 k2 => ((¬ n3 = 0 → xcls h1 this = 6 ∧ ∀ h4 : xH, h4 = xput h1 this 13 (xi (0 : Int32)) → xcls h4 this = 6 ∧ xCall G d k2 mX3_putsNumber [xr (some this), xi x1] h4 (xkV (fun h5 k6 => xcls h5 this = 6 ∧ xCall G d k6 mX3_siteIs [xr (some this), xi x1, xi (0 : Int32)] h5 (xkI (fun n9 h7 k8 => xcls h7 this = 6 ∧ xCall G d k8 mX3_siteIs [xr (some this), xi x1, xi (1 : Int32)] h7 (xkI (fun n12 h10 k11 => xcls h10 this = 6 ∧ xCall G d k11 mX3_putsPlace [xr (some this), xi n9, xi n12] h10 (xkV (fun h13 k14 => xcls h13 this = 6 ∧ xCall G d k14 mX3_siteIs [xr (some this), xi x1, xi (3 : Int32)] h13 (xkI (fun n17 h15 k16 => xcls h15 this = 6 ∧ xCall G d k16 mX3_putsNumber [xr (some this), xi n17] h15 (xkV (fun h18 k19 => xcls h18 this = 6 ∧ xCall G d k19 mX3_isWell [xr (some this), xi x1] h18 (xkI (fun n22 h20 k21 => ((n22 = 0 → xcls h20 this = 6 ∧ xCall G d k21 mX3_puts [xr (some this), xi (45 : Int32)] h20 (xkV (fun h23 k24 => xcls h23 this = 6 ∧ xCall G d k24 mX3_hasPump [xr (some this), xi x1] h23 (xkI (fun n27 h25 k26 => ((n27 = 0 → xWp G mX3_write d K Q k26 81 [some (xr (some this)), some (xi x1), some (xi (0 : Int32))] [] h25) ∧ (¬ n27 = 0 → xcls h25 this = 6 ∧ xCall G d k26 mX3_puts [xr (some this), xi (112 : Int32)] h25 (xkV (fun h28 k29 => xWp G mX3_write d K Q k29 81 [some (xr (some this)), some (xi x1), some (xi (0 : Int32))] [] h28) (fun q h _ => Q (.inr q) h))))) (fun q h _ => Q (.inr q) h))) (fun q h _ => Q (.inr q) h))) ∧ (¬ n22 = 0 → xcls h20 this = 6 ∧ xCall G d k21 mX3_puts [xr (some this), xi (111 : Int32)] h20 (xkV (fun h30 k31 => xcls h30 this = 6 ∧ xCall G d k31 mX3_hasPump [xr (some this), xi x1] h30 (xkI (fun n34 h32 k33 => ((n34 = 0 → xWp G mX3_write d K Q k33 81 [some (xr (some this)), some (xi x1), some (xi (0 : Int32))] [] h32) ∧ (¬ n34 = 0 → xcls h32 this = 6 ∧ xCall G d k33 mX3_puts [xr (some this), xi (112 : Int32)] h32 (xkV (fun h35 k36 => xWp G mX3_write d K Q k36 81 [some (xr (some this)), some (xi x1), some (xi (0 : Int32))] [] h35) (fun q h _ => Q (.inr q) h))))) (fun q h _ => Q (.inr q) h))) (fun q h _ => Q (.inr q) h))))) (fun q h _ => Q (.inr q) h))) (fun q h _ => Q (.inr q) h))) (fun q h _ => Q (.inr q) h))) (fun q h _ => Q (.inr q) h))) (fun q h _ => Q (.inr q) h))) (fun q h _ => Q (.inr q) h))) (fun q h _ => Q (.inr q) h))) ∧ (n3 = 0 → Q (.inl (some (xi (-1 : Int32)))) h1))) (fun q h _ => Q (.inr q) h))) : xCn G mX3_write d K [xr (some this), xi x1] h Q := by
  refine xCn_of px_X3_write rfl rfl (Nat.le_of_ble_eq_true rfl) ?_
  show xWp G mX3_write d K Q K 0 [some (xr (some this)), some (xi x1), none] [] h
  refine xw_aload_n dX3_write_0 rfl ?_
  refine xw_iload_n dX3_write_1 rfl ?_
  obtain ⟨hcK, hvc⟩ := hvc
  obtain ⟨d9, k9, hd9, hk9, hC9⟩ := hvc
  refine xw_callV dX3_write_2 px_X3_isSite pm_X3_isSite q3129 q3131 qs55 hcX3 hcK (As := [xi x1]) (rest := []) rfl rfl (Nat.le_of_ble_eq_true rfl) hd9 hk9 hC9 (xkI_n fun n3 h1 hvc => ?_) (fun q h hq => xTh_out0 rfl hq)
  refine xw_if_ne 10 dX3_write_5 rfl (fun hc => ?_) (fun hc => ?_)
  · replace hvc := hvc.1 hc
    refine xw_aload_n dX3_write_10 rfl ?_
    refine xw_iconst (0 : Int32) dX3_write_11 (by decide) ?_
    obtain ⟨hcK, hvc⟩ := hvc
    refine xw_put dX3_write_12 hcX3 in_X3 tyX3_ok xnmX3 (kf := 13) (by decide) q2992 (fun _ _ _ _ z => z) rfl rfl rfl hcK (Or.inl rfl) (fun h4 eh9 => ?_)
    replace hvc := hvc h4 eh9
    refine xw_aload_n dX3_write_15 rfl ?_
    refine xw_iload_n dX3_write_16 rfl ?_
    obtain ⟨hcK, hvc⟩ := hvc
    obtain ⟨d9, k9, hd9, hk9, hC9⟩ := hvc
    refine xw_callV dX3_write_17 px_X3_putsNumber pm_X3_putsNumber q3383 q3385 qs94 hcX3 hcK (As := [xi x1]) (rest := []) rfl rfl (Nat.le_of_ble_eq_true rfl) hd9 hk9 hC9 (xkV_n fun h5 hvc => ?_) (fun q h hq => xTh_out0 rfl hq)
    refine xw_aload_n dX3_write_20 rfl ?_
    refine xw_aload_n dX3_write_21 rfl ?_
    refine xw_iload_n dX3_write_22 rfl ?_
    refine xw_iconst (0 : Int32) dX3_write_23 (by decide) ?_
    obtain ⟨hcK, hvc⟩ := hvc
    obtain ⟨d9, k9, hd9, hk9, hC9⟩ := hvc
    refine xw_callV dX3_write_24 px_X3_siteIs pm_X3_siteIs q3109 q3111 qs51 hcX3 hcK (As := [xi x1, xi (0 : Int32)]) (rest := [xr (some this)]) rfl rfl (Nat.le_of_ble_eq_true rfl) hd9 hk9 hC9 (xkI_n fun n9 h7 hvc => ?_) (fun q h hq => xTh_out0 rfl hq)
    refine xw_aload_n dX3_write_27 rfl ?_
    refine xw_iload_n dX3_write_28 rfl ?_
    refine xw_iconst (1 : Int32) dX3_write_29 (by decide) ?_
    obtain ⟨hcK, hvc⟩ := hvc
    obtain ⟨d9, k9, hd9, hk9, hC9⟩ := hvc
    refine xw_callV dX3_write_30 px_X3_siteIs pm_X3_siteIs q3109 q3111 qs51 hcX3 hcK (As := [xi x1, xi (1 : Int32)]) (rest := [xi n9, xr (some this)]) rfl rfl (Nat.le_of_ble_eq_true rfl) hd9 hk9 hC9 (xkI_n fun n12 h10 hvc => ?_) (fun q h hq => xTh_out0 rfl hq)
    obtain ⟨hcK, hvc⟩ := hvc
    obtain ⟨d9, k9, hd9, hk9, hC9⟩ := hvc
    refine xw_callV dX3_write_33 px_X3_putsPlace pm_X3_putsPlace q3391 q3393 qs96 hcX3 hcK (As := [xi n9, xi n12]) (rest := []) rfl rfl (Nat.le_of_ble_eq_true rfl) hd9 hk9 hC9 (xkV_n fun h13 hvc => ?_) (fun q h hq => xTh_out0 rfl hq)
    refine xw_aload_n dX3_write_36 rfl ?_
    refine xw_aload_n dX3_write_37 rfl ?_
    refine xw_iload_n dX3_write_38 rfl ?_
    refine xw_iconst (3 : Int32) dX3_write_39 (by decide) ?_
    obtain ⟨hcK, hvc⟩ := hvc
    obtain ⟨d9, k9, hd9, hk9, hC9⟩ := hvc
    refine xw_callV dX3_write_40 px_X3_siteIs pm_X3_siteIs q3109 q3111 qs51 hcX3 hcK (As := [xi x1, xi (3 : Int32)]) (rest := [xr (some this)]) rfl rfl (Nat.le_of_ble_eq_true rfl) hd9 hk9 hC9 (xkI_n fun n17 h15 hvc => ?_) (fun q h hq => xTh_out0 rfl hq)
    obtain ⟨hcK, hvc⟩ := hvc
    obtain ⟨d9, k9, hd9, hk9, hC9⟩ := hvc
    refine xw_callV dX3_write_43 px_X3_putsNumber pm_X3_putsNumber q3383 q3385 qs94 hcX3 hcK (As := [xi n17]) (rest := []) rfl rfl (Nat.le_of_ble_eq_true rfl) hd9 hk9 hC9 (xkV_n fun h18 hvc => ?_) (fun q h hq => xTh_out0 rfl hq)
    refine xw_aload_n dX3_write_46 rfl ?_
    refine xw_aload_n dX3_write_47 rfl ?_
    refine xw_iload_n dX3_write_48 rfl ?_
    obtain ⟨hcK, hvc⟩ := hvc
    obtain ⟨d9, k9, hd9, hk9, hC9⟩ := hvc
    refine xw_callV dX3_write_49 px_X3_isWell pm_X3_isWell q3133 q3135 qs56 hcX3 hcK (As := [xi x1]) (rest := [xr (some this)]) rfl rfl (Nat.le_of_ble_eq_true rfl) hd9 hk9 hC9 (xkI_n fun n22 h20 hvc => ?_) (fun q h hq => xTh_out0 rfl hq)
    refine xw_if_eq 60 dX3_write_52 rfl (fun hc => ?_) (fun hc => ?_)
    · replace hvc := hvc.1 hc
      refine xw_bipush (45 : Int32) dX3_write_60 (by decide) ?_
      obtain ⟨hcK, hvc⟩ := hvc
      obtain ⟨d9, k9, hd9, hk9, hC9⟩ := hvc
      refine xw_callV dX3_write_62 px_X3_puts pm_X3_puts q3387 q3389 qs95 hcX3 hcK (As := [xi (45 : Int32)]) (rest := []) rfl rfl (Nat.le_of_ble_eq_true rfl) hd9 hk9 hC9 (xkV_n fun h23 hvc => ?_) (fun q h hq => xTh_out0 rfl hq)
      refine xw_aload_n dX3_write_65 rfl ?_
      refine xw_iload_n dX3_write_66 rfl ?_
      obtain ⟨hcK, hvc⟩ := hvc
      obtain ⟨d9, k9, hd9, hk9, hC9⟩ := hvc
      refine xw_callV dX3_write_67 px_X3_hasPump pm_X3_hasPump q3194 q3196 qs67 hcX3 hcK (As := [xi x1]) (rest := []) rfl rfl (Nat.le_of_ble_eq_true rfl) hd9 hk9 hC9 (xkI_n fun n27 h25 hvc => ?_) (fun q h hq => xTh_out0 rfl hq)
      refine xw_if_eq 79 dX3_write_70 rfl (fun hc => ?_) (fun hc => ?_)
      · replace hvc := hvc.1 hc
        refine xw_iconst (0 : Int32) dX3_write_79 (by decide) ?_
        refine xw_istore_n dX3_write_80 (Nat.le_of_ble_eq_true rfl) (L9 := [some (xr (some this)), some (xi x1), some (xi (0 : Int32))]) rfl ?_
        exact hvc
      · replace hvc := hvc.2 hc
        refine xw_aload_n dX3_write_73 rfl ?_
        refine xw_bipush (112 : Int32) dX3_write_74 (by decide) ?_
        obtain ⟨hcK, hvc⟩ := hvc
        obtain ⟨d9, k9, hd9, hk9, hC9⟩ := hvc
        refine xw_callV dX3_write_76 px_X3_puts pm_X3_puts q3387 q3389 qs95 hcX3 hcK (As := [xi (112 : Int32)]) (rest := []) rfl rfl (Nat.le_of_ble_eq_true rfl) hd9 hk9 hC9 (xkV_n fun h28 hvc => ?_) (fun q h hq => xTh_out0 rfl hq)
        refine xw_iconst (0 : Int32) dX3_write_79 (by decide) ?_
        refine xw_istore_n dX3_write_80 (Nat.le_of_ble_eq_true rfl) (L9 := [some (xr (some this)), some (xi x1), some (xi (0 : Int32))]) rfl ?_
        exact hvc
    · replace hvc := hvc.2 hc
      refine xw_bipush (111 : Int32) dX3_write_55 (by decide) ?_
      refine xw_goto 62 dX3_write_57 rfl ?_
      obtain ⟨hcK, hvc⟩ := hvc
      obtain ⟨d9, k9, hd9, hk9, hC9⟩ := hvc
      refine xw_callV dX3_write_62 px_X3_puts pm_X3_puts q3387 q3389 qs95 hcX3 hcK (As := [xi (111 : Int32)]) (rest := []) rfl rfl (Nat.le_of_ble_eq_true rfl) hd9 hk9 hC9 (xkV_n fun h30 hvc => ?_) (fun q h hq => xTh_out0 rfl hq)
      refine xw_aload_n dX3_write_65 rfl ?_
      refine xw_iload_n dX3_write_66 rfl ?_
      obtain ⟨hcK, hvc⟩ := hvc
      obtain ⟨d9, k9, hd9, hk9, hC9⟩ := hvc
      refine xw_callV dX3_write_67 px_X3_hasPump pm_X3_hasPump q3194 q3196 qs67 hcX3 hcK (As := [xi x1]) (rest := []) rfl rfl (Nat.le_of_ble_eq_true rfl) hd9 hk9 hC9 (xkI_n fun n34 h32 hvc => ?_) (fun q h hq => xTh_out0 rfl hq)
      refine xw_if_eq 79 dX3_write_70 rfl (fun hc => ?_) (fun hc => ?_)
      · replace hvc := hvc.1 hc
        refine xw_iconst (0 : Int32) dX3_write_79 (by decide) ?_
        refine xw_istore_n dX3_write_80 (Nat.le_of_ble_eq_true rfl) (L9 := [some (xr (some this)), some (xi x1), some (xi (0 : Int32))]) rfl ?_
        exact hvc
      · replace hvc := hvc.2 hc
        refine xw_aload_n dX3_write_73 rfl ?_
        refine xw_bipush (112 : Int32) dX3_write_74 (by decide) ?_
        obtain ⟨hcK, hvc⟩ := hvc
        obtain ⟨d9, k9, hd9, hk9, hC9⟩ := hvc
        refine xw_callV dX3_write_76 px_X3_puts pm_X3_puts q3387 q3389 qs95 hcX3 hcK (As := [xi (112 : Int32)]) (rest := []) rfl rfl (Nat.le_of_ble_eq_true rfl) hd9 hk9 hC9 (xkV_n fun h35 hvc => ?_) (fun q h hq => xTh_out0 rfl hq)
        refine xw_iconst (0 : Int32) dX3_write_79 (by decide) ?_
        refine xw_istore_n dX3_write_80 (Nat.le_of_ble_eq_true rfl) (L9 := [some (xr (some this)), some (xi x1), some (xi (0 : Int32))]) rfl ?_
        exact hvc
  · replace hvc := hvc.2 hc
    refine xw_iconst (-1 : Int32) dX3_write_8 (by decide) ?_
    exact xw_iret dX3_write_9 rfl hvc

theorem vc_X3_write_81 {G : xG} {d K k : Nat} {Q : xR → xH → Prop} {h : xH} {this : Nat} {x1 : Int32} {x2 : Int32}
    (hvc : xcls h this = 6 ∧ ∃ o37 : Option Nat, xval h this 4 = xr o37 ∧ ∃ a38, o37 = some a38 ∧ xcls h a38 = 1003 ∧ ∃ i39 : Nat, (2 : Int32) = nI i39 ∧ i39 < 2147483648 ∧ i39 < xlen h a38 ∧ ∃ n40 : Int32, xval h a38 i39 = xi n40 ∧ ((n40 ≤ x2 → xcls h this = 6 ∧ ∃ n41 : Int32, xval h this 13 = xi n41 ∧ Q (.inl (some (xi n41))) h) ∧ (¬ n40 ≤ x2 → xcls h this = 6 ∧ xCall G d k mX3_well [xr (some this), xi x2] h (xkI (fun n44 h42 k43 => ((¬ n44 = x1 → xWp G mX3_write d K Q k43 81 [some (xr (some this)), some (xi x1), some (xi (x2 + (1 : Int32)))] [] h42) ∧ (n44 = x1 → xcls h42 this = 6 ∧ xCall G d k43 mX3_puts [xr (some this), xi ((97 : Int32) + x2)] h42 (xkV (fun h45 k46 => xWp G mX3_write d K Q k46 81 [some (xr (some this)), some (xi x1), some (xi (x2 + (1 : Int32)))] [] h45) (fun q h _ => Q (.inr q) h))))) (fun q h _ => Q (.inr q) h))))) : xWp G mX3_write d K Q k 81 [some (xr (some this)), some (xi x1), some (xi x2)] [] h := by
  refine xw_iload_n dX3_write_81 rfl ?_
  refine xw_aload_n dX3_write_82 rfl ?_
  obtain ⟨hcK, o37, hvK, hvc⟩ := hvc
  refine xw_get dX3_write_83 hcX3 in_X3 (kf := 4) (by decide) q2983 (fun _ _ _ _ z => z) hcK hvK ?_
  refine xw_iconst (2 : Int32) dX3_write_86 (by decide) ?_
  obtain ⟨a38, ho, hvc⟩ := hvc
  subst ho
  obtain ⟨hcK, i39, hx9, hb9, hi9, n40, hv9, hvc⟩ := hvc
  refine xw_iald (j := 3) dX3_write_87 rfl hcK hx9 hb9 hi9 hv9 ?_
  refine xw_icmp_ge 114 dX3_write_88 rfl (fun hc => ?_) (fun hc => ?_)
  · replace hvc := hvc.1 hc
    refine xw_aload_n dX3_write_114 rfl ?_
    obtain ⟨hcK, n41, hvK, hvc⟩ := hvc
    refine xw_get dX3_write_115 hcX3 in_X3 (kf := 13) (by decide) q2992 (fun _ _ _ _ z => z) hcK hvK ?_
    exact xw_iret dX3_write_118 rfl hvc
  · replace hvc := hvc.2 hc
    refine xw_aload_n dX3_write_91 rfl ?_
    refine xw_iload_n dX3_write_92 rfl ?_
    obtain ⟨hcK, hvc⟩ := hvc
    obtain ⟨d9, k9, hd9, hk9, hC9⟩ := hvc
    refine xw_callV dX3_write_93 px_X3_well pm_X3_well q3141 q3143 qs58 hcX3 hcK (As := [xi x2]) (rest := []) rfl rfl (Nat.le_of_ble_eq_true rfl) hd9 hk9 hC9 (xkI_n fun n44 h42 hvc => ?_) (fun q h hq => xTh_out0 rfl hq)
    refine xw_iload_n dX3_write_96 rfl ?_
    refine xw_icmp_ne 108 dX3_write_97 rfl (fun hc => ?_) (fun hc => ?_)
    · replace hvc := hvc.1 hc
      refine xw_iinc (1 : Int32) dX3_write_108 rfl (by decide) (Nat.le_of_ble_eq_true rfl) (L9 := [some (xr (some this)), some (xi x1), some (xi (x2 + (1 : Int32)))]) rfl ?_
      refine xw_goto 81 dX3_write_111 rfl ?_
      exact hvc
    · replace hvc := hvc.2 hc
      refine xw_aload_n dX3_write_100 rfl ?_
      refine xw_bipush (97 : Int32) dX3_write_101 (by decide) ?_
      refine xw_iload_n dX3_write_103 rfl ?_
      refine xw_iadd dX3_write_104 ?_
      obtain ⟨hcK, hvc⟩ := hvc
      obtain ⟨d9, k9, hd9, hk9, hC9⟩ := hvc
      refine xw_callV dX3_write_105 px_X3_puts pm_X3_puts q3387 q3389 qs95 hcX3 hcK (As := [xi ((97 : Int32) + x2)]) (rest := []) rfl rfl (Nat.le_of_ble_eq_true rfl) hd9 hk9 hC9 (xkV_n fun h45 hvc => ?_) (fun q h hq => xTh_out0 rfl hq)
      refine xw_iinc (1 : Int32) dX3_write_108 rfl (by decide) (Nat.le_of_ble_eq_true rfl) (L9 := [some (xr (some this)), some (xi x1), some (xi (x2 + (1 : Int32)))]) rfl ?_
      refine xw_goto 81 dX3_write_111 rfl ?_
      exact hvc

theorem vc_X3_putsNumber {G : xG} {d K : Nat} {Q : xR → xH → Prop} {h : xH} {this : Nat} {x1 : Int32}
    (hvc : xWp G mX3_putsNumber d K Q K 2 [some (xr (some this)), some (xi x1), some (xi (1 : Int32)), none] [] h) : xCn G mX3_putsNumber d K [xr (some this), xi x1] h Q := by
  refine xCn_of px_X3_putsNumber rfl rfl (Nat.le_of_ble_eq_true rfl) ?_
  show xWp G mX3_putsNumber d K Q K 0 [some (xr (some this)), some (xi x1), none, none] [] h
  refine xw_iconst (1 : Int32) dX3_putsNumber_0 (by decide) ?_
  refine xw_istore_n dX3_putsNumber_1 (Nat.le_of_ble_eq_true rfl) (L9 := [some (xr (some this)), some (xi x1), some (xi (1 : Int32)), none]) rfl ?_
  exact hvc

theorem vc_X3_putsNumber_2 {G : xG} {d K k : Nat} {Q : xR → xH → Prop} {h : xH} {this : Nat} {x1 : Int32} {x2 : Int32}
    (hvc : (((x1 / (10 : Int32)) < x2 → xWp G mX3_putsNumber d K Q k 20 [some (xr (some this)), some (xi x1), none, some (xi x2)] [] h) ∧ (¬ (x1 / (10 : Int32)) < x2 → xWp G mX3_putsNumber d K Q k 2 [some (xr (some this)), some (xi x1), some (xi (x2 * (10 : Int32))), none] [] h))) : xWp G mX3_putsNumber d K Q k 2 [some (xr (some this)), some (xi x1), some (xi x2), none] [] h := by
  refine xw_iload_n dX3_putsNumber_2 rfl ?_
  refine xw_iload_n dX3_putsNumber_3 rfl ?_
  refine xw_bipush (10 : Int32) dX3_putsNumber_4 (by decide) ?_
  refine xw_idiv dX3_putsNumber_6 (by decide) ?_
  refine xw_icmp_gt 18 dX3_putsNumber_7 rfl (fun hc => ?_) (fun hc => ?_)
  · replace hvc := hvc.1 hc
    refine xw_iload_n dX3_putsNumber_18 rfl ?_
    refine xw_istore_n dX3_putsNumber_19 (Nat.le_of_ble_eq_true rfl) (L9 := [some (xr (some this)), some (xi x1), some (xi x2), some (xi x2)]) rfl ?_
    exact xWp_loc hvc (And.intro rfl (And.intro rfl (And.intro rfl trivial)))
  · replace hvc := hvc.2 hc
    refine xw_iload_n dX3_putsNumber_10 rfl ?_
    refine xw_bipush (10 : Int32) dX3_putsNumber_11 (by decide) ?_
    refine xw_imul dX3_putsNumber_13 ?_
    refine xw_istore_n dX3_putsNumber_14 (Nat.le_of_ble_eq_true rfl) (L9 := [some (xr (some this)), some (xi x1), some (xi (x2 * (10 : Int32))), none]) rfl ?_
    refine xw_goto 2 dX3_putsNumber_15 rfl ?_
    exact hvc

theorem vc_X3_putsNumber_20 {G : xG} {d K k : Nat} {Q : xR → xH → Prop} {h : xH} {this : Nat} {x1 : Int32} {x3 : Int32}
    (hvc : ((x3 ≤ 0 → Q (.inl none) h) ∧ (¬ x3 ≤ 0 → ¬ x3 = 0 ∧ xcls h this = 6 ∧ xCall G d k mX3_puts [xr (some this), xi ((48 : Int32) + ((x1 / x3) - (x1 / x3) / (10 : Int32) * (10 : Int32)))] h (xkV (fun h1 k2 => xWp G mX3_putsNumber d K Q k2 20 [some (xr (some this)), some (xi x1), none, some (xi (x3 / (10 : Int32)))] [] h1) (fun q h _ => Q (.inr q) h))))) : xWp G mX3_putsNumber d K Q k 20 [some (xr (some this)), some (xi x1), none, some (xi x3)] [] h := by
  refine xw_iload_n dX3_putsNumber_20 rfl ?_
  refine xw_if_le 45 dX3_putsNumber_21 rfl (fun hc => ?_) (fun hc => ?_)
  · replace hvc := hvc.1 hc
    exact xw_vret dX3_putsNumber_45 rfl hvc
  · replace hvc := hvc.2 hc
    refine xw_aload_n dX3_putsNumber_24 rfl ?_
    refine xw_bipush (48 : Int32) dX3_putsNumber_25 (by decide) ?_
    refine xw_iload_n dX3_putsNumber_27 rfl ?_
    refine xw_iload_n dX3_putsNumber_28 rfl ?_
    obtain ⟨hne, hvc⟩ := hvc
    refine xw_idiv dX3_putsNumber_29 hne ?_
    refine xw_bipush (10 : Int32) dX3_putsNumber_30 (by decide) ?_
    refine xw_irem dX3_putsNumber_32 (by decide) ?_
    refine xw_iadd dX3_putsNumber_33 ?_
    obtain ⟨hcK, hvc⟩ := hvc
    obtain ⟨d9, k9, hd9, hk9, hC9⟩ := hvc
    refine xw_callV dX3_putsNumber_34 px_X3_puts pm_X3_puts q3387 q3389 qs95 hcX3 hcK (As := [xi ((48 : Int32) + ((x1 / x3) - (x1 / x3) / (10 : Int32) * (10 : Int32)))]) (rest := []) rfl rfl (Nat.le_of_ble_eq_true rfl) hd9 hk9 hC9 (xkV_n fun h1 hvc => ?_) (fun q h hq => xTh_out0 rfl hq)
    refine xw_iload_n dX3_putsNumber_37 rfl ?_
    refine xw_bipush (10 : Int32) dX3_putsNumber_38 (by decide) ?_
    refine xw_idiv dX3_putsNumber_40 (by decide) ?_
    refine xw_istore_n dX3_putsNumber_41 (Nat.le_of_ble_eq_true rfl) (L9 := [some (xr (some this)), some (xi x1), none, some (xi (x3 / (10 : Int32)))]) rfl ?_
    refine xw_goto 20 dX3_putsNumber_42 rfl ?_
    exact hvc

theorem vc_X3_puts {G : xG} {d K : Nat} {Q : xR → xH → Prop} {h : xH} {this : Nat} {x1 : Int32}
    (hvc : xcls h this = 6 ∧ ∃ o1 : Option Nat, xval h this 12 = xr o1 ∧ xcls h this = 6 ∧ ∃ n2 : Int32, xval h this 13 = xi n2 ∧ ∃ a3, o1 = some a3 ∧ xcls h a3 = 1001 ∧ ∃ i4 : Nat, n2 = nI i4 ∧ i4 < 2147483648 ∧ i4 < xlen h a3 ∧ ∀ n6 : Int32, narrow .char (.int (x1.toUInt32 % 65536).toInt32) = .int n6 → ∀ h5 : xH, h5 = xput h a3 i4 (xi n6) → xcls h5 this = 6 ∧ ∃ n7 : Int32, xval h5 this 13 = xi n7 ∧ xcls h5 this = 6 ∧ ∀ h8 : xH, h8 = xput h5 this 13 (xi (n7 + (1 : Int32))) → Q (.inl none) h8) : xCn G mX3_puts d K [xr (some this), xi x1] h Q := by
  refine xCn_of px_X3_puts rfl rfl (Nat.le_of_ble_eq_true rfl) ?_
  show xWp G mX3_puts d K Q K 0 [some (xr (some this)), some (xi x1)] [] h
  refine xw_aload_n dX3_puts_0 rfl ?_
  obtain ⟨hcK, o1, hvK, hvc⟩ := hvc
  refine xw_get dX3_puts_1 hcX3 in_X3 (kf := 12) (by decide) q2991 (fun _ _ _ _ z => z) hcK hvK ?_
  refine xw_aload_n dX3_puts_4 rfl ?_
  obtain ⟨hcK, n2, hvK, hvc⟩ := hvc
  refine xw_get dX3_puts_5 hcX3 in_X3 (kf := 13) (by decide) q2992 (fun _ _ _ _ z => z) hcK hvK ?_
  refine xw_iload_n dX3_puts_8 rfl ?_
  refine xw_i2c dX3_puts_9 ?_
  obtain ⟨a3, ho, hvc⟩ := hvc
  subst ho
  obtain ⟨hcK, i4, hx9, hb9, hi9, hvc⟩ := hvc
  replace hvc := hvc _ rfl
  refine xw_cast (j := 1) dX3_puts_10 rfl hcK (Or.inl rfl) hx9 hb9 hi9 rfl (fun h5 eh9 => ?_)
  replace hvc := hvc h5 eh9
  refine xw_aload_n dX3_puts_11 rfl ?_
  refine xw_dup dX3_puts_12 rfl ?_
  obtain ⟨hcK, n7, hvK, hvc⟩ := hvc
  refine xw_get dX3_puts_13 hcX3 in_X3 (kf := 13) (by decide) q2992 (fun _ _ _ _ z => z) hcK hvK ?_
  refine xw_iconst (1 : Int32) dX3_puts_16 (by decide) ?_
  refine xw_iadd dX3_puts_17 ?_
  obtain ⟨hcK, hvc⟩ := hvc
  refine xw_put dX3_puts_18 hcX3 in_X3 tyX3_ok xnmX3 (kf := 13) (by decide) q2992 (fun _ _ _ _ z => z) rfl rfl rfl hcK (Or.inl rfl) (fun h8 eh9 => ?_)
  replace hvc := hvc h8 eh9
  exact xw_vret dX3_puts_21 rfl hvc

theorem vc_X3_putsPlace {G : xG} {d K : Nat} {Q : xR → xH → Prop} {h : xH} {this : Nat} {x1 : Int32} {x2 : Int32}
    (hvc : xcls h this = 6 ∧ xCall G d K mX3_puts [xr (some this), xi (64 : Int32)] h (xkV (fun h1 k2 => xcls h1 this = 6 ∧ xCall G d k2 mX3_putsNumber [xr (some this), xi x1] h1 (xkV (fun h3 k4 => xcls h3 this = 6 ∧ xCall G d k4 mX3_puts [xr (some this), xi (44 : Int32)] h3 (xkV (fun h5 k6 => xcls h5 this = 6 ∧ xCall G d k6 mX3_putsNumber [xr (some this), xi x2] h5 (xkV (fun h7 k8 => xcls h7 this = 6 ∧ xCall G d k8 mX3_puts [xr (some this), xi (32 : Int32)] h7 (xkV (fun h9 k10 => Q (.inl none) h9) (fun q h _ => Q (.inr q) h))) (fun q h _ => Q (.inr q) h))) (fun q h _ => Q (.inr q) h))) (fun q h _ => Q (.inr q) h))) (fun q h _ => Q (.inr q) h))) : xCn G mX3_putsPlace d K [xr (some this), xi x1, xi x2] h Q := by
  refine xCn_of px_X3_putsPlace rfl rfl (Nat.le_of_ble_eq_true rfl) ?_
  show xWp G mX3_putsPlace d K Q K 0 [some (xr (some this)), some (xi x1), some (xi x2)] [] h
  refine xw_aload_n dX3_putsPlace_0 rfl ?_
  refine xw_bipush (64 : Int32) dX3_putsPlace_1 (by decide) ?_
  obtain ⟨hcK, hvc⟩ := hvc
  obtain ⟨d9, k9, hd9, hk9, hC9⟩ := hvc
  refine xw_callV dX3_putsPlace_3 px_X3_puts pm_X3_puts q3387 q3389 qs95 hcX3 hcK (As := [xi (64 : Int32)]) (rest := []) rfl rfl (Nat.le_of_ble_eq_true rfl) hd9 hk9 hC9 (xkV_n fun h1 hvc => ?_) (fun q h hq => xTh_out0 rfl hq)
  refine xw_aload_n dX3_putsPlace_6 rfl ?_
  refine xw_iload_n dX3_putsPlace_7 rfl ?_
  obtain ⟨hcK, hvc⟩ := hvc
  obtain ⟨d9, k9, hd9, hk9, hC9⟩ := hvc
  refine xw_callV dX3_putsPlace_8 px_X3_putsNumber pm_X3_putsNumber q3383 q3385 qs94 hcX3 hcK (As := [xi x1]) (rest := []) rfl rfl (Nat.le_of_ble_eq_true rfl) hd9 hk9 hC9 (xkV_n fun h3 hvc => ?_) (fun q h hq => xTh_out0 rfl hq)
  refine xw_aload_n dX3_putsPlace_11 rfl ?_
  refine xw_bipush (44 : Int32) dX3_putsPlace_12 (by decide) ?_
  obtain ⟨hcK, hvc⟩ := hvc
  obtain ⟨d9, k9, hd9, hk9, hC9⟩ := hvc
  refine xw_callV dX3_putsPlace_14 px_X3_puts pm_X3_puts q3387 q3389 qs95 hcX3 hcK (As := [xi (44 : Int32)]) (rest := []) rfl rfl (Nat.le_of_ble_eq_true rfl) hd9 hk9 hC9 (xkV_n fun h5 hvc => ?_) (fun q h hq => xTh_out0 rfl hq)
  refine xw_aload_n dX3_putsPlace_17 rfl ?_
  refine xw_iload_n dX3_putsPlace_18 rfl ?_
  obtain ⟨hcK, hvc⟩ := hvc
  obtain ⟨d9, k9, hd9, hk9, hC9⟩ := hvc
  refine xw_callV dX3_putsPlace_19 px_X3_putsNumber pm_X3_putsNumber q3383 q3385 qs94 hcX3 hcK (As := [xi x2]) (rest := []) rfl rfl (Nat.le_of_ble_eq_true rfl) hd9 hk9 hC9 (xkV_n fun h7 hvc => ?_) (fun q h hq => xTh_out0 rfl hq)
  refine xw_aload_n dX3_putsPlace_22 rfl ?_
  refine xw_bipush (32 : Int32) dX3_putsPlace_23 (by decide) ?_
  obtain ⟨hcK, hvc⟩ := hvc
  obtain ⟨d9, k9, hd9, hk9, hC9⟩ := hvc
  refine xw_callV dX3_putsPlace_25 px_X3_puts pm_X3_puts q3387 q3389 qs95 hcX3 hcK (As := [xi (32 : Int32)]) (rest := []) rfl rfl (Nat.le_of_ble_eq_true rfl) hd9 hk9 hC9 (xkV_n fun h9 hvc => ?_) (fun q h hq => xTh_out0 rfl hq)
  exact xw_vret dX3_putsPlace_28 rfl hvc

theorem vc_X3_writeHamlet {G : xG} {d K : Nat} {Q : xR → xH → Prop} {h : xH} {this : Nat} {x1 : Int32}
    (hvc : xcls h this = 6 ∧ xCall G d K mX3_isHamlet [xr (some this), xi x1] h (xkI (fun n3 h1 k2 => ((¬ n3 = 0 → xcls h1 this = 6 ∧ ∀ h4 : xH, h4 = xput h1 this 13 (xi (0 : Int32)) → xcls h4 this = 6 ∧ xCall G d k2 mX3_puts [xr (some this), xi ((97 : Int32) + x1)] h4 (xkV (fun h5 k6 => xcls h5 this = 6 ∧ xCall G d k6 mX3_hamletIs [xr (some this), xi x1, xi (0 : Int32)] h5 (xkI (fun n9 h7 k8 => xcls h7 this = 6 ∧ xCall G d k8 mX3_hamletIs [xr (some this), xi x1, xi (1 : Int32)] h7 (xkI (fun n12 h10 k11 => xcls h10 this = 6 ∧ xCall G d k11 mX3_putsPlace [xr (some this), xi n9, xi n12] h10 (xkV (fun h13 k14 => xcls h13 this = 6 ∧ xCall G d k14 mX3_hamletIs [xr (some this), xi x1, xi (2 : Int32)] h13 (xkI (fun n17 h15 k16 => xcls h15 this = 6 ∧ xCall G d k16 mX3_putsNumber [xr (some this), xi n17] h15 (xkV (fun h18 k19 => xcls h18 this = 6 ∧ xCall G d k19 mX3_well [xr (some this), xi x1] h18 (xkI (fun n22 h20 k21 => ((n22 < 0 → xcls h20 this = 6 ∧ xCall G d k21 mX3_hamletIs [xr (some this), xi x1, xi (3 : Int32)] h20 (xkI (fun n25 h23 k24 => ((n25 ≤ 0 → xcls h23 this = 6 ∧ ∃ n26 : Int32, xval h23 this 13 = xi n26 ∧ Q (.inl (some (xi n26))) h23) ∧ (¬ n25 ≤ 0 → xcls h23 this = 6 ∧ xCall G d k24 mX3_puts [xr (some this), xi (33 : Int32)] h23 (xkV (fun h27 k28 => xcls h27 this = 6 ∧ xCall G d k28 mX3_hamletIs [xr (some this), xi x1, xi (3 : Int32)] h27 (xkI (fun n31 h29 k30 => xcls h29 this = 6 ∧ xCall G d k30 mX3_putsNumber [xr (some this), xi n31] h29 (xkV (fun h32 k33 => xcls h32 this = 6 ∧ ∃ n34 : Int32, xval h32 this 13 = xi n34 ∧ Q (.inl (some (xi n34))) h32) (fun q h _ => Q (.inr q) h))) (fun q h _ => Q (.inr q) h))) (fun q h _ => Q (.inr q) h))))) (fun q h _ => Q (.inr q) h))) ∧ (¬ n22 < 0 → xcls h20 this = 6 ∧ xCall G d k21 mX3_puts [xr (some this), xi (62 : Int32)] h20 (xkV (fun h35 k36 => xcls h35 this = 6 ∧ xCall G d k36 mX3_well [xr (some this), xi x1] h35 (xkI (fun n39 h37 k38 => xcls h37 this = 6 ∧ xCall G d k38 mX3_putsNumber [xr (some this), xi n39] h37 (xkV (fun h40 k41 => xcls h40 this = 6 ∧ xCall G d k41 mX3_hamletIs [xr (some this), xi x1, xi (3 : Int32)] h40 (xkI (fun n44 h42 k43 => ((n44 ≤ 0 → xcls h42 this = 6 ∧ ∃ n45 : Int32, xval h42 this 13 = xi n45 ∧ Q (.inl (some (xi n45))) h42) ∧ (¬ n44 ≤ 0 → xcls h42 this = 6 ∧ xCall G d k43 mX3_puts [xr (some this), xi (33 : Int32)] h42 (xkV (fun h46 k47 => xcls h46 this = 6 ∧ xCall G d k47 mX3_hamletIs [xr (some this), xi x1, xi (3 : Int32)] h46 (xkI (fun n50 h48 k49 => xcls h48 this = 6 ∧ xCall G d k49 mX3_putsNumber [xr (some this), xi n50] h48 (xkV (fun h51 k52 => xcls h51 this = 6 ∧ ∃ n53 : Int32, xval h51 this 13 = xi n53 ∧ Q (.inl (some (xi n53))) h51) (fun q h _ => Q (.inr q) h))) (fun q h _ => Q (.inr q) h))) (fun q h _ => Q (.inr q) h))))) (fun q h _ => Q (.inr q) h))) (fun q h _ => Q (.inr q) h))) (fun q h _ => Q (.inr q) h))) (fun q h _ => Q (.inr q) h))))) (fun q h _ => Q (.inr q) h))) (fun q h _ => Q (.inr q) h))) (fun q h _ => Q (.inr q) h))) (fun q h _ => Q (.inr q) h))) (fun q h _ => Q (.inr q) h))) (fun q h _ => Q (.inr q) h))) (fun q h _ => Q (.inr q) h))) ∧ (n3 = 0 → Q (.inl (some (xi (-1 : Int32)))) h1))) (fun q h _ => Q (.inr q) h))) : xCn G mX3_writeHamlet d K [xr (some this), xi x1] h Q := by
  refine xCn_of px_X3_writeHamlet rfl rfl (Nat.le_of_ble_eq_true rfl) ?_
  show xWp G mX3_writeHamlet d K Q K 0 [some (xr (some this)), some (xi x1)] [] h
  refine xw_aload_n dX3_writeHamlet_0 rfl ?_
  refine xw_iload_n dX3_writeHamlet_1 rfl ?_
  obtain ⟨hcK, hvc⟩ := hvc
  obtain ⟨d9, k9, hd9, hk9, hC9⟩ := hvc
  refine xw_callV dX3_writeHamlet_2 px_X3_isHamlet pm_X3_isHamlet q3270 q3272 qs81 hcX3 hcK (As := [xi x1]) (rest := []) rfl rfl (Nat.le_of_ble_eq_true rfl) hd9 hk9 hC9 (xkI_n fun n3 h1 hvc => ?_) (fun q h hq => xTh_out0 rfl hq)
  refine xw_if_ne 10 dX3_writeHamlet_5 rfl (fun hc => ?_) (fun hc => ?_)
  · replace hvc := hvc.1 hc
    refine xw_aload_n dX3_writeHamlet_10 rfl ?_
    refine xw_iconst (0 : Int32) dX3_writeHamlet_11 (by decide) ?_
    obtain ⟨hcK, hvc⟩ := hvc
    refine xw_put dX3_writeHamlet_12 hcX3 in_X3 tyX3_ok xnmX3 (kf := 13) (by decide) q2992 (fun _ _ _ _ z => z) rfl rfl rfl hcK (Or.inl rfl) (fun h4 eh9 => ?_)
    replace hvc := hvc h4 eh9
    refine xw_aload_n dX3_writeHamlet_15 rfl ?_
    refine xw_bipush (97 : Int32) dX3_writeHamlet_16 (by decide) ?_
    refine xw_iload_n dX3_writeHamlet_18 rfl ?_
    refine xw_iadd dX3_writeHamlet_19 ?_
    obtain ⟨hcK, hvc⟩ := hvc
    obtain ⟨d9, k9, hd9, hk9, hC9⟩ := hvc
    refine xw_callV dX3_writeHamlet_20 px_X3_puts pm_X3_puts q3387 q3389 qs95 hcX3 hcK (As := [xi ((97 : Int32) + x1)]) (rest := []) rfl rfl (Nat.le_of_ble_eq_true rfl) hd9 hk9 hC9 (xkV_n fun h5 hvc => ?_) (fun q h hq => xTh_out0 rfl hq)
    refine xw_aload_n dX3_writeHamlet_23 rfl ?_
    refine xw_aload_n dX3_writeHamlet_24 rfl ?_
    refine xw_iload_n dX3_writeHamlet_25 rfl ?_
    refine xw_iconst (0 : Int32) dX3_writeHamlet_26 (by decide) ?_
    obtain ⟨hcK, hvc⟩ := hvc
    obtain ⟨d9, k9, hd9, hk9, hC9⟩ := hvc
    refine xw_callV dX3_writeHamlet_27 px_X3_hamletIs pm_X3_hamletIs q3069 q3071 qs42 hcX3 hcK (As := [xi x1, xi (0 : Int32)]) (rest := [xr (some this)]) rfl rfl (Nat.le_of_ble_eq_true rfl) hd9 hk9 hC9 (xkI_n fun n9 h7 hvc => ?_) (fun q h hq => xTh_out0 rfl hq)
    refine xw_aload_n dX3_writeHamlet_30 rfl ?_
    refine xw_iload_n dX3_writeHamlet_31 rfl ?_
    refine xw_iconst (1 : Int32) dX3_writeHamlet_32 (by decide) ?_
    obtain ⟨hcK, hvc⟩ := hvc
    obtain ⟨d9, k9, hd9, hk9, hC9⟩ := hvc
    refine xw_callV dX3_writeHamlet_33 px_X3_hamletIs pm_X3_hamletIs q3069 q3071 qs42 hcX3 hcK (As := [xi x1, xi (1 : Int32)]) (rest := [xi n9, xr (some this)]) rfl rfl (Nat.le_of_ble_eq_true rfl) hd9 hk9 hC9 (xkI_n fun n12 h10 hvc => ?_) (fun q h hq => xTh_out0 rfl hq)
    obtain ⟨hcK, hvc⟩ := hvc
    obtain ⟨d9, k9, hd9, hk9, hC9⟩ := hvc
    refine xw_callV dX3_writeHamlet_36 px_X3_putsPlace pm_X3_putsPlace q3391 q3393 qs96 hcX3 hcK (As := [xi n9, xi n12]) (rest := []) rfl rfl (Nat.le_of_ble_eq_true rfl) hd9 hk9 hC9 (xkV_n fun h13 hvc => ?_) (fun q h hq => xTh_out0 rfl hq)
    refine xw_aload_n dX3_writeHamlet_39 rfl ?_
    refine xw_aload_n dX3_writeHamlet_40 rfl ?_
    refine xw_iload_n dX3_writeHamlet_41 rfl ?_
    refine xw_iconst (2 : Int32) dX3_writeHamlet_42 (by decide) ?_
    obtain ⟨hcK, hvc⟩ := hvc
    obtain ⟨d9, k9, hd9, hk9, hC9⟩ := hvc
    refine xw_callV dX3_writeHamlet_43 px_X3_hamletIs pm_X3_hamletIs q3069 q3071 qs42 hcX3 hcK (As := [xi x1, xi (2 : Int32)]) (rest := [xr (some this)]) rfl rfl (Nat.le_of_ble_eq_true rfl) hd9 hk9 hC9 (xkI_n fun n17 h15 hvc => ?_) (fun q h hq => xTh_out0 rfl hq)
    obtain ⟨hcK, hvc⟩ := hvc
    obtain ⟨d9, k9, hd9, hk9, hC9⟩ := hvc
    refine xw_callV dX3_writeHamlet_46 px_X3_putsNumber pm_X3_putsNumber q3383 q3385 qs94 hcX3 hcK (As := [xi n17]) (rest := []) rfl rfl (Nat.le_of_ble_eq_true rfl) hd9 hk9 hC9 (xkV_n fun h18 hvc => ?_) (fun q h hq => xTh_out0 rfl hq)
    refine xw_aload_n dX3_writeHamlet_49 rfl ?_
    refine xw_iload_n dX3_writeHamlet_50 rfl ?_
    obtain ⟨hcK, hvc⟩ := hvc
    obtain ⟨d9, k9, hd9, hk9, hC9⟩ := hvc
    refine xw_callV dX3_writeHamlet_51 px_X3_well pm_X3_well q3141 q3143 qs58 hcX3 hcK (As := [xi x1]) (rest := []) rfl rfl (Nat.le_of_ble_eq_true rfl) hd9 hk9 hC9 (xkI_n fun n22 h20 hvc => ?_) (fun q h hq => xTh_out0 rfl hq)
    refine xw_if_lt 72 dX3_writeHamlet_54 rfl (fun hc => ?_) (fun hc => ?_)
    · replace hvc := hvc.1 hc
      refine xw_aload_n dX3_writeHamlet_72 rfl ?_
      refine xw_iload_n dX3_writeHamlet_73 rfl ?_
      refine xw_iconst (3 : Int32) dX3_writeHamlet_74 (by decide) ?_
      obtain ⟨hcK, hvc⟩ := hvc
      obtain ⟨d9, k9, hd9, hk9, hC9⟩ := hvc
      refine xw_callV dX3_writeHamlet_75 px_X3_hamletIs pm_X3_hamletIs q3069 q3071 qs42 hcX3 hcK (As := [xi x1, xi (3 : Int32)]) (rest := []) rfl rfl (Nat.le_of_ble_eq_true rfl) hd9 hk9 hC9 (xkI_n fun n25 h23 hvc => ?_) (fun q h hq => xTh_out0 rfl hq)
      refine xw_if_le 97 dX3_writeHamlet_78 rfl (fun hc => ?_) (fun hc => ?_)
      · replace hvc := hvc.1 hc
        refine xw_aload_n dX3_writeHamlet_97 rfl ?_
        obtain ⟨hcK, n26, hvK, hvc⟩ := hvc
        refine xw_get dX3_writeHamlet_98 hcX3 in_X3 (kf := 13) (by decide) q2992 (fun _ _ _ _ z => z) hcK hvK ?_
        exact xw_iret dX3_writeHamlet_101 rfl hvc
      · replace hvc := hvc.2 hc
        refine xw_aload_n dX3_writeHamlet_81 rfl ?_
        refine xw_bipush (33 : Int32) dX3_writeHamlet_82 (by decide) ?_
        obtain ⟨hcK, hvc⟩ := hvc
        obtain ⟨d9, k9, hd9, hk9, hC9⟩ := hvc
        refine xw_callV dX3_writeHamlet_84 px_X3_puts pm_X3_puts q3387 q3389 qs95 hcX3 hcK (As := [xi (33 : Int32)]) (rest := []) rfl rfl (Nat.le_of_ble_eq_true rfl) hd9 hk9 hC9 (xkV_n fun h27 hvc => ?_) (fun q h hq => xTh_out0 rfl hq)
        refine xw_aload_n dX3_writeHamlet_87 rfl ?_
        refine xw_aload_n dX3_writeHamlet_88 rfl ?_
        refine xw_iload_n dX3_writeHamlet_89 rfl ?_
        refine xw_iconst (3 : Int32) dX3_writeHamlet_90 (by decide) ?_
        obtain ⟨hcK, hvc⟩ := hvc
        obtain ⟨d9, k9, hd9, hk9, hC9⟩ := hvc
        refine xw_callV dX3_writeHamlet_91 px_X3_hamletIs pm_X3_hamletIs q3069 q3071 qs42 hcX3 hcK (As := [xi x1, xi (3 : Int32)]) (rest := [xr (some this)]) rfl rfl (Nat.le_of_ble_eq_true rfl) hd9 hk9 hC9 (xkI_n fun n31 h29 hvc => ?_) (fun q h hq => xTh_out0 rfl hq)
        obtain ⟨hcK, hvc⟩ := hvc
        obtain ⟨d9, k9, hd9, hk9, hC9⟩ := hvc
        refine xw_callV dX3_writeHamlet_94 px_X3_putsNumber pm_X3_putsNumber q3383 q3385 qs94 hcX3 hcK (As := [xi n31]) (rest := []) rfl rfl (Nat.le_of_ble_eq_true rfl) hd9 hk9 hC9 (xkV_n fun h32 hvc => ?_) (fun q h hq => xTh_out0 rfl hq)
        refine xw_aload_n dX3_writeHamlet_97 rfl ?_
        obtain ⟨hcK, n34, hvK, hvc⟩ := hvc
        refine xw_get dX3_writeHamlet_98 hcX3 in_X3 (kf := 13) (by decide) q2992 (fun _ _ _ _ z => z) hcK hvK ?_
        exact xw_iret dX3_writeHamlet_101 rfl hvc
    · replace hvc := hvc.2 hc
      refine xw_aload_n dX3_writeHamlet_57 rfl ?_
      refine xw_bipush (62 : Int32) dX3_writeHamlet_58 (by decide) ?_
      obtain ⟨hcK, hvc⟩ := hvc
      obtain ⟨d9, k9, hd9, hk9, hC9⟩ := hvc
      refine xw_callV dX3_writeHamlet_60 px_X3_puts pm_X3_puts q3387 q3389 qs95 hcX3 hcK (As := [xi (62 : Int32)]) (rest := []) rfl rfl (Nat.le_of_ble_eq_true rfl) hd9 hk9 hC9 (xkV_n fun h35 hvc => ?_) (fun q h hq => xTh_out0 rfl hq)
      refine xw_aload_n dX3_writeHamlet_63 rfl ?_
      refine xw_aload_n dX3_writeHamlet_64 rfl ?_
      refine xw_iload_n dX3_writeHamlet_65 rfl ?_
      obtain ⟨hcK, hvc⟩ := hvc
      obtain ⟨d9, k9, hd9, hk9, hC9⟩ := hvc
      refine xw_callV dX3_writeHamlet_66 px_X3_well pm_X3_well q3141 q3143 qs58 hcX3 hcK (As := [xi x1]) (rest := [xr (some this)]) rfl rfl (Nat.le_of_ble_eq_true rfl) hd9 hk9 hC9 (xkI_n fun n39 h37 hvc => ?_) (fun q h hq => xTh_out0 rfl hq)
      obtain ⟨hcK, hvc⟩ := hvc
      obtain ⟨d9, k9, hd9, hk9, hC9⟩ := hvc
      refine xw_callV dX3_writeHamlet_69 px_X3_putsNumber pm_X3_putsNumber q3383 q3385 qs94 hcX3 hcK (As := [xi n39]) (rest := []) rfl rfl (Nat.le_of_ble_eq_true rfl) hd9 hk9 hC9 (xkV_n fun h40 hvc => ?_) (fun q h hq => xTh_out0 rfl hq)
      refine xw_aload_n dX3_writeHamlet_72 rfl ?_
      refine xw_iload_n dX3_writeHamlet_73 rfl ?_
      refine xw_iconst (3 : Int32) dX3_writeHamlet_74 (by decide) ?_
      obtain ⟨hcK, hvc⟩ := hvc
      obtain ⟨d9, k9, hd9, hk9, hC9⟩ := hvc
      refine xw_callV dX3_writeHamlet_75 px_X3_hamletIs pm_X3_hamletIs q3069 q3071 qs42 hcX3 hcK (As := [xi x1, xi (3 : Int32)]) (rest := []) rfl rfl (Nat.le_of_ble_eq_true rfl) hd9 hk9 hC9 (xkI_n fun n44 h42 hvc => ?_) (fun q h hq => xTh_out0 rfl hq)
      refine xw_if_le 97 dX3_writeHamlet_78 rfl (fun hc => ?_) (fun hc => ?_)
      · replace hvc := hvc.1 hc
        refine xw_aload_n dX3_writeHamlet_97 rfl ?_
        obtain ⟨hcK, n45, hvK, hvc⟩ := hvc
        refine xw_get dX3_writeHamlet_98 hcX3 in_X3 (kf := 13) (by decide) q2992 (fun _ _ _ _ z => z) hcK hvK ?_
        exact xw_iret dX3_writeHamlet_101 rfl hvc
      · replace hvc := hvc.2 hc
        refine xw_aload_n dX3_writeHamlet_81 rfl ?_
        refine xw_bipush (33 : Int32) dX3_writeHamlet_82 (by decide) ?_
        obtain ⟨hcK, hvc⟩ := hvc
        obtain ⟨d9, k9, hd9, hk9, hC9⟩ := hvc
        refine xw_callV dX3_writeHamlet_84 px_X3_puts pm_X3_puts q3387 q3389 qs95 hcX3 hcK (As := [xi (33 : Int32)]) (rest := []) rfl rfl (Nat.le_of_ble_eq_true rfl) hd9 hk9 hC9 (xkV_n fun h46 hvc => ?_) (fun q h hq => xTh_out0 rfl hq)
        refine xw_aload_n dX3_writeHamlet_87 rfl ?_
        refine xw_aload_n dX3_writeHamlet_88 rfl ?_
        refine xw_iload_n dX3_writeHamlet_89 rfl ?_
        refine xw_iconst (3 : Int32) dX3_writeHamlet_90 (by decide) ?_
        obtain ⟨hcK, hvc⟩ := hvc
        obtain ⟨d9, k9, hd9, hk9, hC9⟩ := hvc
        refine xw_callV dX3_writeHamlet_91 px_X3_hamletIs pm_X3_hamletIs q3069 q3071 qs42 hcX3 hcK (As := [xi x1, xi (3 : Int32)]) (rest := [xr (some this)]) rfl rfl (Nat.le_of_ble_eq_true rfl) hd9 hk9 hC9 (xkI_n fun n50 h48 hvc => ?_) (fun q h hq => xTh_out0 rfl hq)
        obtain ⟨hcK, hvc⟩ := hvc
        obtain ⟨d9, k9, hd9, hk9, hC9⟩ := hvc
        refine xw_callV dX3_writeHamlet_94 px_X3_putsNumber pm_X3_putsNumber q3383 q3385 qs94 hcX3 hcK (As := [xi n50]) (rest := []) rfl rfl (Nat.le_of_ble_eq_true rfl) hd9 hk9 hC9 (xkV_n fun h51 hvc => ?_) (fun q h hq => xTh_out0 rfl hq)
        refine xw_aload_n dX3_writeHamlet_97 rfl ?_
        obtain ⟨hcK, n53, hvK, hvc⟩ := hvc
        refine xw_get dX3_writeHamlet_98 hcX3 in_X3 (kf := 13) (by decide) q2992 (fun _ _ _ _ z => z) hcK hvK ?_
        exact xw_iret dX3_writeHamlet_101 rfl hvc
  · replace hvc := hvc.2 hc
    refine xw_iconst (-1 : Int32) dX3_writeHamlet_8 (by decide) ?_
    exact xw_iret dX3_writeHamlet_9 rfl hvc

theorem vc_X3_written {G : xG} {d K : Nat} {Q : xR → xH → Prop} {h : xH} {this : Nat} {x1 : Int32}
    (hvc : xcls h this = 6 ∧ ∃ n1 : Int32, xval h this 13 = xi n1 ∧ xCall G d K mX3_isBetween [xi x1, xi (0 : Int32), xi (n1 - (1 : Int32))] h (xkI (fun n4 h2 k3 => ((n4 = 0 → Q (.inl (some (xi (-1 : Int32)))) h2) ∧ (¬ n4 = 0 → xcls h2 this = 6 ∧ ∃ o5 : Option Nat, xval h2 this 12 = xr o5 ∧ ∃ a6, o5 = some a6 ∧ xcls h2 a6 = 1001 ∧ ∃ i7 : Nat, x1 = nI i7 ∧ i7 < 2147483648 ∧ i7 < xlen h2 a6 ∧ ∃ n8 : Int32, xval h2 a6 i7 = xi n8 ∧ Q (.inl (some (xi n8))) h2))) (fun q h _ => Q (.inr q) h))) : xCn G mX3_written d K [xr (some this), xi x1] h Q := by
  refine xCn_of px_X3_written rfl rfl (Nat.le_of_ble_eq_true rfl) ?_
  show xWp G mX3_written d K Q K 0 [some (xr (some this)), some (xi x1)] [] h
  refine xw_iload_n dX3_written_0 rfl ?_
  refine xw_iconst (0 : Int32) dX3_written_1 (by decide) ?_
  refine xw_aload_n dX3_written_2 rfl ?_
  obtain ⟨hcK, n1, hvK, hvc⟩ := hvc
  refine xw_get dX3_written_3 hcX3 in_X3 (kf := 13) (by decide) q2992 (fun _ _ _ _ z => z) hcK hvK ?_
  refine xw_iconst (1 : Int32) dX3_written_6 (by decide) ?_
  refine xw_isub dX3_written_7 ?_
  obtain ⟨d9, k9, hd9, hk9, hC9⟩ := hvc
  refine xw_callS dX3_written_8 px_X3_isBetween pm_X3_isBetween q3047 q3048 (As := [xi x1, xi (0 : Int32), xi (n1 - (1 : Int32))]) (rest := []) rfl rfl (Nat.le_of_ble_eq_true rfl) hd9 hk9 hC9 (xkI_n fun n4 h2 hvc => ?_) (fun q h hq => xTh_out0 rfl hq)
  refine xw_if_eq 23 dX3_written_11 rfl (fun hc => ?_) (fun hc => ?_)
  · replace hvc := hvc.1 hc
    refine xw_iconst (-1 : Int32) dX3_written_23 (by decide) ?_
    exact xw_iret dX3_written_24 rfl hvc
  · replace hvc := hvc.2 hc
    refine xw_aload_n dX3_written_14 rfl ?_
    obtain ⟨hcK, o5, hvK, hvc⟩ := hvc
    refine xw_get dX3_written_15 hcX3 in_X3 (kf := 12) (by decide) q2991 (fun _ _ _ _ z => z) hcK hvK ?_
    refine xw_iload_n dX3_written_18 rfl ?_
    obtain ⟨a6, ho, hvc⟩ := hvc
    subst ho
    obtain ⟨hcK, i7, hx9, hb9, hi9, n8, hv9, hvc⟩ := hvc
    refine xw_cald (j := 1) dX3_written_19 rfl hcK hx9 hb9 hi9 hv9 ?_
    refine xw_goto 24 dX3_written_20 rfl ?_
    exact xw_iret dX3_written_24 rfl hvc

theorem vc_X3_append {G : xG} {d K : Nat} {Q : xR → xH → Prop} {h : xH} {this : Nat} {x1 : Int32}
    (hvc : xCall G d K mX3_isBetween [xi x1, xi (32 : Int32), xi (126 : Int32)] h (xkI (fun n3 h1 k2 => ((¬ n3 = 0 → xcls h1 this = 6 ∧ ∃ n4 : Int32, xval h1 this 15 = xi n4 ∧ ((¬ n4 = (60 : Int32) → xcls h1 this = 6 ∧ ∃ o5 : Option Nat, xval h1 this 14 = xr o5 ∧ xcls h1 this = 6 ∧ ∃ n6 : Int32, xval h1 this 15 = xi n6 ∧ ∃ a7, o5 = some a7 ∧ xcls h1 a7 = 1001 ∧ ∃ i8 : Nat, n6 = nI i8 ∧ i8 < 2147483648 ∧ i8 < xlen h1 a7 ∧ ∀ n10 : Int32, narrow .char (.int x1) = .int n10 → ∀ h9 : xH, h9 = xput h1 a7 i8 (xi n10) → xcls h9 this = 6 ∧ ∃ n11 : Int32, xval h9 this 15 = xi n11 ∧ xcls h9 this = 6 ∧ ∀ h12 : xH, h12 = xput h9 this 15 (xi (n11 + (1 : Int32))) → xcls h12 this = 6 ∧ ∃ n13 : Int32, xval h12 this 15 = xi n13 ∧ Q (.inl (some (xi n13))) h12) ∧ (n4 = (60 : Int32) → Q (.inl (some (xi (-4 : Int32)))) h1))) ∧ (n3 = 0 → Q (.inl (some (xi (-2 : Int32)))) h1))) (fun q h _ => Q (.inr q) h))) : xCn G mX3_append d K [xr (some this), xi x1] h Q := by
  refine xCn_of px_X3_append rfl rfl (Nat.le_of_ble_eq_true rfl) ?_
  show xWp G mX3_append d K Q K 0 [some (xr (some this)), some (xi x1)] [] h
  refine xw_iload_n dX3_append_0 rfl ?_
  refine xw_bipush (32 : Int32) dX3_append_1 (by decide) ?_
  refine xw_bipush (126 : Int32) dX3_append_3 (by decide) ?_
  obtain ⟨d9, k9, hd9, hk9, hC9⟩ := hvc
  refine xw_callS dX3_append_5 px_X3_isBetween pm_X3_isBetween q3047 q3048 (As := [xi x1, xi (32 : Int32), xi (126 : Int32)]) (rest := []) rfl rfl (Nat.le_of_ble_eq_true rfl) hd9 hk9 hC9 (xkI_n fun n3 h1 hvc => ?_) (fun q h hq => xTh_out0 rfl hq)
  refine xw_if_ne 14 dX3_append_8 rfl (fun hc => ?_) (fun hc => ?_)
  · replace hvc := hvc.1 hc
    refine xw_aload_n dX3_append_14 rfl ?_
    obtain ⟨hcK, n4, hvK, hvc⟩ := hvc
    refine xw_get dX3_append_15 hcX3 in_X3 (kf := 15) (by decide) q2994 (fun _ _ _ _ z => z) hcK hvK ?_
    refine xw_bipush (60 : Int32) dX3_append_18 (by decide) ?_
    refine xw_icmp_ne 26 dX3_append_20 rfl (fun hc => ?_) (fun hc => ?_)
    · replace hvc := hvc.1 hc
      refine xw_aload_n dX3_append_26 rfl ?_
      obtain ⟨hcK, o5, hvK, hvc⟩ := hvc
      refine xw_get dX3_append_27 hcX3 in_X3 (kf := 14) (by decide) q2993 (fun _ _ _ _ z => z) hcK hvK ?_
      refine xw_aload_n dX3_append_30 rfl ?_
      obtain ⟨hcK, n6, hvK, hvc⟩ := hvc
      refine xw_get dX3_append_31 hcX3 in_X3 (kf := 15) (by decide) q2994 (fun _ _ _ _ z => z) hcK hvK ?_
      refine xw_iload_n dX3_append_34 rfl ?_
      obtain ⟨a7, ho, hvc⟩ := hvc
      subst ho
      obtain ⟨hcK, i8, hx9, hb9, hi9, hvc⟩ := hvc
      replace hvc := hvc _ rfl
      refine xw_cast (j := 1) dX3_append_35 rfl hcK (Or.inl rfl) hx9 hb9 hi9 rfl (fun h9 eh9 => ?_)
      replace hvc := hvc h9 eh9
      refine xw_aload_n dX3_append_36 rfl ?_
      refine xw_dup dX3_append_37 rfl ?_
      obtain ⟨hcK, n11, hvK, hvc⟩ := hvc
      refine xw_get dX3_append_38 hcX3 in_X3 (kf := 15) (by decide) q2994 (fun _ _ _ _ z => z) hcK hvK ?_
      refine xw_iconst (1 : Int32) dX3_append_41 (by decide) ?_
      refine xw_iadd dX3_append_42 ?_
      obtain ⟨hcK, hvc⟩ := hvc
      refine xw_put dX3_append_43 hcX3 in_X3 tyX3_ok xnmX3 (kf := 15) (by decide) q2994 (fun _ _ _ _ z => z) rfl rfl rfl hcK (Or.inl rfl) (fun h12 eh9 => ?_)
      replace hvc := hvc h12 eh9
      refine xw_aload_n dX3_append_46 rfl ?_
      obtain ⟨hcK, n13, hvK, hvc⟩ := hvc
      refine xw_get dX3_append_47 hcX3 in_X3 (kf := 15) (by decide) q2994 (fun _ _ _ _ z => z) hcK hvK ?_
      exact xw_iret dX3_append_50 rfl hvc
    · replace hvc := hvc.2 hc
      refine xw_bipush (-4 : Int32) dX3_append_23 (by decide) ?_
      exact xw_iret dX3_append_25 rfl hvc
  · replace hvc := hvc.2 hc
    refine xw_bipush (-2 : Int32) dX3_append_11 (by decide) ?_
    exact xw_iret dX3_append_13 rfl hvc

theorem vc_X3_fault {G : xG} {d K : Nat} {Q : xR → xH → Prop} {h : xH} {this : Nat}
    (hvc : xcls h this = 6 ∧ ∃ n1 : Int32, xval h this 17 = xi n1 ∧ ((0 ≤ n1 → xcls h this = 6 ∧ ∃ n2 : Int32, xval h this 17 = xi n2 ∧ Q (.inl (some (xi n2))) h) ∧ (¬ 0 ≤ n1 → Q (.inl (some (xi (-3 : Int32)))) h))) : xCn G mX3_fault d K [xr (some this)] h Q := by
  refine xCn_of px_X3_fault rfl rfl (Nat.le_of_ble_eq_true rfl) ?_
  show xWp G mX3_fault d K Q K 0 [some (xr (some this))] [] h
  refine xw_aload_n dX3_fault_0 rfl ?_
  obtain ⟨hcK, n1, hvK, hvc⟩ := hvc
  refine xw_get dX3_fault_1 hcX3 in_X3 (kf := 17) (by decide) q2996 (fun _ _ _ _ z => z) hcK hvK ?_
  refine xw_if_ge 12 dX3_fault_4 rfl (fun hc => ?_) (fun hc => ?_)
  · replace hvc := hvc.1 hc
    refine xw_aload_n dX3_fault_12 rfl ?_
    obtain ⟨hcK, n2, hvK, hvc⟩ := hvc
    refine xw_get dX3_fault_13 hcX3 in_X3 (kf := 17) (by decide) q2996 (fun _ _ _ _ z => z) hcK hvK ?_
    exact xw_iret dX3_fault_16 rfl hvc
  · replace hvc := hvc.2 hc
    refine xw_bipush (-3 : Int32) dX3_fault_7 (by decide) ?_
    refine xw_goto 16 dX3_fault_9 rfl ?_
    exact xw_iret dX3_fault_16 rfl hvc

theorem vc_X3_read {G : xG} {d K : Nat} {Q : xR → xH → Prop} {h : xH} {this : Nat}
    (hvc : xcls h this = 6 ∧ xCall G d K mX3_readsAll [xr (some this)] h (xkI (fun n3 h1 k2 => ((¬ n3 = 0 → xcls h1 this = 6 ∧ xCall G d k2 mX3_thinks [xr (some this)] h1 (xkV (fun h4 k5 => xcls h4 this = 6 ∧ xCall G d k5 mX3_notAll [xr (some this)] h4 (xkI (fun n8 h6 k7 => xcls h6 this = 6 ∧ ∀ h9 : xH, h9 = xput h6 this 15 (xi (0 : Int32)) → ((¬ n8 = 0 → xcls h9 this = 6 ∧ xCall G d k7 mX3_forgets [xr (some this)] h9 (xkV (fun h10 k11 => xcls h10 this = 6 ∧ ∃ n12 : Int32, xval h10 this 20 = xi n12 ∧ xcls h10 this = 6 ∧ xCall G d k11 mX3_keepsAt [xr (some this), xi (0 : Int32), xi (10 : Int32), xi n12] h10 (xkV (fun h13 k14 => ((¬ n8 = (-5 : Int32) → ((¬ n8 = (-5 : Int32) → xcls h13 this = 6 ∧ xCall G d k14 mX3_keepsAt [xr (some this), xi (1 : Int32), xi (0 : Int32), xi (0 : Int32)] h13 (xkV (fun h15 k16 => Q (.inl (some (xi (-5 : Int32)))) h15) (fun q h _ => Q (.inr q) h))) ∧ (n8 = (-5 : Int32) → xcls h13 this = 6 ∧ ∃ n17 : Int32, xval h13 this 3 = xi n17 ∧ xcls h13 this = 6 ∧ xCall G d k14 mX3_keepsAt [xr (some this), xi (1 : Int32), xi (0 : Int32), xi n17] h13 (xkV (fun h18 k19 => Q (.inl (some (xi (-5 : Int32)))) h18) (fun q h _ => Q (.inr q) h))))) ∧ (n8 = (-5 : Int32) → xcls h13 this = 6 ∧ ∃ n20 : Int32, xval h13 this 2 = xi n20 ∧ ((¬ n8 = (-5 : Int32) → xcls h13 this = 6 ∧ xCall G d k14 mX3_keepsAt [xr (some this), xi (1 : Int32), xi n20, xi (0 : Int32)] h13 (xkV (fun h21 k22 => Q (.inl (some (xi (-5 : Int32)))) h21) (fun q h _ => Q (.inr q) h))) ∧ (n8 = (-5 : Int32) → xcls h13 this = 6 ∧ ∃ n23 : Int32, xval h13 this 3 = xi n23 ∧ xcls h13 this = 6 ∧ xCall G d k14 mX3_keepsAt [xr (some this), xi (1 : Int32), xi n20, xi n23] h13 (xkV (fun h24 k25 => Q (.inl (some (xi (-5 : Int32)))) h24) (fun q h _ => Q (.inr q) h))))))) (fun q h _ => Q (.inr q) h))) (fun q h _ => Q (.inr q) h))) ∧ (n8 = 0 → xcls h9 this = 6 ∧ xCall G d k7 mX3_keepsMind [xr (some this)] h9 (xkV (fun h26 k27 => xcls h26 this = 6 ∧ ∃ n28 : Int32, xval h26 this 20 = xi n28 ∧ Q (.inl (some (xi n28))) h26) (fun q h _ => Q (.inr q) h))))) (fun q h _ => Q (.inr q) h))) (fun q h _ => Q (.inr q) h))) ∧ (n3 = 0 → xcls h1 this = 6 ∧ ∃ n29 : Int32, xval h1 this 16 = xi n29 ∧ xcls h1 this = 6 ∧ ∀ h30 : xH, h30 = xput h1 this 17 (xi n29) → xcls h30 this = 6 ∧ ∀ h31 : xH, h31 = xput h30 this 15 (xi (0 : Int32)) → Q (.inl (some (xi (-2 : Int32)))) h31))) (fun q h _ => Q (.inr q) h))) : xCn G mX3_read d K [xr (some this)] h Q := by
  refine xCn_of px_X3_read rfl rfl (Nat.le_of_ble_eq_true rfl) ?_
  show xWp G mX3_read d K Q K 0 [some (xr (some this)), none] [] h
  refine xw_aload_n dX3_read_0 rfl ?_
  obtain ⟨hcK, hvc⟩ := hvc
  obtain ⟨d9, k9, hd9, hk9, hC9⟩ := hvc
  refine xw_callV dX3_read_1 px_X3_readsAll pm_X3_readsAll q3415 q3417 qs97 hcX3 hcK (As := []) (rest := []) rfl rfl (Nat.le_of_ble_eq_true rfl) hd9 hk9 hC9 (xkI_n fun n3 h1 hvc => ?_) (fun q h hq => xTh_out0 rfl hq)
  refine xw_if_ne 23 dX3_read_4 rfl (fun hc => ?_) (fun hc => ?_)
  · replace hvc := hvc.1 hc
    refine xw_aload_n dX3_read_23 rfl ?_
    obtain ⟨hcK, hvc⟩ := hvc
    obtain ⟨d9, k9, hd9, hk9, hC9⟩ := hvc
    refine xw_callV dX3_read_24 px_X3_thinks pm_X3_thinks q3085 q3087 qs46 hcX3 hcK (As := []) (rest := []) rfl rfl (Nat.le_of_ble_eq_true rfl) hd9 hk9 hC9 (xkV_n fun h4 hvc => ?_) (fun q h hq => xTh_out0 rfl hq)
    refine xw_aload_n dX3_read_27 rfl ?_
    obtain ⟨hcK, hvc⟩ := hvc
    obtain ⟨d9, k9, hd9, hk9, hC9⟩ := hvc
    refine xw_callV dX3_read_28 px_X3_notAll pm_X3_notAll q3451 q3453 qs106 hcX3 hcK (As := []) (rest := []) rfl rfl (Nat.le_of_ble_eq_true rfl) hd9 hk9 hC9 (xkI_n fun n8 h6 hvc => ?_) (fun q h hq => xTh_out0 rfl hq)
    refine xw_istore_n dX3_read_31 (Nat.le_of_ble_eq_true rfl) (L9 := [some (xr (some this)), some (xi n8)]) rfl ?_
    refine xw_aload_n dX3_read_32 rfl ?_
    refine xw_iconst (0 : Int32) dX3_read_33 (by decide) ?_
    obtain ⟨hcK, hvc⟩ := hvc
    refine xw_put dX3_read_34 hcX3 in_X3 tyX3_ok xnmX3 (kf := 15) (by decide) q2994 (fun _ _ _ _ z => z) rfl rfl rfl hcK (Or.inl rfl) (fun h9 eh9 => ?_)
    replace hvc := hvc h9 eh9
    refine xw_iload_n dX3_read_37 rfl ?_
    refine xw_if_ne 50 dX3_read_38 rfl (fun hc => ?_) (fun hc => ?_)
    · replace hvc := hvc.1 hc
      refine xw_aload_n dX3_read_50 rfl ?_
      obtain ⟨hcK, hvc⟩ := hvc
      obtain ⟨d9, k9, hd9, hk9, hC9⟩ := hvc
      refine xw_callV dX3_read_51 px_X3_forgets pm_X3_forgets q3262 q3264 qs80 hcX3 hcK (As := []) (rest := []) rfl rfl (Nat.le_of_ble_eq_true rfl) hd9 hk9 hC9 (xkV_n fun h10 hvc => ?_) (fun q h hq => xTh_out0 rfl hq)
      refine xw_aload_n dX3_read_54 rfl ?_
      refine xw_iconst (0 : Int32) dX3_read_55 (by decide) ?_
      refine xw_bipush (10 : Int32) dX3_read_56 (by decide) ?_
      refine xw_aload_n dX3_read_58 rfl ?_
      obtain ⟨hcK, n12, hvK, hvc⟩ := hvc
      refine xw_get dX3_read_59 hcX3 in_X3 (kf := 20) (by decide) q2999 (fun _ _ _ _ z => z) hcK hvK ?_
      obtain ⟨hcK, hvc⟩ := hvc
      obtain ⟨d9, k9, hd9, hk9, hC9⟩ := hvc
      refine xw_callV dX3_read_62 px_X3_keepsAt pm_X3_keepsAt q3077 q3079 qs44 hcX3 hcK (As := [xi (0 : Int32), xi (10 : Int32), xi n12]) (rest := []) rfl rfl (Nat.le_of_ble_eq_true rfl) hd9 hk9 hC9 (xkV_n fun h13 hvc => ?_) (fun q h hq => xTh_out0 rfl hq)
      refine xw_aload_n dX3_read_65 rfl ?_
      refine xw_iconst (1 : Int32) dX3_read_66 (by decide) ?_
      refine xw_iload_n dX3_read_67 rfl ?_
      refine xw_bipush (-5 : Int32) dX3_read_68 (by decide) ?_
      refine xw_icmp_ne 80 dX3_read_70 rfl (fun hc => ?_) (fun hc => ?_)
      · replace hvc := hvc.1 hc
        refine xw_iconst (0 : Int32) dX3_read_80 (by decide) ?_
        refine xw_iload_n dX3_read_81 rfl ?_
        refine xw_bipush (-5 : Int32) dX3_read_82 (by decide) ?_
        refine xw_icmp_ne 94 dX3_read_84 rfl (fun hc => ?_) (fun hc => ?_)
        · replace hvc := hvc.1 hc
          refine xw_iconst (0 : Int32) dX3_read_94 (by decide) ?_
          obtain ⟨hcK, hvc⟩ := hvc
          obtain ⟨d9, k9, hd9, hk9, hC9⟩ := hvc
          refine xw_callV dX3_read_95 px_X3_keepsAt pm_X3_keepsAt q3077 q3079 qs44 hcX3 hcK (As := [xi (1 : Int32), xi (0 : Int32), xi (0 : Int32)]) (rest := []) rfl rfl (Nat.le_of_ble_eq_true rfl) hd9 hk9 hC9 (xkV_n fun h15 hvc => ?_) (fun q h hq => xTh_out0 rfl hq)
          refine xw_bipush (-5 : Int32) dX3_read_98 (by decide) ?_
          exact xw_iret dX3_read_100 rfl hvc
        · replace hvc := hvc.2 hc
          refine xw_aload_n dX3_read_87 rfl ?_
          obtain ⟨hcK, n17, hvK, hvc⟩ := hvc
          refine xw_get dX3_read_88 hcX3 in_X3 (kf := 3) (by decide) q2982 (fun _ _ _ _ z => z) hcK hvK ?_
          refine xw_goto 95 dX3_read_91 rfl ?_
          obtain ⟨hcK, hvc⟩ := hvc
          obtain ⟨d9, k9, hd9, hk9, hC9⟩ := hvc
          refine xw_callV dX3_read_95 px_X3_keepsAt pm_X3_keepsAt q3077 q3079 qs44 hcX3 hcK (As := [xi (1 : Int32), xi (0 : Int32), xi n17]) (rest := []) rfl rfl (Nat.le_of_ble_eq_true rfl) hd9 hk9 hC9 (xkV_n fun h18 hvc => ?_) (fun q h hq => xTh_out0 rfl hq)
          refine xw_bipush (-5 : Int32) dX3_read_98 (by decide) ?_
          exact xw_iret dX3_read_100 rfl hvc
      · replace hvc := hvc.2 hc
        refine xw_aload_n dX3_read_73 rfl ?_
        obtain ⟨hcK, n20, hvK, hvc⟩ := hvc
        refine xw_get dX3_read_74 hcX3 in_X3 (kf := 2) (by decide) q2981 (fun _ _ _ _ z => z) hcK hvK ?_
        refine xw_goto 81 dX3_read_77 rfl ?_
        refine xw_iload_n dX3_read_81 rfl ?_
        refine xw_bipush (-5 : Int32) dX3_read_82 (by decide) ?_
        refine xw_icmp_ne 94 dX3_read_84 rfl (fun hc => ?_) (fun hc => ?_)
        · replace hvc := hvc.1 hc
          refine xw_iconst (0 : Int32) dX3_read_94 (by decide) ?_
          obtain ⟨hcK, hvc⟩ := hvc
          obtain ⟨d9, k9, hd9, hk9, hC9⟩ := hvc
          refine xw_callV dX3_read_95 px_X3_keepsAt pm_X3_keepsAt q3077 q3079 qs44 hcX3 hcK (As := [xi (1 : Int32), xi n20, xi (0 : Int32)]) (rest := []) rfl rfl (Nat.le_of_ble_eq_true rfl) hd9 hk9 hC9 (xkV_n fun h21 hvc => ?_) (fun q h hq => xTh_out0 rfl hq)
          refine xw_bipush (-5 : Int32) dX3_read_98 (by decide) ?_
          exact xw_iret dX3_read_100 rfl hvc
        · replace hvc := hvc.2 hc
          refine xw_aload_n dX3_read_87 rfl ?_
          obtain ⟨hcK, n23, hvK, hvc⟩ := hvc
          refine xw_get dX3_read_88 hcX3 in_X3 (kf := 3) (by decide) q2982 (fun _ _ _ _ z => z) hcK hvK ?_
          refine xw_goto 95 dX3_read_91 rfl ?_
          obtain ⟨hcK, hvc⟩ := hvc
          obtain ⟨d9, k9, hd9, hk9, hC9⟩ := hvc
          refine xw_callV dX3_read_95 px_X3_keepsAt pm_X3_keepsAt q3077 q3079 qs44 hcX3 hcK (As := [xi (1 : Int32), xi n20, xi n23]) (rest := []) rfl rfl (Nat.le_of_ble_eq_true rfl) hd9 hk9 hC9 (xkV_n fun h24 hvc => ?_) (fun q h hq => xTh_out0 rfl hq)
          refine xw_bipush (-5 : Int32) dX3_read_98 (by decide) ?_
          exact xw_iret dX3_read_100 rfl hvc
    · replace hvc := hvc.2 hc
      refine xw_aload_n dX3_read_41 rfl ?_
      obtain ⟨hcK, hvc⟩ := hvc
      obtain ⟨d9, k9, hd9, hk9, hC9⟩ := hvc
      refine xw_callV dX3_read_42 px_X3_keepsMind pm_X3_keepsMind q3089 q3091 qs47 hcX3 hcK (As := []) (rest := []) rfl rfl (Nat.le_of_ble_eq_true rfl) hd9 hk9 hC9 (xkV_n fun h26 hvc => ?_) (fun q h hq => xTh_out0 rfl hq)
      refine xw_aload_n dX3_read_45 rfl ?_
      obtain ⟨hcK, n28, hvK, hvc⟩ := hvc
      refine xw_get dX3_read_46 hcX3 in_X3 (kf := 20) (by decide) q2999 (fun _ _ _ _ z => z) hcK hvK ?_
      exact xw_iret dX3_read_49 rfl hvc
  · replace hvc := hvc.2 hc
    refine xw_aload_n dX3_read_7 rfl ?_
    refine xw_aload_n dX3_read_8 rfl ?_
    obtain ⟨hcK, n29, hvK, hvc⟩ := hvc
    refine xw_get dX3_read_9 hcX3 in_X3 (kf := 16) (by decide) q2995 (fun _ _ _ _ z => z) hcK hvK ?_
    obtain ⟨hcK, hvc⟩ := hvc
    refine xw_put dX3_read_12 hcX3 in_X3 tyX3_ok xnmX3 (kf := 17) (by decide) q2996 (fun _ _ _ _ z => z) rfl rfl rfl hcK (Or.inl rfl) (fun h30 eh9 => ?_)
    replace hvc := hvc h30 eh9
    refine xw_aload_n dX3_read_15 rfl ?_
    refine xw_iconst (0 : Int32) dX3_read_16 (by decide) ?_
    obtain ⟨hcK, hvc⟩ := hvc
    refine xw_put dX3_read_17 hcX3 in_X3 tyX3_ok xnmX3 (kf := 15) (by decide) q2994 (fun _ _ _ _ z => z) rfl rfl rfl hcK (Or.inl rfl) (fun h31 eh9 => ?_)
    replace hvc := hvc h31 eh9
    refine xw_bipush (-2 : Int32) dX3_read_20 (by decide) ?_
    exact xw_iret dX3_read_22 rfl hvc

theorem vc_X3_readsAll {G : xG} {d K : Nat} {Q : xR → xH → Prop} {h : xH} {this : Nat}
    (hvc : xcls h this = 6 ∧ ∀ h1 : xH, h1 = xput h this 16 (xi (0 : Int32)) → xWp G mX3_readsAll d K Q K 7 [some (xr (some this)), some (xi (1 : Int32))] [] h1) : xCn G mX3_readsAll d K [xr (some this)] h Q := by
  refine xCn_of px_X3_readsAll rfl rfl (Nat.le_of_ble_eq_true rfl) ?_
  show xWp G mX3_readsAll d K Q K 0 [some (xr (some this)), none] [] h
  refine xw_aload_n dX3_readsAll_0 rfl ?_
  refine xw_iconst (0 : Int32) dX3_readsAll_1 (by decide) ?_
  obtain ⟨hcK, hvc⟩ := hvc
  refine xw_put dX3_readsAll_2 hcX3 in_X3 tyX3_ok xnmX3 (kf := 16) (by decide) q2995 (fun _ _ _ _ z => z) rfl rfl rfl hcK (Or.inl rfl) (fun h1 eh9 => ?_)
  replace hvc := hvc h1 eh9
  refine xw_iconst (1 : Int32) dX3_readsAll_5 (by decide) ?_
  refine xw_istore_n dX3_readsAll_6 (Nat.le_of_ble_eq_true rfl) (L9 := [some (xr (some this)), some (xi (1 : Int32))]) rfl ?_
  exact hvc

theorem vc_X3_readsAll_7 {G : xG} {d K k : Nat} {Q : xR → xH → Prop} {h : xH} {this : Nat} {x1 : Int32}
    (hvc : ((x1 = 0 → xcls h this = 6 ∧ ∃ n2 : Int32, xval h this 16 = xi n2 ∧ xcls h this = 6 ∧ ∃ n3 : Int32, xval h this 15 = xi n3 ∧ ((¬ n2 = n3 → Q (.inl (some (xi (0 : Int32)))) h) ∧ (n2 = n3 → Q (.inl (some (xi (1 : Int32)))) h))) ∧ (¬ x1 = 0 → xcls h this = 6 ∧ xCall G d k mX3_readsCommand [xr (some this)] h (xkI (fun n6 h4 k5 => ((¬ n6 = 0 → xcls h4 this = 6 ∧ xCall G d k5 mX3_reads [xr (some this), xi (59 : Int32)] h4 (xkI (fun n9 h7 k8 => xWp G mX3_readsAll d K Q k8 7 [some (xr (some this)), some (xi n9)] [] h7) (fun q h _ => Q (.inr q) h))) ∧ (n6 = 0 → Q (.inl (some (xi (0 : Int32)))) h4))) (fun q h _ => Q (.inr q) h))))) : xWp G mX3_readsAll d K Q k 7 [some (xr (some this)), some (xi x1)] [] h := by
  refine xw_iload_n dX3_readsAll_7 rfl ?_
  refine xw_if_eq 30 dX3_readsAll_8 rfl (fun hc => ?_) (fun hc => ?_)
  · replace hvc := hvc.1 hc
    refine xw_aload_n dX3_readsAll_30 rfl ?_
    obtain ⟨hcK, n2, hvK, hvc⟩ := hvc
    refine xw_get dX3_readsAll_31 hcX3 in_X3 (kf := 16) (by decide) q2995 (fun _ _ _ _ z => z) hcK hvK ?_
    refine xw_aload_n dX3_readsAll_34 rfl ?_
    obtain ⟨hcK, n3, hvK, hvc⟩ := hvc
    refine xw_get dX3_readsAll_35 hcX3 in_X3 (kf := 15) (by decide) q2994 (fun _ _ _ _ z => z) hcK hvK ?_
    refine xw_icmp_ne 45 dX3_readsAll_38 rfl (fun hc => ?_) (fun hc => ?_)
    · replace hvc := hvc.1 hc
      refine xw_iconst (0 : Int32) dX3_readsAll_45 (by decide) ?_
      exact xw_zret dX3_readsAll_46 rfl rfl hvc
    · replace hvc := hvc.2 hc
      refine xw_iconst (1 : Int32) dX3_readsAll_41 (by decide) ?_
      refine xw_goto 46 dX3_readsAll_42 rfl ?_
      exact xw_zret dX3_readsAll_46 rfl rfl hvc
  · replace hvc := hvc.2 hc
    refine xw_aload_n dX3_readsAll_11 rfl ?_
    obtain ⟨hcK, hvc⟩ := hvc
    obtain ⟨d9, k9, hd9, hk9, hC9⟩ := hvc
    refine xw_callV dX3_readsAll_12 px_X3_readsCommand pm_X3_readsCommand q3419 q3421 qs98 hcX3 hcK (As := []) (rest := []) rfl rfl (Nat.le_of_ble_eq_true rfl) hd9 hk9 hC9 (xkI_n fun n6 h4 hvc => ?_) (fun q h hq => xTh_out0 rfl hq)
    refine xw_if_ne 20 dX3_readsAll_15 rfl (fun hc => ?_) (fun hc => ?_)
    · replace hvc := hvc.1 hc
      refine xw_aload_n dX3_readsAll_20 rfl ?_
      refine xw_bipush (59 : Int32) dX3_readsAll_21 (by decide) ?_
      obtain ⟨hcK, hvc⟩ := hvc
      obtain ⟨d9, k9, hd9, hk9, hC9⟩ := hvc
      refine xw_callV dX3_readsAll_23 px_X3_reads pm_X3_reads q3423 q3425 qs99 hcX3 hcK (As := [xi (59 : Int32)]) (rest := []) rfl rfl (Nat.le_of_ble_eq_true rfl) hd9 hk9 hC9 (xkI_n fun n9 h7 hvc => ?_) (fun q h hq => xTh_out0 rfl hq)
      refine xw_istore_n dX3_readsAll_26 (Nat.le_of_ble_eq_true rfl) (L9 := [some (xr (some this)), some (xi n9)]) rfl ?_
      refine xw_goto 7 dX3_readsAll_27 rfl ?_
      exact hvc
    · replace hvc := hvc.2 hc
      refine xw_iconst (0 : Int32) dX3_readsAll_18 (by decide) ?_
      exact xw_zret dX3_readsAll_19 rfl rfl hvc

theorem vc_X3_readsCommand {G : xG} {d K : Nat} {Q : xR → xH → Prop} {h : xH} {this : Nat}
    (hvc : xcls h this = 6 ∧ xCall G d K mX3_reads [xr (some this), xi (104 : Int32)] h (xkI (fun n3 h1 k2 => ((n3 = 0 → xcls h1 this = 6 ∧ xCall G d k2 mX3_reads [xr (some this), xi (115 : Int32)] h1 (xkI (fun n6 h4 k5 => ((n6 = 0 → xcls h4 this = 6 ∧ xCall G d k5 mX3_reads [xr (some this), xi (111 : Int32)] h4 (xkI (fun n9 h7 k8 => ((n9 = 0 → xcls h7 this = 6 ∧ xCall G d k8 mX3_reads [xr (some this), xi (112 : Int32)] h7 (xkI (fun n12 h10 k11 => ((n12 = 0 → xcls h10 this = 6 ∧ ∀ h13 : xH, h13 = xput h10 this 19 (xi (5 : Int32)) → xcls h13 this = 6 ∧ xCall G d k11 mX3_reads [xr (some this), xi (109 : Int32)] h13 (xkI (fun n16 h14 k15 => ((n16 = 0 → Q (.inl (some (xi (0 : Int32)))) h14) ∧ (¬ n16 = 0 → xcls h14 this = 6 ∧ xCall G d k15 mX3_reads [xr (some this), xi (111 : Int32)] h14 (xkI (fun n19 h17 k18 => ((n19 = 0 → Q (.inl (some (xi (0 : Int32)))) h17) ∧ (¬ n19 = 0 → xcls h17 this = 6 ∧ xCall G d k18 mX3_reads [xr (some this), xi (118 : Int32)] h17 (xkI (fun n22 h20 k21 => ((n22 = 0 → Q (.inl (some (xi (0 : Int32)))) h20) ∧ (¬ n22 = 0 → xcls h20 this = 6 ∧ xCall G d k21 mX3_reads [xr (some this), xi (101 : Int32)] h20 (xkI (fun n25 h23 k24 => ((n25 = 0 → Q (.inl (some (xi (0 : Int32)))) h23) ∧ (¬ n25 = 0 → xcls h23 this = 6 ∧ xCall G d k24 mX3_reads [xr (some this), xi (32 : Int32)] h23 (xkI (fun n28 h26 k27 => ((n28 = 0 → Q (.inl (some (xi (0 : Int32)))) h26) ∧ (¬ n28 = 0 → xcls h26 this = 6 ∧ xCall G d k27 mX3_readsDigit [xr (some this), xi (0 : Int32)] h26 (xkI (fun n31 h29 k30 => ((n31 = 0 → Q (.inl (some (xi (0 : Int32)))) h29) ∧ (¬ n31 = 0 → xcls h29 this = 6 ∧ xCall G d k30 mX3_reads [xr (some this), xi (32 : Int32)] h29 (xkI (fun n34 h32 k33 => ((n34 = 0 → Q (.inl (some (xi (0 : Int32)))) h32) ∧ (¬ n34 = 0 → xcls h32 this = 6 ∧ xCall G d k33 mX3_readsDigit [xr (some this), xi (1 : Int32)] h32 (xkI (fun n37 h35 k36 => ((n37 = 0 → Q (.inl (some (xi (0 : Int32)))) h35) ∧ (¬ n37 = 0 → Q (.inl (some (xi (1 : Int32)))) h35))) (fun q h _ => Q (.inr q) h))))) (fun q h _ => Q (.inr q) h))))) (fun q h _ => Q (.inr q) h))))) (fun q h _ => Q (.inr q) h))))) (fun q h _ => Q (.inr q) h))))) (fun q h _ => Q (.inr q) h))))) (fun q h _ => Q (.inr q) h))))) (fun q h _ => Q (.inr q) h))) ∧ (¬ n12 = 0 → xcls h10 this = 6 ∧ xCall G d k11 mX3_readsP [xr (some this)] h10 (xkI (fun n40 h38 k39 => (n40 = 0 ∨ n40 = 1) ∧ Q (.inl (some (xi n40))) h38) (fun q h _ => Q (.inr q) h))))) (fun q h _ => Q (.inr q) h))) ∧ (¬ n9 = 0 → xcls h7 this = 6 ∧ ∀ h41 : xH, h41 = xput h7 this 19 (xi (2 : Int32)) → xcls h41 this = 6 ∧ xCall G d k8 mX3_reads [xr (some this), xi (112 : Int32)] h41 (xkI (fun n44 h42 k43 => ((n44 = 0 → Q (.inl (some (xi (0 : Int32)))) h42) ∧ (¬ n44 = 0 → xcls h42 this = 6 ∧ xCall G d k43 mX3_reads [xr (some this), xi (101 : Int32)] h42 (xkI (fun n47 h45 k46 => ((n47 = 0 → Q (.inl (some (xi (0 : Int32)))) h45) ∧ (¬ n47 = 0 → xcls h45 this = 6 ∧ xCall G d k46 mX3_reads [xr (some this), xi (110 : Int32)] h45 (xkI (fun n50 h48 k49 => ((n50 = 0 → Q (.inl (some (xi (0 : Int32)))) h48) ∧ (¬ n50 = 0 → xcls h48 this = 6 ∧ xCall G d k49 mX3_reads [xr (some this), xi (32 : Int32)] h48 (xkI (fun n53 h51 k52 => ((n53 = 0 → Q (.inl (some (xi (0 : Int32)))) h51) ∧ (¬ n53 = 0 → xcls h51 this = 6 ∧ xCall G d k52 mX3_readsDigit [xr (some this), xi (0 : Int32)] h51 (xkI (fun n56 h54 k55 => ((n56 = 0 → Q (.inl (some (xi (0 : Int32)))) h54) ∧ (¬ n56 = 0 → Q (.inl (some (xi (1 : Int32)))) h54))) (fun q h _ => Q (.inr q) h))))) (fun q h _ => Q (.inr q) h))))) (fun q h _ => Q (.inr q) h))))) (fun q h _ => Q (.inr q) h))))) (fun q h _ => Q (.inr q) h))))) (fun q h _ => Q (.inr q) h))) ∧ (¬ n6 = 0 → xcls h4 this = 6 ∧ xCall G d k5 mX3_readsS [xr (some this)] h4 (xkI (fun n59 h57 k58 => (n59 = 0 ∨ n59 = 1) ∧ Q (.inl (some (xi n59))) h57) (fun q h _ => Q (.inr q) h))))) (fun q h _ => Q (.inr q) h))) ∧ (¬ n3 = 0 → xcls h1 this = 6 ∧ ∀ h60 : xH, h60 = xput h1 this 19 (xi (0 : Int32)) → xcls h60 this = 6 ∧ xCall G d k2 mX3_reads [xr (some this), xi (97 : Int32)] h60 (xkI (fun n63 h61 k62 => ((n63 = 0 → Q (.inl (some (xi (0 : Int32)))) h61) ∧ (¬ n63 = 0 → xcls h61 this = 6 ∧ xCall G d k62 mX3_reads [xr (some this), xi (109 : Int32)] h61 (xkI (fun n66 h64 k65 => ((n66 = 0 → Q (.inl (some (xi (0 : Int32)))) h64) ∧ (¬ n66 = 0 → xcls h64 this = 6 ∧ xCall G d k65 mX3_reads [xr (some this), xi (108 : Int32)] h64 (xkI (fun n69 h67 k68 => ((n69 = 0 → Q (.inl (some (xi (0 : Int32)))) h67) ∧ (¬ n69 = 0 → xcls h67 this = 6 ∧ xCall G d k68 mX3_reads [xr (some this), xi (101 : Int32)] h67 (xkI (fun n72 h70 k71 => ((n72 = 0 → Q (.inl (some (xi (0 : Int32)))) h70) ∧ (¬ n72 = 0 → xcls h70 this = 6 ∧ xCall G d k71 mX3_reads [xr (some this), xi (116 : Int32)] h70 (xkI (fun n75 h73 k74 => ((n75 = 0 → Q (.inl (some (xi (0 : Int32)))) h73) ∧ (¬ n75 = 0 → xcls h73 this = 6 ∧ xCall G d k74 mX3_readsPlace [xr (some this)] h73 (xkI (fun n78 h76 k77 => ((n78 = 0 → Q (.inl (some (xi (0 : Int32)))) h76) ∧ (¬ n78 = 0 → xcls h76 this = 6 ∧ xCall G d k77 mX3_reads [xr (some this), xi (32 : Int32)] h76 (xkI (fun n81 h79 k80 => ((n81 = 0 → Q (.inl (some (xi (0 : Int32)))) h79) ∧ (¬ n81 = 0 → xcls h79 this = 6 ∧ xCall G d k80 mX3_readsNumber [xr (some this), xi (2 : Int32)] h79 (xkI (fun n84 h82 k83 => ((n84 = 0 → Q (.inl (some (xi (0 : Int32)))) h82) ∧ (¬ n84 = 0 → Q (.inl (some (xi (1 : Int32)))) h82))) (fun q h _ => Q (.inr q) h))))) (fun q h _ => Q (.inr q) h))))) (fun q h _ => Q (.inr q) h))))) (fun q h _ => Q (.inr q) h))))) (fun q h _ => Q (.inr q) h))))) (fun q h _ => Q (.inr q) h))))) (fun q h _ => Q (.inr q) h))))) (fun q h _ => Q (.inr q) h))))) (fun q h _ => Q (.inr q) h))) : xCn G mX3_readsCommand d K [xr (some this)] h Q := by
  refine xCn_of px_X3_readsCommand rfl rfl (Nat.le_of_ble_eq_true rfl) ?_
  show xWp G mX3_readsCommand d K Q K 0 [some (xr (some this))] [] h
  refine xw_aload_n dX3_readsCommand_0 rfl ?_
  refine xw_bipush (104 : Int32) dX3_readsCommand_1 (by decide) ?_
  obtain ⟨hcK, hvc⟩ := hvc
  obtain ⟨d9, k9, hd9, hk9, hC9⟩ := hvc
  refine xw_callV dX3_readsCommand_3 px_X3_reads pm_X3_reads q3423 q3425 qs99 hcX3 hcK (As := [xi (104 : Int32)]) (rest := []) rfl rfl (Nat.le_of_ble_eq_true rfl) hd9 hk9 hC9 (xkI_n fun n3 h1 hvc => ?_) (fun q h hq => xTh_out0 rfl hq)
  refine xw_if_eq 89 dX3_readsCommand_6 rfl (fun hc => ?_) (fun hc => ?_)
  · replace hvc := hvc.1 hc
    refine xw_aload_n dX3_readsCommand_89 rfl ?_
    refine xw_bipush (115 : Int32) dX3_readsCommand_90 (by decide) ?_
    obtain ⟨hcK, hvc⟩ := hvc
    obtain ⟨d9, k9, hd9, hk9, hC9⟩ := hvc
    refine xw_callV dX3_readsCommand_92 px_X3_reads pm_X3_reads q3423 q3425 qs99 hcX3 hcK (As := [xi (115 : Int32)]) (rest := []) rfl rfl (Nat.le_of_ble_eq_true rfl) hd9 hk9 hC9 (xkI_n fun n6 h4 hvc => ?_) (fun q h hq => xTh_out0 rfl hq)
    refine xw_if_eq 103 dX3_readsCommand_95 rfl (fun hc => ?_) (fun hc => ?_)
    · replace hvc := hvc.1 hc
      refine xw_aload_n dX3_readsCommand_103 rfl ?_
      refine xw_bipush (111 : Int32) dX3_readsCommand_104 (by decide) ?_
      obtain ⟨hcK, hvc⟩ := hvc
      obtain ⟨d9, k9, hd9, hk9, hC9⟩ := hvc
      refine xw_callV dX3_readsCommand_106 px_X3_reads pm_X3_reads q3423 q3425 qs99 hcX3 hcK (As := [xi (111 : Int32)]) (rest := []) rfl rfl (Nat.le_of_ble_eq_true rfl) hd9 hk9 hC9 (xkI_n fun n9 h7 hvc => ?_) (fun q h hq => xTh_out0 rfl hq)
      refine xw_if_eq 167 dX3_readsCommand_109 rfl (fun hc => ?_) (fun hc => ?_)
      · replace hvc := hvc.1 hc
        refine xw_aload_n dX3_readsCommand_167 rfl ?_
        refine xw_bipush (112 : Int32) dX3_readsCommand_168 (by decide) ?_
        obtain ⟨hcK, hvc⟩ := hvc
        obtain ⟨d9, k9, hd9, hk9, hC9⟩ := hvc
        refine xw_callV dX3_readsCommand_170 px_X3_reads pm_X3_reads q3423 q3425 qs99 hcX3 hcK (As := [xi (112 : Int32)]) (rest := []) rfl rfl (Nat.le_of_ble_eq_true rfl) hd9 hk9 hC9 (xkI_n fun n12 h10 hvc => ?_) (fun q h hq => xTh_out0 rfl hq)
        refine xw_if_eq 181 dX3_readsCommand_173 rfl (fun hc => ?_) (fun hc => ?_)
        · replace hvc := hvc.1 hc
          refine xw_aload_n dX3_readsCommand_181 rfl ?_
          refine xw_iconst (5 : Int32) dX3_readsCommand_182 (by decide) ?_
          obtain ⟨hcK, hvc⟩ := hvc
          refine xw_put dX3_readsCommand_183 hcX3 in_X3 tyX3_ok xnmX3 (kf := 19) (by decide) q2998 (fun _ _ _ _ z => z) rfl rfl rfl hcK (Or.inl rfl) (fun h13 eh9 => ?_)
          replace hvc := hvc h13 eh9
          refine xw_aload_n dX3_readsCommand_186 rfl ?_
          refine xw_bipush (109 : Int32) dX3_readsCommand_187 (by decide) ?_
          obtain ⟨hcK, hvc⟩ := hvc
          obtain ⟨d9, k9, hd9, hk9, hC9⟩ := hvc
          refine xw_callV dX3_readsCommand_189 px_X3_reads pm_X3_reads q3423 q3425 qs99 hcX3 hcK (As := [xi (109 : Int32)]) (rest := []) rfl rfl (Nat.le_of_ble_eq_true rfl) hd9 hk9 hC9 (xkI_n fun n16 h14 hvc => ?_) (fun q h hq => xTh_out0 rfl hq)
          refine xw_if_eq 260 dX3_readsCommand_192 rfl (fun hc => ?_) (fun hc => ?_)
          · replace hvc := hvc.1 hc
            refine xw_iconst (0 : Int32) dX3_readsCommand_260 (by decide) ?_
            exact xw_zret dX3_readsCommand_261 rfl rfl hvc
          · replace hvc := hvc.2 hc
            refine xw_aload_n dX3_readsCommand_195 rfl ?_
            refine xw_bipush (111 : Int32) dX3_readsCommand_196 (by decide) ?_
            obtain ⟨hcK, hvc⟩ := hvc
            obtain ⟨d9, k9, hd9, hk9, hC9⟩ := hvc
            refine xw_callV dX3_readsCommand_198 px_X3_reads pm_X3_reads q3423 q3425 qs99 hcX3 hcK (As := [xi (111 : Int32)]) (rest := []) rfl rfl (Nat.le_of_ble_eq_true rfl) hd9 hk9 hC9 (xkI_n fun n19 h17 hvc => ?_) (fun q h hq => xTh_out0 rfl hq)
            refine xw_if_eq 260 dX3_readsCommand_201 rfl (fun hc => ?_) (fun hc => ?_)
            · replace hvc := hvc.1 hc
              refine xw_iconst (0 : Int32) dX3_readsCommand_260 (by decide) ?_
              exact xw_zret dX3_readsCommand_261 rfl rfl hvc
            · replace hvc := hvc.2 hc
              refine xw_aload_n dX3_readsCommand_204 rfl ?_
              refine xw_bipush (118 : Int32) dX3_readsCommand_205 (by decide) ?_
              obtain ⟨hcK, hvc⟩ := hvc
              obtain ⟨d9, k9, hd9, hk9, hC9⟩ := hvc
              refine xw_callV dX3_readsCommand_207 px_X3_reads pm_X3_reads q3423 q3425 qs99 hcX3 hcK (As := [xi (118 : Int32)]) (rest := []) rfl rfl (Nat.le_of_ble_eq_true rfl) hd9 hk9 hC9 (xkI_n fun n22 h20 hvc => ?_) (fun q h hq => xTh_out0 rfl hq)
              refine xw_if_eq 260 dX3_readsCommand_210 rfl (fun hc => ?_) (fun hc => ?_)
              · replace hvc := hvc.1 hc
                refine xw_iconst (0 : Int32) dX3_readsCommand_260 (by decide) ?_
                exact xw_zret dX3_readsCommand_261 rfl rfl hvc
              · replace hvc := hvc.2 hc
                refine xw_aload_n dX3_readsCommand_213 rfl ?_
                refine xw_bipush (101 : Int32) dX3_readsCommand_214 (by decide) ?_
                obtain ⟨hcK, hvc⟩ := hvc
                obtain ⟨d9, k9, hd9, hk9, hC9⟩ := hvc
                refine xw_callV dX3_readsCommand_216 px_X3_reads pm_X3_reads q3423 q3425 qs99 hcX3 hcK (As := [xi (101 : Int32)]) (rest := []) rfl rfl (Nat.le_of_ble_eq_true rfl) hd9 hk9 hC9 (xkI_n fun n25 h23 hvc => ?_) (fun q h hq => xTh_out0 rfl hq)
                refine xw_if_eq 260 dX3_readsCommand_219 rfl (fun hc => ?_) (fun hc => ?_)
                · replace hvc := hvc.1 hc
                  refine xw_iconst (0 : Int32) dX3_readsCommand_260 (by decide) ?_
                  exact xw_zret dX3_readsCommand_261 rfl rfl hvc
                · replace hvc := hvc.2 hc
                  refine xw_aload_n dX3_readsCommand_222 rfl ?_
                  refine xw_bipush (32 : Int32) dX3_readsCommand_223 (by decide) ?_
                  obtain ⟨hcK, hvc⟩ := hvc
                  obtain ⟨d9, k9, hd9, hk9, hC9⟩ := hvc
                  refine xw_callV dX3_readsCommand_225 px_X3_reads pm_X3_reads q3423 q3425 qs99 hcX3 hcK (As := [xi (32 : Int32)]) (rest := []) rfl rfl (Nat.le_of_ble_eq_true rfl) hd9 hk9 hC9 (xkI_n fun n28 h26 hvc => ?_) (fun q h hq => xTh_out0 rfl hq)
                  refine xw_if_eq 260 dX3_readsCommand_228 rfl (fun hc => ?_) (fun hc => ?_)
                  · replace hvc := hvc.1 hc
                    refine xw_iconst (0 : Int32) dX3_readsCommand_260 (by decide) ?_
                    exact xw_zret dX3_readsCommand_261 rfl rfl hvc
                  · replace hvc := hvc.2 hc
                    refine xw_aload_n dX3_readsCommand_231 rfl ?_
                    refine xw_iconst (0 : Int32) dX3_readsCommand_232 (by decide) ?_
                    obtain ⟨hcK, hvc⟩ := hvc
                    obtain ⟨d9, k9, hd9, hk9, hC9⟩ := hvc
                    refine xw_callV dX3_readsCommand_233 px_X3_readsDigit pm_X3_readsDigit q3439 q3441 qs103 hcX3 hcK (As := [xi (0 : Int32)]) (rest := []) rfl rfl (Nat.le_of_ble_eq_true rfl) hd9 hk9 hC9 (xkI_n fun n31 h29 hvc => ?_) (fun q h hq => xTh_out0 rfl hq)
                    refine xw_if_eq 260 dX3_readsCommand_236 rfl (fun hc => ?_) (fun hc => ?_)
                    · replace hvc := hvc.1 hc
                      refine xw_iconst (0 : Int32) dX3_readsCommand_260 (by decide) ?_
                      exact xw_zret dX3_readsCommand_261 rfl rfl hvc
                    · replace hvc := hvc.2 hc
                      refine xw_aload_n dX3_readsCommand_239 rfl ?_
                      refine xw_bipush (32 : Int32) dX3_readsCommand_240 (by decide) ?_
                      obtain ⟨hcK, hvc⟩ := hvc
                      obtain ⟨d9, k9, hd9, hk9, hC9⟩ := hvc
                      refine xw_callV dX3_readsCommand_242 px_X3_reads pm_X3_reads q3423 q3425 qs99 hcX3 hcK (As := [xi (32 : Int32)]) (rest := []) rfl rfl (Nat.le_of_ble_eq_true rfl) hd9 hk9 hC9 (xkI_n fun n34 h32 hvc => ?_) (fun q h hq => xTh_out0 rfl hq)
                      refine xw_if_eq 260 dX3_readsCommand_245 rfl (fun hc => ?_) (fun hc => ?_)
                      · replace hvc := hvc.1 hc
                        refine xw_iconst (0 : Int32) dX3_readsCommand_260 (by decide) ?_
                        exact xw_zret dX3_readsCommand_261 rfl rfl hvc
                      · replace hvc := hvc.2 hc
                        refine xw_aload_n dX3_readsCommand_248 rfl ?_
                        refine xw_iconst (1 : Int32) dX3_readsCommand_249 (by decide) ?_
                        obtain ⟨hcK, hvc⟩ := hvc
                        obtain ⟨d9, k9, hd9, hk9, hC9⟩ := hvc
                        refine xw_callV dX3_readsCommand_250 px_X3_readsDigit pm_X3_readsDigit q3439 q3441 qs103 hcX3 hcK (As := [xi (1 : Int32)]) (rest := []) rfl rfl (Nat.le_of_ble_eq_true rfl) hd9 hk9 hC9 (xkI_n fun n37 h35 hvc => ?_) (fun q h hq => xTh_out0 rfl hq)
                        refine xw_if_eq 260 dX3_readsCommand_253 rfl (fun hc => ?_) (fun hc => ?_)
                        · replace hvc := hvc.1 hc
                          refine xw_iconst (0 : Int32) dX3_readsCommand_260 (by decide) ?_
                          exact xw_zret dX3_readsCommand_261 rfl rfl hvc
                        · replace hvc := hvc.2 hc
                          refine xw_iconst (1 : Int32) dX3_readsCommand_256 (by decide) ?_
                          refine xw_goto 261 dX3_readsCommand_257 rfl ?_
                          exact xw_zret dX3_readsCommand_261 rfl rfl hvc
        · replace hvc := hvc.2 hc
          refine xw_aload_n dX3_readsCommand_176 rfl ?_
          obtain ⟨hcK, hvc⟩ := hvc
          obtain ⟨d9, k9, hd9, hk9, hC9⟩ := hvc
          refine xw_callV dX3_readsCommand_177 px_X3_readsP pm_X3_readsP q3447 q3449 qs105 hcX3 hcK (As := []) (rest := []) rfl rfl (Nat.le_of_ble_eq_true rfl) hd9 hk9 hC9 (xkI_n fun n40 h38 hvc => ?_) (fun q h hq => xTh_out0 rfl hq)
          exact xw_zret dX3_readsCommand_180 rfl (xnb hvc.1).1 hvc.2
      · replace hvc := hvc.2 hc
        refine xw_aload_n dX3_readsCommand_112 rfl ?_
        refine xw_iconst (2 : Int32) dX3_readsCommand_113 (by decide) ?_
        obtain ⟨hcK, hvc⟩ := hvc
        refine xw_put dX3_readsCommand_114 hcX3 in_X3 tyX3_ok xnmX3 (kf := 19) (by decide) q2998 (fun _ _ _ _ z => z) rfl rfl rfl hcK (Or.inl rfl) (fun h41 eh9 => ?_)
        replace hvc := hvc h41 eh9
        refine xw_aload_n dX3_readsCommand_117 rfl ?_
        refine xw_bipush (112 : Int32) dX3_readsCommand_118 (by decide) ?_
        obtain ⟨hcK, hvc⟩ := hvc
        obtain ⟨d9, k9, hd9, hk9, hC9⟩ := hvc
        refine xw_callV dX3_readsCommand_120 px_X3_reads pm_X3_reads q3423 q3425 qs99 hcX3 hcK (As := [xi (112 : Int32)]) (rest := []) rfl rfl (Nat.le_of_ble_eq_true rfl) hd9 hk9 hC9 (xkI_n fun n44 h42 hvc => ?_) (fun q h hq => xTh_out0 rfl hq)
        refine xw_if_eq 165 dX3_readsCommand_123 rfl (fun hc => ?_) (fun hc => ?_)
        · replace hvc := hvc.1 hc
          refine xw_iconst (0 : Int32) dX3_readsCommand_165 (by decide) ?_
          exact xw_zret dX3_readsCommand_166 rfl rfl hvc
        · replace hvc := hvc.2 hc
          refine xw_aload_n dX3_readsCommand_126 rfl ?_
          refine xw_bipush (101 : Int32) dX3_readsCommand_127 (by decide) ?_
          obtain ⟨hcK, hvc⟩ := hvc
          obtain ⟨d9, k9, hd9, hk9, hC9⟩ := hvc
          refine xw_callV dX3_readsCommand_129 px_X3_reads pm_X3_reads q3423 q3425 qs99 hcX3 hcK (As := [xi (101 : Int32)]) (rest := []) rfl rfl (Nat.le_of_ble_eq_true rfl) hd9 hk9 hC9 (xkI_n fun n47 h45 hvc => ?_) (fun q h hq => xTh_out0 rfl hq)
          refine xw_if_eq 165 dX3_readsCommand_132 rfl (fun hc => ?_) (fun hc => ?_)
          · replace hvc := hvc.1 hc
            refine xw_iconst (0 : Int32) dX3_readsCommand_165 (by decide) ?_
            exact xw_zret dX3_readsCommand_166 rfl rfl hvc
          · replace hvc := hvc.2 hc
            refine xw_aload_n dX3_readsCommand_135 rfl ?_
            refine xw_bipush (110 : Int32) dX3_readsCommand_136 (by decide) ?_
            obtain ⟨hcK, hvc⟩ := hvc
            obtain ⟨d9, k9, hd9, hk9, hC9⟩ := hvc
            refine xw_callV dX3_readsCommand_138 px_X3_reads pm_X3_reads q3423 q3425 qs99 hcX3 hcK (As := [xi (110 : Int32)]) (rest := []) rfl rfl (Nat.le_of_ble_eq_true rfl) hd9 hk9 hC9 (xkI_n fun n50 h48 hvc => ?_) (fun q h hq => xTh_out0 rfl hq)
            refine xw_if_eq 165 dX3_readsCommand_141 rfl (fun hc => ?_) (fun hc => ?_)
            · replace hvc := hvc.1 hc
              refine xw_iconst (0 : Int32) dX3_readsCommand_165 (by decide) ?_
              exact xw_zret dX3_readsCommand_166 rfl rfl hvc
            · replace hvc := hvc.2 hc
              refine xw_aload_n dX3_readsCommand_144 rfl ?_
              refine xw_bipush (32 : Int32) dX3_readsCommand_145 (by decide) ?_
              obtain ⟨hcK, hvc⟩ := hvc
              obtain ⟨d9, k9, hd9, hk9, hC9⟩ := hvc
              refine xw_callV dX3_readsCommand_147 px_X3_reads pm_X3_reads q3423 q3425 qs99 hcX3 hcK (As := [xi (32 : Int32)]) (rest := []) rfl rfl (Nat.le_of_ble_eq_true rfl) hd9 hk9 hC9 (xkI_n fun n53 h51 hvc => ?_) (fun q h hq => xTh_out0 rfl hq)
              refine xw_if_eq 165 dX3_readsCommand_150 rfl (fun hc => ?_) (fun hc => ?_)
              · replace hvc := hvc.1 hc
                refine xw_iconst (0 : Int32) dX3_readsCommand_165 (by decide) ?_
                exact xw_zret dX3_readsCommand_166 rfl rfl hvc
              · replace hvc := hvc.2 hc
                refine xw_aload_n dX3_readsCommand_153 rfl ?_
                refine xw_iconst (0 : Int32) dX3_readsCommand_154 (by decide) ?_
                obtain ⟨hcK, hvc⟩ := hvc
                obtain ⟨d9, k9, hd9, hk9, hC9⟩ := hvc
                refine xw_callV dX3_readsCommand_155 px_X3_readsDigit pm_X3_readsDigit q3439 q3441 qs103 hcX3 hcK (As := [xi (0 : Int32)]) (rest := []) rfl rfl (Nat.le_of_ble_eq_true rfl) hd9 hk9 hC9 (xkI_n fun n56 h54 hvc => ?_) (fun q h hq => xTh_out0 rfl hq)
                refine xw_if_eq 165 dX3_readsCommand_158 rfl (fun hc => ?_) (fun hc => ?_)
                · replace hvc := hvc.1 hc
                  refine xw_iconst (0 : Int32) dX3_readsCommand_165 (by decide) ?_
                  exact xw_zret dX3_readsCommand_166 rfl rfl hvc
                · replace hvc := hvc.2 hc
                  refine xw_iconst (1 : Int32) dX3_readsCommand_161 (by decide) ?_
                  refine xw_goto 166 dX3_readsCommand_162 rfl ?_
                  exact xw_zret dX3_readsCommand_166 rfl rfl hvc
    · replace hvc := hvc.2 hc
      refine xw_aload_n dX3_readsCommand_98 rfl ?_
      obtain ⟨hcK, hvc⟩ := hvc
      obtain ⟨d9, k9, hd9, hk9, hC9⟩ := hvc
      refine xw_callV dX3_readsCommand_99 px_X3_readsS pm_X3_readsS q3443 q3445 qs104 hcX3 hcK (As := []) (rest := []) rfl rfl (Nat.le_of_ble_eq_true rfl) hd9 hk9 hC9 (xkI_n fun n59 h57 hvc => ?_) (fun q h hq => xTh_out0 rfl hq)
      exact xw_zret dX3_readsCommand_102 rfl (xnb hvc.1).1 hvc.2
  · replace hvc := hvc.2 hc
    refine xw_aload_n dX3_readsCommand_9 rfl ?_
    refine xw_iconst (0 : Int32) dX3_readsCommand_10 (by decide) ?_
    obtain ⟨hcK, hvc⟩ := hvc
    refine xw_put dX3_readsCommand_11 hcX3 in_X3 tyX3_ok xnmX3 (kf := 19) (by decide) q2998 (fun _ _ _ _ z => z) rfl rfl rfl hcK (Or.inl rfl) (fun h60 eh9 => ?_)
    replace hvc := hvc h60 eh9
    refine xw_aload_n dX3_readsCommand_14 rfl ?_
    refine xw_bipush (97 : Int32) dX3_readsCommand_15 (by decide) ?_
    obtain ⟨hcK, hvc⟩ := hvc
    obtain ⟨d9, k9, hd9, hk9, hC9⟩ := hvc
    refine xw_callV dX3_readsCommand_17 px_X3_reads pm_X3_reads q3423 q3425 qs99 hcX3 hcK (As := [xi (97 : Int32)]) (rest := []) rfl rfl (Nat.le_of_ble_eq_true rfl) hd9 hk9 hC9 (xkI_n fun n63 h61 hvc => ?_) (fun q h hq => xTh_out0 rfl hq)
    refine xw_if_eq 87 dX3_readsCommand_20 rfl (fun hc => ?_) (fun hc => ?_)
    · replace hvc := hvc.1 hc
      refine xw_iconst (0 : Int32) dX3_readsCommand_87 (by decide) ?_
      exact xw_zret dX3_readsCommand_88 rfl rfl hvc
    · replace hvc := hvc.2 hc
      refine xw_aload_n dX3_readsCommand_23 rfl ?_
      refine xw_bipush (109 : Int32) dX3_readsCommand_24 (by decide) ?_
      obtain ⟨hcK, hvc⟩ := hvc
      obtain ⟨d9, k9, hd9, hk9, hC9⟩ := hvc
      refine xw_callV dX3_readsCommand_26 px_X3_reads pm_X3_reads q3423 q3425 qs99 hcX3 hcK (As := [xi (109 : Int32)]) (rest := []) rfl rfl (Nat.le_of_ble_eq_true rfl) hd9 hk9 hC9 (xkI_n fun n66 h64 hvc => ?_) (fun q h hq => xTh_out0 rfl hq)
      refine xw_if_eq 87 dX3_readsCommand_29 rfl (fun hc => ?_) (fun hc => ?_)
      · replace hvc := hvc.1 hc
        refine xw_iconst (0 : Int32) dX3_readsCommand_87 (by decide) ?_
        exact xw_zret dX3_readsCommand_88 rfl rfl hvc
      · replace hvc := hvc.2 hc
        refine xw_aload_n dX3_readsCommand_32 rfl ?_
        refine xw_bipush (108 : Int32) dX3_readsCommand_33 (by decide) ?_
        obtain ⟨hcK, hvc⟩ := hvc
        obtain ⟨d9, k9, hd9, hk9, hC9⟩ := hvc
        refine xw_callV dX3_readsCommand_35 px_X3_reads pm_X3_reads q3423 q3425 qs99 hcX3 hcK (As := [xi (108 : Int32)]) (rest := []) rfl rfl (Nat.le_of_ble_eq_true rfl) hd9 hk9 hC9 (xkI_n fun n69 h67 hvc => ?_) (fun q h hq => xTh_out0 rfl hq)
        refine xw_if_eq 87 dX3_readsCommand_38 rfl (fun hc => ?_) (fun hc => ?_)
        · replace hvc := hvc.1 hc
          refine xw_iconst (0 : Int32) dX3_readsCommand_87 (by decide) ?_
          exact xw_zret dX3_readsCommand_88 rfl rfl hvc
        · replace hvc := hvc.2 hc
          refine xw_aload_n dX3_readsCommand_41 rfl ?_
          refine xw_bipush (101 : Int32) dX3_readsCommand_42 (by decide) ?_
          obtain ⟨hcK, hvc⟩ := hvc
          obtain ⟨d9, k9, hd9, hk9, hC9⟩ := hvc
          refine xw_callV dX3_readsCommand_44 px_X3_reads pm_X3_reads q3423 q3425 qs99 hcX3 hcK (As := [xi (101 : Int32)]) (rest := []) rfl rfl (Nat.le_of_ble_eq_true rfl) hd9 hk9 hC9 (xkI_n fun n72 h70 hvc => ?_) (fun q h hq => xTh_out0 rfl hq)
          refine xw_if_eq 87 dX3_readsCommand_47 rfl (fun hc => ?_) (fun hc => ?_)
          · replace hvc := hvc.1 hc
            refine xw_iconst (0 : Int32) dX3_readsCommand_87 (by decide) ?_
            exact xw_zret dX3_readsCommand_88 rfl rfl hvc
          · replace hvc := hvc.2 hc
            refine xw_aload_n dX3_readsCommand_50 rfl ?_
            refine xw_bipush (116 : Int32) dX3_readsCommand_51 (by decide) ?_
            obtain ⟨hcK, hvc⟩ := hvc
            obtain ⟨d9, k9, hd9, hk9, hC9⟩ := hvc
            refine xw_callV dX3_readsCommand_53 px_X3_reads pm_X3_reads q3423 q3425 qs99 hcX3 hcK (As := [xi (116 : Int32)]) (rest := []) rfl rfl (Nat.le_of_ble_eq_true rfl) hd9 hk9 hC9 (xkI_n fun n75 h73 hvc => ?_) (fun q h hq => xTh_out0 rfl hq)
            refine xw_if_eq 87 dX3_readsCommand_56 rfl (fun hc => ?_) (fun hc => ?_)
            · replace hvc := hvc.1 hc
              refine xw_iconst (0 : Int32) dX3_readsCommand_87 (by decide) ?_
              exact xw_zret dX3_readsCommand_88 rfl rfl hvc
            · replace hvc := hvc.2 hc
              refine xw_aload_n dX3_readsCommand_59 rfl ?_
              obtain ⟨hcK, hvc⟩ := hvc
              obtain ⟨d9, k9, hd9, hk9, hC9⟩ := hvc
              refine xw_callV dX3_readsCommand_60 px_X3_readsPlace pm_X3_readsPlace q3431 q3433 qs101 hcX3 hcK (As := []) (rest := []) rfl rfl (Nat.le_of_ble_eq_true rfl) hd9 hk9 hC9 (xkI_n fun n78 h76 hvc => ?_) (fun q h hq => xTh_out0 rfl hq)
              refine xw_if_eq 87 dX3_readsCommand_63 rfl (fun hc => ?_) (fun hc => ?_)
              · replace hvc := hvc.1 hc
                refine xw_iconst (0 : Int32) dX3_readsCommand_87 (by decide) ?_
                exact xw_zret dX3_readsCommand_88 rfl rfl hvc
              · replace hvc := hvc.2 hc
                refine xw_aload_n dX3_readsCommand_66 rfl ?_
                refine xw_bipush (32 : Int32) dX3_readsCommand_67 (by decide) ?_
                obtain ⟨hcK, hvc⟩ := hvc
                obtain ⟨d9, k9, hd9, hk9, hC9⟩ := hvc
                refine xw_callV dX3_readsCommand_69 px_X3_reads pm_X3_reads q3423 q3425 qs99 hcX3 hcK (As := [xi (32 : Int32)]) (rest := []) rfl rfl (Nat.le_of_ble_eq_true rfl) hd9 hk9 hC9 (xkI_n fun n81 h79 hvc => ?_) (fun q h hq => xTh_out0 rfl hq)
                refine xw_if_eq 87 dX3_readsCommand_72 rfl (fun hc => ?_) (fun hc => ?_)
                · replace hvc := hvc.1 hc
                  refine xw_iconst (0 : Int32) dX3_readsCommand_87 (by decide) ?_
                  exact xw_zret dX3_readsCommand_88 rfl rfl hvc
                · replace hvc := hvc.2 hc
                  refine xw_aload_n dX3_readsCommand_75 rfl ?_
                  refine xw_iconst (2 : Int32) dX3_readsCommand_76 (by decide) ?_
                  obtain ⟨hcK, hvc⟩ := hvc
                  obtain ⟨d9, k9, hd9, hk9, hC9⟩ := hvc
                  refine xw_callV dX3_readsCommand_77 px_X3_readsNumber pm_X3_readsNumber q3435 q3437 qs102 hcX3 hcK (As := [xi (2 : Int32)]) (rest := []) rfl rfl (Nat.le_of_ble_eq_true rfl) hd9 hk9 hC9 (xkI_n fun n84 h82 hvc => ?_) (fun q h hq => xTh_out0 rfl hq)
                  refine xw_if_eq 87 dX3_readsCommand_80 rfl (fun hc => ?_) (fun hc => ?_)
                  · replace hvc := hvc.1 hc
                    refine xw_iconst (0 : Int32) dX3_readsCommand_87 (by decide) ?_
                    exact xw_zret dX3_readsCommand_88 rfl rfl hvc
                  · replace hvc := hvc.2 hc
                    refine xw_iconst (1 : Int32) dX3_readsCommand_83 (by decide) ?_
                    refine xw_goto 88 dX3_readsCommand_84 rfl ?_
                    exact xw_zret dX3_readsCommand_88 rfl rfl hvc

theorem vc_X3_reads {G : xG} {d K : Nat} {Q : xR → xH → Prop} {h : xH} {this : Nat} {x1 : Int32}
    (hvc : xcls h this = 6 ∧ xCall G d K mX3_next_2 [xr (some this)] h (xkI (fun n3 h1 k2 => ((n3 = x1 → xcls h1 this = 6 ∧ ∃ n4 : Int32, xval h1 this 16 = xi n4 ∧ xcls h1 this = 6 ∧ ∀ h5 : xH, h5 = xput h1 this 16 (xi (n4 + (1 : Int32))) → Q (.inl (some (xi (1 : Int32)))) h5) ∧ (¬ n3 = x1 → Q (.inl (some (xi (0 : Int32)))) h1))) (fun q h _ => Q (.inr q) h))) : xCn G mX3_reads d K [xr (some this), xi x1] h Q := by
  refine xCn_of px_X3_reads rfl rfl (Nat.le_of_ble_eq_true rfl) ?_
  show xWp G mX3_reads d K Q K 0 [some (xr (some this)), some (xi x1)] [] h
  refine xw_aload_n dX3_reads_0 rfl ?_
  obtain ⟨hcK, hvc⟩ := hvc
  obtain ⟨d9, k9, hd9, hk9, hC9⟩ := hvc
  refine xw_callV dX3_reads_1 px_X3_next_2 pm_X3_next_2 q3427 q3429 qs100 hcX3 hcK (As := []) (rest := []) rfl rfl (Nat.le_of_ble_eq_true rfl) hd9 hk9 hC9 (xkI_n fun n3 h1 hvc => ?_) (fun q h hq => xTh_out0 rfl hq)
  refine xw_iload_n dX3_reads_4 rfl ?_
  refine xw_icmp_eq 10 dX3_reads_5 rfl (fun hc => ?_) (fun hc => ?_)
  · replace hvc := hvc.1 hc
    refine xw_aload_n dX3_reads_10 rfl ?_
    refine xw_dup dX3_reads_11 rfl ?_
    obtain ⟨hcK, n4, hvK, hvc⟩ := hvc
    refine xw_get dX3_reads_12 hcX3 in_X3 (kf := 16) (by decide) q2995 (fun _ _ _ _ z => z) hcK hvK ?_
    refine xw_iconst (1 : Int32) dX3_reads_15 (by decide) ?_
    refine xw_iadd dX3_reads_16 ?_
    obtain ⟨hcK, hvc⟩ := hvc
    refine xw_put dX3_reads_17 hcX3 in_X3 tyX3_ok xnmX3 (kf := 16) (by decide) q2995 (fun _ _ _ _ z => z) rfl rfl rfl hcK (Or.inl rfl) (fun h5 eh9 => ?_)
    replace hvc := hvc h5 eh9
    refine xw_iconst (1 : Int32) dX3_reads_20 (by decide) ?_
    exact xw_zret dX3_reads_21 rfl rfl hvc
  · replace hvc := hvc.2 hc
    refine xw_iconst (0 : Int32) dX3_reads_8 (by decide) ?_
    exact xw_zret dX3_reads_9 rfl rfl hvc

theorem vc_X3_next_2 {G : xG} {d K : Nat} {Q : xR → xH → Prop} {h : xH} {this : Nat}
    (hvc : xcls h this = 6 ∧ ∃ n1 : Int32, xval h this 16 = xi n1 ∧ xcls h this = 6 ∧ ∃ n2 : Int32, xval h this 15 = xi n2 ∧ ((n2 ≤ n1 → Q (.inl (some (xi (-1 : Int32)))) h) ∧ (¬ n2 ≤ n1 → xcls h this = 6 ∧ ∃ o3 : Option Nat, xval h this 14 = xr o3 ∧ xcls h this = 6 ∧ ∃ n4 : Int32, xval h this 16 = xi n4 ∧ ∃ a5, o3 = some a5 ∧ xcls h a5 = 1001 ∧ ∃ i6 : Nat, n4 = nI i6 ∧ i6 < 2147483648 ∧ i6 < xlen h a5 ∧ ∃ n7 : Int32, xval h a5 i6 = xi n7 ∧ Q (.inl (some (xi n7))) h))) : xCn G mX3_next_2 d K [xr (some this)] h Q := by
  refine xCn_of px_X3_next_2 rfl rfl (Nat.le_of_ble_eq_true rfl) ?_
  show xWp G mX3_next_2 d K Q K 0 [some (xr (some this))] [] h
  refine xw_aload_n dX3_next_2_0 rfl ?_
  obtain ⟨hcK, n1, hvK, hvc⟩ := hvc
  refine xw_get dX3_next_2_1 hcX3 in_X3 (kf := 16) (by decide) q2995 (fun _ _ _ _ z => z) hcK hvK ?_
  refine xw_aload_n dX3_next_2_4 rfl ?_
  obtain ⟨hcK, n2, hvK, hvc⟩ := hvc
  refine xw_get dX3_next_2_5 hcX3 in_X3 (kf := 15) (by decide) q2994 (fun _ _ _ _ z => z) hcK hvK ?_
  refine xw_icmp_ge 23 dX3_next_2_8 rfl (fun hc => ?_) (fun hc => ?_)
  · replace hvc := hvc.1 hc
    refine xw_iconst (-1 : Int32) dX3_next_2_23 (by decide) ?_
    exact xw_iret dX3_next_2_24 rfl hvc
  · replace hvc := hvc.2 hc
    refine xw_aload_n dX3_next_2_11 rfl ?_
    obtain ⟨hcK, o3, hvK, hvc⟩ := hvc
    refine xw_get dX3_next_2_12 hcX3 in_X3 (kf := 14) (by decide) q2993 (fun _ _ _ _ z => z) hcK hvK ?_
    refine xw_aload_n dX3_next_2_15 rfl ?_
    obtain ⟨hcK, n4, hvK, hvc⟩ := hvc
    refine xw_get dX3_next_2_16 hcX3 in_X3 (kf := 16) (by decide) q2995 (fun _ _ _ _ z => z) hcK hvK ?_
    obtain ⟨a5, ho, hvc⟩ := hvc
    subst ho
    obtain ⟨hcK, i6, hx9, hb9, hi9, n7, hv9, hvc⟩ := hvc
    refine xw_cald (j := 1) dX3_next_2_19 rfl hcK hx9 hb9 hi9 hv9 ?_
    refine xw_goto 24 dX3_next_2_20 rfl ?_
    exact xw_iret dX3_next_2_24 rfl hvc

theorem vc_X3_readsPlace {G : xG} {d K : Nat} {Q : xR → xH → Prop} {h : xH} {this : Nat}
    (hvc : xcls h this = 6 ∧ xCall G d K mX3_reads [xr (some this), xi (32 : Int32)] h (xkI (fun n3 h1 k2 => ((n3 = 0 → Q (.inl (some (xi (0 : Int32)))) h1) ∧ (¬ n3 = 0 → xcls h1 this = 6 ∧ xCall G d k2 mX3_readsNumber [xr (some this), xi (0 : Int32)] h1 (xkI (fun n6 h4 k5 => ((n6 = 0 → Q (.inl (some (xi (0 : Int32)))) h4) ∧ (¬ n6 = 0 → xcls h4 this = 6 ∧ xCall G d k5 mX3_reads [xr (some this), xi (44 : Int32)] h4 (xkI (fun n9 h7 k8 => ((n9 = 0 → Q (.inl (some (xi (0 : Int32)))) h7) ∧ (¬ n9 = 0 → xcls h7 this = 6 ∧ xCall G d k8 mX3_readsNumber [xr (some this), xi (1 : Int32)] h7 (xkI (fun n12 h10 k11 => ((n12 = 0 → Q (.inl (some (xi (0 : Int32)))) h10) ∧ (¬ n12 = 0 → Q (.inl (some (xi (1 : Int32)))) h10))) (fun q h _ => Q (.inr q) h))))) (fun q h _ => Q (.inr q) h))))) (fun q h _ => Q (.inr q) h))))) (fun q h _ => Q (.inr q) h))) : xCn G mX3_readsPlace d K [xr (some this)] h Q := by
  refine xCn_of px_X3_readsPlace rfl rfl (Nat.le_of_ble_eq_true rfl) ?_
  show xWp G mX3_readsPlace d K Q K 0 [some (xr (some this))] [] h
  refine xw_aload_n dX3_readsPlace_0 rfl ?_
  refine xw_bipush (32 : Int32) dX3_readsPlace_1 (by decide) ?_
  obtain ⟨hcK, hvc⟩ := hvc
  obtain ⟨d9, k9, hd9, hk9, hC9⟩ := hvc
  refine xw_callV dX3_readsPlace_3 px_X3_reads pm_X3_reads q3423 q3425 qs99 hcX3 hcK (As := [xi (32 : Int32)]) (rest := []) rfl rfl (Nat.le_of_ble_eq_true rfl) hd9 hk9 hC9 (xkI_n fun n3 h1 hvc => ?_) (fun q h hq => xTh_out0 rfl hq)
  refine xw_if_eq 38 dX3_readsPlace_6 rfl (fun hc => ?_) (fun hc => ?_)
  · replace hvc := hvc.1 hc
    refine xw_iconst (0 : Int32) dX3_readsPlace_38 (by decide) ?_
    exact xw_zret dX3_readsPlace_39 rfl rfl hvc
  · replace hvc := hvc.2 hc
    refine xw_aload_n dX3_readsPlace_9 rfl ?_
    refine xw_iconst (0 : Int32) dX3_readsPlace_10 (by decide) ?_
    obtain ⟨hcK, hvc⟩ := hvc
    obtain ⟨d9, k9, hd9, hk9, hC9⟩ := hvc
    refine xw_callV dX3_readsPlace_11 px_X3_readsNumber pm_X3_readsNumber q3435 q3437 qs102 hcX3 hcK (As := [xi (0 : Int32)]) (rest := []) rfl rfl (Nat.le_of_ble_eq_true rfl) hd9 hk9 hC9 (xkI_n fun n6 h4 hvc => ?_) (fun q h hq => xTh_out0 rfl hq)
    refine xw_if_eq 38 dX3_readsPlace_14 rfl (fun hc => ?_) (fun hc => ?_)
    · replace hvc := hvc.1 hc
      refine xw_iconst (0 : Int32) dX3_readsPlace_38 (by decide) ?_
      exact xw_zret dX3_readsPlace_39 rfl rfl hvc
    · replace hvc := hvc.2 hc
      refine xw_aload_n dX3_readsPlace_17 rfl ?_
      refine xw_bipush (44 : Int32) dX3_readsPlace_18 (by decide) ?_
      obtain ⟨hcK, hvc⟩ := hvc
      obtain ⟨d9, k9, hd9, hk9, hC9⟩ := hvc
      refine xw_callV dX3_readsPlace_20 px_X3_reads pm_X3_reads q3423 q3425 qs99 hcX3 hcK (As := [xi (44 : Int32)]) (rest := []) rfl rfl (Nat.le_of_ble_eq_true rfl) hd9 hk9 hC9 (xkI_n fun n9 h7 hvc => ?_) (fun q h hq => xTh_out0 rfl hq)
      refine xw_if_eq 38 dX3_readsPlace_23 rfl (fun hc => ?_) (fun hc => ?_)
      · replace hvc := hvc.1 hc
        refine xw_iconst (0 : Int32) dX3_readsPlace_38 (by decide) ?_
        exact xw_zret dX3_readsPlace_39 rfl rfl hvc
      · replace hvc := hvc.2 hc
        refine xw_aload_n dX3_readsPlace_26 rfl ?_
        refine xw_iconst (1 : Int32) dX3_readsPlace_27 (by decide) ?_
        obtain ⟨hcK, hvc⟩ := hvc
        obtain ⟨d9, k9, hd9, hk9, hC9⟩ := hvc
        refine xw_callV dX3_readsPlace_28 px_X3_readsNumber pm_X3_readsNumber q3435 q3437 qs102 hcX3 hcK (As := [xi (1 : Int32)]) (rest := []) rfl rfl (Nat.le_of_ble_eq_true rfl) hd9 hk9 hC9 (xkI_n fun n12 h10 hvc => ?_) (fun q h hq => xTh_out0 rfl hq)
        refine xw_if_eq 38 dX3_readsPlace_31 rfl (fun hc => ?_) (fun hc => ?_)
        · replace hvc := hvc.1 hc
          refine xw_iconst (0 : Int32) dX3_readsPlace_38 (by decide) ?_
          exact xw_zret dX3_readsPlace_39 rfl rfl hvc
        · replace hvc := hvc.2 hc
          refine xw_iconst (1 : Int32) dX3_readsPlace_34 (by decide) ?_
          refine xw_goto 39 dX3_readsPlace_35 rfl ?_
          exact xw_zret dX3_readsPlace_39 rfl rfl hvc

theorem vc_X3_readsNumber {G : xG} {d K : Nat} {Q : xR → xH → Prop} {h : xH} {this : Nat} {x1 : Int32}
    (hvc : xcls h this = 6 ∧ xCall G d K mX3_readsDigit [xr (some this), xi x1] h (xkI (fun n3 h1 k2 => ((¬ n3 = 0 → xcls h1 this = 6 ∧ ∃ o4 : Option Nat, xval h1 this 18 = xr o4 ∧ ∃ a5, o4 = some a5 ∧ xcls h1 a5 = 1003 ∧ ∃ i6 : Nat, x1 = nI i6 ∧ i6 < 2147483648 ∧ i6 < xlen h1 a5 ∧ ∃ n7 : Int32, xval h1 a5 i6 = xi n7 ∧ xcls h1 this = 6 ∧ xCall G d k2 mX3_readsDigit [xr (some this), xi x1] h1 (xkI (fun n10 h8 k9 => ((n10 = 0 → Q (.inl (some (xi (1 : Int32)))) h8) ∧ (¬ n10 = 0 → xcls h8 this = 6 ∧ ∃ o11 : Option Nat, xval h8 this 18 = xr o11 ∧ ∃ a12, o11 = some a12 ∧ xcls h8 a12 = 1003 ∧ ∃ i13 : Nat, x1 = nI i13 ∧ i13 < 2147483648 ∧ i13 < xlen h8 a12 ∧ ∃ n14 : Int32, xval h8 a12 i13 = xi n14 ∧ xcls h8 a12 = 1003 ∧ ∃ i15 : Nat, x1 = nI i15 ∧ i15 < 2147483648 ∧ i15 < xlen h8 a12 ∧ ∀ h16 : xH, h16 = xput h8 a12 i15 (xi (n14 + ((10 : Int32) * n7))) → Q (.inl (some (xi (1 : Int32)))) h16))) (fun q h _ => Q (.inr q) h))) ∧ (n3 = 0 → Q (.inl (some (xi (0 : Int32)))) h1))) (fun q h _ => Q (.inr q) h))) : xCn G mX3_readsNumber d K [xr (some this), xi x1] h Q := by
  refine xCn_of px_X3_readsNumber rfl rfl (Nat.le_of_ble_eq_true rfl) ?_
  show xWp G mX3_readsNumber d K Q K 0 [some (xr (some this)), some (xi x1), none] [] h
  refine xw_aload_n dX3_readsNumber_0 rfl ?_
  refine xw_iload_n dX3_readsNumber_1 rfl ?_
  obtain ⟨hcK, hvc⟩ := hvc
  obtain ⟨d9, k9, hd9, hk9, hC9⟩ := hvc
  refine xw_callV dX3_readsNumber_2 px_X3_readsDigit pm_X3_readsDigit q3439 q3441 qs103 hcX3 hcK (As := [xi x1]) (rest := []) rfl rfl (Nat.le_of_ble_eq_true rfl) hd9 hk9 hC9 (xkI_n fun n3 h1 hvc => ?_) (fun q h hq => xTh_out0 rfl hq)
  refine xw_if_ne 10 dX3_readsNumber_5 rfl (fun hc => ?_) (fun hc => ?_)
  · replace hvc := hvc.1 hc
    refine xw_aload_n dX3_readsNumber_10 rfl ?_
    obtain ⟨hcK, o4, hvK, hvc⟩ := hvc
    refine xw_get dX3_readsNumber_11 hcX3 in_X3 (kf := 18) (by decide) q2997 (fun _ _ _ _ z => z) hcK hvK ?_
    refine xw_iload_n dX3_readsNumber_14 rfl ?_
    obtain ⟨a5, ho, hvc⟩ := hvc
    subst ho
    obtain ⟨hcK, i6, hx9, hb9, hi9, n7, hv9, hvc⟩ := hvc
    refine xw_iald (j := 3) dX3_readsNumber_15 rfl hcK hx9 hb9 hi9 hv9 ?_
    refine xw_istore_n dX3_readsNumber_16 (Nat.le_of_ble_eq_true rfl) (L9 := [some (xr (some this)), some (xi x1), some (xi n7)]) rfl ?_
    refine xw_aload_n dX3_readsNumber_17 rfl ?_
    refine xw_iload_n dX3_readsNumber_18 rfl ?_
    obtain ⟨hcK, hvc⟩ := hvc
    obtain ⟨d9, k9, hd9, hk9, hC9⟩ := hvc
    refine xw_callV dX3_readsNumber_19 px_X3_readsDigit pm_X3_readsDigit q3439 q3441 qs103 hcX3 hcK (As := [xi x1]) (rest := []) rfl rfl (Nat.le_of_ble_eq_true rfl) hd9 hk9 hC9 (xkI_n fun n10 h8 hvc => ?_) (fun q h hq => xTh_out0 rfl hq)
    refine xw_if_eq 38 dX3_readsNumber_22 rfl (fun hc => ?_) (fun hc => ?_)
    · replace hvc := hvc.1 hc
      refine xw_iconst (1 : Int32) dX3_readsNumber_38 (by decide) ?_
      exact xw_zret dX3_readsNumber_39 rfl rfl hvc
    · replace hvc := hvc.2 hc
      refine xw_aload_n dX3_readsNumber_25 rfl ?_
      obtain ⟨hcK, o11, hvK, hvc⟩ := hvc
      refine xw_get dX3_readsNumber_26 hcX3 in_X3 (kf := 18) (by decide) q2997 (fun _ _ _ _ z => z) hcK hvK ?_
      refine xw_iload_n dX3_readsNumber_29 rfl ?_
      refine xw_dup2 dX3_readsNumber_30 rfl rfl ?_
      obtain ⟨a12, ho, hvc⟩ := hvc
      subst ho
      obtain ⟨hcK, i13, hx9, hb9, hi9, n14, hv9, hvc⟩ := hvc
      refine xw_iald (j := 3) dX3_readsNumber_31 rfl hcK hx9 hb9 hi9 hv9 ?_
      refine xw_bipush (10 : Int32) dX3_readsNumber_32 (by decide) ?_
      refine xw_iload_n dX3_readsNumber_34 rfl ?_
      refine xw_imul dX3_readsNumber_35 ?_
      refine xw_iadd dX3_readsNumber_36 ?_
      obtain ⟨hcK, i15, hx9, hb9, hi9, hvc⟩ := hvc
      refine xw_iast (j := 3) dX3_readsNumber_37 rfl hcK (Or.inl rfl) hx9 hb9 hi9 (fun h16 eh9 => ?_)
      replace hvc := hvc h16 eh9
      refine xw_iconst (1 : Int32) dX3_readsNumber_38 (by decide) ?_
      exact xw_zret dX3_readsNumber_39 rfl rfl hvc
  · replace hvc := hvc.2 hc
    refine xw_iconst (0 : Int32) dX3_readsNumber_8 (by decide) ?_
    exact xw_zret dX3_readsNumber_9 rfl rfl hvc

theorem vc_X3_readsDigit {G : xG} {d K : Nat} {Q : xR → xH → Prop} {h : xH} {this : Nat} {x1 : Int32}
    (hvc : xcls h this = 6 ∧ xCall G d K mX3_next_2 [xr (some this)] h (xkI (fun n3 h1 k2 => xCall G d k2 mX3_isBetween [xi n3, xi (48 : Int32), xi (57 : Int32)] h1 (xkI (fun n6 h4 k5 => ((¬ n6 = 0 → xcls h4 this = 6 ∧ ∃ o7 : Option Nat, xval h4 this 18 = xr o7 ∧ xcls h4 this = 6 ∧ xCall G d k5 mX3_next_2 [xr (some this)] h4 (xkI (fun n10 h8 k9 => ∃ a11, o7 = some a11 ∧ xcls h8 a11 = 1003 ∧ ∃ i12 : Nat, x1 = nI i12 ∧ i12 < 2147483648 ∧ i12 < xlen h8 a11 ∧ ∀ h13 : xH, h13 = xput h8 a11 i12 (xi (n10 - (48 : Int32))) → xcls h13 this = 6 ∧ ∃ n14 : Int32, xval h13 this 16 = xi n14 ∧ xcls h13 this = 6 ∧ ∀ h15 : xH, h15 = xput h13 this 16 (xi (n14 + (1 : Int32))) → Q (.inl (some (xi (1 : Int32)))) h15) (fun q h _ => Q (.inr q) h))) ∧ (n6 = 0 → Q (.inl (some (xi (0 : Int32)))) h4))) (fun q h _ => Q (.inr q) h))) (fun q h _ => Q (.inr q) h))) : xCn G mX3_readsDigit d K [xr (some this), xi x1] h Q := by
  refine xCn_of px_X3_readsDigit rfl rfl (Nat.le_of_ble_eq_true rfl) ?_
  show xWp G mX3_readsDigit d K Q K 0 [some (xr (some this)), some (xi x1)] [] h
  refine xw_aload_n dX3_readsDigit_0 rfl ?_
  obtain ⟨hcK, hvc⟩ := hvc
  obtain ⟨d9, k9, hd9, hk9, hC9⟩ := hvc
  refine xw_callV dX3_readsDigit_1 px_X3_next_2 pm_X3_next_2 q3427 q3429 qs100 hcX3 hcK (As := []) (rest := []) rfl rfl (Nat.le_of_ble_eq_true rfl) hd9 hk9 hC9 (xkI_n fun n3 h1 hvc => ?_) (fun q h hq => xTh_out0 rfl hq)
  refine xw_bipush (48 : Int32) dX3_readsDigit_4 (by decide) ?_
  refine xw_bipush (57 : Int32) dX3_readsDigit_6 (by decide) ?_
  obtain ⟨d9, k9, hd9, hk9, hC9⟩ := hvc
  refine xw_callS dX3_readsDigit_8 px_X3_isBetween pm_X3_isBetween q3047 q3048 (As := [xi n3, xi (48 : Int32), xi (57 : Int32)]) (rest := []) rfl rfl (Nat.le_of_ble_eq_true rfl) hd9 hk9 hC9 (xkI_n fun n6 h4 hvc => ?_) (fun q h hq => xTh_out0 rfl hq)
  refine xw_if_ne 16 dX3_readsDigit_11 rfl (fun hc => ?_) (fun hc => ?_)
  · replace hvc := hvc.1 hc
    refine xw_aload_n dX3_readsDigit_16 rfl ?_
    obtain ⟨hcK, o7, hvK, hvc⟩ := hvc
    refine xw_get dX3_readsDigit_17 hcX3 in_X3 (kf := 18) (by decide) q2997 (fun _ _ _ _ z => z) hcK hvK ?_
    refine xw_iload_n dX3_readsDigit_20 rfl ?_
    refine xw_aload_n dX3_readsDigit_21 rfl ?_
    obtain ⟨hcK, hvc⟩ := hvc
    obtain ⟨d9, k9, hd9, hk9, hC9⟩ := hvc
    refine xw_callV dX3_readsDigit_22 px_X3_next_2 pm_X3_next_2 q3427 q3429 qs100 hcX3 hcK (As := []) (rest := [xi x1, xr o7]) rfl rfl (Nat.le_of_ble_eq_true rfl) hd9 hk9 hC9 (xkI_n fun n10 h8 hvc => ?_) (fun q h hq => xTh_out0 rfl hq)
    refine xw_bipush (48 : Int32) dX3_readsDigit_25 (by decide) ?_
    refine xw_isub dX3_readsDigit_27 ?_
    obtain ⟨a11, ho, hvc⟩ := hvc
    subst ho
    obtain ⟨hcK, i12, hx9, hb9, hi9, hvc⟩ := hvc
    refine xw_iast (j := 3) dX3_readsDigit_28 rfl hcK (Or.inl rfl) hx9 hb9 hi9 (fun h13 eh9 => ?_)
    replace hvc := hvc h13 eh9
    refine xw_aload_n dX3_readsDigit_29 rfl ?_
    refine xw_dup dX3_readsDigit_30 rfl ?_
    obtain ⟨hcK, n14, hvK, hvc⟩ := hvc
    refine xw_get dX3_readsDigit_31 hcX3 in_X3 (kf := 16) (by decide) q2995 (fun _ _ _ _ z => z) hcK hvK ?_
    refine xw_iconst (1 : Int32) dX3_readsDigit_34 (by decide) ?_
    refine xw_iadd dX3_readsDigit_35 ?_
    obtain ⟨hcK, hvc⟩ := hvc
    refine xw_put dX3_readsDigit_36 hcX3 in_X3 tyX3_ok xnmX3 (kf := 16) (by decide) q2995 (fun _ _ _ _ z => z) rfl rfl rfl hcK (Or.inl rfl) (fun h15 eh9 => ?_)
    replace hvc := hvc h15 eh9
    refine xw_iconst (1 : Int32) dX3_readsDigit_39 (by decide) ?_
    exact xw_zret dX3_readsDigit_40 rfl rfl hvc
  · replace hvc := hvc.2 hc
    refine xw_iconst (0 : Int32) dX3_readsDigit_14 (by decide) ?_
    exact xw_zret dX3_readsDigit_15 rfl rfl hvc

theorem vc_X3_readsS {G : xG} {d K : Nat} {Q : xR → xH → Prop} {h : xH} {this : Nat}
    (hvc : xcls h this = 6 ∧ xCall G d K mX3_reads [xr (some this), xi (105 : Int32)] h (xkI (fun n3 h1 k2 => ((n3 = 0 → xcls h1 this = 6 ∧ ∀ h4 : xH, h4 = xput h1 this 19 (xi (3 : Int32)) → xcls h4 this = 6 ∧ xCall G d k2 mX3_reads [xr (some this), xi (104 : Int32)] h4 (xkI (fun n7 h5 k6 => ((n7 = 0 → Q (.inl (some (xi (0 : Int32)))) h5) ∧ (¬ n7 = 0 → xcls h5 this = 6 ∧ xCall G d k6 mX3_reads [xr (some this), xi (117 : Int32)] h5 (xkI (fun n10 h8 k9 => ((n10 = 0 → Q (.inl (some (xi (0 : Int32)))) h8) ∧ (¬ n10 = 0 → xcls h8 this = 6 ∧ xCall G d k9 mX3_reads [xr (some this), xi (116 : Int32)] h8 (xkI (fun n13 h11 k12 => ((n13 = 0 → Q (.inl (some (xi (0 : Int32)))) h11) ∧ (¬ n13 = 0 → xcls h11 this = 6 ∧ xCall G d k12 mX3_reads [xr (some this), xi (32 : Int32)] h11 (xkI (fun n16 h14 k15 => ((n16 = 0 → Q (.inl (some (xi (0 : Int32)))) h14) ∧ (¬ n16 = 0 → xcls h14 this = 6 ∧ xCall G d k15 mX3_readsDigit [xr (some this), xi (0 : Int32)] h14 (xkI (fun n19 h17 k18 => ((n19 = 0 → Q (.inl (some (xi (0 : Int32)))) h17) ∧ (¬ n19 = 0 → Q (.inl (some (xi (1 : Int32)))) h17))) (fun q h _ => Q (.inr q) h))))) (fun q h _ => Q (.inr q) h))))) (fun q h _ => Q (.inr q) h))))) (fun q h _ => Q (.inr q) h))))) (fun q h _ => Q (.inr q) h))) ∧ (¬ n3 = 0 → xcls h1 this = 6 ∧ ∀ h20 : xH, h20 = xput h1 this 19 (xi (1 : Int32)) → xcls h20 this = 6 ∧ xCall G d k2 mX3_reads [xr (some this), xi (116 : Int32)] h20 (xkI (fun n23 h21 k22 => ((n23 = 0 → Q (.inl (some (xi (0 : Int32)))) h21) ∧ (¬ n23 = 0 → xcls h21 this = 6 ∧ xCall G d k22 mX3_reads [xr (some this), xi (101 : Int32)] h21 (xkI (fun n26 h24 k25 => ((n26 = 0 → Q (.inl (some (xi (0 : Int32)))) h24) ∧ (¬ n26 = 0 → xcls h24 this = 6 ∧ xCall G d k25 mX3_readsPlace [xr (some this)] h24 (xkI (fun n29 h27 k28 => ((n29 = 0 → Q (.inl (some (xi (0 : Int32)))) h27) ∧ (¬ n29 = 0 → xcls h27 this = 6 ∧ xCall G d k28 mX3_reads [xr (some this), xi (32 : Int32)] h27 (xkI (fun n32 h30 k31 => ((n32 = 0 → Q (.inl (some (xi (0 : Int32)))) h30) ∧ (¬ n32 = 0 → xcls h30 this = 6 ∧ xCall G d k31 mX3_readsNumber [xr (some this), xi (2 : Int32)] h30 (xkI (fun n35 h33 k34 => ((n35 = 0 → Q (.inl (some (xi (0 : Int32)))) h33) ∧ (¬ n35 = 0 → xcls h33 this = 6 ∧ xCall G d k34 mX3_reads [xr (some this), xi (32 : Int32)] h33 (xkI (fun n38 h36 k37 => ((n38 = 0 → Q (.inl (some (xi (0 : Int32)))) h36) ∧ (¬ n38 = 0 → xcls h36 this = 6 ∧ xCall G d k37 mX3_readsNumber [xr (some this), xi (3 : Int32)] h36 (xkI (fun n41 h39 k40 => ((n41 = 0 → Q (.inl (some (xi (0 : Int32)))) h39) ∧ (¬ n41 = 0 → Q (.inl (some (xi (1 : Int32)))) h39))) (fun q h _ => Q (.inr q) h))))) (fun q h _ => Q (.inr q) h))))) (fun q h _ => Q (.inr q) h))))) (fun q h _ => Q (.inr q) h))))) (fun q h _ => Q (.inr q) h))))) (fun q h _ => Q (.inr q) h))))) (fun q h _ => Q (.inr q) h))))) (fun q h _ => Q (.inr q) h))) : xCn G mX3_readsS d K [xr (some this)] h Q := by
  refine xCn_of px_X3_readsS rfl rfl (Nat.le_of_ble_eq_true rfl) ?_
  show xWp G mX3_readsS d K Q K 0 [some (xr (some this))] [] h
  refine xw_aload_n dX3_readsS_0 rfl ?_
  refine xw_bipush (105 : Int32) dX3_readsS_1 (by decide) ?_
  obtain ⟨hcK, hvc⟩ := hvc
  obtain ⟨d9, k9, hd9, hk9, hC9⟩ := hvc
  refine xw_callV dX3_readsS_3 px_X3_reads pm_X3_reads q3423 q3425 qs99 hcX3 hcK (As := [xi (105 : Int32)]) (rest := []) rfl rfl (Nat.le_of_ble_eq_true rfl) hd9 hk9 hC9 (xkI_n fun n3 h1 hvc => ?_) (fun q h hq => xTh_out0 rfl hq)
  refine xw_if_eq 79 dX3_readsS_6 rfl (fun hc => ?_) (fun hc => ?_)
  · replace hvc := hvc.1 hc
    refine xw_aload_n dX3_readsS_79 rfl ?_
    refine xw_iconst (3 : Int32) dX3_readsS_80 (by decide) ?_
    obtain ⟨hcK, hvc⟩ := hvc
    refine xw_put dX3_readsS_81 hcX3 in_X3 tyX3_ok xnmX3 (kf := 19) (by decide) q2998 (fun _ _ _ _ z => z) rfl rfl rfl hcK (Or.inl rfl) (fun h4 eh9 => ?_)
    replace hvc := hvc h4 eh9
    refine xw_aload_n dX3_readsS_84 rfl ?_
    refine xw_bipush (104 : Int32) dX3_readsS_85 (by decide) ?_
    obtain ⟨hcK, hvc⟩ := hvc
    obtain ⟨d9, k9, hd9, hk9, hC9⟩ := hvc
    refine xw_callV dX3_readsS_87 px_X3_reads pm_X3_reads q3423 q3425 qs99 hcX3 hcK (As := [xi (104 : Int32)]) (rest := []) rfl rfl (Nat.le_of_ble_eq_true rfl) hd9 hk9 hC9 (xkI_n fun n7 h5 hvc => ?_) (fun q h hq => xTh_out0 rfl hq)
    refine xw_if_eq 132 dX3_readsS_90 rfl (fun hc => ?_) (fun hc => ?_)
    · replace hvc := hvc.1 hc
      refine xw_iconst (0 : Int32) dX3_readsS_132 (by decide) ?_
      exact xw_zret dX3_readsS_133 rfl rfl hvc
    · replace hvc := hvc.2 hc
      refine xw_aload_n dX3_readsS_93 rfl ?_
      refine xw_bipush (117 : Int32) dX3_readsS_94 (by decide) ?_
      obtain ⟨hcK, hvc⟩ := hvc
      obtain ⟨d9, k9, hd9, hk9, hC9⟩ := hvc
      refine xw_callV dX3_readsS_96 px_X3_reads pm_X3_reads q3423 q3425 qs99 hcX3 hcK (As := [xi (117 : Int32)]) (rest := []) rfl rfl (Nat.le_of_ble_eq_true rfl) hd9 hk9 hC9 (xkI_n fun n10 h8 hvc => ?_) (fun q h hq => xTh_out0 rfl hq)
      refine xw_if_eq 132 dX3_readsS_99 rfl (fun hc => ?_) (fun hc => ?_)
      · replace hvc := hvc.1 hc
        refine xw_iconst (0 : Int32) dX3_readsS_132 (by decide) ?_
        exact xw_zret dX3_readsS_133 rfl rfl hvc
      · replace hvc := hvc.2 hc
        refine xw_aload_n dX3_readsS_102 rfl ?_
        refine xw_bipush (116 : Int32) dX3_readsS_103 (by decide) ?_
        obtain ⟨hcK, hvc⟩ := hvc
        obtain ⟨d9, k9, hd9, hk9, hC9⟩ := hvc
        refine xw_callV dX3_readsS_105 px_X3_reads pm_X3_reads q3423 q3425 qs99 hcX3 hcK (As := [xi (116 : Int32)]) (rest := []) rfl rfl (Nat.le_of_ble_eq_true rfl) hd9 hk9 hC9 (xkI_n fun n13 h11 hvc => ?_) (fun q h hq => xTh_out0 rfl hq)
        refine xw_if_eq 132 dX3_readsS_108 rfl (fun hc => ?_) (fun hc => ?_)
        · replace hvc := hvc.1 hc
          refine xw_iconst (0 : Int32) dX3_readsS_132 (by decide) ?_
          exact xw_zret dX3_readsS_133 rfl rfl hvc
        · replace hvc := hvc.2 hc
          refine xw_aload_n dX3_readsS_111 rfl ?_
          refine xw_bipush (32 : Int32) dX3_readsS_112 (by decide) ?_
          obtain ⟨hcK, hvc⟩ := hvc
          obtain ⟨d9, k9, hd9, hk9, hC9⟩ := hvc
          refine xw_callV dX3_readsS_114 px_X3_reads pm_X3_reads q3423 q3425 qs99 hcX3 hcK (As := [xi (32 : Int32)]) (rest := []) rfl rfl (Nat.le_of_ble_eq_true rfl) hd9 hk9 hC9 (xkI_n fun n16 h14 hvc => ?_) (fun q h hq => xTh_out0 rfl hq)
          refine xw_if_eq 132 dX3_readsS_117 rfl (fun hc => ?_) (fun hc => ?_)
          · replace hvc := hvc.1 hc
            refine xw_iconst (0 : Int32) dX3_readsS_132 (by decide) ?_
            exact xw_zret dX3_readsS_133 rfl rfl hvc
          · replace hvc := hvc.2 hc
            refine xw_aload_n dX3_readsS_120 rfl ?_
            refine xw_iconst (0 : Int32) dX3_readsS_121 (by decide) ?_
            obtain ⟨hcK, hvc⟩ := hvc
            obtain ⟨d9, k9, hd9, hk9, hC9⟩ := hvc
            refine xw_callV dX3_readsS_122 px_X3_readsDigit pm_X3_readsDigit q3439 q3441 qs103 hcX3 hcK (As := [xi (0 : Int32)]) (rest := []) rfl rfl (Nat.le_of_ble_eq_true rfl) hd9 hk9 hC9 (xkI_n fun n19 h17 hvc => ?_) (fun q h hq => xTh_out0 rfl hq)
            refine xw_if_eq 132 dX3_readsS_125 rfl (fun hc => ?_) (fun hc => ?_)
            · replace hvc := hvc.1 hc
              refine xw_iconst (0 : Int32) dX3_readsS_132 (by decide) ?_
              exact xw_zret dX3_readsS_133 rfl rfl hvc
            · replace hvc := hvc.2 hc
              refine xw_iconst (1 : Int32) dX3_readsS_128 (by decide) ?_
              refine xw_goto 133 dX3_readsS_129 rfl ?_
              exact xw_zret dX3_readsS_133 rfl rfl hvc
  · replace hvc := hvc.2 hc
    refine xw_aload_n dX3_readsS_9 rfl ?_
    refine xw_iconst (1 : Int32) dX3_readsS_10 (by decide) ?_
    obtain ⟨hcK, hvc⟩ := hvc
    refine xw_put dX3_readsS_11 hcX3 in_X3 tyX3_ok xnmX3 (kf := 19) (by decide) q2998 (fun _ _ _ _ z => z) rfl rfl rfl hcK (Or.inl rfl) (fun h20 eh9 => ?_)
    replace hvc := hvc h20 eh9
    refine xw_aload_n dX3_readsS_14 rfl ?_
    refine xw_bipush (116 : Int32) dX3_readsS_15 (by decide) ?_
    obtain ⟨hcK, hvc⟩ := hvc
    obtain ⟨d9, k9, hd9, hk9, hC9⟩ := hvc
    refine xw_callV dX3_readsS_17 px_X3_reads pm_X3_reads q3423 q3425 qs99 hcX3 hcK (As := [xi (116 : Int32)]) (rest := []) rfl rfl (Nat.le_of_ble_eq_true rfl) hd9 hk9 hC9 (xkI_n fun n23 h21 hvc => ?_) (fun q h hq => xTh_out0 rfl hq)
    refine xw_if_eq 77 dX3_readsS_20 rfl (fun hc => ?_) (fun hc => ?_)
    · replace hvc := hvc.1 hc
      refine xw_iconst (0 : Int32) dX3_readsS_77 (by decide) ?_
      exact xw_zret dX3_readsS_78 rfl rfl hvc
    · replace hvc := hvc.2 hc
      refine xw_aload_n dX3_readsS_23 rfl ?_
      refine xw_bipush (101 : Int32) dX3_readsS_24 (by decide) ?_
      obtain ⟨hcK, hvc⟩ := hvc
      obtain ⟨d9, k9, hd9, hk9, hC9⟩ := hvc
      refine xw_callV dX3_readsS_26 px_X3_reads pm_X3_reads q3423 q3425 qs99 hcX3 hcK (As := [xi (101 : Int32)]) (rest := []) rfl rfl (Nat.le_of_ble_eq_true rfl) hd9 hk9 hC9 (xkI_n fun n26 h24 hvc => ?_) (fun q h hq => xTh_out0 rfl hq)
      refine xw_if_eq 77 dX3_readsS_29 rfl (fun hc => ?_) (fun hc => ?_)
      · replace hvc := hvc.1 hc
        refine xw_iconst (0 : Int32) dX3_readsS_77 (by decide) ?_
        exact xw_zret dX3_readsS_78 rfl rfl hvc
      · replace hvc := hvc.2 hc
        refine xw_aload_n dX3_readsS_32 rfl ?_
        obtain ⟨hcK, hvc⟩ := hvc
        obtain ⟨d9, k9, hd9, hk9, hC9⟩ := hvc
        refine xw_callV dX3_readsS_33 px_X3_readsPlace pm_X3_readsPlace q3431 q3433 qs101 hcX3 hcK (As := []) (rest := []) rfl rfl (Nat.le_of_ble_eq_true rfl) hd9 hk9 hC9 (xkI_n fun n29 h27 hvc => ?_) (fun q h hq => xTh_out0 rfl hq)
        refine xw_if_eq 77 dX3_readsS_36 rfl (fun hc => ?_) (fun hc => ?_)
        · replace hvc := hvc.1 hc
          refine xw_iconst (0 : Int32) dX3_readsS_77 (by decide) ?_
          exact xw_zret dX3_readsS_78 rfl rfl hvc
        · replace hvc := hvc.2 hc
          refine xw_aload_n dX3_readsS_39 rfl ?_
          refine xw_bipush (32 : Int32) dX3_readsS_40 (by decide) ?_
          obtain ⟨hcK, hvc⟩ := hvc
          obtain ⟨d9, k9, hd9, hk9, hC9⟩ := hvc
          refine xw_callV dX3_readsS_42 px_X3_reads pm_X3_reads q3423 q3425 qs99 hcX3 hcK (As := [xi (32 : Int32)]) (rest := []) rfl rfl (Nat.le_of_ble_eq_true rfl) hd9 hk9 hC9 (xkI_n fun n32 h30 hvc => ?_) (fun q h hq => xTh_out0 rfl hq)
          refine xw_if_eq 77 dX3_readsS_45 rfl (fun hc => ?_) (fun hc => ?_)
          · replace hvc := hvc.1 hc
            refine xw_iconst (0 : Int32) dX3_readsS_77 (by decide) ?_
            exact xw_zret dX3_readsS_78 rfl rfl hvc
          · replace hvc := hvc.2 hc
            refine xw_aload_n dX3_readsS_48 rfl ?_
            refine xw_iconst (2 : Int32) dX3_readsS_49 (by decide) ?_
            obtain ⟨hcK, hvc⟩ := hvc
            obtain ⟨d9, k9, hd9, hk9, hC9⟩ := hvc
            refine xw_callV dX3_readsS_50 px_X3_readsNumber pm_X3_readsNumber q3435 q3437 qs102 hcX3 hcK (As := [xi (2 : Int32)]) (rest := []) rfl rfl (Nat.le_of_ble_eq_true rfl) hd9 hk9 hC9 (xkI_n fun n35 h33 hvc => ?_) (fun q h hq => xTh_out0 rfl hq)
            refine xw_if_eq 77 dX3_readsS_53 rfl (fun hc => ?_) (fun hc => ?_)
            · replace hvc := hvc.1 hc
              refine xw_iconst (0 : Int32) dX3_readsS_77 (by decide) ?_
              exact xw_zret dX3_readsS_78 rfl rfl hvc
            · replace hvc := hvc.2 hc
              refine xw_aload_n dX3_readsS_56 rfl ?_
              refine xw_bipush (32 : Int32) dX3_readsS_57 (by decide) ?_
              obtain ⟨hcK, hvc⟩ := hvc
              obtain ⟨d9, k9, hd9, hk9, hC9⟩ := hvc
              refine xw_callV dX3_readsS_59 px_X3_reads pm_X3_reads q3423 q3425 qs99 hcX3 hcK (As := [xi (32 : Int32)]) (rest := []) rfl rfl (Nat.le_of_ble_eq_true rfl) hd9 hk9 hC9 (xkI_n fun n38 h36 hvc => ?_) (fun q h hq => xTh_out0 rfl hq)
              refine xw_if_eq 77 dX3_readsS_62 rfl (fun hc => ?_) (fun hc => ?_)
              · replace hvc := hvc.1 hc
                refine xw_iconst (0 : Int32) dX3_readsS_77 (by decide) ?_
                exact xw_zret dX3_readsS_78 rfl rfl hvc
              · replace hvc := hvc.2 hc
                refine xw_aload_n dX3_readsS_65 rfl ?_
                refine xw_iconst (3 : Int32) dX3_readsS_66 (by decide) ?_
                obtain ⟨hcK, hvc⟩ := hvc
                obtain ⟨d9, k9, hd9, hk9, hC9⟩ := hvc
                refine xw_callV dX3_readsS_67 px_X3_readsNumber pm_X3_readsNumber q3435 q3437 qs102 hcX3 hcK (As := [xi (3 : Int32)]) (rest := []) rfl rfl (Nat.le_of_ble_eq_true rfl) hd9 hk9 hC9 (xkI_n fun n41 h39 hvc => ?_) (fun q h hq => xTh_out0 rfl hq)
                refine xw_if_eq 77 dX3_readsS_70 rfl (fun hc => ?_) (fun hc => ?_)
                · replace hvc := hvc.1 hc
                  refine xw_iconst (0 : Int32) dX3_readsS_77 (by decide) ?_
                  exact xw_zret dX3_readsS_78 rfl rfl hvc
                · replace hvc := hvc.2 hc
                  refine xw_iconst (1 : Int32) dX3_readsS_73 (by decide) ?_
                  refine xw_goto 78 dX3_readsS_74 rfl ?_
                  exact xw_zret dX3_readsS_78 rfl rfl hvc

theorem vc_X3_readsP {G : xG} {d K : Nat} {Q : xR → xH → Prop} {h : xH} {this : Nat}
    (hvc : xcls h this = 6 ∧ xCall G d K mX3_reads [xr (some this), xi (117 : Int32)] h (xkI (fun n3 h1 k2 => ((n3 = 0 → xcls h1 this = 6 ∧ ∀ h4 : xH, h4 = xput h1 this 19 (xi (6 : Int32)) → xcls h4 this = 6 ∧ xCall G d k2 mX3_reads [xr (some this), xi (97 : Int32)] h4 (xkI (fun n7 h5 k6 => ((n7 = 0 → Q (.inl (some (xi (0 : Int32)))) h5) ∧ (¬ n7 = 0 → xcls h5 this = 6 ∧ xCall G d k6 mX3_reads [xr (some this), xi (115 : Int32)] h5 (xkI (fun n10 h8 k9 => ((n10 = 0 → Q (.inl (some (xi (0 : Int32)))) h8) ∧ (¬ n10 = 0 → xcls h8 this = 6 ∧ xCall G d k9 mX3_reads [xr (some this), xi (115 : Int32)] h8 (xkI (fun n13 h11 k12 => ((n13 = 0 → Q (.inl (some (xi (0 : Int32)))) h11) ∧ (¬ n13 = 0 → xcls h11 this = 6 ∧ xCall G d k12 mX3_reads [xr (some this), xi (32 : Int32)] h11 (xkI (fun n16 h14 k15 => ((n16 = 0 → Q (.inl (some (xi (0 : Int32)))) h14) ∧ (¬ n16 = 0 → xcls h14 this = 6 ∧ xCall G d k15 mX3_readsNumber [xr (some this), xi (0 : Int32)] h14 (xkI (fun n19 h17 k18 => ((n19 = 0 → Q (.inl (some (xi (0 : Int32)))) h17) ∧ (¬ n19 = 0 → Q (.inl (some (xi (1 : Int32)))) h17))) (fun q h _ => Q (.inr q) h))))) (fun q h _ => Q (.inr q) h))))) (fun q h _ => Q (.inr q) h))))) (fun q h _ => Q (.inr q) h))))) (fun q h _ => Q (.inr q) h))) ∧ (¬ n3 = 0 → xcls h1 this = 6 ∧ ∀ h20 : xH, h20 = xput h1 this 19 (xi (4 : Int32)) → xcls h20 this = 6 ∧ xCall G d k2 mX3_reads [xr (some this), xi (109 : Int32)] h20 (xkI (fun n23 h21 k22 => ((n23 = 0 → Q (.inl (some (xi (0 : Int32)))) h21) ∧ (¬ n23 = 0 → xcls h21 this = 6 ∧ xCall G d k22 mX3_reads [xr (some this), xi (112 : Int32)] h21 (xkI (fun n26 h24 k25 => ((n26 = 0 → Q (.inl (some (xi (0 : Int32)))) h24) ∧ (¬ n26 = 0 → xcls h24 this = 6 ∧ xCall G d k25 mX3_reads [xr (some this), xi (32 : Int32)] h24 (xkI (fun n29 h27 k28 => ((n29 = 0 → Q (.inl (some (xi (0 : Int32)))) h27) ∧ (¬ n29 = 0 → xcls h27 this = 6 ∧ xCall G d k28 mX3_readsDigit [xr (some this), xi (0 : Int32)] h27 (xkI (fun n32 h30 k31 => ((n32 = 0 → Q (.inl (some (xi (0 : Int32)))) h30) ∧ (¬ n32 = 0 → Q (.inl (some (xi (1 : Int32)))) h30))) (fun q h _ => Q (.inr q) h))))) (fun q h _ => Q (.inr q) h))))) (fun q h _ => Q (.inr q) h))))) (fun q h _ => Q (.inr q) h))))) (fun q h _ => Q (.inr q) h))) : xCn G mX3_readsP d K [xr (some this)] h Q := by
  refine xCn_of px_X3_readsP rfl rfl (Nat.le_of_ble_eq_true rfl) ?_
  show xWp G mX3_readsP d K Q K 0 [some (xr (some this))] [] h
  refine xw_aload_n dX3_readsP_0 rfl ?_
  refine xw_bipush (117 : Int32) dX3_readsP_1 (by decide) ?_
  obtain ⟨hcK, hvc⟩ := hvc
  obtain ⟨d9, k9, hd9, hk9, hC9⟩ := hvc
  refine xw_callV dX3_readsP_3 px_X3_reads pm_X3_reads q3423 q3425 qs99 hcX3 hcK (As := [xi (117 : Int32)]) (rest := []) rfl rfl (Nat.le_of_ble_eq_true rfl) hd9 hk9 hC9 (xkI_n fun n3 h1 hvc => ?_) (fun q h hq => xTh_out0 rfl hq)
  refine xw_if_eq 55 dX3_readsP_6 rfl (fun hc => ?_) (fun hc => ?_)
  · replace hvc := hvc.1 hc
    refine xw_aload_n dX3_readsP_55 rfl ?_
    refine xw_bipush (6 : Int32) dX3_readsP_56 (by decide) ?_
    obtain ⟨hcK, hvc⟩ := hvc
    refine xw_put dX3_readsP_58 hcX3 in_X3 tyX3_ok xnmX3 (kf := 19) (by decide) q2998 (fun _ _ _ _ z => z) rfl rfl rfl hcK (Or.inl rfl) (fun h4 eh9 => ?_)
    replace hvc := hvc h4 eh9
    refine xw_aload_n dX3_readsP_61 rfl ?_
    refine xw_bipush (97 : Int32) dX3_readsP_62 (by decide) ?_
    obtain ⟨hcK, hvc⟩ := hvc
    obtain ⟨d9, k9, hd9, hk9, hC9⟩ := hvc
    refine xw_callV dX3_readsP_64 px_X3_reads pm_X3_reads q3423 q3425 qs99 hcX3 hcK (As := [xi (97 : Int32)]) (rest := []) rfl rfl (Nat.le_of_ble_eq_true rfl) hd9 hk9 hC9 (xkI_n fun n7 h5 hvc => ?_) (fun q h hq => xTh_out0 rfl hq)
    refine xw_if_eq 109 dX3_readsP_67 rfl (fun hc => ?_) (fun hc => ?_)
    · replace hvc := hvc.1 hc
      refine xw_iconst (0 : Int32) dX3_readsP_109 (by decide) ?_
      exact xw_zret dX3_readsP_110 rfl rfl hvc
    · replace hvc := hvc.2 hc
      refine xw_aload_n dX3_readsP_70 rfl ?_
      refine xw_bipush (115 : Int32) dX3_readsP_71 (by decide) ?_
      obtain ⟨hcK, hvc⟩ := hvc
      obtain ⟨d9, k9, hd9, hk9, hC9⟩ := hvc
      refine xw_callV dX3_readsP_73 px_X3_reads pm_X3_reads q3423 q3425 qs99 hcX3 hcK (As := [xi (115 : Int32)]) (rest := []) rfl rfl (Nat.le_of_ble_eq_true rfl) hd9 hk9 hC9 (xkI_n fun n10 h8 hvc => ?_) (fun q h hq => xTh_out0 rfl hq)
      refine xw_if_eq 109 dX3_readsP_76 rfl (fun hc => ?_) (fun hc => ?_)
      · replace hvc := hvc.1 hc
        refine xw_iconst (0 : Int32) dX3_readsP_109 (by decide) ?_
        exact xw_zret dX3_readsP_110 rfl rfl hvc
      · replace hvc := hvc.2 hc
        refine xw_aload_n dX3_readsP_79 rfl ?_
        refine xw_bipush (115 : Int32) dX3_readsP_80 (by decide) ?_
        obtain ⟨hcK, hvc⟩ := hvc
        obtain ⟨d9, k9, hd9, hk9, hC9⟩ := hvc
        refine xw_callV dX3_readsP_82 px_X3_reads pm_X3_reads q3423 q3425 qs99 hcX3 hcK (As := [xi (115 : Int32)]) (rest := []) rfl rfl (Nat.le_of_ble_eq_true rfl) hd9 hk9 hC9 (xkI_n fun n13 h11 hvc => ?_) (fun q h hq => xTh_out0 rfl hq)
        refine xw_if_eq 109 dX3_readsP_85 rfl (fun hc => ?_) (fun hc => ?_)
        · replace hvc := hvc.1 hc
          refine xw_iconst (0 : Int32) dX3_readsP_109 (by decide) ?_
          exact xw_zret dX3_readsP_110 rfl rfl hvc
        · replace hvc := hvc.2 hc
          refine xw_aload_n dX3_readsP_88 rfl ?_
          refine xw_bipush (32 : Int32) dX3_readsP_89 (by decide) ?_
          obtain ⟨hcK, hvc⟩ := hvc
          obtain ⟨d9, k9, hd9, hk9, hC9⟩ := hvc
          refine xw_callV dX3_readsP_91 px_X3_reads pm_X3_reads q3423 q3425 qs99 hcX3 hcK (As := [xi (32 : Int32)]) (rest := []) rfl rfl (Nat.le_of_ble_eq_true rfl) hd9 hk9 hC9 (xkI_n fun n16 h14 hvc => ?_) (fun q h hq => xTh_out0 rfl hq)
          refine xw_if_eq 109 dX3_readsP_94 rfl (fun hc => ?_) (fun hc => ?_)
          · replace hvc := hvc.1 hc
            refine xw_iconst (0 : Int32) dX3_readsP_109 (by decide) ?_
            exact xw_zret dX3_readsP_110 rfl rfl hvc
          · replace hvc := hvc.2 hc
            refine xw_aload_n dX3_readsP_97 rfl ?_
            refine xw_iconst (0 : Int32) dX3_readsP_98 (by decide) ?_
            obtain ⟨hcK, hvc⟩ := hvc
            obtain ⟨d9, k9, hd9, hk9, hC9⟩ := hvc
            refine xw_callV dX3_readsP_99 px_X3_readsNumber pm_X3_readsNumber q3435 q3437 qs102 hcX3 hcK (As := [xi (0 : Int32)]) (rest := []) rfl rfl (Nat.le_of_ble_eq_true rfl) hd9 hk9 hC9 (xkI_n fun n19 h17 hvc => ?_) (fun q h hq => xTh_out0 rfl hq)
            refine xw_if_eq 109 dX3_readsP_102 rfl (fun hc => ?_) (fun hc => ?_)
            · replace hvc := hvc.1 hc
              refine xw_iconst (0 : Int32) dX3_readsP_109 (by decide) ?_
              exact xw_zret dX3_readsP_110 rfl rfl hvc
            · replace hvc := hvc.2 hc
              refine xw_iconst (1 : Int32) dX3_readsP_105 (by decide) ?_
              refine xw_goto 110 dX3_readsP_106 rfl ?_
              exact xw_zret dX3_readsP_110 rfl rfl hvc
  · replace hvc := hvc.2 hc
    refine xw_aload_n dX3_readsP_9 rfl ?_
    refine xw_iconst (4 : Int32) dX3_readsP_10 (by decide) ?_
    obtain ⟨hcK, hvc⟩ := hvc
    refine xw_put dX3_readsP_11 hcX3 in_X3 tyX3_ok xnmX3 (kf := 19) (by decide) q2998 (fun _ _ _ _ z => z) rfl rfl rfl hcK (Or.inl rfl) (fun h20 eh9 => ?_)
    replace hvc := hvc h20 eh9
    refine xw_aload_n dX3_readsP_14 rfl ?_
    refine xw_bipush (109 : Int32) dX3_readsP_15 (by decide) ?_
    obtain ⟨hcK, hvc⟩ := hvc
    obtain ⟨d9, k9, hd9, hk9, hC9⟩ := hvc
    refine xw_callV dX3_readsP_17 px_X3_reads pm_X3_reads q3423 q3425 qs99 hcX3 hcK (As := [xi (109 : Int32)]) (rest := []) rfl rfl (Nat.le_of_ble_eq_true rfl) hd9 hk9 hC9 (xkI_n fun n23 h21 hvc => ?_) (fun q h hq => xTh_out0 rfl hq)
    refine xw_if_eq 53 dX3_readsP_20 rfl (fun hc => ?_) (fun hc => ?_)
    · replace hvc := hvc.1 hc
      refine xw_iconst (0 : Int32) dX3_readsP_53 (by decide) ?_
      exact xw_zret dX3_readsP_54 rfl rfl hvc
    · replace hvc := hvc.2 hc
      refine xw_aload_n dX3_readsP_23 rfl ?_
      refine xw_bipush (112 : Int32) dX3_readsP_24 (by decide) ?_
      obtain ⟨hcK, hvc⟩ := hvc
      obtain ⟨d9, k9, hd9, hk9, hC9⟩ := hvc
      refine xw_callV dX3_readsP_26 px_X3_reads pm_X3_reads q3423 q3425 qs99 hcX3 hcK (As := [xi (112 : Int32)]) (rest := []) rfl rfl (Nat.le_of_ble_eq_true rfl) hd9 hk9 hC9 (xkI_n fun n26 h24 hvc => ?_) (fun q h hq => xTh_out0 rfl hq)
      refine xw_if_eq 53 dX3_readsP_29 rfl (fun hc => ?_) (fun hc => ?_)
      · replace hvc := hvc.1 hc
        refine xw_iconst (0 : Int32) dX3_readsP_53 (by decide) ?_
        exact xw_zret dX3_readsP_54 rfl rfl hvc
      · replace hvc := hvc.2 hc
        refine xw_aload_n dX3_readsP_32 rfl ?_
        refine xw_bipush (32 : Int32) dX3_readsP_33 (by decide) ?_
        obtain ⟨hcK, hvc⟩ := hvc
        obtain ⟨d9, k9, hd9, hk9, hC9⟩ := hvc
        refine xw_callV dX3_readsP_35 px_X3_reads pm_X3_reads q3423 q3425 qs99 hcX3 hcK (As := [xi (32 : Int32)]) (rest := []) rfl rfl (Nat.le_of_ble_eq_true rfl) hd9 hk9 hC9 (xkI_n fun n29 h27 hvc => ?_) (fun q h hq => xTh_out0 rfl hq)
        refine xw_if_eq 53 dX3_readsP_38 rfl (fun hc => ?_) (fun hc => ?_)
        · replace hvc := hvc.1 hc
          refine xw_iconst (0 : Int32) dX3_readsP_53 (by decide) ?_
          exact xw_zret dX3_readsP_54 rfl rfl hvc
        · replace hvc := hvc.2 hc
          refine xw_aload_n dX3_readsP_41 rfl ?_
          refine xw_iconst (0 : Int32) dX3_readsP_42 (by decide) ?_
          obtain ⟨hcK, hvc⟩ := hvc
          obtain ⟨d9, k9, hd9, hk9, hC9⟩ := hvc
          refine xw_callV dX3_readsP_43 px_X3_readsDigit pm_X3_readsDigit q3439 q3441 qs103 hcX3 hcK (As := [xi (0 : Int32)]) (rest := []) rfl rfl (Nat.le_of_ble_eq_true rfl) hd9 hk9 hC9 (xkI_n fun n32 h30 hvc => ?_) (fun q h hq => xTh_out0 rfl hq)
          refine xw_if_eq 53 dX3_readsP_46 rfl (fun hc => ?_) (fun hc => ?_)
          · replace hvc := hvc.1 hc
            refine xw_iconst (0 : Int32) dX3_readsP_53 (by decide) ?_
            exact xw_zret dX3_readsP_54 rfl rfl hvc
          · replace hvc := hvc.2 hc
            refine xw_iconst (1 : Int32) dX3_readsP_49 (by decide) ?_
            refine xw_goto 54 dX3_readsP_50 rfl ?_
            exact xw_zret dX3_readsP_54 rfl rfl hvc

theorem vc_X3_notAll {G : xG} {d K : Nat} {Q : xR → xH → Prop} {h : xH} {this : Nat}
    (hvc : xcls h this = 6 ∧ ∀ h1 : xH, h1 = xput h this 20 (xi (0 : Int32)) → xcls h1 this = 6 ∧ ∀ h2 : xH, h2 = xput h1 this 16 (xi (0 : Int32)) → xWp G mX3_notAll d K Q K 12 [some (xr (some this)), some (xi (1 : Int32)), none] [] h2) : xCn G mX3_notAll d K [xr (some this)] h Q := by
  refine xCn_of px_X3_notAll rfl rfl (Nat.le_of_ble_eq_true rfl) ?_
  show xWp G mX3_notAll d K Q K 0 [some (xr (some this)), none, none] [] h
  refine xw_aload_n dX3_notAll_0 rfl ?_
  refine xw_iconst (0 : Int32) dX3_notAll_1 (by decide) ?_
  obtain ⟨hcK, hvc⟩ := hvc
  refine xw_put dX3_notAll_2 hcX3 in_X3 tyX3_ok xnmX3 (kf := 20) (by decide) q2999 (fun _ _ _ _ z => z) rfl rfl rfl hcK (Or.inl rfl) (fun h1 eh9 => ?_)
  replace hvc := hvc h1 eh9
  refine xw_aload_n dX3_notAll_5 rfl ?_
  refine xw_iconst (0 : Int32) dX3_notAll_6 (by decide) ?_
  obtain ⟨hcK, hvc⟩ := hvc
  refine xw_put dX3_notAll_7 hcX3 in_X3 tyX3_ok xnmX3 (kf := 16) (by decide) q2995 (fun _ _ _ _ z => z) rfl rfl rfl hcK (Or.inl rfl) (fun h2 eh9 => ?_)
  replace hvc := hvc h2 eh9
  refine xw_iconst (1 : Int32) dX3_notAll_10 (by decide) ?_
  refine xw_istore_n dX3_notAll_11 (Nat.le_of_ble_eq_true rfl) (L9 := [some (xr (some this)), some (xi (1 : Int32)), none]) rfl ?_
  exact hvc

theorem vc_X3_notAll_12 {G : xG} {d K k : Nat} {Q : xR → xH → Prop} {h : xH} {this : Nat} {x1 : Int32}
    (hvc : ((x1 = 0 → Q (.inl (some (xi (0 : Int32)))) h) ∧ (¬ x1 = 0 → xcls h this = 6 ∧ xCall G d k mX3_readsCommand [xr (some this)] h (xkI (fun n5 h3 k4 => xcls h3 this = 6 ∧ xCall G d k4 mX3_notNow [xr (some this)] h3 (xkI (fun n8 h6 k7 => ((n8 = 0 → xcls h6 this = 6 ∧ xCall G d k7 mX3_doesNow [xr (some this)] h6 (xkI (fun n11 h9 k10 => xcls h9 this = 6 ∧ ∃ n12 : Int32, xval h9 this 20 = xi n12 ∧ xcls h9 this = 6 ∧ ∀ h13 : xH, h13 = xput h9 this 20 (xi (n12 + (1 : Int32))) → xcls h13 this = 6 ∧ xCall G d k10 mX3_reads [xr (some this), xi (59 : Int32)] h13 (xkI (fun n16 h14 k15 => xWp G mX3_notAll d K Q k15 12 [some (xr (some this)), some (xi n16), none] [] h14) (fun q h _ => Q (.inr q) h))) (fun q h _ => Q (.inr q) h))) ∧ (¬ n8 = 0 → Q (.inl (some (xi n8))) h6))) (fun q h _ => Q (.inr q) h))) (fun q h _ => Q (.inr q) h))))) : xWp G mX3_notAll d K Q k 12 [some (xr (some this)), some (xi x1), none] [] h := by
  refine xw_iload_n dX3_notAll_12 rfl ?_
  refine xw_if_eq 57 dX3_notAll_13 rfl (fun hc => ?_) (fun hc => ?_)
  · replace hvc := hvc.1 hc
    refine xw_iconst (0 : Int32) dX3_notAll_57 (by decide) ?_
    exact xw_iret dX3_notAll_58 rfl hvc
  · replace hvc := hvc.2 hc
    refine xw_aload_n dX3_notAll_16 rfl ?_
    obtain ⟨hcK, hvc⟩ := hvc
    obtain ⟨d9, k9, hd9, hk9, hC9⟩ := hvc
    refine xw_callV dX3_notAll_17 px_X3_readsCommand pm_X3_readsCommand q3419 q3421 qs98 hcX3 hcK (As := []) (rest := []) rfl rfl (Nat.le_of_ble_eq_true rfl) hd9 hk9 hC9 (xkI_n fun n5 h3 hvc => ?_) (fun q h hq => xTh_out0 rfl hq)
    refine xw_pop dX3_notAll_20 rfl ?_
    refine xw_aload_n dX3_notAll_21 rfl ?_
    obtain ⟨hcK, hvc⟩ := hvc
    obtain ⟨d9, k9, hd9, hk9, hC9⟩ := hvc
    refine xw_callV dX3_notAll_22 px_X3_notNow pm_X3_notNow q3455 q3457 qs107 hcX3 hcK (As := []) (rest := []) rfl rfl (Nat.le_of_ble_eq_true rfl) hd9 hk9 hC9 (xkI_n fun n8 h6 hvc => ?_) (fun q h hq => xTh_out0 rfl hq)
    refine xw_istore_n dX3_notAll_25 (Nat.le_of_ble_eq_true rfl) (L9 := [some (xr (some this)), some (xi x1), some (xi n8)]) rfl ?_
    refine xw_iload_n dX3_notAll_26 rfl ?_
    refine xw_if_eq 32 dX3_notAll_27 rfl (fun hc => ?_) (fun hc => ?_)
    · replace hvc := hvc.1 hc
      refine xw_aload_n dX3_notAll_32 rfl ?_
      obtain ⟨hcK, hvc⟩ := hvc
      obtain ⟨d9, k9, hd9, hk9, hC9⟩ := hvc
      refine xw_callV dX3_notAll_33 px_X3_doesNow pm_X3_doesNow q3459 q3461 qs108 hcX3 hcK (As := []) (rest := []) rfl rfl (Nat.le_of_ble_eq_true rfl) hd9 hk9 hC9 (xkI_n fun n11 h9 hvc => ?_) (fun q h hq => xTh_out0 rfl hq)
      refine xw_pop dX3_notAll_36 rfl ?_
      refine xw_aload_n dX3_notAll_37 rfl ?_
      refine xw_dup dX3_notAll_38 rfl ?_
      obtain ⟨hcK, n12, hvK, hvc⟩ := hvc
      refine xw_get dX3_notAll_39 hcX3 in_X3 (kf := 20) (by decide) q2999 (fun _ _ _ _ z => z) hcK hvK ?_
      refine xw_iconst (1 : Int32) dX3_notAll_42 (by decide) ?_
      refine xw_iadd dX3_notAll_43 ?_
      obtain ⟨hcK, hvc⟩ := hvc
      refine xw_put dX3_notAll_44 hcX3 in_X3 tyX3_ok xnmX3 (kf := 20) (by decide) q2999 (fun _ _ _ _ z => z) rfl rfl rfl hcK (Or.inl rfl) (fun h13 eh9 => ?_)
      replace hvc := hvc h13 eh9
      refine xw_aload_n dX3_notAll_47 rfl ?_
      refine xw_bipush (59 : Int32) dX3_notAll_48 (by decide) ?_
      obtain ⟨hcK, hvc⟩ := hvc
      obtain ⟨d9, k9, hd9, hk9, hC9⟩ := hvc
      refine xw_callV dX3_notAll_50 px_X3_reads pm_X3_reads q3423 q3425 qs99 hcX3 hcK (As := [xi (59 : Int32)]) (rest := []) rfl rfl (Nat.le_of_ble_eq_true rfl) hd9 hk9 hC9 (xkI_n fun n16 h14 hvc => ?_) (fun q h hq => xTh_out0 rfl hq)
      refine xw_istore_n dX3_notAll_53 (Nat.le_of_ble_eq_true rfl) (L9 := [some (xr (some this)), some (xi n16), some (xi n8)]) rfl ?_
      refine xw_goto 12 dX3_notAll_54 rfl ?_
      exact xWp_loc hvc (And.intro rfl (And.intro rfl trivial))
    · replace hvc := hvc.2 hc
      refine xw_iload_n dX3_notAll_30 rfl ?_
      exact xw_iret dX3_notAll_31 rfl hvc

theorem vc_X3_notNow {G : xG} {d K : Nat} {Q : xR → xH → Prop} {h : xH} {this : Nat}
    (hvc : xcls h this = 6 ∧ ∃ o1 : Option Nat, xval h this 18 = xr o1 ∧ ∃ a2, o1 = some a2 ∧ xcls h a2 = 1003 ∧ ∃ i3 : Nat, (0 : Int32) = nI i3 ∧ i3 < 2147483648 ∧ i3 < xlen h a2 ∧ ∃ n4 : Int32, xval h a2 i3 = xi n4 ∧ xcls h this = 6 ∧ ∃ n5 : Int32, xval h this 19 = xi n5 ∧ ((n5 = (0 : Int32) → xcls h this = 6 ∧ ∃ o6 : Option Nat, xval h this 18 = xr o6 ∧ ∃ a7, o6 = some a7 ∧ xcls h a7 = 1003 ∧ ∃ i8 : Nat, (1 : Int32) = nI i8 ∧ i8 < 2147483648 ∧ i8 < xlen h a7 ∧ ∃ n9 : Int32, xval h a7 i8 = xi n9 ∧ xcls h this = 6 ∧ ∃ o10 : Option Nat, xval h this 18 = xr o10 ∧ ∃ a11, o10 = some a11 ∧ xcls h a11 = 1003 ∧ ∃ i12 : Nat, (2 : Int32) = nI i12 ∧ i12 < 2147483648 ∧ i12 < xlen h a11 ∧ ∃ n13 : Int32, xval h a11 i12 = xi n13 ∧ xcls h this = 6 ∧ xCall G d K mX3_notHamlet [xr (some this), xi n4, xi n9, xi n13] h (xkI (fun n16 h14 k15 => Q (.inl (some (xi n16))) h14) (fun q h _ => Q (.inr q) h))) ∧ (n5 = (1 : Int32) → xcls h this = 6 ∧ ∃ o17 : Option Nat, xval h this 18 = xr o17 ∧ ∃ a18, o17 = some a18 ∧ xcls h a18 = 1003 ∧ ∃ i19 : Nat, (1 : Int32) = nI i19 ∧ i19 < 2147483648 ∧ i19 < xlen h a18 ∧ ∃ n20 : Int32, xval h a18 i19 = xi n20 ∧ xcls h this = 6 ∧ ∃ o21 : Option Nat, xval h this 18 = xr o21 ∧ ∃ a22, o21 = some a22 ∧ xcls h a22 = 1003 ∧ ∃ i23 : Nat, (2 : Int32) = nI i23 ∧ i23 < 2147483648 ∧ i23 < xlen h a22 ∧ ∃ n24 : Int32, xval h a22 i23 = xi n24 ∧ xcls h this = 6 ∧ ∃ o25 : Option Nat, xval h this 18 = xr o25 ∧ ∃ a26, o25 = some a26 ∧ xcls h a26 = 1003 ∧ ∃ i27 : Nat, (3 : Int32) = nI i27 ∧ i27 < 2147483648 ∧ i27 < xlen h a26 ∧ ∃ n28 : Int32, xval h a26 i27 = xi n28 ∧ xcls h this = 6 ∧ xCall G d K mX3_notSite [xr (some this), xi n4, xi n20, xi n24, xi n28] h (xkI (fun n31 h29 k30 => Q (.inl (some (xi n31))) h29) (fun q h _ => Q (.inr q) h))) ∧ (n5 = (2 : Int32) → xcls h this = 6 ∧ xCall G d K mX3_notOpen [xr (some this), xi n4] h (xkI (fun n34 h32 k33 => Q (.inl (some (xi n34))) h32) (fun q h _ => Q (.inr q) h))) ∧ (n5 = (3 : Int32) → xcls h this = 6 ∧ xCall G d K mX3_notShut [xr (some this), xi n4] h (xkI (fun n37 h35 k36 => Q (.inl (some (xi n37))) h35) (fun q h _ => Q (.inr q) h))) ∧ (n5 = (4 : Int32) → xcls h this = 6 ∧ xCall G d K mX3_notPump [xr (some this), xi n4] h (xkI (fun n40 h38 k39 => Q (.inl (some (xi n40))) h38) (fun q h _ => Q (.inr q) h))) ∧ (n5 = (5 : Int32) → xcls h this = 6 ∧ ∃ o41 : Option Nat, xval h this 18 = xr o41 ∧ ∃ a42, o41 = some a42 ∧ xcls h a42 = 1003 ∧ ∃ i43 : Nat, (1 : Int32) = nI i43 ∧ i43 < 2147483648 ∧ i43 < xlen h a42 ∧ ∃ n44 : Int32, xval h a42 i43 = xi n44 ∧ xcls h this = 6 ∧ xCall G d K mX3_notMove [xr (some this), xi n4, xi n44] h (xkI (fun n47 h45 k46 => Q (.inl (some (xi n47))) h45) (fun q h _ => Q (.inr q) h))) ∧ ((n5.toInt < 0 ∨ 5 < n5.toInt) → xCall G d K mX3_isBetween [xi n4, xi (1 : Int32), xi (30 : Int32)] h (xkI (fun n50 h48 k49 => ((n50 = 0 → Q (.inl (some (xi (-2 : Int32)))) h48) ∧ (¬ n50 = 0 → Q (.inl (some (xi (0 : Int32)))) h48))) (fun q h _ => Q (.inr q) h))))) : xCn G mX3_notNow d K [xr (some this)] h Q := by
  refine xCn_of px_X3_notNow rfl rfl (Nat.le_of_ble_eq_true rfl) ?_
  show xWp G mX3_notNow d K Q K 0 [some (xr (some this)), none] [] h
  refine xw_aload_n dX3_notNow_0 rfl ?_
  obtain ⟨hcK, o1, hvK, hvc⟩ := hvc
  refine xw_get dX3_notNow_1 hcX3 in_X3 (kf := 18) (by decide) q2997 (fun _ _ _ _ z => z) hcK hvK ?_
  refine xw_iconst (0 : Int32) dX3_notNow_4 (by decide) ?_
  obtain ⟨a2, ho, hvc⟩ := hvc
  subst ho
  obtain ⟨hcK, i3, hx9, hb9, hi9, n4, hv9, hvc⟩ := hvc
  refine xw_iald (j := 3) dX3_notNow_5 rfl hcK hx9 hb9 hi9 hv9 ?_
  refine xw_istore_n dX3_notNow_6 (Nat.le_of_ble_eq_true rfl) (L9 := [some (xr (some this)), some (xi n4)]) rfl ?_
  refine xw_aload_n dX3_notNow_7 rfl ?_
  obtain ⟨hcK, n5, hvK, hvc⟩ := hvc
  refine xw_get dX3_notNow_8 hcX3 in_X3 (kf := 19) (by decide) q2998 (fun _ _ _ _ z => z) hcK hvK ?_
  obtain ⟨hv1, hvc⟩ := hvc
  by_cases c0 : n5 = (0 : Int32)
  · replace hvc := hv1 c0
    refine xw_tableIn 48 dX3_notNow_11 (by rw [c0]; decide) (by rw [c0]; decide) (by rw [c0]; rfl) rfl ?_
    refine xw_aload_n dX3_notNow_48 rfl ?_
    refine xw_iload_n dX3_notNow_49 rfl ?_
    refine xw_aload_n dX3_notNow_50 rfl ?_
    obtain ⟨hcK, o6, hvK, hvc⟩ := hvc
    refine xw_get dX3_notNow_51 hcX3 in_X3 (kf := 18) (by decide) q2997 (fun _ _ _ _ z => z) hcK hvK ?_
    refine xw_iconst (1 : Int32) dX3_notNow_54 (by decide) ?_
    obtain ⟨a7, ho, hvc⟩ := hvc
    subst ho
    obtain ⟨hcK, i8, hx9, hb9, hi9, n9, hv9, hvc⟩ := hvc
    refine xw_iald (j := 3) dX3_notNow_55 rfl hcK hx9 hb9 hi9 hv9 ?_
    refine xw_aload_n dX3_notNow_56 rfl ?_
    obtain ⟨hcK, o10, hvK, hvc⟩ := hvc
    refine xw_get dX3_notNow_57 hcX3 in_X3 (kf := 18) (by decide) q2997 (fun _ _ _ _ z => z) hcK hvK ?_
    refine xw_iconst (2 : Int32) dX3_notNow_60 (by decide) ?_
    obtain ⟨a11, ho, hvc⟩ := hvc
    subst ho
    obtain ⟨hcK, i12, hx9, hb9, hi9, n13, hv9, hvc⟩ := hvc
    refine xw_iald (j := 3) dX3_notNow_61 rfl hcK hx9 hb9 hi9 hv9 ?_
    obtain ⟨hcK, hvc⟩ := hvc
    obtain ⟨d9, k9, hd9, hk9, hC9⟩ := hvc
    refine xw_callV dX3_notNow_62 px_X3_notHamlet pm_X3_notHamlet q3054 q3056 qs39 hcX3 hcK (As := [xi n4, xi n9, xi n13]) (rest := []) rfl rfl (Nat.le_of_ble_eq_true rfl) hd9 hk9 hC9 (xkI_n fun n16 h14 hvc => ?_) (fun q h hq => xTh_out0 rfl hq)
    exact xw_iret dX3_notNow_65 rfl hvc
  obtain ⟨hv1, hvc⟩ := hvc
  by_cases c1 : n5 = (1 : Int32)
  · replace hvc := hv1 c1
    refine xw_tableIn 66 dX3_notNow_11 (by rw [c1]; decide) (by rw [c1]; decide) (by rw [c1]; rfl) rfl ?_
    refine xw_aload_n dX3_notNow_66 rfl ?_
    refine xw_iload_n dX3_notNow_67 rfl ?_
    refine xw_aload_n dX3_notNow_68 rfl ?_
    obtain ⟨hcK, o17, hvK, hvc⟩ := hvc
    refine xw_get dX3_notNow_69 hcX3 in_X3 (kf := 18) (by decide) q2997 (fun _ _ _ _ z => z) hcK hvK ?_
    refine xw_iconst (1 : Int32) dX3_notNow_72 (by decide) ?_
    obtain ⟨a18, ho, hvc⟩ := hvc
    subst ho
    obtain ⟨hcK, i19, hx9, hb9, hi9, n20, hv9, hvc⟩ := hvc
    refine xw_iald (j := 3) dX3_notNow_73 rfl hcK hx9 hb9 hi9 hv9 ?_
    refine xw_aload_n dX3_notNow_74 rfl ?_
    obtain ⟨hcK, o21, hvK, hvc⟩ := hvc
    refine xw_get dX3_notNow_75 hcX3 in_X3 (kf := 18) (by decide) q2997 (fun _ _ _ _ z => z) hcK hvK ?_
    refine xw_iconst (2 : Int32) dX3_notNow_78 (by decide) ?_
    obtain ⟨a22, ho, hvc⟩ := hvc
    subst ho
    obtain ⟨hcK, i23, hx9, hb9, hi9, n24, hv9, hvc⟩ := hvc
    refine xw_iald (j := 3) dX3_notNow_79 rfl hcK hx9 hb9 hi9 hv9 ?_
    refine xw_aload_n dX3_notNow_80 rfl ?_
    obtain ⟨hcK, o25, hvK, hvc⟩ := hvc
    refine xw_get dX3_notNow_81 hcX3 in_X3 (kf := 18) (by decide) q2997 (fun _ _ _ _ z => z) hcK hvK ?_
    refine xw_iconst (3 : Int32) dX3_notNow_84 (by decide) ?_
    obtain ⟨a26, ho, hvc⟩ := hvc
    subst ho
    obtain ⟨hcK, i27, hx9, hb9, hi9, n28, hv9, hvc⟩ := hvc
    refine xw_iald (j := 3) dX3_notNow_85 rfl hcK hx9 hb9 hi9 hv9 ?_
    obtain ⟨hcK, hvc⟩ := hvc
    obtain ⟨d9, k9, hd9, hk9, hC9⟩ := hvc
    refine xw_callV dX3_notNow_86 px_X3_notSite pm_X3_notSite q3101 q3103 qs49 hcX3 hcK (As := [xi n4, xi n20, xi n24, xi n28]) (rest := []) rfl rfl (Nat.le_of_ble_eq_true rfl) hd9 hk9 hC9 (xkI_n fun n31 h29 hvc => ?_) (fun q h hq => xTh_out0 rfl hq)
    exact xw_iret dX3_notNow_89 rfl hvc
  obtain ⟨hv1, hvc⟩ := hvc
  by_cases c2 : n5 = (2 : Int32)
  · replace hvc := hv1 c2
    refine xw_tableIn 90 dX3_notNow_11 (by rw [c2]; decide) (by rw [c2]; decide) (by rw [c2]; rfl) rfl ?_
    refine xw_aload_n dX3_notNow_90 rfl ?_
    refine xw_iload_n dX3_notNow_91 rfl ?_
    obtain ⟨hcK, hvc⟩ := hvc
    obtain ⟨d9, k9, hd9, hk9, hC9⟩ := hvc
    refine xw_callV dX3_notNow_92 px_X3_notOpen pm_X3_notOpen q3125 q3127 qs54 hcX3 hcK (As := [xi n4]) (rest := []) rfl rfl (Nat.le_of_ble_eq_true rfl) hd9 hk9 hC9 (xkI_n fun n34 h32 hvc => ?_) (fun q h hq => xTh_out0 rfl hq)
    exact xw_iret dX3_notNow_95 rfl hvc
  obtain ⟨hv1, hvc⟩ := hvc
  by_cases c3 : n5 = (3 : Int32)
  · replace hvc := hv1 c3
    refine xw_tableIn 96 dX3_notNow_11 (by rw [c3]; decide) (by rw [c3]; decide) (by rw [c3]; rfl) rfl ?_
    refine xw_aload_n dX3_notNow_96 rfl ?_
    refine xw_iload_n dX3_notNow_97 rfl ?_
    obtain ⟨hcK, hvc⟩ := hvc
    obtain ⟨d9, k9, hd9, hk9, hC9⟩ := hvc
    refine xw_callV dX3_notNow_98 px_X3_notShut pm_X3_notShut q3175 q3177 qs64 hcX3 hcK (As := [xi n4]) (rest := []) rfl rfl (Nat.le_of_ble_eq_true rfl) hd9 hk9 hC9 (xkI_n fun n37 h35 hvc => ?_) (fun q h hq => xTh_out0 rfl hq)
    exact xw_iret dX3_notNow_101 rfl hvc
  obtain ⟨hv1, hvc⟩ := hvc
  by_cases c4 : n5 = (4 : Int32)
  · replace hvc := hv1 c4
    refine xw_tableIn 102 dX3_notNow_11 (by rw [c4]; decide) (by rw [c4]; decide) (by rw [c4]; rfl) rfl ?_
    refine xw_aload_n dX3_notNow_102 rfl ?_
    refine xw_iload_n dX3_notNow_103 rfl ?_
    obtain ⟨hcK, hvc⟩ := hvc
    obtain ⟨d9, k9, hd9, hk9, hC9⟩ := hvc
    refine xw_callV dX3_notNow_104 px_X3_notPump pm_X3_notPump q3190 q3192 qs66 hcX3 hcK (As := [xi n4]) (rest := []) rfl rfl (Nat.le_of_ble_eq_true rfl) hd9 hk9 hC9 (xkI_n fun n40 h38 hvc => ?_) (fun q h hq => xTh_out0 rfl hq)
    exact xw_iret dX3_notNow_107 rfl hvc
  obtain ⟨hv1, hvc⟩ := hvc
  by_cases c5 : n5 = (5 : Int32)
  · replace hvc := hv1 c5
    refine xw_tableIn 108 dX3_notNow_11 (by rw [c5]; decide) (by rw [c5]; decide) (by rw [c5]; rfl) rfl ?_
    refine xw_aload_n dX3_notNow_108 rfl ?_
    refine xw_iload_n dX3_notNow_109 rfl ?_
    refine xw_aload_n dX3_notNow_110 rfl ?_
    obtain ⟨hcK, o41, hvK, hvc⟩ := hvc
    refine xw_get dX3_notNow_111 hcX3 in_X3 (kf := 18) (by decide) q2997 (fun _ _ _ _ z => z) hcK hvK ?_
    refine xw_iconst (1 : Int32) dX3_notNow_114 (by decide) ?_
    obtain ⟨a42, ho, hvc⟩ := hvc
    subst ho
    obtain ⟨hcK, i43, hx9, hb9, hi9, n44, hv9, hvc⟩ := hvc
    refine xw_iald (j := 3) dX3_notNow_115 rfl hcK hx9 hb9 hi9 hv9 ?_
    obtain ⟨hcK, hvc⟩ := hvc
    obtain ⟨d9, k9, hd9, hk9, hC9⟩ := hvc
    refine xw_callV dX3_notNow_116 px_X3_notMove pm_X3_notMove q3218 q3220 qs71 hcX3 hcK (As := [xi n4, xi n44]) (rest := []) rfl rfl (Nat.le_of_ble_eq_true rfl) hd9 hk9 hC9 (xkI_n fun n47 h45 hvc => ?_) (fun q h hq => xTh_out0 rfl hq)
    exact xw_iret dX3_notNow_119 rfl hvc
  have hout : (n5).toInt < (0 : Int) ∨ (5 : Int) < (n5).toInt := by
    have e0 : ¬ (n5).toInt = (0 : Int) := fun z => c0 (Int32.toInt_inj.mp (z.trans (by decide)))
    have e1 : ¬ (n5).toInt = (1 : Int) := fun z => c1 (Int32.toInt_inj.mp (z.trans (by decide)))
    have e2 : ¬ (n5).toInt = (2 : Int) := fun z => c2 (Int32.toInt_inj.mp (z.trans (by decide)))
    have e3 : ¬ (n5).toInt = (3 : Int) := fun z => c3 (Int32.toInt_inj.mp (z.trans (by decide)))
    have e4 : ¬ (n5).toInt = (4 : Int) := fun z => c4 (Int32.toInt_inj.mp (z.trans (by decide)))
    have e5 : ¬ (n5).toInt = (5 : Int) := fun z => c5 (Int32.toInt_inj.mp (z.trans (by decide)))
    omega
  replace hvc := hvc hout
  refine xw_tableOut 120 dX3_notNow_11 hout rfl ?_
  refine xw_iload_n dX3_notNow_120 rfl ?_
  refine xw_iconst (1 : Int32) dX3_notNow_121 (by decide) ?_
  refine xw_bipush (30 : Int32) dX3_notNow_122 (by decide) ?_
  obtain ⟨d9, k9, hd9, hk9, hC9⟩ := hvc
  refine xw_callS dX3_notNow_124 px_X3_isBetween pm_X3_isBetween q3047 q3048 (As := [xi n4, xi (1 : Int32), xi (30 : Int32)]) (rest := []) rfl rfl (Nat.le_of_ble_eq_true rfl) hd9 hk9 hC9 (xkI_n fun n50 h48 hvc => ?_) (fun q h hq => xTh_out0 rfl hq)
  refine xw_if_eq 134 dX3_notNow_127 rfl (fun hc => ?_) (fun hc => ?_)
  · replace hvc := hvc.1 hc
    refine xw_bipush (-2 : Int32) dX3_notNow_134 (by decide) ?_
    exact xw_iret dX3_notNow_136 rfl hvc
  · replace hvc := hvc.2 hc
    refine xw_iconst (0 : Int32) dX3_notNow_130 (by decide) ?_
    refine xw_goto 136 dX3_notNow_131 rfl ?_
    exact xw_iret dX3_notNow_136 rfl hvc

theorem vc_X3_doesNow {G : xG} {d K : Nat} {Q : xR → xH → Prop} {h : xH} {this : Nat}
    (hvc : xcls h this = 6 ∧ ∃ o1 : Option Nat, xval h this 18 = xr o1 ∧ ∃ a2, o1 = some a2 ∧ xcls h a2 = 1003 ∧ ∃ i3 : Nat, (0 : Int32) = nI i3 ∧ i3 < 2147483648 ∧ i3 < xlen h a2 ∧ ∃ n4 : Int32, xval h a2 i3 = xi n4 ∧ xcls h this = 6 ∧ ∃ n5 : Int32, xval h this 19 = xi n5 ∧ ((n5 = (0 : Int32) → xcls h this = 6 ∧ ∃ o6 : Option Nat, xval h this 18 = xr o6 ∧ ∃ a7, o6 = some a7 ∧ xcls h a7 = 1003 ∧ ∃ i8 : Nat, (1 : Int32) = nI i8 ∧ i8 < 2147483648 ∧ i8 < xlen h a7 ∧ ∃ n9 : Int32, xval h a7 i8 = xi n9 ∧ xcls h this = 6 ∧ ∃ o10 : Option Nat, xval h this 18 = xr o10 ∧ ∃ a11, o10 = some a11 ∧ xcls h a11 = 1003 ∧ ∃ i12 : Nat, (2 : Int32) = nI i12 ∧ i12 < 2147483648 ∧ i12 < xlen h a11 ∧ ∃ n13 : Int32, xval h a11 i12 = xi n13 ∧ xcls h this = 6 ∧ xCall G d K mX3_tellsHamlet [xr (some this), xi n4, xi n9, xi n13] h (xkI (fun n16 h14 k15 => Q (.inl (some (xi n16))) h14) (fun q h _ => Q (.inr q) h))) ∧ (n5 = (1 : Int32) → xcls h this = 6 ∧ ∃ o17 : Option Nat, xval h this 18 = xr o17 ∧ ∃ a18, o17 = some a18 ∧ xcls h a18 = 1003 ∧ ∃ i19 : Nat, (1 : Int32) = nI i19 ∧ i19 < 2147483648 ∧ i19 < xlen h a18 ∧ ∃ n20 : Int32, xval h a18 i19 = xi n20 ∧ xcls h this = 6 ∧ ∃ o21 : Option Nat, xval h this 18 = xr o21 ∧ ∃ a22, o21 = some a22 ∧ xcls h a22 = 1003 ∧ ∃ i23 : Nat, (2 : Int32) = nI i23 ∧ i23 < 2147483648 ∧ i23 < xlen h a22 ∧ ∃ n24 : Int32, xval h a22 i23 = xi n24 ∧ xcls h this = 6 ∧ ∃ o25 : Option Nat, xval h this 18 = xr o25 ∧ ∃ a26, o25 = some a26 ∧ xcls h a26 = 1003 ∧ ∃ i27 : Nat, (3 : Int32) = nI i27 ∧ i27 < 2147483648 ∧ i27 < xlen h a26 ∧ ∃ n28 : Int32, xval h a26 i27 = xi n28 ∧ xcls h this = 6 ∧ xCall G d K mX3_tellsSite [xr (some this), xi n4, xi n20, xi n24, xi n28] h (xkI (fun n31 h29 k30 => Q (.inl (some (xi n31))) h29) (fun q h _ => Q (.inr q) h))) ∧ (n5 = (2 : Int32) → xcls h this = 6 ∧ xCall G d K mX3_opens [xr (some this), xi n4] h (xkI (fun n34 h32 k33 => Q (.inl (some (xi n34))) h32) (fun q h _ => Q (.inr q) h))) ∧ (n5 = (3 : Int32) → xcls h this = 6 ∧ xCall G d K mX3_shuts [xr (some this), xi n4] h (xkI (fun n37 h35 k36 => Q (.inl (some (xi n37))) h35) (fun q h _ => Q (.inr q) h))) ∧ (n5 = (4 : Int32) → xcls h this = 6 ∧ xCall G d K mX3_pumps [xr (some this), xi n4] h (xkI (fun n40 h38 k39 => Q (.inl (some (xi n40))) h38) (fun q h _ => Q (.inr q) h))) ∧ (n5 = (5 : Int32) → xcls h this = 6 ∧ ∃ o41 : Option Nat, xval h this 18 = xr o41 ∧ ∃ a42, o41 = some a42 ∧ xcls h a42 = 1003 ∧ ∃ i43 : Nat, (1 : Int32) = nI i43 ∧ i43 < 2147483648 ∧ i43 < xlen h a42 ∧ ∃ n44 : Int32, xval h a42 i43 = xi n44 ∧ xcls h this = 6 ∧ xCall G d K mX3_moves [xr (some this), xi n4, xi n44] h (xkI (fun n47 h45 k46 => Q (.inl (some (xi n47))) h45) (fun q h _ => Q (.inr q) h))) ∧ ((n5.toInt < 0 ∨ 5 < n5.toInt) → xcls h this = 6 ∧ xCall G d K mX3_passes [xr (some this), xi n4] h (xkI (fun n50 h48 k49 => Q (.inl (some (xi n50))) h48) (fun q h _ => Q (.inr q) h))))) : xCn G mX3_doesNow d K [xr (some this)] h Q := by
  refine xCn_of px_X3_doesNow rfl rfl (Nat.le_of_ble_eq_true rfl) ?_
  show xWp G mX3_doesNow d K Q K 0 [some (xr (some this)), none] [] h
  refine xw_aload_n dX3_doesNow_0 rfl ?_
  obtain ⟨hcK, o1, hvK, hvc⟩ := hvc
  refine xw_get dX3_doesNow_1 hcX3 in_X3 (kf := 18) (by decide) q2997 (fun _ _ _ _ z => z) hcK hvK ?_
  refine xw_iconst (0 : Int32) dX3_doesNow_4 (by decide) ?_
  obtain ⟨a2, ho, hvc⟩ := hvc
  subst ho
  obtain ⟨hcK, i3, hx9, hb9, hi9, n4, hv9, hvc⟩ := hvc
  refine xw_iald (j := 3) dX3_doesNow_5 rfl hcK hx9 hb9 hi9 hv9 ?_
  refine xw_istore_n dX3_doesNow_6 (Nat.le_of_ble_eq_true rfl) (L9 := [some (xr (some this)), some (xi n4)]) rfl ?_
  refine xw_aload_n dX3_doesNow_7 rfl ?_
  obtain ⟨hcK, n5, hvK, hvc⟩ := hvc
  refine xw_get dX3_doesNow_8 hcX3 in_X3 (kf := 19) (by decide) q2998 (fun _ _ _ _ z => z) hcK hvK ?_
  obtain ⟨hv1, hvc⟩ := hvc
  by_cases c0 : n5 = (0 : Int32)
  · replace hvc := hv1 c0
    refine xw_tableIn 48 dX3_doesNow_11 (by rw [c0]; decide) (by rw [c0]; decide) (by rw [c0]; rfl) rfl ?_
    refine xw_aload_n dX3_doesNow_48 rfl ?_
    refine xw_iload_n dX3_doesNow_49 rfl ?_
    refine xw_aload_n dX3_doesNow_50 rfl ?_
    obtain ⟨hcK, o6, hvK, hvc⟩ := hvc
    refine xw_get dX3_doesNow_51 hcX3 in_X3 (kf := 18) (by decide) q2997 (fun _ _ _ _ z => z) hcK hvK ?_
    refine xw_iconst (1 : Int32) dX3_doesNow_54 (by decide) ?_
    obtain ⟨a7, ho, hvc⟩ := hvc
    subst ho
    obtain ⟨hcK, i8, hx9, hb9, hi9, n9, hv9, hvc⟩ := hvc
    refine xw_iald (j := 3) dX3_doesNow_55 rfl hcK hx9 hb9 hi9 hv9 ?_
    refine xw_aload_n dX3_doesNow_56 rfl ?_
    obtain ⟨hcK, o10, hvK, hvc⟩ := hvc
    refine xw_get dX3_doesNow_57 hcX3 in_X3 (kf := 18) (by decide) q2997 (fun _ _ _ _ z => z) hcK hvK ?_
    refine xw_iconst (2 : Int32) dX3_doesNow_60 (by decide) ?_
    obtain ⟨a11, ho, hvc⟩ := hvc
    subst ho
    obtain ⟨hcK, i12, hx9, hb9, hi9, n13, hv9, hvc⟩ := hvc
    refine xw_iald (j := 3) dX3_doesNow_61 rfl hcK hx9 hb9 hi9 hv9 ?_
    obtain ⟨hcK, hvc⟩ := hvc
    obtain ⟨d9, k9, hd9, hk9, hC9⟩ := hvc
    refine xw_callV dX3_doesNow_62 px_X3_tellsHamlet pm_X3_tellsHamlet q3093 q3095 qs48 hcX3 hcK (As := [xi n4, xi n9, xi n13]) (rest := []) rfl rfl (Nat.le_of_ble_eq_true rfl) hd9 hk9 hC9 (xkI_n fun n16 h14 hvc => ?_) (fun q h hq => xTh_out0 rfl hq)
    exact xw_iret dX3_doesNow_65 rfl hvc
  obtain ⟨hv1, hvc⟩ := hvc
  by_cases c1 : n5 = (1 : Int32)
  · replace hvc := hv1 c1
    refine xw_tableIn 66 dX3_doesNow_11 (by rw [c1]; decide) (by rw [c1]; decide) (by rw [c1]; rfl) rfl ?_
    refine xw_aload_n dX3_doesNow_66 rfl ?_
    refine xw_iload_n dX3_doesNow_67 rfl ?_
    refine xw_aload_n dX3_doesNow_68 rfl ?_
    obtain ⟨hcK, o17, hvK, hvc⟩ := hvc
    refine xw_get dX3_doesNow_69 hcX3 in_X3 (kf := 18) (by decide) q2997 (fun _ _ _ _ z => z) hcK hvK ?_
    refine xw_iconst (1 : Int32) dX3_doesNow_72 (by decide) ?_
    obtain ⟨a18, ho, hvc⟩ := hvc
    subst ho
    obtain ⟨hcK, i19, hx9, hb9, hi9, n20, hv9, hvc⟩ := hvc
    refine xw_iald (j := 3) dX3_doesNow_73 rfl hcK hx9 hb9 hi9 hv9 ?_
    refine xw_aload_n dX3_doesNow_74 rfl ?_
    obtain ⟨hcK, o21, hvK, hvc⟩ := hvc
    refine xw_get dX3_doesNow_75 hcX3 in_X3 (kf := 18) (by decide) q2997 (fun _ _ _ _ z => z) hcK hvK ?_
    refine xw_iconst (2 : Int32) dX3_doesNow_78 (by decide) ?_
    obtain ⟨a22, ho, hvc⟩ := hvc
    subst ho
    obtain ⟨hcK, i23, hx9, hb9, hi9, n24, hv9, hvc⟩ := hvc
    refine xw_iald (j := 3) dX3_doesNow_79 rfl hcK hx9 hb9 hi9 hv9 ?_
    refine xw_aload_n dX3_doesNow_80 rfl ?_
    obtain ⟨hcK, o25, hvK, hvc⟩ := hvc
    refine xw_get dX3_doesNow_81 hcX3 in_X3 (kf := 18) (by decide) q2997 (fun _ _ _ _ z => z) hcK hvK ?_
    refine xw_iconst (3 : Int32) dX3_doesNow_84 (by decide) ?_
    obtain ⟨a26, ho, hvc⟩ := hvc
    subst ho
    obtain ⟨hcK, i27, hx9, hb9, hi9, n28, hv9, hvc⟩ := hvc
    refine xw_iald (j := 3) dX3_doesNow_85 rfl hcK hx9 hb9 hi9 hv9 ?_
    obtain ⟨hcK, hvc⟩ := hvc
    obtain ⟨d9, k9, hd9, hk9, hC9⟩ := hvc
    refine xw_callV dX3_doesNow_86 px_X3_tellsSite pm_X3_tellsSite q3113 q3115 qs52 hcX3 hcK (As := [xi n4, xi n20, xi n24, xi n28]) (rest := []) rfl rfl (Nat.le_of_ble_eq_true rfl) hd9 hk9 hC9 (xkI_n fun n31 h29 hvc => ?_) (fun q h hq => xTh_out0 rfl hq)
    exact xw_iret dX3_doesNow_89 rfl hvc
  obtain ⟨hv1, hvc⟩ := hvc
  by_cases c2 : n5 = (2 : Int32)
  · replace hvc := hv1 c2
    refine xw_tableIn 90 dX3_doesNow_11 (by rw [c2]; decide) (by rw [c2]; decide) (by rw [c2]; rfl) rfl ?_
    refine xw_aload_n dX3_doesNow_90 rfl ?_
    refine xw_iload_n dX3_doesNow_91 rfl ?_
    obtain ⟨hcK, hvc⟩ := hvc
    obtain ⟨d9, k9, hd9, hk9, hC9⟩ := hvc
    refine xw_callV dX3_doesNow_92 px_X3_opens pm_X3_opens q3167 q3169 qs63 hcX3 hcK (As := [xi n4]) (rest := []) rfl rfl (Nat.le_of_ble_eq_true rfl) hd9 hk9 hC9 (xkI_n fun n34 h32 hvc => ?_) (fun q h hq => xTh_out0 rfl hq)
    exact xw_iret dX3_doesNow_95 rfl hvc
  obtain ⟨hv1, hvc⟩ := hvc
  by_cases c3 : n5 = (3 : Int32)
  · replace hvc := hv1 c3
    refine xw_tableIn 96 dX3_doesNow_11 (by rw [c3]; decide) (by rw [c3]; decide) (by rw [c3]; rfl) rfl ?_
    refine xw_aload_n dX3_doesNow_96 rfl ?_
    refine xw_iload_n dX3_doesNow_97 rfl ?_
    obtain ⟨hcK, hvc⟩ := hvc
    obtain ⟨d9, k9, hd9, hk9, hC9⟩ := hvc
    refine xw_callV dX3_doesNow_98 px_X3_shuts pm_X3_shuts q3179 q3181 qs65 hcX3 hcK (As := [xi n4]) (rest := []) rfl rfl (Nat.le_of_ble_eq_true rfl) hd9 hk9 hC9 (xkI_n fun n37 h35 hvc => ?_) (fun q h hq => xTh_out0 rfl hq)
    exact xw_iret dX3_doesNow_101 rfl hvc
  obtain ⟨hv1, hvc⟩ := hvc
  by_cases c4 : n5 = (4 : Int32)
  · replace hvc := hv1 c4
    refine xw_tableIn 102 dX3_doesNow_11 (by rw [c4]; decide) (by rw [c4]; decide) (by rw [c4]; rfl) rfl ?_
    refine xw_aload_n dX3_doesNow_102 rfl ?_
    refine xw_iload_n dX3_doesNow_103 rfl ?_
    obtain ⟨hcK, hvc⟩ := hvc
    obtain ⟨d9, k9, hd9, hk9, hC9⟩ := hvc
    refine xw_callV dX3_doesNow_104 px_X3_pumps pm_X3_pumps q3198 q3200 qs68 hcX3 hcK (As := [xi n4]) (rest := []) rfl rfl (Nat.le_of_ble_eq_true rfl) hd9 hk9 hC9 (xkI_n fun n40 h38 hvc => ?_) (fun q h hq => xTh_out0 rfl hq)
    exact xw_iret dX3_doesNow_107 rfl hvc
  obtain ⟨hv1, hvc⟩ := hvc
  by_cases c5 : n5 = (5 : Int32)
  · replace hvc := hv1 c5
    refine xw_tableIn 108 dX3_doesNow_11 (by rw [c5]; decide) (by rw [c5]; decide) (by rw [c5]; rfl) rfl ?_
    refine xw_aload_n dX3_doesNow_108 rfl ?_
    refine xw_iload_n dX3_doesNow_109 rfl ?_
    refine xw_aload_n dX3_doesNow_110 rfl ?_
    obtain ⟨hcK, o41, hvK, hvc⟩ := hvc
    refine xw_get dX3_doesNow_111 hcX3 in_X3 (kf := 18) (by decide) q2997 (fun _ _ _ _ z => z) hcK hvK ?_
    refine xw_iconst (1 : Int32) dX3_doesNow_114 (by decide) ?_
    obtain ⟨a42, ho, hvc⟩ := hvc
    subst ho
    obtain ⟨hcK, i43, hx9, hb9, hi9, n44, hv9, hvc⟩ := hvc
    refine xw_iald (j := 3) dX3_doesNow_115 rfl hcK hx9 hb9 hi9 hv9 ?_
    obtain ⟨hcK, hvc⟩ := hvc
    obtain ⟨d9, k9, hd9, hk9, hC9⟩ := hvc
    refine xw_callV dX3_doesNow_116 px_X3_moves pm_X3_moves q3226 q3228 qs73 hcX3 hcK (As := [xi n4, xi n44]) (rest := []) rfl rfl (Nat.le_of_ble_eq_true rfl) hd9 hk9 hC9 (xkI_n fun n47 h45 hvc => ?_) (fun q h hq => xTh_out0 rfl hq)
    exact xw_iret dX3_doesNow_119 rfl hvc
  have hout : (n5).toInt < (0 : Int) ∨ (5 : Int) < (n5).toInt := by
    have e0 : ¬ (n5).toInt = (0 : Int) := fun z => c0 (Int32.toInt_inj.mp (z.trans (by decide)))
    have e1 : ¬ (n5).toInt = (1 : Int) := fun z => c1 (Int32.toInt_inj.mp (z.trans (by decide)))
    have e2 : ¬ (n5).toInt = (2 : Int) := fun z => c2 (Int32.toInt_inj.mp (z.trans (by decide)))
    have e3 : ¬ (n5).toInt = (3 : Int) := fun z => c3 (Int32.toInt_inj.mp (z.trans (by decide)))
    have e4 : ¬ (n5).toInt = (4 : Int) := fun z => c4 (Int32.toInt_inj.mp (z.trans (by decide)))
    have e5 : ¬ (n5).toInt = (5 : Int) := fun z => c5 (Int32.toInt_inj.mp (z.trans (by decide)))
    omega
  replace hvc := hvc hout
  refine xw_tableOut 120 dX3_doesNow_11 hout rfl ?_
  refine xw_aload_n dX3_doesNow_120 rfl ?_
  refine xw_iload_n dX3_doesNow_121 rfl ?_
  obtain ⟨hcK, hvc⟩ := hvc
  obtain ⟨d9, k9, hd9, hk9, hC9⟩ := hvc
  refine xw_callV dX3_doesNow_122 px_X3_passes pm_X3_passes q3234 q3236 qs74 hcX3 hcK (As := [xi n4]) (rest := []) rfl rfl (Nat.le_of_ble_eq_true rfl) hd9 hk9 hC9 (xkI_n fun n50 h48 hvc => ?_) (fun q h hq => xTh_out0 rfl hq)
  exact xw_iret dX3_doesNow_125 rfl hvc

theorem vc_X3_undo {G : xG} {d K : Nat} {Q : xR → xH → Prop} {h : xH} {this : Nat}
    (hvc : xcls h this = 6 ∧ ∃ n1 : Int32, xval h this 8 = xi n1 ∧ ((¬ n1 = 0 → xcls h this = 6 ∧ ∃ n2 : Int32, xval h this 8 = xi n2 ∧ xcls h this = 6 ∧ ∀ h3 : xH, h3 = xput h this 8 (xi (n2 - (1 : Int32))) → xcls h3 this = 6 ∧ ∃ n4 : Int32, xval h3 this 9 = xi n4 ∧ xcls h3 this = 6 ∧ ∃ n5 : Int32, xval h3 this 8 = xi n5 ∧ xWp G mX3_undo d K Q K 35 [some (xr (some this)), some (xi ((n4 + n5) - (n4 + n5) / (8 : Int32) * (8 : Int32))), some (xi (0 : Int32))] [] h3) ∧ (n1 = 0 → Q (.inl (some (xi (-3 : Int32)))) h))) : xCn G mX3_undo d K [xr (some this)] h Q := by
  refine xCn_of px_X3_undo rfl rfl (Nat.le_of_ble_eq_true rfl) ?_
  show xWp G mX3_undo d K Q K 0 [some (xr (some this)), none, none] [] h
  refine xw_aload_n dX3_undo_0 rfl ?_
  obtain ⟨hcK, n1, hvK, hvc⟩ := hvc
  refine xw_get dX3_undo_1 hcX3 in_X3 (kf := 8) (by decide) q2987 (fun _ _ _ _ z => z) hcK hvK ?_
  refine xw_if_ne 10 dX3_undo_4 rfl (fun hc => ?_) (fun hc => ?_)
  · replace hvc := hvc.1 hc
    refine xw_aload_n dX3_undo_10 rfl ?_
    refine xw_dup dX3_undo_11 rfl ?_
    obtain ⟨hcK, n2, hvK, hvc⟩ := hvc
    refine xw_get dX3_undo_12 hcX3 in_X3 (kf := 8) (by decide) q2987 (fun _ _ _ _ z => z) hcK hvK ?_
    refine xw_iconst (1 : Int32) dX3_undo_15 (by decide) ?_
    refine xw_isub dX3_undo_16 ?_
    obtain ⟨hcK, hvc⟩ := hvc
    refine xw_put dX3_undo_17 hcX3 in_X3 tyX3_ok xnmX3 (kf := 8) (by decide) q2987 (fun _ _ _ _ z => z) rfl rfl rfl hcK (Or.inl rfl) (fun h3 eh9 => ?_)
    replace hvc := hvc h3 eh9
    refine xw_aload_n dX3_undo_20 rfl ?_
    obtain ⟨hcK, n4, hvK, hvc⟩ := hvc
    refine xw_get dX3_undo_21 hcX3 in_X3 (kf := 9) (by decide) q2988 (fun _ _ _ _ z => z) hcK hvK ?_
    refine xw_aload_n dX3_undo_24 rfl ?_
    obtain ⟨hcK, n5, hvK, hvc⟩ := hvc
    refine xw_get dX3_undo_25 hcX3 in_X3 (kf := 8) (by decide) q2987 (fun _ _ _ _ z => z) hcK hvK ?_
    refine xw_iadd dX3_undo_28 ?_
    refine xw_bipush (8 : Int32) dX3_undo_29 (by decide) ?_
    refine xw_irem dX3_undo_31 (by decide) ?_
    refine xw_istore_n dX3_undo_32 (Nat.le_of_ble_eq_true rfl) (L9 := [some (xr (some this)), some (xi ((n4 + n5) - (n4 + n5) / (8 : Int32) * (8 : Int32))), none]) rfl ?_
    refine xw_iconst (0 : Int32) dX3_undo_33 (by decide) ?_
    refine xw_istore_n dX3_undo_34 (Nat.le_of_ble_eq_true rfl) (L9 := [some (xr (some this)), some (xi ((n4 + n5) - (n4 + n5) / (8 : Int32) * (8 : Int32))), some (xi (0 : Int32))]) rfl ?_
    exact hvc
  · replace hvc := hvc.2 hc
    refine xw_bipush (-3 : Int32) dX3_undo_7 (by decide) ?_
    exact xw_iret dX3_undo_9 rfl hvc

theorem vc_X3_undo_35 {G : xG} {d K k : Nat} {Q : xR → xH → Prop} {h : xH} {this : Nat} {x1 : Int32} {x2 : Int32}
    (hvc : (((112 : Int32) ≤ x2 → xcls h this = 6 ∧ ∃ n6 : Int32, xval h this 8 = xi n6 ∧ Q (.inl (some (xi n6))) h) ∧ (¬ (112 : Int32) ≤ x2 → xcls h this = 6 ∧ ∃ o7 : Option Nat, xval h this 4 = xr o7 ∧ xcls h this = 6 ∧ ∃ o8 : Option Nat, xval h this 5 = xr o8 ∧ ∃ a9, o8 = some a9 ∧ xcls h a9 = 1003 ∧ ∃ i10 : Nat, (((112 : Int32) * x1) + x2) = nI i10 ∧ i10 < 2147483648 ∧ i10 < xlen h a9 ∧ ∃ n11 : Int32, xval h a9 i10 = xi n11 ∧ ∃ a12, o7 = some a12 ∧ xcls h a12 = 1003 ∧ ∃ i13 : Nat, x2 = nI i13 ∧ i13 < 2147483648 ∧ i13 < xlen h a12 ∧ ∀ h14 : xH, h14 = xput h a12 i13 (xi n11) → xWp G mX3_undo d K Q k 35 [some (xr (some this)), some (xi x1), some (xi (x2 + (1 : Int32)))] [] h14))) : xWp G mX3_undo d K Q k 35 [some (xr (some this)), some (xi x1), some (xi x2)] [] h := by
  refine xw_iload_n dX3_undo_35 rfl ?_
  refine xw_bipush (112 : Int32) dX3_undo_36 (by decide) ?_
  refine xw_icmp_ge 64 dX3_undo_38 rfl (fun hc => ?_) (fun hc => ?_)
  · replace hvc := hvc.1 hc
    refine xw_aload_n dX3_undo_64 rfl ?_
    obtain ⟨hcK, n6, hvK, hvc⟩ := hvc
    refine xw_get dX3_undo_65 hcX3 in_X3 (kf := 8) (by decide) q2987 (fun _ _ _ _ z => z) hcK hvK ?_
    exact xw_iret dX3_undo_68 rfl hvc
  · replace hvc := hvc.2 hc
    refine xw_aload_n dX3_undo_41 rfl ?_
    obtain ⟨hcK, o7, hvK, hvc⟩ := hvc
    refine xw_get dX3_undo_42 hcX3 in_X3 (kf := 4) (by decide) q2983 (fun _ _ _ _ z => z) hcK hvK ?_
    refine xw_iload_n dX3_undo_45 rfl ?_
    refine xw_aload_n dX3_undo_46 rfl ?_
    obtain ⟨hcK, o8, hvK, hvc⟩ := hvc
    refine xw_get dX3_undo_47 hcX3 in_X3 (kf := 5) (by decide) q2984 (fun _ _ _ _ z => z) hcK hvK ?_
    refine xw_bipush (112 : Int32) dX3_undo_50 (by decide) ?_
    refine xw_iload_n dX3_undo_52 rfl ?_
    refine xw_imul dX3_undo_53 ?_
    refine xw_iload_n dX3_undo_54 rfl ?_
    refine xw_iadd dX3_undo_55 ?_
    obtain ⟨a9, ho, hvc⟩ := hvc
    subst ho
    obtain ⟨hcK, i10, hx9, hb9, hi9, n11, hv9, hvc⟩ := hvc
    refine xw_iald (j := 3) dX3_undo_56 rfl hcK hx9 hb9 hi9 hv9 ?_
    obtain ⟨a12, ho, hvc⟩ := hvc
    subst ho
    obtain ⟨hcK, i13, hx9, hb9, hi9, hvc⟩ := hvc
    refine xw_iast (j := 3) dX3_undo_57 rfl hcK (Or.inl rfl) hx9 hb9 hi9 (fun h14 eh9 => ?_)
    replace hvc := hvc h14 eh9
    refine xw_iinc (1 : Int32) dX3_undo_58 rfl (by decide) (Nat.le_of_ble_eq_true rfl) (L9 := [some (xr (some this)), some (xi x1), some (xi (x2 + (1 : Int32)))]) rfl ?_
    refine xw_goto 35 dX3_undo_61 rfl ?_
    exact hvc

theorem vc_X3_save {G : xG} {d K : Nat} {Q : xR → xH → Prop} {h : xH} {this : Nat}
    (hvc : xWp G mX3_save d K Q K 2 [some (xr (some this)), some (xi (0 : Int32))] [] h) : xCn G mX3_save d K [xr (some this)] h Q := by
  refine xCn_of px_X3_save rfl rfl (Nat.le_of_ble_eq_true rfl) ?_
  show xWp G mX3_save d K Q K 0 [some (xr (some this)), none] [] h
  refine xw_iconst (0 : Int32) dX3_save_0 (by decide) ?_
  refine xw_istore_n dX3_save_1 (Nat.le_of_ble_eq_true rfl) (L9 := [some (xr (some this)), some (xi (0 : Int32))]) rfl ?_
  exact hvc

theorem vc_X3_save_2 {G : xG} {d K k : Nat} {Q : xR → xH → Prop} {h : xH} {this : Nat} {x1 : Int32}
    (hvc : (((112 : Int32) ≤ x1 → xcls h this = 6 ∧ ∀ h1 : xH, h1 = xput h this 10 (xi (1 : Int32)) → xcls h1 this = 6 ∧ ∃ o2 : Option Nat, xval h1 this 4 = xr o2 ∧ ∃ a3, o2 = some a3 ∧ xcls h1 a3 = 1003 ∧ ∃ i4 : Nat, (0 : Int32) = nI i4 ∧ i4 < 2147483648 ∧ i4 < xlen h1 a3 ∧ ∃ n5 : Int32, xval h1 a3 i4 = xi n5 ∧ Q (.inl (some (xi n5))) h1) ∧ (¬ (112 : Int32) ≤ x1 → xcls h this = 6 ∧ ∃ o6 : Option Nat, xval h this 6 = xr o6 ∧ xcls h this = 6 ∧ ∃ o7 : Option Nat, xval h this 4 = xr o7 ∧ ∃ a8, o7 = some a8 ∧ xcls h a8 = 1003 ∧ ∃ i9 : Nat, x1 = nI i9 ∧ i9 < 2147483648 ∧ i9 < xlen h a8 ∧ ∃ n10 : Int32, xval h a8 i9 = xi n10 ∧ ∃ a11, o6 = some a11 ∧ xcls h a11 = 1003 ∧ ∃ i12 : Nat, x1 = nI i12 ∧ i12 < 2147483648 ∧ i12 < xlen h a11 ∧ ∀ h13 : xH, h13 = xput h a11 i12 (xi n10) → xWp G mX3_save d K Q k 2 [some (xr (some this)), some (xi (x1 + (1 : Int32)))] [] h13))) : xWp G mX3_save d K Q k 2 [some (xr (some this)), some (xi x1)] [] h := by
  refine xw_iload_n dX3_save_2 rfl ?_
  refine xw_bipush (112 : Int32) dX3_save_3 (by decide) ?_
  refine xw_icmp_ge 26 dX3_save_5 rfl (fun hc => ?_) (fun hc => ?_)
  · replace hvc := hvc.1 hc
    refine xw_aload_n dX3_save_26 rfl ?_
    refine xw_iconst (1 : Int32) dX3_save_27 (by decide) ?_
    obtain ⟨hcK, hvc⟩ := hvc
    refine xw_put dX3_save_28 hcX3 in_X3 tyX3_ok xnmX3 (kf := 10) (by decide) q2989 (fun _ _ _ _ z => z) rfl rfl rfl hcK (Or.inl rfl) (fun h1 eh9 => ?_)
    replace hvc := hvc h1 eh9
    refine xw_aload_n dX3_save_31 rfl ?_
    obtain ⟨hcK, o2, hvK, hvc⟩ := hvc
    refine xw_get dX3_save_32 hcX3 in_X3 (kf := 4) (by decide) q2983 (fun _ _ _ _ z => z) hcK hvK ?_
    refine xw_iconst (0 : Int32) dX3_save_35 (by decide) ?_
    obtain ⟨a3, ho, hvc⟩ := hvc
    subst ho
    obtain ⟨hcK, i4, hx9, hb9, hi9, n5, hv9, hvc⟩ := hvc
    refine xw_iald (j := 3) dX3_save_36 rfl hcK hx9 hb9 hi9 hv9 ?_
    exact xw_iret dX3_save_37 rfl hvc
  · replace hvc := hvc.2 hc
    refine xw_aload_n dX3_save_8 rfl ?_
    obtain ⟨hcK, o6, hvK, hvc⟩ := hvc
    refine xw_get dX3_save_9 hcX3 in_X3 (kf := 6) (by decide) q2985 (fun _ _ _ _ z => z) hcK hvK ?_
    refine xw_iload_n dX3_save_12 rfl ?_
    refine xw_aload_n dX3_save_13 rfl ?_
    obtain ⟨hcK, o7, hvK, hvc⟩ := hvc
    refine xw_get dX3_save_14 hcX3 in_X3 (kf := 4) (by decide) q2983 (fun _ _ _ _ z => z) hcK hvK ?_
    refine xw_iload_n dX3_save_17 rfl ?_
    obtain ⟨a8, ho, hvc⟩ := hvc
    subst ho
    obtain ⟨hcK, i9, hx9, hb9, hi9, n10, hv9, hvc⟩ := hvc
    refine xw_iald (j := 3) dX3_save_18 rfl hcK hx9 hb9 hi9 hv9 ?_
    obtain ⟨a11, ho, hvc⟩ := hvc
    subst ho
    obtain ⟨hcK, i12, hx9, hb9, hi9, hvc⟩ := hvc
    refine xw_iast (j := 3) dX3_save_19 rfl hcK (Or.inl rfl) hx9 hb9 hi9 (fun h13 eh9 => ?_)
    replace hvc := hvc h13 eh9
    refine xw_iinc (1 : Int32) dX3_save_20 rfl (by decide) (Nat.le_of_ble_eq_true rfl) (L9 := [some (xr (some this)), some (xi (x1 + (1 : Int32)))]) rfl ?_
    refine xw_goto 2 dX3_save_23 rfl ?_
    exact hvc

theorem vc_X3_restore {G : xG} {d K : Nat} {Q : xR → xH → Prop} {h : xH} {this : Nat}
    (hvc : xcls h this = 6 ∧ ∃ n1 : Int32, xval h this 10 = xi n1 ∧ ((¬ n1 = 0 → xWp G mX3_restore d K Q K 12 [some (xr (some this)), some (xi (0 : Int32))] [] h) ∧ (n1 = 0 → Q (.inl (some (xi (-3 : Int32)))) h))) : xCn G mX3_restore d K [xr (some this)] h Q := by
  refine xCn_of px_X3_restore rfl rfl (Nat.le_of_ble_eq_true rfl) ?_
  show xWp G mX3_restore d K Q K 0 [some (xr (some this)), none] [] h
  refine xw_aload_n dX3_restore_0 rfl ?_
  obtain ⟨hcK, n1, hvK, hvc⟩ := hvc
  refine xw_get dX3_restore_1 hcX3 in_X3 (kf := 10) (by decide) q2989 (fun _ _ _ _ z => z) hcK hvK ?_
  refine xw_if_ne 10 dX3_restore_4 rfl (fun hc => ?_) (fun hc => ?_)
  · replace hvc := hvc.1 hc
    refine xw_iconst (0 : Int32) dX3_restore_10 (by decide) ?_
    refine xw_istore_n dX3_restore_11 (Nat.le_of_ble_eq_true rfl) (L9 := [some (xr (some this)), some (xi (0 : Int32))]) rfl ?_
    exact hvc
  · replace hvc := hvc.2 hc
    refine xw_bipush (-3 : Int32) dX3_restore_7 (by decide) ?_
    exact xw_iret dX3_restore_9 rfl hvc

theorem vc_X3_restore_12 {G : xG} {d K k : Nat} {Q : xR → xH → Prop} {h : xH} {this : Nat} {x1 : Int32}
    (hvc : (((112 : Int32) ≤ x1 → xcls h this = 6 ∧ ∀ h2 : xH, h2 = xput h this 8 (xi (0 : Int32)) → xcls h2 this = 6 ∧ ∀ h3 : xH, h3 = xput h2 this 9 (xi (0 : Int32)) → xcls h3 this = 6 ∧ ∃ o4 : Option Nat, xval h3 this 4 = xr o4 ∧ ∃ a5, o4 = some a5 ∧ xcls h3 a5 = 1003 ∧ ∃ i6 : Nat, (0 : Int32) = nI i6 ∧ i6 < 2147483648 ∧ i6 < xlen h3 a5 ∧ ∃ n7 : Int32, xval h3 a5 i6 = xi n7 ∧ Q (.inl (some (xi n7))) h3) ∧ (¬ (112 : Int32) ≤ x1 → xcls h this = 6 ∧ ∃ o8 : Option Nat, xval h this 4 = xr o8 ∧ xcls h this = 6 ∧ ∃ o9 : Option Nat, xval h this 6 = xr o9 ∧ ∃ a10, o9 = some a10 ∧ xcls h a10 = 1003 ∧ ∃ i11 : Nat, x1 = nI i11 ∧ i11 < 2147483648 ∧ i11 < xlen h a10 ∧ ∃ n12 : Int32, xval h a10 i11 = xi n12 ∧ ∃ a13, o8 = some a13 ∧ xcls h a13 = 1003 ∧ ∃ i14 : Nat, x1 = nI i14 ∧ i14 < 2147483648 ∧ i14 < xlen h a13 ∧ ∀ h15 : xH, h15 = xput h a13 i14 (xi n12) → xWp G mX3_restore d K Q k 12 [some (xr (some this)), some (xi (x1 + (1 : Int32)))] [] h15))) : xWp G mX3_restore d K Q k 12 [some (xr (some this)), some (xi x1)] [] h := by
  refine xw_iload_n dX3_restore_12 rfl ?_
  refine xw_bipush (112 : Int32) dX3_restore_13 (by decide) ?_
  refine xw_icmp_ge 36 dX3_restore_15 rfl (fun hc => ?_) (fun hc => ?_)
  · replace hvc := hvc.1 hc
    refine xw_aload_n dX3_restore_36 rfl ?_
    refine xw_iconst (0 : Int32) dX3_restore_37 (by decide) ?_
    obtain ⟨hcK, hvc⟩ := hvc
    refine xw_put dX3_restore_38 hcX3 in_X3 tyX3_ok xnmX3 (kf := 8) (by decide) q2987 (fun _ _ _ _ z => z) rfl rfl rfl hcK (Or.inl rfl) (fun h2 eh9 => ?_)
    replace hvc := hvc h2 eh9
    refine xw_aload_n dX3_restore_41 rfl ?_
    refine xw_iconst (0 : Int32) dX3_restore_42 (by decide) ?_
    obtain ⟨hcK, hvc⟩ := hvc
    refine xw_put dX3_restore_43 hcX3 in_X3 tyX3_ok xnmX3 (kf := 9) (by decide) q2988 (fun _ _ _ _ z => z) rfl rfl rfl hcK (Or.inl rfl) (fun h3 eh9 => ?_)
    replace hvc := hvc h3 eh9
    refine xw_aload_n dX3_restore_46 rfl ?_
    obtain ⟨hcK, o4, hvK, hvc⟩ := hvc
    refine xw_get dX3_restore_47 hcX3 in_X3 (kf := 4) (by decide) q2983 (fun _ _ _ _ z => z) hcK hvK ?_
    refine xw_iconst (0 : Int32) dX3_restore_50 (by decide) ?_
    obtain ⟨a5, ho, hvc⟩ := hvc
    subst ho
    obtain ⟨hcK, i6, hx9, hb9, hi9, n7, hv9, hvc⟩ := hvc
    refine xw_iald (j := 3) dX3_restore_51 rfl hcK hx9 hb9 hi9 hv9 ?_
    exact xw_iret dX3_restore_52 rfl hvc
  · replace hvc := hvc.2 hc
    refine xw_aload_n dX3_restore_18 rfl ?_
    obtain ⟨hcK, o8, hvK, hvc⟩ := hvc
    refine xw_get dX3_restore_19 hcX3 in_X3 (kf := 4) (by decide) q2983 (fun _ _ _ _ z => z) hcK hvK ?_
    refine xw_iload_n dX3_restore_22 rfl ?_
    refine xw_aload_n dX3_restore_23 rfl ?_
    obtain ⟨hcK, o9, hvK, hvc⟩ := hvc
    refine xw_get dX3_restore_24 hcX3 in_X3 (kf := 6) (by decide) q2985 (fun _ _ _ _ z => z) hcK hvK ?_
    refine xw_iload_n dX3_restore_27 rfl ?_
    obtain ⟨a10, ho, hvc⟩ := hvc
    subst ho
    obtain ⟨hcK, i11, hx9, hb9, hi9, n12, hv9, hvc⟩ := hvc
    refine xw_iald (j := 3) dX3_restore_28 rfl hcK hx9 hb9 hi9 hv9 ?_
    obtain ⟨a13, ho, hvc⟩ := hvc
    subst ho
    obtain ⟨hcK, i14, hx9, hb9, hi9, hvc⟩ := hvc
    refine xw_iast (j := 3) dX3_restore_29 rfl hcK (Or.inl rfl) hx9 hb9 hi9 (fun h15 eh9 => ?_)
    replace hvc := hvc h15 eh9
    refine xw_iinc (1 : Int32) dX3_restore_30 rfl (by decide) (Nat.le_of_ble_eq_true rfl) (L9 := [some (xr (some this)), some (xi (x1 + (1 : Int32)))]) rfl ?_
    refine xw_goto 12 dX3_restore_33 rfl ?_
    exact hvc


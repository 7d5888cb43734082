/-! the twin: commands -/
section XTS
variable {G : xG} {d k : Nat} {h h' h0 : xH} {T : Nat → xH → Nat → Prop} {S : List Nat} {m : Nat} {A : Nat → Nat} {V V0 : Nat → Nat → Int32} {W : Nat → Int32} {a b c s i j mm n f v : Nat} {x y z w ix : Int32} {cs : List Nat} {u : rU}
theorem t_readsPlace_c {F : Int32 → xH → Nat → Prop} (hd : 4 < d) (q : isTw h m A (pV V u)) (t : tIn V cs) (hu : u.1 ≤ cs.length)
    (hQ : ∀ h', isTw h' m A (pV V (rS cs rPlaceA u).2) → xMod (tS m A) h h' → F (xb (rS cs rPlaceA u).1) h' k) : xCall G d k mX3_readsPlace [xr (some m)] h (xkI F T) := by
  have K0 : rK cs m A V h (fun r h' => xkI F T r h' (k - 0)) rPlaceA u := hQ
  exact xCall_of (d' := 4) hd (Nat.zero_le k) (vc_X3_readsPlace (t_sC (by decide) t hu 32 (by decide) q xMod.rf K0 fun h1 k1 q1 x1 u1 K1 => t_sN (by decide) t u1 0 (by decide) q1 x1 K1 fun h2 k2 q2 x2 u2 K2 => t_sC (by decide) t u2 44 (by decide) q2 x2 K2 fun h3 k3 q3 x3 u3 K3 => t_sN (by decide) t u3 1 (by decide) q3 x3 K3 fun h4 k4 q4 x4 u4 K4 => K4.nn q4 x4))
theorem t_sPl {Q : xR → xH → Prop} {P : xH → Nat → Prop} {l : List (Nat × Nat)} (hd : 4 < d) (t : tIn V cs) (hu : u.1 ≤ cs.length) (q : isTw h m A (pV V u)) (x : xMod (tS m A) h0 h) (hQ : rK cs m A V h0 Q (rPlaceA ++ l) u)
    (K : ∀ h1 k1, isTw h1 m A (pV V (rS cs rPlaceA u).2) → xMod (tS m A) h0 h1 → (rS cs rPlaceA u).2.1 ≤ cs.length → rK cs m A V h0 Q l (rS cs rPlaceA u).2 → P h1 k1) :
    xcls h m = 6 ∧ xCall G d k mX3_readsPlace [xr (some m)] h (xkI (fun n3 h1 k2 => ((n3 = 0 → Q (.inl (some (xi (0 : Int32)))) h1) ∧ (¬ n3 = 0 → P h1 k2))) (fun q h _ => Q (.inr q) h)) := by
  unfold rK at hQ
  rw [rS_app] at hQ
  refine ⟨q.cl, t_readsPlace_c hd q t hu fun h1 q1 x1 => ⟨fun z => ?_, fun z => ?_⟩⟩
  · have e := xb0.mp z
    rw [if_neg (by rw [e]; exact Bool.false_ne_true), e] at hQ
    exact hQ h1 q1 (x.tr x1)
  · have e := xb1.mp z
    rw [if_pos e] at hQ
    exact K h1 _ q1 (x.tr x1) (rS_le _ _ hu) hQ
theorem t_readsS_c {F : Int32 → xH → Nat → Prop} (hd : 5 < d) (q : isTw h m A (pV V u)) (t : tIn V cs) (hu : u.1 ≤ cs.length)
    (hQ : ∀ h', isTw h' m A (pV V (rEs cs u).2) → xMod (tS m A) h h' → F (xb (rEs cs u).1) h' k) : xCall G d k mX3_readsS [xr (some m)] h (xkI F T) := by
  unfold rEs at hQ
  refine xCall_of (d' := 5) hd (Nat.zero_le k) (vc_X3_readsS ⟨q.cl, t_reads_c (c := 105) (by decide) (by decide) q t hu fun h1 q1 x1 => ⟨fun z => ⟨q1.cl, fun h4 e4 => ?_⟩, fun z => ⟨q1.cl, fun h4 e4 => ?_⟩⟩⟩)
  · have e := xb0.mp z
    rw [if_neg (by rw [e]; exact Bool.false_ne_true)] at hQ
    rw [rC_f e] at q1
    have q4 := t_sort q1 3
    have x4 : xMod (tS m A) h h4 := e4 ▸ x1.tf (fun _ z => z) 19 _
    have e5 : h4 = xput h1 m 19 (xi (nI 3)) := e4
    rw [← e5] at q4
    have K4 : rK cs m A V h (fun r h' => xkI F T r h' (k - 0)) [(0, 104), (0, 117), (0, 116), (0, 32), (1, 0)] (rTo u 3) := hQ
    have u4 : (rTo u 3).1 ≤ cs.length := hu
    exact t_sC (by decide) t u4 104 (by decide) q4 x4 K4 fun h5 k5 q5 x5 u5 K5 => t_sC (by decide) t u5 117 (by decide) q5 x5 K5 fun h6 k6 q6 x6 u6 K6 => t_sC (by decide) t u6 116 (by decide) q6 x6 K6 fun h7 k7 q7 x7 u7 K7 => t_sC (by decide) t u7 32 (by decide) q7 x7 K7 fun h8 k8 q8 x8 u8 K8 => t_sD (by decide) t u8 0 (by decide) q8 x8 K8 fun h9 k9 q9 x9 u9 K9 => K9.nn q9 x9
  · have e := xb1.mp z
    rw [if_pos e] at hQ
    have q4 := t_sort q1 1
    have x4 : xMod (tS m A) h h4 := e4 ▸ x1.tf (fun _ z => z) 19 _
    have e5 : h4 = xput h1 m 19 (xi (nI 1)) := e4
    rw [← e5] at q4
    have K4 : rK cs m A V h (fun r h' => xkI F T r h' (k - 0)) [(0, 116), (0, 101), (0, 32), (2, 0), (0, 44), (2, 1), (0, 32), (2, 2), (0, 32), (2, 3)] (rTo (rC cs 105 u).2 1) := hQ
    have u4 : (rTo (rC cs 105 u).2 1).1 ≤ cs.length := rC_le hu
    exact t_sC (by decide) t u4 116 (by decide) q4 x4 K4 fun h5 k5 q5 x5 u5 K5 => t_sC (by decide) t u5 101 (by decide) q5 x5 K5 fun h6 k6 q6 x6 u6 K6 => t_sPl (by decide) t u6 q6 x6 K6 fun h7 k7 q7 x7 u7 K7 => t_sC (by decide) t u7 32 (by decide) q7 x7 K7 fun h8 k8 q8 x8 u8 K8 => t_sN (by decide) t u8 2 (by decide) q8 x8 K8 fun h9 k9 q9 x9 u9 K9 => t_sC (by decide) t u9 32 (by decide) q9 x9 K9 fun h10 k10 q10 x10 u10 K10 => t_sN (by decide) t u10 3 (by decide) q10 x10 K10 fun h11 k11 q11 x11 u11 K11 => K11.nn q11 x11
theorem t_readsP_c {F : Int32 → xH → Nat → Prop} (hd : 5 < d) (q : isTw h m A (pV V u)) (t : tIn V cs) (hu : u.1 ≤ cs.length)
    (hQ : ∀ h', isTw h' m A (pV V (rPe cs u).2) → xMod (tS m A) h h' → F (xb (rPe cs u).1) h' k) : xCall G d k mX3_readsP [xr (some m)] h (xkI F T) := by
  unfold rPe at hQ
  refine xCall_of (d' := 5) hd (Nat.zero_le k) (vc_X3_readsP ⟨q.cl, t_reads_c (c := 117) (by decide) (by decide) q t hu fun h1 q1 x1 => ⟨fun z => ⟨q1.cl, fun h4 e4 => ?_⟩, fun z => ⟨q1.cl, fun h4 e4 => ?_⟩⟩⟩)
  · have e := xb0.mp z
    rw [if_neg (by rw [e]; exact Bool.false_ne_true)] at hQ
    rw [rC_f e] at q1
    have q4 := t_sort q1 6
    have x4 : xMod (tS m A) h h4 := e4 ▸ x1.tf (fun _ z => z) 19 _
    have e5 : h4 = xput h1 m 19 (xi (nI 6)) := e4
    rw [← e5] at q4
    have K4 : rK cs m A V h (fun r h' => xkI F T r h' (k - 0)) [(0, 97), (0, 115), (0, 115), (0, 32), (2, 0)] (rTo u 6) := hQ
    have u4 : (rTo u 6).1 ≤ cs.length := hu
    exact t_sC (by decide) t u4 97 (by decide) q4 x4 K4 fun h5 k5 q5 x5 u5 K5 => t_sC (by decide) t u5 115 (by decide) q5 x5 K5 fun h6 k6 q6 x6 u6 K6 => t_sC (by decide) t u6 115 (by decide) q6 x6 K6 fun h7 k7 q7 x7 u7 K7 => t_sC (by decide) t u7 32 (by decide) q7 x7 K7 fun h8 k8 q8 x8 u8 K8 => t_sN (by decide) t u8 0 (by decide) q8 x8 K8 fun h9 k9 q9 x9 u9 K9 => K9.nn q9 x9
  · have e := xb1.mp z
    rw [if_pos e] at hQ
    have q4 := t_sort q1 4
    have x4 : xMod (tS m A) h h4 := e4 ▸ x1.tf (fun _ z => z) 19 _
    have e5 : h4 = xput h1 m 19 (xi (nI 4)) := e4
    rw [← e5] at q4
    have K4 : rK cs m A V h (fun r h' => xkI F T r h' (k - 0)) [(0, 109), (0, 112), (0, 32), (1, 0)] (rTo (rC cs 117 u).2 4) := hQ
    have u4 : (rTo (rC cs 117 u).2 4).1 ≤ cs.length := rC_le hu
    exact t_sC (by decide) t u4 109 (by decide) q4 x4 K4 fun h5 k5 q5 x5 u5 K5 => t_sC (by decide) t u5 112 (by decide) q5 x5 K5 fun h6 k6 q6 x6 u6 K6 => t_sC (by decide) t u6 32 (by decide) q6 x6 K6 fun h7 k7 q7 x7 u7 K7 => t_sD (by decide) t u7 0 (by decide) q7 x7 K7 fun h8 k8 q8 x8 u8 K8 => K8.nn q8 x8
theorem t_readsCommand_c {F : Int32 → xH → Nat → Prop} (hd : 6 < d) (q : isTw h m A (pV V u)) (t : tIn V cs) (hu : u.1 ≤ cs.length)
    (hQ : ∀ h', isTw h' m A (pV V (rCmd cs u).2) → xMod (tS m A) h h' → F (xb (rCmd cs u).1) h' k) : xCall G d k mX3_readsCommand [xr (some m)] h (xkI F T) := by
  unfold rCmd at hQ
  refine xCall_of (d' := 6) hd (Nat.zero_le k) (vc_X3_readsCommand ⟨q.cl, t_reads_c (c := 104) (by decide) (by decide) q t hu fun h1 q1 x1 => ⟨fun z1 => ?_, fun z1 => ⟨q1.cl, fun h9 e9 => ?_⟩⟩⟩)
  · have e1 := xb0.mp z1
    rw [if_neg (by rw [e1]; exact Bool.false_ne_true)] at hQ
    rw [rC_f e1] at q1
    refine ⟨q1.cl, t_reads_c (c := 115) (by decide) (by decide) q1 t hu fun h2 q2 x2 => ⟨fun z2 => ?_, fun z2 => ?_⟩⟩
    · have e2 := xb0.mp z2
      rw [if_neg (by rw [e2]; exact Bool.false_ne_true)] at hQ
      rw [rC_f e2] at q2
      refine ⟨q2.cl, t_reads_c (c := 111) (by decide) (by decide) q2 t hu fun h3 q3 x3 => ⟨fun z3 => ?_, fun z3 => ⟨q3.cl, fun h9 e9 => ?_⟩⟩⟩
      · have e3 := xb0.mp z3
        rw [if_neg (by rw [e3]; exact Bool.false_ne_true)] at hQ
        rw [rC_f e3] at q3
        refine ⟨q3.cl, t_reads_c (c := 112) (by decide) (by decide) q3 t hu fun h4 q4 x4 => ⟨fun z4 => ⟨q4.cl, fun h9 e9 => ?_⟩, fun z4 => ?_⟩⟩
        · have e4 := xb0.mp z4
          rw [if_neg (by rw [e4]; exact Bool.false_ne_true)] at hQ
          rw [rC_f e4] at q4
          have q9 := t_sort q4 5
          have x9 : xMod (tS m A) h h9 := e9 ▸ (x1.tr (x2.tr (x3.tr x4))).tf (fun _ z => z) 19 _
          have e10 : h9 = xput h4 m 19 (xi (nI 5)) := e9
          rw [← e10] at q9
          have K9 : rK cs m A V h (fun r h' => xkI F T r h' (k - 0)) [(0, 109), (0, 111), (0, 118), (0, 101), (0, 32), (1, 0), (0, 32), (1, 1)] (rTo u 5) := hQ
          have u9 : (rTo u 5).1 ≤ cs.length := hu
          exact t_sC (by decide) t u9 109 (by decide) q9 x9 K9 fun h10 k10 q10 x10 u10 K10 => t_sC (by decide) t u10 111 (by decide) q10 x10 K10 fun h11 k11 q11 x11 u11 K11 => t_sC (by decide) t u11 118 (by decide) q11 x11 K11 fun h12 k12 q12 x12 u12 K12 => t_sC (by decide) t u12 101 (by decide) q12 x12 K12 fun h13 k13 q13 x13 u13 K13 => t_sC (by decide) t u13 32 (by decide) q13 x13 K13 fun h14 k14 q14 x14 u14 K14 => t_sD (by decide) t u14 0 (by decide) q14 x14 K14 fun h15 k15 q15 x15 u15 K15 => t_sC (by decide) t u15 32 (by decide) q15 x15 K15 fun h16 k16 q16 x16 u16 K16 => t_sD (by decide) t u16 1 (by decide) q16 x16 K16 fun h17 k17 q17 x17 u17 K17 => K17.nn q17 x17
        · have e4 := xb1.mp z4
          rw [if_pos e4] at hQ
          exact ⟨q4.cl, t_readsP_c (by decide) q4 t (rC_le hu) fun h5 q5 x5 => ⟨by unfold xb; split <;> simp, hQ h5 q5 (x1.tr (x2.tr (x3.tr (x4.tr x5))))⟩⟩
      · have e3 := xb1.mp z3
        rw [if_pos e3] at hQ
        have q9 := t_sort q3 2
        have x9 : xMod (tS m A) h h9 := e9 ▸ (x1.tr (x2.tr x3)).tf (fun _ z => z) 19 _
        have e10 : h9 = xput h3 m 19 (xi (nI 2)) := e9
        rw [← e10] at q9
        have K9 : rK cs m A V h (fun r h' => xkI F T r h' (k - 0)) [(0, 112), (0, 101), (0, 110), (0, 32), (1, 0)] (rTo (rC cs 111 u).2 2) := hQ
        have u9 : (rTo (rC cs 111 u).2 2).1 ≤ cs.length := rC_le hu
        exact t_sC (by decide) t u9 112 (by decide) q9 x9 K9 fun h10 k10 q10 x10 u10 K10 => t_sC (by decide) t u10 101 (by decide) q10 x10 K10 fun h11 k11 q11 x11 u11 K11 => t_sC (by decide) t u11 110 (by decide) q11 x11 K11 fun h12 k12 q12 x12 u12 K12 => t_sC (by decide) t u12 32 (by decide) q12 x12 K12 fun h13 k13 q13 x13 u13 K13 => t_sD (by decide) t u13 0 (by decide) q13 x13 K13 fun h14 k14 q14 x14 u14 K14 => K14.nn q14 x14
    · have e2 := xb1.mp z2
      rw [if_pos e2] at hQ
      exact ⟨q2.cl, t_readsS_c (by decide) q2 t (rC_le hu) fun h5 q5 x5 => ⟨by unfold xb; split <;> simp, hQ h5 q5 (x1.tr (x2.tr x5))⟩⟩
  · have e1 := xb1.mp z1
    rw [if_pos e1] at hQ
    have q9 := t_sort q1 0
    have x9 : xMod (tS m A) h h9 := e9 ▸ x1.tf (fun _ z => z) 19 _
    have e10 : h9 = xput h1 m 19 (xi (nI 0)) := e9
    rw [← e10] at q9
    have K9 : rK cs m A V h (fun r h' => xkI F T r h' (k - 0)) [(0, 97), (0, 109), (0, 108), (0, 101), (0, 116), (0, 32), (2, 0), (0, 44), (2, 1), (0, 32), (2, 2)] (rTo (rC cs 104 u).2 0) := hQ
    have u9 : (rTo (rC cs 104 u).2 0).1 ≤ cs.length := rC_le hu
    exact t_sC (by decide) t u9 97 (by decide) q9 x9 K9 fun h10 k10 q10 x10 u10 K10 => t_sC (by decide) t u10 109 (by decide) q10 x10 K10 fun h11 k11 q11 x11 u11 K11 => t_sC (by decide) t u11 108 (by decide) q11 x11 K11 fun h12 k12 q12 x12 u12 K12 => t_sC (by decide) t u12 101 (by decide) q12 x12 K12 fun h13 k13 q13 x13 u13 K13 => t_sC (by decide) t u13 116 (by decide) q13 x13 K13 fun h14 k14 q14 x14 u14 K14 => t_sPl (by decide) t u14 q14 x14 K14 fun h15 k15 q15 x15 u15 K15 => t_sC (by decide) t u15 32 (by decide) q15 x15 K15 fun h16 k16 q16 x16 u16 K16 => t_sN (by decide) t u16 2 (by decide) q16 x16 K16 fun h17 k17 q17 x17 u17 K17 => K17.nn q17 x17
/-- all commands: whether they are well said, and where reading ends -/
def rAll (cs : List Nat) : Nat → rU → Bool × rU
  | 0, u => (false, u)
  | n + 1, u => if (rCmd cs u).1 then (if (rC cs 59 (rCmd cs u).2).1 then rAll cs n (rC cs 59 (rCmd cs u).2).2 else (decide ((rCmd cs u).2.1 = cs.length), (rCmd cs u).2)) else (false, (rCmd cs u).2)
theorem rAll_le {cs : List Nat} : ∀ (n : Nat) (u : rU), u.1 ≤ cs.length → (rAll cs n u).2.1 ≤ cs.length
  | 0, _, h => h
  | n + 1, u, h => by
    unfold rAll
    split
    · split
      · exact rAll_le n _ (rC_le (rCmd_le h))
      · exact rCmd_le h
    · exact rCmd_le h
theorem rC_mono {cs : List Nat} {c : Nat} {u : rU} : u.1 ≤ (rC cs c u).2.1 := by
  unfold rC
  split
  · exact Nat.le_succ _
  · exact Nat.le_refl _
theorem rD_mono {cs : List Nat} {c : Nat} {u : rU} : u.1 ≤ (rD cs c u).2.1 := by
  unfold rD
  split
  · split
    · exact Nat.le_succ _
    · exact Nat.le_refl _
  · exact Nat.le_refl _
theorem rN_mono {cs : List Nat} {c : Nat} {u : rU} : u.1 ≤ (rN cs c u).2.1 := by
  unfold rN
  split
  · split
    · exact Nat.le_trans rD_mono rD_mono
    · exact rD_mono
  · exact Nat.le_refl _
theorem rA_mono {cs : List Nat} {a : Nat × Nat} {u : rU} : u.1 ≤ (rA cs a u).2.1 := by
  unfold rA
  split
  · exact rC_mono
  · exact rD_mono
  · exact rN_mono
theorem rS_mono {cs : List Nat} : ∀ (l : List (Nat × Nat)) (u : rU), u.1 ≤ (rS cs l u).2.1
  | [], _ => Nat.le_refl _
  | a :: l, u => by
    unfold rS
    split
    · exact Nat.le_trans rA_mono (rS_mono l _)
    · exact rA_mono
theorem rCmd_mono {cs : List Nat} {u : rU} : u.1 ≤ (rCmd cs u).2.1 := by
  unfold rCmd rEs rPe rHam rSit rShu rOpe rPum rPas rMov
  have h1 : ∀ c, u.1 ≤ (rC cs c u).2.1 := fun c => rC_mono
  have h2 : ∀ c c', u.1 ≤ (rC cs c' (rC cs c u).2).2.1 := fun c c' => Nat.le_trans rC_mono rC_mono
  repeat' split
  all_goals refine Nat.le_trans ?_ (rS_mono _ _)
  all_goals first | exact Nat.le_refl _ | exact h1 _ | exact h2 _ _
theorem rC_t {cs : List Nat} {c : Nat} {u : rU} (e : (rC cs c u).1 = true) : (rC cs c u).2 = (u.1 + 1, u.2) ∧ u.1 < cs.length := by
  unfold rC at e ⊢
  split
  · rename_i z
    exact ⟨rfl, (List.getElem?_eq_some_iff.mp z).1⟩
  · rename_i z
    rw [if_neg z] at e
    cases e
theorem t_readsAll_l {K : Nat} {Q : xR → xH → Prop} (t : tIn V cs) (h0 : xH) : ∀ n h u, cs.length + 1 ≤ n + u.1 → u.1 ≤ cs.length → isTw h m A (pV V u) → xMod (tS m A) h0 h →
    (∀ h', isTw h' m A (pV V (rAll cs n u).2) → xMod (tS m A) h0 h' → Q (.inl (some (xi (xb (rAll cs n u).1)))) h') → xWp G mX3_readsAll 7 K Q k 7 [some (xr (some m)), some (xi 1)] [] h := by
  have t1 := t.1
  have t2 := t.2.1
  intro n
  induction n with
  | zero => intro h u h1 h2; omega
  | succ n ih =>
    intro h u h1 hu q x hQ
    unfold rAll at hQ
    refine vc_X3_readsAll_7 ⟨fun z => absurd z (by decide), fun _ => ⟨q.cl, t_readsCommand_c (by decide) q t hu fun h2 q2 x2 => ⟨fun z => ⟨q2.cl, ?_⟩, fun z => ?_⟩⟩⟩
    · have e := xb1.mp z
      rw [if_pos e] at hQ
      have hm := rCmd_mono (cs := cs) (u := u)
      have hl := rCmd_le (cs := cs) (u := u) hu
      refine t_reads_c (c := 59) (by decide) (by decide) q2 t hl fun h3 q3 x3 => ?_
      cases e2 : (rC cs 59 (rCmd cs u).2).1 with
      | true =>
        rw [if_pos e2] at hQ
        obtain ⟨e3, e4⟩ := rC_t e2
        exact ih h3 _ (by rw [e3]; show cs.length + 1 ≤ n + ((rCmd cs u).2.1 + 1); omega) (by rw [e3]; exact e4) q3 (x.tr (x2.tr x3)) hQ
      | false =>
        rw [if_neg (by rw [e2]; exact Bool.false_ne_true)] at hQ
        rw [rC_f e2] at q3
        refine vc_X3_readsAll_7 ⟨fun _ => ⟨q3.cl, _, q3.ff 16 rfl, q3.cl, _, (q3.ff 15 rfl).trans (congrArg xi t1), fun w => ?_, fun w => ?_⟩, fun w => absurd rfl w⟩
        · have e5 : ¬ (rCmd cs u).2.1 = cs.length := fun y => w (congrArg nI y)
          rw [decide_eq_false e5] at hQ
          exact hQ h3 q3 (x.tr (x2.tr x3))
        · have e5 : (rCmd cs u).2.1 = cs.length := (nI_eq (by omega) (by omega)).mp w
          rw [decide_eq_true e5] at hQ
          exact hQ h3 q3 (x.tr (x2.tr x3))
    · have e := xb0.mp z
      rw [if_neg (by rw [e]; exact Bool.false_ne_true)] at hQ
      exact hQ h2 q2 (x.tr x2)
theorem pV_id {V : Nat → Nat → Int32} (e : ∃ u : rU, V 16 0 = nI u.1 ∧ V 19 0 = nI u.2.2 ∧ ∀ k, k < 4 → V 18 k = nI (u.2.1 k)) (q : isTw h m A V) : ∃ u : rU, isTw h m A (pV V u) := by
  obtain ⟨u, e1, e2, e3⟩ := e
  refine ⟨u, q.cg fun g i h8 h9 => ?_⟩
  unfold pV
  split
  · rename_i z; subst z; rw [h8 rfl]; exact e1.symm
  · split
    · rename_i z; subst z; exact (e3 i (h9 (by decide))).symm
    · split
      · rename_i z; subst z; rw [h8 rfl]; exact e2.symm
      · rfl
theorem t_readsAll_c {F : Int32 → xH → Nat → Prop} (hd : 7 < d) (q : isTw h m A (pV V u)) (t : tIn V cs)
    (hQ : ∀ h', isTw h' m A (pV V (rAll cs (cs.length + 1) (0, u.2)).2) → xMod (tS m A) h h' → F (xb (rAll cs (cs.length + 1) (0, u.2)).1) h' k) : xCall G d k mX3_readsAll [xr (some m)] h (xkI F T) := by
  refine xCall_of (d' := 7) hd (Nat.zero_le k) (vc_X3_readsAll ⟨q.cl, fun h1 e1 => ?_⟩)
  have q1 := t_at q 0
  have e2 : h1 = xput h m 16 (xi (nI 0)) := e1
  rw [← e2] at q1
  exact t_readsAll_l t h _ h1 (0, u.2) (by show _ ≤ cs.length + 1 + 0; omega) (Nat.zero_le _) q1 (e2 ▸ xMod.rf.tf (fun _ z => z) 16 _) hQ
end XTS

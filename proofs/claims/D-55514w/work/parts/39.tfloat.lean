/-! quotients of ints are numbers -/
theorem n64_of {r : UInt64} (h : r.toNat % 2 ^ 63 ≤ 2047 * 2 ^ 52) : vf_n64 r := by
  show r &&& 0x7fffffffffffffff ≤ 0x7ff0000000000000
  rw [UInt64.le_iff_toNat_le, UInt64.toNat_and]
  have e : (0x7fffffffffffffff : UInt64).toNat = 2 ^ 63 - 1 := by decide
  rw [e, Nat.and_two_pow_sub_one_eq_mod]
  have e2 : (0x7ff0000000000000 : UInt64).toNat = 2047 * 2 ^ 52 := by decide
  rw [e2]
  omega
theorem n32_of {r : UInt32} (h : r.toNat % 2 ^ 31 ≤ 255 * 2 ^ 23) : vf_n32 r := by
  show r &&& 0x7fffffff ≤ 0x7f800000
  rw [UInt32.le_iff_toNat_le, UInt32.toNat_and]
  have e : (0x7fffffff : UInt32).toNat = 2 ^ 31 - 1 := by decide
  rw [e, Nat.and_two_pow_sub_one_eq_mod]
  have e2 : (0x7f800000 : UInt32).toNat = 255 * 2 ^ 23 := by decide
  rw [e2]
  omega
theorem n64_div {a b : Int32} (ha : a.toInt.natAbs < 2 ^ 24) (hb : b.toInt.natAbs < 2 ^ 24) (h0 : b ≠ 0) : vf_n64 (FP.ddiv (FP.i2d a) (FP.i2d b)) := by
  have e0 : FP.Core.b64.exps * FP.Core.b64.tails = 2 ^ 63 := by decide
  have e1 : (FP.Core.b64.exps - 1) * FP.Core.b64.tails = 2047 * 2 ^ 52 := by decide
  have b0 : b.toInt ≠ 0 := fun z => h0 (Int32.toInt.inj (z.trans (by decide)))
  have h1 := fp_div fpF64 ha hb b0
  have h2 := fp_intlt fpF64 a.toInt
  have h3 := fp_intlt fpF64 b.toInt
  rw [e0, e1] at h1
  rw [e0] at h2 h3
  have t1 : (FP.i2d a).toNat = FP.Core.fromInt FP.Core.b64 a.toInt := (UInt64.toNat_ofNat (n := FP.Core.fromInt FP.Core.b64 a.toInt)).trans (Nat.mod_eq_of_lt (by omega))
  have t2 : (FP.i2d b).toNat = FP.Core.fromInt FP.Core.b64 b.toInt := (UInt64.toNat_ofNat (n := FP.Core.fromInt FP.Core.b64 b.toInt)).trans (Nat.mod_eq_of_lt (by omega))
  have t3 : (FP.ddiv (FP.i2d a) (FP.i2d b)).toNat = FP.Core.div FP.Core.b64 (FP.Core.fromInt FP.Core.b64 a.toInt) (FP.Core.fromInt FP.Core.b64 b.toInt) % 2 ^ 64 := by
    rw [← t1, ← t2]
    exact UInt64.toNat_ofNat
  refine n64_of ?_
  rw [t3]
  omega
theorem n32_div {a b : Int32} (ha : a.toInt.natAbs < 2 ^ 24) (hb : b.toInt.natAbs < 2 ^ 24) (h0 : b ≠ 0) : vf_n32 (FP.fdiv (FP.i2f a) (FP.i2f b)) := by
  have e0 : FP.Core.b32.exps * FP.Core.b32.tails = 2 ^ 31 := by decide
  have e1 : (FP.Core.b32.exps - 1) * FP.Core.b32.tails = 255 * 2 ^ 23 := by decide
  have b0 : b.toInt ≠ 0 := fun z => h0 (Int32.toInt.inj (z.trans (by decide)))
  have h1 := fp_div fpF32 ha hb b0
  have h2 := fp_intlt fpF32 a.toInt
  have h3 := fp_intlt fpF32 b.toInt
  rw [e0, e1] at h1
  rw [e0] at h2 h3
  have t1 : (FP.i2f a).toNat = FP.Core.fromInt FP.Core.b32 a.toInt := (UInt32.toNat_ofNat (n := FP.Core.fromInt FP.Core.b32 a.toInt)).trans (Nat.mod_eq_of_lt (by omega))
  have t2 : (FP.i2f b).toNat = FP.Core.fromInt FP.Core.b32 b.toInt := (UInt32.toNat_ofNat (n := FP.Core.fromInt FP.Core.b32 b.toInt)).trans (Nat.mod_eq_of_lt (by omega))
  have t3 : (FP.fdiv (FP.i2f a) (FP.i2f b)).toNat = FP.Core.div FP.Core.b32 (FP.Core.fromInt FP.Core.b32 a.toInt) (FP.Core.fromInt FP.Core.b32 b.toInt) % 2 ^ 32 := by
    rw [← t1, ← t2]
    exact UInt32.toNat_ofNat
  refine n32_of ?_
  rw [t3]
  omega
def pWayF (W : Nat → Int32) (n : Int32) (a : Nat) : Int32 := n + pH W a 2 * pFar W a ((pWell W a).getD 0)
def pWay (W : Nat → Int32) : Int32 := (List.range' 0 (nH W)).foldl (pWayF W) 0
def pMean (W : Nat → Int32) : UInt64 := if nH W = 0 then FP.dconst0 else if pMask W = 0 then FP.dconst0 else FP.ddiv (FP.i2d (pWay W)) (FP.i2d (pPeople W))
def pShare (W : Nat → Int32) : UInt32 := if W 6 + W 5 = 0 then FP.fconst0 else FP.fdiv (FP.i2f (W 6)) (FP.i2f (W 6 + W 5))
section XTF
variable {G : xG} {d k : Nat} {h h' : xH} {T : Nat → xH → Nat → Prop} {S : List Nat} {m : Nat} {A : Nat → Nat} {V : Nat → Nat → Int32} {a b c s i j mm : Nat} {x y : Int32}
theorem t_waterShare_c {F : UInt32 → xH → Nat → Prop} (hd : 1 < d) (q : isTw h m A V) (b1 : (V 4 6).toInt.natAbs < 2 ^ 24) (b2 : (V 4 6 + V 4 5).toInt.natAbs < 2 ^ 24) (hQ : F (pShare (V 4)) h k) : xCall G d k mX3_waterShare [xr (some m)] h (xkF F T) := by
  unfold pShare at hQ
  refine xCall_of (d' := 1) hd (Nat.zero_le k) (vc_X3_waterShare ⟨q.cl, _, q.rr 4 (by decide), _, rfl, q.kk 4 (by decide), 6, rfl, by decide, (by rw [q.ll 4 (by decide)]; decide), _, q.vv 4 (by decide), q.cl, _, q.rr 4 (by decide), _, rfl, q.kk 4 (by decide), 5, rfl, by decide, (by rw [q.ll 4 (by decide)]; decide), _, q.vv 4 (by decide), fun z => ⟨q.cl, _, q.rr 4 (by decide), _, rfl, q.kk 4 (by decide), 6, rfl, by decide, (by rw [q.ll 4 (by decide)]; decide), _, q.vv 4 (by decide), n32_div b1 b2 z, ?_⟩, fun z => ?_⟩)
  · rw [if_neg z] at hQ; exact hQ
  · rw [if_pos z] at hQ; exact hQ
theorem t_meanWay_l {K : Nat} {Q : xR → xH → Prop} (q : isTw h m A V) (p : pW (V 4)) (h0 : pMask (V 4) ≠ 0) (hp : pPeople (V 4) ≠ 0) (b1 : (pPeople (V 4)).toInt.natAbs < 2 ^ 24) (b2 : (pWay (V 4)).toInt.natAbs < 2 ^ 24) : Q (.inl (some (xd (FP.ddiv (FP.i2d (pWay (V 4))) (FP.i2d (pPeople (V 4))))))) h → ∀ j i v, i + j = nH (V 4) → (List.range' i j).foldl (pWayF (V 4)) v = pWay (V 4) → xWp G mX3_meanWay 5 K Q k 22 [some (xr (some m)), some (xi v), some (xi (nI i))] [] h := by
  have p2 := p.2.1
  intro hQ j
  induction j with
  | zero =>
    intro i v hi e
    have e' : v = pWay (V 4) := e
    subst e'
    exact vc_X3_meanWay_22 ⟨q.cl, _, q.rr 4 (by decide), _, rfl, q.kk 4 (by decide), 2, rfl, by decide, (by rw [q.ll 4 (by decide)]; decide), _, (q.vv 4 (by decide)).trans (congrArg xi p.1), fun _ => ⟨q.cl, t_people_c (by decide) q p ⟨n64_div b2 b1 hp, hQ⟩⟩, fun z => absurd (nI_le (by omega) (by omega)) z⟩
  | succ j ih =>
    intro i v hi ev
    rw [List.range'_succ, List.foldl_cons] at ev
    obtain ⟨t, ht⟩ := pNear_some (a := i) p (pMask_ok p) h0
    have ht' : pWell (V 4) i = some t := ht
    refine vc_X3_meanWay_22 ⟨q.cl, _, q.rr 4 (by decide), _, rfl, q.kk 4 (by decide), 2, rfl, by decide, (by rw [q.ll 4 (by decide)]; decide), _, (q.vv 4 (by decide)).trans (congrArg xi p.1), fun z => absurd ((nI_leI (by omega) (by omega)).mp z) (by omega), fun _ => ⟨q.cl, t_hI (by decide) q i 2 (by omega) ⟨q.cl, t_well_c (by decide) q p (by omega) fun hl => ⟨q.cl, ?_⟩⟩⟩⟩
    rw [ht']
    refine t_far_c (by decide) q (by omega) (hl t ht') ?_
    rw [nI_1]
    refine ih (i + 1) _ (by omega) ?_
    have e : pWayF (V 4) v i = v + pH (V 4) i 2 * pFar (V 4) i t := by unfold pWayF; rw [ht']; rfl
    rw [e] at ev
    exact ev
theorem t_meanWay_c {F : UInt64 → xH → Nat → Prop} (hd : 5 < d) (q : isTw h m A V) (p : pW (V 4)) (hp : nH (V 4) ≠ 0 → pPeople (V 4) ≠ 0) (b1 : (pPeople (V 4)).toInt.natAbs < 2 ^ 24) (b2 : (pWay (V 4)).toInt.natAbs < 2 ^ 24) (hQ : F (pMean (V 4)) h k) : xCall G d k mX3_meanWay [xr (some m)] h (xkD F T) := by
  have p2 := p.2.1
  unfold pMean at hQ
  refine xCall_of (d' := 5) hd (Nat.zero_le k) (vc_X3_meanWay ⟨q.cl, _, q.rr 4 (by decide), _, rfl, q.kk 4 (by decide), 2, rfl, by decide, (by rw [q.ll 4 (by decide)]; decide), _, (q.vv 4 (by decide)).trans (congrArg xi p.1), fun z => ?_, fun z => ⟨q.cl, t_openOnes_c (by decide) q p fun hl => ⟨fun y => ?_, fun y => ?_⟩⟩⟩)
  · rw [if_pos ((nI_eq (by omega) (by decide)).mp z)] at hQ; exact hQ
  · have h0 : nH (V 4) ≠ 0 := fun e => z (by rw [e]; rfl)
    have h1 : pMask (V 4) ≠ 0 := fun e => y (by rw [e]; rfl)
    rw [if_neg h0, if_neg h1] at hQ
    exact t_meanWay_l q p h1 (hp h0) b1 b2 hQ (nH (V 4)) 0 0 (by omega) rfl
  · have h0 : nH (V 4) ≠ 0 := fun e => z (by rw [e]; rfl)
    rw [if_neg h0, if_pos ((nI_eq (by omega) (by decide)).mp y)] at hQ; exact hQ
end XTF

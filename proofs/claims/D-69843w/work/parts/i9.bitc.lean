/-! ===== Long.bitCount ===== -/
theorem q2752 : (Jvm.Cond.constantLong "java/lang/Long" (314 : Nat) (6148914691236517205 : Int64)) ∈ lw_all := lw_g (lw_at lw_m11 99 rfl) rfl
theorem q2753 : (Jvm.Cond.constantLong "java/lang/Long" (316 : Nat) (3689348814741910323 : Int64)) ∈ lw_all := lw_g (lw_at lw_m11 100 rfl) rfl
theorem q2754 : (Jvm.Cond.constantLong "java/lang/Long" (318 : Nat) (1085102592571150095 : Int64)) ∈ lw_all := lw_g (lw_at lw_m11 101 rfl) rfl
section BitC
theorem rh_l2iT {w : rhW} {Y : rhY} {n : Nat} {k : Nat × Nat × Nat × Nat} {Z : List Frame → Array Value → State → State → Prop} {pc : Nat} {L : rhL} {S : List rhA} {M : rhM} (pc' : Nat) {t : Nat} {x : Int} (hd : decode (ry_c Y) pc = .ok (.l2i, 1)) (ht : rh_jk t = true) (hp : pc + 1 = pc') (K : rh_At w Y n k Z pc' L ((0, ((rhJ x).toInt32).toInt) :: S) M) : rh_At w Y n k Z pc L ((t, x) :: S) M := by
  subst hp
  refine rh_stepS K (fun _ h2 => rh_okc (a := (0, ((rhJ x).toInt32).toInt)) (rh_ri _) (rh_okt h2)) (fun p l e R s m args below meth c H locs ls cells slots Qf hx1 hb hl hs kk => ?_)
  show W p l e R s m args below meth c H locs cells slots Qf (F0 m pc ls (rh_a w (t, x) :: S.map (rh_a w)))
  rw [rh_a_j ht]
  exact lv_l2i hx1 hb hd (v := rhI ((rhJ x).toInt32.toInt)) (Int32.ofInt_toInt _).symm kk
theorem rh_wll0 {w : rhW} {Y : rhY} {n : Nat} {k : Nat × Nat × Nat × Nat} {Z : List Frame → Array Value → State → State → Prop} {pc : Nat} {L : rhL} {S : List rhA} {M : rhM} {x : Int} (K : rh_At w Y n k Z pc L ((1, wrl x) :: S) M) : rh_At w Y n k Z pc L ((4, x) :: S) M :=
  rh_wrl (x := x) (y := wrl x) 0 (by show Value.long (Int64.ofInt (Int64.ofInt x).toInt) = Value.long (Int64.ofInt x); rw [Int64.ofInt_toInt]) rfl (show rL (wrl x) from wrl_r x) rfl K
theorem longRowsI : (Jvm.natives.all fun r => r.cls != "java/lang/Long" || r.desc != "(J)I") = true := by decide +kernel
theorem bcPlain : plainFor yJ10_bitCount = true := by
  unfold plainFor
  rw [Bool.or_eq_true]; right
  rw [Option.isNone_iff_eq_none, NativeRow.find?, List.find?_eq_none]
  intro r hr h
  have := List.all_eq_true.mp longRowsI r hr
  simp only [Bool.and_eq_true, beq_iff_eq] at h
  rw [h.1.2, h.2] at this
  exact absurd this (by decide)
def b1_ (v : Int) : Int := wrl (v - rh_land (rh_lushr v 1) 6148914691236517205)
def b2_ (v : Int) : Int := wrl (rh_land v 3689348814741910323 + rh_land (rh_lushr v 2) 3689348814741910323)
def b3_ (v : Int) : Int := rh_land (v + rh_lushr v 4) 1085102592571150095
def b4_ (v s : Int) : Int := wrl (v + rh_lushr v s)
def bcv (v : Int) : Int := rh_and ((rhJ (b4_ (b4_ (b4_ (b3_ (b2_ (b1_ v))) 8) 16) 32)).toInt32).toInt 127
theorem c_bitCount {w : rhW} {v : Int} (M : rhM) : eC w YJ10_bitCount 0 [(1, v)] M (bcv v) M := by
  refine eC.ofF bcPlain (LE0 rfl) (fun n => ?_)
  refine rh_lld_n 1 (j := 0) (x := v) (rh_dec1 tdJ10_bitCount rfl) rfl rfl rfl ?_
  refine rh_lld_n 2 (j := 0) (x := v) (rh_dec1 tdJ10_bitCount rfl) rfl rfl rfl ?_
  refine rh_ico 3 (rh_dec1 tdJ10_bitCount rfl) (by decide) rfl ?_
  refine rh_lushr_ 4 (rh_dec1 tdJ10_bitCount rfl) rfl rfl rfl ?_
  refine rh_ldcl 7 (x := 6148914691236517205) q2752 rfl (rh_dec1 tdJ10_bitCount rfl) (by decide) rfl ?_
  refine rh_land_ 8 (rh_dec1 tdJ10_bitCount rfl) rfl rfl rfl ?_
  refine rh_lsub 9 (rh_dec1 tdJ10_bitCount rfl) rfl rfl rfl ?_
  refine rh_wll0 ?_
  refine rh_lst_n 10 [0] (L' := [(0, 1, b1_ v)]) (rh_dec1 tdJ10_bitCount rfl) rfl (by decide) rfl (.inl rfl) rfl rfl ?_
  refine rh_lld_n 11 (j := 0) (x := b1_ v) (rh_dec1 tdJ10_bitCount rfl) rfl rfl rfl ?_
  refine rh_ldcl 14 (x := 3689348814741910323) q2753 rfl (rh_dec1 tdJ10_bitCount rfl) (by decide) rfl ?_
  refine rh_land_ 15 (rh_dec1 tdJ10_bitCount rfl) rfl rfl rfl ?_
  refine rh_lld_n 16 (j := 0) (x := b1_ v) (rh_dec1 tdJ10_bitCount rfl) rfl rfl rfl ?_
  refine rh_ico 17 (rh_dec1 tdJ10_bitCount rfl) (by decide) rfl ?_
  refine rh_lushr_ 18 (rh_dec1 tdJ10_bitCount rfl) rfl rfl rfl ?_
  refine rh_ldcl 21 (x := 3689348814741910323) q2753 rfl (rh_dec1 tdJ10_bitCount rfl) (by decide) rfl ?_
  refine rh_land_ 22 (rh_dec1 tdJ10_bitCount rfl) rfl rfl rfl ?_
  refine rh_ladd 23 (rh_dec1 tdJ10_bitCount rfl) rfl rfl rfl ?_
  refine rh_wll0 ?_
  refine rh_lst_n 24 [0] (L' := [(0, 1, b2_ (b1_ v))]) (rh_dec1 tdJ10_bitCount rfl) rfl (by decide) rfl (.inl rfl) rfl rfl ?_
  refine rh_lld_n 25 (j := 0) (x := b2_ (b1_ v)) (rh_dec1 tdJ10_bitCount rfl) rfl rfl rfl ?_
  refine rh_lld_n 26 (j := 0) (x := b2_ (b1_ v)) (rh_dec1 tdJ10_bitCount rfl) rfl rfl rfl ?_
  refine rh_ico 27 (rh_dec1 tdJ10_bitCount rfl) (by decide) rfl ?_
  refine rh_lushr_ 28 (rh_dec1 tdJ10_bitCount rfl) rfl rfl rfl ?_
  refine rh_ladd 29 (rh_dec1 tdJ10_bitCount rfl) rfl rfl rfl ?_
  refine rh_ldcl 32 (x := 1085102592571150095) q2754 rfl (rh_dec1 tdJ10_bitCount rfl) (by decide) rfl ?_
  refine rh_land_ 33 (rh_dec1 tdJ10_bitCount rfl) rfl rfl rfl ?_
  refine rh_lst_n 34 [0] (L' := [(0, 1, b3_ (b2_ (b1_ v)))]) (rh_dec1 tdJ10_bitCount rfl) rfl (by decide) rfl (.inl rfl) rfl rfl ?_
  refine rh_lld_n 35 (j := 0) (x := b3_ (b2_ (b1_ v))) (rh_dec1 tdJ10_bitCount rfl) rfl rfl rfl ?_
  refine rh_lld_n 36 (j := 0) (x := b3_ (b2_ (b1_ v))) (rh_dec1 tdJ10_bitCount rfl) rfl rfl rfl ?_
  refine rh_bip 38 (rh_dec1 tdJ10_bitCount rfl) rfl (by decide) rfl ?_
  refine rh_lushr_ 39 (rh_dec1 tdJ10_bitCount rfl) rfl rfl rfl ?_
  refine rh_ladd 40 (rh_dec1 tdJ10_bitCount rfl) rfl rfl rfl ?_
  refine rh_wll0 ?_
  refine rh_lst_n 41 [0] (L' := [(0, 1, b4_ (b3_ (b2_ (b1_ v))) 8)]) (rh_dec1 tdJ10_bitCount rfl) rfl (by decide) rfl (.inl rfl) rfl rfl ?_
  refine rh_lld_n 42 (j := 0) (x := b4_ (b3_ (b2_ (b1_ v))) 8) (rh_dec1 tdJ10_bitCount rfl) rfl rfl rfl ?_
  refine rh_lld_n 43 (j := 0) (x := b4_ (b3_ (b2_ (b1_ v))) 8) (rh_dec1 tdJ10_bitCount rfl) rfl rfl rfl ?_
  refine rh_bip 45 (rh_dec1 tdJ10_bitCount rfl) rfl (by decide) rfl ?_
  refine rh_lushr_ 46 (rh_dec1 tdJ10_bitCount rfl) rfl rfl rfl ?_
  refine rh_ladd 47 (rh_dec1 tdJ10_bitCount rfl) rfl rfl rfl ?_
  refine rh_wll0 ?_
  refine rh_lst_n 48 [0] (L' := [(0, 1, b4_ (b4_ (b3_ (b2_ (b1_ v))) 8) 16)]) (rh_dec1 tdJ10_bitCount rfl) rfl (by decide) rfl (.inl rfl) rfl rfl ?_
  refine rh_lld_n 49 (j := 0) (x := b4_ (b4_ (b3_ (b2_ (b1_ v))) 8) 16) (rh_dec1 tdJ10_bitCount rfl) rfl rfl rfl ?_
  refine rh_lld_n 50 (j := 0) (x := b4_ (b4_ (b3_ (b2_ (b1_ v))) 8) 16) (rh_dec1 tdJ10_bitCount rfl) rfl rfl rfl ?_
  refine rh_bip 52 (rh_dec1 tdJ10_bitCount rfl) rfl (by decide) rfl ?_
  refine rh_lushr_ 53 (rh_dec1 tdJ10_bitCount rfl) rfl rfl rfl ?_
  refine rh_ladd 54 (rh_dec1 tdJ10_bitCount rfl) rfl rfl rfl ?_
  refine rh_wll0 ?_
  refine rh_lst_n 55 [0] (L' := [(0, 1, b4_ (b4_ (b4_ (b3_ (b2_ (b1_ v))) 8) 16) 32)]) (rh_dec1 tdJ10_bitCount rfl) rfl (by decide) rfl (.inl rfl) rfl rfl ?_
  refine rh_lld_n 56 (j := 0) (x := b4_ (b4_ (b4_ (b3_ (b2_ (b1_ v))) 8) 16) 32) (rh_dec1 tdJ10_bitCount rfl) rfl rfl rfl ?_
  refine rh_l2iT 57 (rh_dec1 tdJ10_bitCount rfl) rfl rfl ?_
  refine rh_bip 59 (rh_dec1 tdJ10_bitCount rfl) rfl (by decide) rfl ?_
  refine rh_iand_ 60 (rh_dec1 tdJ10_bitCount rfl) rfl rfl rfl ?_
  exact (rh_retI (mc := 0) (ms := 0) (ty := .int) (t := 0) (v := bcv v) (rh_dec1 tdJ10_bitCount rfl) rfl rfl rfl (fun z => z) ⟨rfl, rfl⟩).zq
/-- a long as a natural number -/
def nJ (x : Int) : Nat := (rhJ x).toUInt64.toNat
theorem nJ_b (x : Int) : nJ x < 2 ^ 64 := UInt64.toNat_lt _
theorem rJJ (x : Int64) : rhJ x.toInt = x := Int64.ofInt_toInt x
theorem rJs (a b : Int) : rhJ (a - b) = rhJ a - rhJ b := Int64.ofInt_sub a b
theorem rJa (a b : Int) : rhJ (a + b) = rhJ a + rhJ b := Int64.ofInt_add a b
theorem nJ_w (x : Int) : nJ (wrl x) = nJ x := by unfold nJ wrl; rw [rJJ]
theorem nJ_and (x y : Int) : nJ (rh_land x y) = nJ x &&& nJ y := by
  unfold nJ rh_land
  rw [rJJ]
  show ((rhJ x).toUInt64 &&& (rhJ y).toUInt64).toNat = _
  exact UInt64.toNat_and _ _
theorem nJ_sub {x y : Int} (h : nJ y ≤ nJ x) : nJ (x - y) = nJ x - nJ y := by
  unfold nJ at h ⊢
  rw [rJs]
  show ((rhJ x).toUInt64 - (rhJ y).toUInt64).toNat = _
  exact UInt64.toNat_sub_of_le _ _ (UInt64.le_iff_toNat_le.mpr h)
theorem nJ_add {x y : Int} (h : nJ x + nJ y < 2 ^ 64) : nJ (x + y) = nJ x + nJ y := by
  unfold nJ at h ⊢
  rw [rJa]
  show ((rhJ x).toUInt64 + (rhJ y).toUInt64).toNat = _
  rw [UInt64.toNat_add]
  exact Nat.mod_eq_of_lt h
theorem nJ_shr {x : Int} : nJ (rh_lushr x 1) = nJ x / 2 ∧ nJ (rh_lushr x 2) = nJ x / 4 ∧ nJ (rh_lushr x 4) = nJ x / 16 ∧ nJ (rh_lushr x 8) = nJ x / 256 ∧ nJ (rh_lushr x 16) = nJ x / 65536 ∧ nJ (rh_lushr x 32) = nJ x / 4294967296 := by
  unfold nJ rh_lushr
  refine ⟨?_, ?_, ?_, ?_, ?_, ?_⟩ <;> rw [rJJ] <;> show ((rhJ x).toUInt64 >>> _).toNat = _ <;> rw [UInt64.toNat_shiftRight, Nat.shiftRight_eq_div_pow] <;> rfl
theorem low7 (x : Int) : rh_and ((rhJ x).toInt32).toInt 127 = ((nJ x % 128 : Nat) : Int) := by
  unfold rh_and nJ
  rw [show rhI (rhJ x).toInt32.toInt = (rhJ x).toInt32 from Int32.ofInt_toInt _]
  have h1 : ((rhJ x).toInt32 &&& rhI 127).toUInt32.toNat = (rhJ x).toUInt64.toNat % 128 := by
    show ((rhJ x).toInt32.toUInt32 &&& (rhI 127).toUInt32).toNat = _
    rw [UInt32.toNat_and]
    have e1 : (rhJ x).toInt32.toUInt32.toNat = (rhJ x).toUInt64.toNat % 2 ^ 32 := by
      show (BitVec.signExtend 32 (rhJ x).toBitVec).toNat = _
      rw [BitVec.signExtend_eq_setWidth_of_le _ (by decide), BitVec.toNat_setWidth]
      rfl
    rw [e1, show (rhI 127).toUInt32.toNat = 2 ^ 7 - 1 from rfl, Nat.and_two_pow_sub_one_eq_mod]
    omega
  have h2 : ((rhJ x).toInt32 &&& rhI 127).toInt = (((rhJ x).toInt32 &&& rhI 127).toUInt32.toNat : Int) := by
    show BitVec.toInt ((rhJ x).toInt32 &&& rhI 127).toBitVec = _
    rw [BitVec.toInt_eq_toNat_of_lt]
    · rfl
    · show 2 * ((rhJ x).toInt32 &&& rhI 127).toUInt32.toNat < 2 ^ 32
      rw [h1]
      omega
  rw [h2, h1]
theorem bcv_e (v : Int) : bcv v = bct (nJ v) := by
  have c1 : nJ 6148914691236517205 = mk8 85 8 := by decide +kernel
  have c2 : nJ 3689348814741910323 = mk8 51 8 := by decide +kernel
  have c3 : nJ 1085102592571150095 = mk8 15 8 := by decide +kernel
  have e1 : nJ (b1_ v) = t1 8 (nJ v) := by
    unfold b1_ t1
    rw [nJ_w, nJ_sub (by rw [nJ_and, nJ_shr.1]; exact Nat.le_trans Nat.and_le_left (Nat.div_le_self _ _)), nJ_and, nJ_shr.1, c1]
  have m3 : mk8 51 8 < 2 ^ 62 := by decide +kernel
  have e2 : nJ (b2_ (b1_ v)) = t2 8 (t1 8 (nJ v)) := by
    unfold b2_ t2
    rw [nJ_w, nJ_add (by
      rw [nJ_and, nJ_and, c2]
      have a := Nat.and_le_right (n := nJ (b1_ v)) (m := mk8 51 8)
      have b := Nat.and_le_right (n := nJ (rh_lushr (b1_ v) 2)) (m := mk8 51 8)
      omega), nJ_and, nJ_and, nJ_shr.2.1, c2, e1]
  have b2 : nJ (b2_ (b1_ v)) < 2 ^ 63 := by
    rw [e2]
    unfold t2
    have a := Nat.and_le_right (n := t1 8 (nJ v)) (m := mk8 51 8)
    have b := Nat.and_le_right (n := t1 8 (nJ v) / 4) (m := mk8 51 8)
    omega
  have e3 : nJ (b3_ (b2_ (b1_ v))) = t3 8 (t2 8 (t1 8 (nJ v))) := by
    unfold b3_ t3
    rw [nJ_and, nJ_add (by rw [nJ_shr.2.2.1]; omega), nJ_shr.2.2.1, c3, e2]
  have m4 : mk8 15 8 < 2 ^ 60 := by decide +kernel
  have b3 : nJ (b3_ (b2_ (b1_ v))) < 2 ^ 60 := by
    rw [e3]
    unfold t3
    have a := Nat.and_le_right (n := t2 8 (t1 8 (nJ v)) + t2 8 (t1 8 (nJ v)) / 16) (m := mk8 15 8)
    omega
  rw [bct_u e3.symm]
  unfold bcv
  generalize b3_ (b2_ (b1_ v)) = s3 at b3 ⊢
  clear e3
  have e4 : nJ (b4_ s3 8) = nJ s3 + nJ s3 / 256 := by
    unfold b4_
    rw [nJ_w, nJ_add (by rw [nJ_shr.2.2.2.1]; omega), nJ_shr.2.2.2.1]
  have e5 : nJ (b4_ (b4_ s3 8) 16) = nJ (b4_ s3 8) + nJ (b4_ s3 8) / 65536 := by
    unfold b4_
    rw [nJ_w, nJ_add (by rw [nJ_shr.2.2.2.2.1]; unfold b4_ at e4; omega), nJ_shr.2.2.2.2.1]
  have e6 : nJ (b4_ (b4_ (b4_ s3 8) 16) 32) = nJ (b4_ (b4_ s3 8) 16) + nJ (b4_ (b4_ s3 8) 16) / 4294967296 := by
    have q := e5
    unfold b4_ at e4 q ⊢
    rw [nJ_w, nJ_add (by rw [nJ_shr.2.2.2.2.2]; omega), nJ_shr.2.2.2.2.2]
  have low : ∀ x : Int, rh_and ((rhJ x).toInt32).toInt 127 = ((nJ x % 128 : Nat) : Int) := fun x => low7 x
  rw [low, e6, e5, e4]
end BitC

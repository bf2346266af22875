/-! ===== String.charAt, indexOf ===== -/
abbrev cJ6_charAt : ByteArray := prog_41_method_56_code
def yJ6_charAt : MethodName := ⟨"java/lang/String", "charAt", "(I)C"⟩
abbrev YJ6_charAt : rhY := (yJ6_charAt, cJ6_charAt, 2, (some .char))
def dtJ6_charAt : rhDt := [[(0, .aload_n 0, 1), (1, .invokevirtual 492, 3), (4, .ifCond .eq 12, 3), (7, .aload_n 0, 1), (8, .getfield 9, 3), (11, .iload_n 1, 1), (12, .invokestatic 495, 3), (15, .ireturn, 1), (16, .aload_n 0, 1), (17, .getfield 9, 3), (20, .iload_n 1, 1), (21, .invokestatic 498, 3), (24, .ireturn, 1)]]
theorem tdJ6_charAt : rh_dok cJ6_charAt dtJ6_charAt := rh_dtc_ok (by decide +kernel)
theorem q2613 : (Jvm.Cond.instanceMethod ({ cls := "java/lang/String", name := "charAt", desc := "(I)C" } : Jvm.MethodName)) ∈ lw_all := lw_g (lw_at lw_m10 200 rfl) rfl
theorem q2614 : (Jvm.Cond.selects "java/lang/String" ({ cls := "java/lang/String", name := "charAt", desc := "(I)C" } : Jvm.MethodName) ({ cls := "java/lang/String", name := "charAt", desc := "(I)C" } : Jvm.MethodName)) ∈ lw_all := lw_g (lw_at lw_m10 201 rfl) rfl
theorem q2615 : (Jvm.Cond.code ({ cls := "java/lang/String", name := "charAt", desc := "(I)C" } : Jvm.MethodName) prog_41_method_56_code (2 : Nat) (Option.some Jvm.ClassFile.FieldType.char)) ∈ lw_all := lw_g (lw_at lw_m10 202 rfl) rfl
theorem kJ6_charAt : rh_kV YJ6_charAt "java/lang/String" 1 := ⟨q2613, q2614, q293, q2615, by decide +kernel, by decide, rfl⟩
abbrev cJ7_charAt : ByteArray := prog_42_method_2_code
def yJ7_charAt : MethodName := ⟨"java/lang/StringLatin1", "charAt", "([BI)C"⟩
abbrev YJ7_charAt : rhY := (yJ7_charAt, cJ7_charAt, 2, (some .char))
def dtJ7_charAt : rhDt := [[(0, .iload_n 1, 1), (1, .aload_n 0, 1), (2, .arraylength, 1), (3, .invokestatic 9, 3), (6, .aload_n 0, 1), (7, .iload_n 1, 1), (8, .baload, 1), (9, .sipush 255, 3), (12, .iand, 1), (13, .i2c, 1), (14, .ireturn, 1)]]
theorem tdJ7_charAt : rh_dok cJ7_charAt dtJ7_charAt := rh_dtc_ok (by decide +kernel)
theorem q2621 : (Jvm.Cond.static ({ cls := "java/lang/StringLatin1", name := "charAt", desc := "([BI)C" } : Jvm.MethodName)) ∈ lw_all := lw_g (lw_at lw_m10 208 rfl) rfl
theorem q2622 : (Jvm.Cond.code ({ cls := "java/lang/StringLatin1", name := "charAt", desc := "([BI)C" } : Jvm.MethodName) prog_42_method_2_code (2 : Nat) (Option.some Jvm.ClassFile.FieldType.char)) ∈ lw_all := lw_g (lw_at lw_m10 209 rfl) rfl
theorem kJ7_charAt : rh_kS YJ7_charAt 2 := ⟨q2621, q294, q2622, by decide +kernel, by decide, rfl⟩
abbrev cJ6_checkIndex : ByteArray := prog_41_method_155_code
def yJ6_checkIndex : MethodName := ⟨"java/lang/String", "checkIndex", "(II)V"⟩
abbrev YJ6_checkIndex : rhY := (yJ6_checkIndex, cJ6_checkIndex, 2, none)
def dtJ6_checkIndex : rhDt := [[(0, .iload_n 0, 1), (1, .iload_n 1, 1), (2, .getstatic 1053, 3), (5, .invokestatic 1059, 3), (8, .pop, 1), (9, .return_, 1)]]
theorem tdJ6_checkIndex : rh_dok cJ6_checkIndex dtJ6_checkIndex := rh_dtc_ok (by decide +kernel)
theorem q2624 : (Jvm.Cond.static ({ cls := "java/lang/String", name := "checkIndex", desc := "(II)V" } : Jvm.MethodName)) ∈ lw_all := lw_g (lw_at lw_m10 211 rfl) rfl
theorem q2625 : (Jvm.Cond.code ({ cls := "java/lang/String", name := "checkIndex", desc := "(II)V" } : Jvm.MethodName) prog_41_method_155_code (2 : Nat) (Option.none : Option Jvm.ClassFile.FieldType)) ∈ lw_all := lw_g (lw_at lw_m10 212 rfl) rfl
theorem kJ6_checkIndex : rh_kS YJ6_checkIndex 2 := ⟨q2624, q293, q2625, by decide +kernel, by decide, rfl⟩
abbrev cJ8_checkIndex : ByteArray := prog_46_method_11_code
def yJ8_checkIndex : MethodName := ⟨"jdk/internal/util/Preconditions", "checkIndex", "(IILjava/util/function/BiFunction;)I"⟩
abbrev YJ8_checkIndex : rhY := (yJ8_checkIndex, cJ8_checkIndex, 3, (some .int))
def dtJ8_checkIndex : rhDt := [[(0, .iload_n 0, 1), (1, .ifCond .lt 8, 3), (4, .iload_n 0, 1), (5, .iload_n 1, 1), (6, .if_icmp .lt 10, 3), (9, .aload_n 2, 1), (10, .iload_n 0, 1), (11, .iload_n 1, 1), (12, .invokestatic 95, 3), (15, .athrow, 1), (16, .iload_n 0, 1), (17, .ireturn, 1)]]
theorem tdJ8_checkIndex : rh_dok cJ8_checkIndex dtJ8_checkIndex := rh_dtc_ok (by decide +kernel)
theorem q295 : (Jvm.Cond.initialized "jdk/internal/util/Preconditions") ∈ lw_all := lw_g (lw_at lw_m1 42 rfl) rfl
theorem q2629 : (Jvm.Cond.static ({ cls := "jdk/internal/util/Preconditions", name := "checkIndex", desc := "(IILjava/util/function/BiFunction;)I" } : Jvm.MethodName)) ∈ lw_all := lw_g (lw_at lw_m10 216 rfl) rfl
theorem q2630 : (Jvm.Cond.code ({ cls := "jdk/internal/util/Preconditions", name := "checkIndex", desc := "(IILjava/util/function/BiFunction;)I" } : Jvm.MethodName) prog_46_method_11_code (3 : Nat) (Option.some Jvm.ClassFile.FieldType.int)) ∈ lw_all := lw_g (lw_at lw_m10 217 rfl) rfl
theorem kJ8_checkIndex : rh_kS YJ8_checkIndex 3 := ⟨q2629, q295, q2630, by decide +kernel, by decide, rfl⟩
theorem q2616 : (Jvm.Cond.methodLink "java/lang/String" (492 : Nat) ({ cls := "java/lang/String", name := "isLatin1", desc := "()Z" } : Jvm.MethodName)) ∈ lw_all := lw_g (lw_at lw_m10 203 rfl) rfl
theorem q2620 : (Jvm.Cond.methodLink "java/lang/String" (495 : Nat) ({ cls := "java/lang/StringLatin1", name := "charAt", desc := "([BI)C" } : Jvm.MethodName)) ∈ lw_all := lw_g (lw_at lw_m10 207 rfl) rfl
theorem q2623 : (Jvm.Cond.methodLink "java/lang/StringLatin1" (9 : Nat) ({ cls := "java/lang/String", name := "checkIndex", desc := "(II)V" } : Jvm.MethodName)) ∈ lw_all := lw_g (lw_at lw_m10 210 rfl) rfl
theorem q2626 : (Jvm.Cond.fieldLink "java/lang/String" (1053 : Nat) "jdk/internal/util/Preconditions" "SIOOBE_FORMATTER" "Ljava/util/function/BiFunction;") ∈ lw_all := lw_g (lw_at lw_m10 213 rfl) rfl
theorem q2628 : (Jvm.Cond.methodLink "java/lang/String" (1059 : Nat) ({ cls := "jdk/internal/util/Preconditions", name := "checkIndex", desc := "(IILjava/util/function/BiFunction;)I" } : Jvm.MethodName)) ∈ lw_all := lw_g (lw_at lw_m10 215 rfl) rfl
theorem q3056 : (Jvm.Cond.methodLink "java/lang/String" (633 : Nat) ({ cls := "java/lang/String", name := "indexOf", desc := "(II)I" } : Jvm.MethodName)) ∈ lw_all := lw_g (lw_at lw_m12 163 rfl) rfl
theorem q3060 : (Jvm.Cond.methodLink "java/lang/String" (505 : Nat) ({ cls := "java/lang/String", name := "length", desc := "()I" } : Jvm.MethodName)) ∈ lw_all := lw_g (lw_at lw_m12 167 rfl) rfl
theorem q3061 : (Jvm.Cond.methodLink "java/lang/String" (637 : Nat) ({ cls := "java/lang/StringLatin1", name := "indexOf", desc := "([BIII)I" } : Jvm.MethodName)) ∈ lw_all := lw_g (lw_at lw_m12 168 rfl) rfl
theorem q3064 : (Jvm.Cond.methodLink "java/lang/StringLatin1" (88 : Nat) ({ cls := "java/lang/StringLatin1", name := "canEncode", desc := "(I)Z" } : Jvm.MethodName)) ∈ lw_all := lw_g (lw_at lw_m12 171 rfl) rfl
theorem q3067 : (Jvm.Cond.methodLink "java/lang/StringLatin1" (92 : Nat) ({ cls := "java/lang/Math", name := "max", desc := "(II)I" } : Jvm.MethodName)) ∈ lw_all := lw_g (lw_at lw_m12 174 rfl) rfl
theorem q3068 : (Jvm.Cond.methodLink "java/lang/StringLatin1" (38 : Nat) ({ cls := "java/lang/Math", name := "min", desc := "(II)I" } : Jvm.MethodName)) ∈ lw_all := lw_g (lw_at lw_m12 175 rfl) rfl
theorem q3069 : (Jvm.Cond.methodLink "java/lang/StringLatin1" (95 : Nat) ({ cls := "java/lang/StringLatin1", name := "indexOfChar", desc := "([BIII)I" } : Jvm.MethodName)) ∈ lw_all := lw_g (lw_at lw_m12 176 rfl) rfl
section TxtChar
variable {w : rhW}
def natO (cls desc : String) : Bool := (cls == "java/lang/String" && ["(I)C", "(II)V", "(I)I", "(II)I"].contains desc) || (cls == "java/lang/StringLatin1" && ["([BI)C", "(I)Z", "([BIII)I"].contains desc) || (cls == "jdk/internal/util/Preconditions" && desc == "(IILjava/util/function/BiFunction;)I")
theorem natS : (Jvm.natives.all fun r => !(natO r.cls r.desc)) = true := by decide +kernel
theorem plainS {y : MethodName} (h : natO y.cls y.desc = true) : plainFor y = true := by
  unfold plainFor
  rw [Bool.or_eq_true]; right
  rw [Option.isNone_iff_eq_none, NativeRow.find?, List.find?_eq_none]
  intro r hr g
  have := List.all_eq_true.mp natS r hr
  simp only [Bool.and_eq_true, beq_iff_eq] at g
  rw [g.1.2, g.2, h] at this
  exact absurd this (by decide)
theorem i2c_s : ∀ n : Fin 256, ((rhI ((n : Nat) : Int)).toUInt32 % 65536).toInt32 = rhI ((n : Nat) : Int) := by decide +kernel
theorem rh_i2c_ {Y : rhY} {n : Nat} {k : Nat × Nat × Nat × Nat} {Z : List Frame → Array Value → State → State → Prop} {pc : Nat} {L : rhL} {S : List rhA} {M : rhM} (pc' : Nat) {t : Nat} {x : Int} (hd : decode (ry_c Y) pc = .ok (.i2c, 1)) (ht : rh_ik t = true) (hx : 0 ≤ x ∧ x ≤ 255) (hp : pc + 1 = pc') (K : rh_At w Y n k Z pc' L ((0, x) :: S) M) : rh_At w Y n k Z pc L ((t, x) :: S) M := by
  subst hp
  refine rh_stepS K (fun _ h2 => rh_okc (a := (0, x)) (show rI x from ⟨by omega, by omega⟩) (rh_okt h2)) (fun p l e R s m args below meth c H locs ls cells slots Qf hx1 hb hl hs kk => ?_)
  show W p l e R s m args below meth c H locs cells slots Qf (F0 m pc ls (rh_a w (t, x) :: S.map (rh_a w)))
  rw [rh_a_i ht]
  have e := i2c_s ⟨x.toNat, by omega⟩
  rw [show (((⟨x.toNat, by omega⟩ : Fin 256) : Nat) : Int) = x by show ((x.toNat : Nat) : Int) = x; omega] at e
  exact lv_i2c hx1 hb hd (v := rhI x) e kk
/-- the index of a text's byte is looked at -/
theorem c_pchk {j n : Int} {z : rhA} (hz : z = (2, -1) ∨ z = (9, 18)) (h : 0 ≤ j ∧ j < n) (M : rhM) : eC w YJ8_checkIndex 0 [(0, j), (0, n), z] M j M := by
  have hw : rh_wd [(0, j), (0, n), z] ≤ 3 := by rcases hz with rfl | rfl <;> exact LE0 rfl
  refine eC.ofF (plainS (by decide +kernel)) hw (fun m => ?_)
  refine rh_ild_n 1 (j := 0) (x := j) (rh_dec1 tdJ8_checkIndex rfl) rfl rfl rfl ?_
  refine rh_iz_lt 9 4 (rh_dec1 tdJ8_checkIndex rfl) rfl (.inl rfl) rfl rfl (fun c => absurd c (by omega)) (fun _ => ?_)
  refine rh_ild_n 5 (j := 0) (x := j) (rh_dec1 tdJ8_checkIndex rfl) rfl rfl rfl ?_
  refine rh_ild_n 6 (j := 1) (x := n) (rh_dec1 tdJ8_checkIndex rfl) rfl rfl rfl ?_
  refine rh_ic_lt 16 9 (rh_dec1 tdJ8_checkIndex rfl) rfl rfl (.inl rfl) (.inl rfl) rfl rfl (fun _ => ?_) (fun c => absurd h.2 c)
  refine rh_ild_n 17 (j := 0) (x := j) (rh_dec1 tdJ8_checkIndex rfl) rfl rfl rfl ?_
  exact (rh_retI (mc := 0) (ms := 0) (ty := .int) (t := 0) (v := j) (rh_dec1 tdJ8_checkIndex rfl) rfl rfl rfl (fun z => z) ⟨rfl, rfl⟩).zq
theorem c_chk {j n : Int} (h : 0 ≤ j ∧ j < n) (M : rhM) : eC w YJ6_checkIndex 1 [(0, j), (0, n)] M 0 M := by
  refine eC.ofF (plainS (by decide +kernel)) (LE0 rfl) (fun m => ?_)
  refine rh_ild_n 1 (j := 0) (x := j) (rh_dec1 tdJ6_checkIndex rfl) rfl rfl rfl ?_
  refine rh_ild_n 2 (j := 1) (x := n) (rh_dec1 tdJ6_checkIndex rfl) rfl rfl rfl ?_
  refine rh_sio 5 q2626 (rh_dec1 tdJ6_checkIndex rfl) rfl (fun z hz => ?_)
  refine eA.cs (Y' := YJ8_checkIndex) (av := [(0, j), (0, n), z]) (S1 := []) (rh_csr.of (Or.inl q2628) kJ8_checkIndex) (Nat.lt_succ_self 0) (rh_dec1 tdJ6_checkIndex rfl) rfl (LE0 rfl) rfl (c_pchk hz h M) (fun m => ?_) m
  refine rh_pop 9 (rh_dec1 tdJ6_checkIndex rfl) rfl rfl ?_
  exact (rh_retV (mc := 0) (ms := 0) (rh_dec1 tdJ6_checkIndex rfl) rfl ⟨rfl, rfl⟩).zq
theorem c_lcharAt {i : Nat} {q : String × Nat × String × List Int} {j : Int} (hq : rh_st[i]? = some q) (hn : q.2.2.2.length ≤ 2147483647) (hb : ∀ a ∈ q.2.2.2, 0 ≤ a ∧ a ≤ 127) (h : 0 ≤ j ∧ j < (q.2.2.2.length : Int)) (M : rhM) : eC w YJ7_charAt 2 [(10, (i : Int)), (0, j)] M (q.2.2.2.getD j.toNat 0) M := by
  have hi : j.toNat < q.2.2.2.length := by omega
  have hv : 0 ≤ q.2.2.2.getD j.toNat 0 ∧ q.2.2.2.getD j.toNat 0 ≤ 127 := by
    rw [List.getD_eq_getElem?_getD, List.getElem?_eq_getElem hi]
    exact hb _ (List.getElem_mem hi)
  refine eC.ofF (plainS (by decide +kernel)) (LE0 rfl) (fun m => ?_)
  refine rh_ild_n 1 (j := 1) (x := j) (rh_dec1 tdJ7_charAt rfl) rfl rfl rfl ?_
  refine rh_ald_n 2 (j := 0) (x := (i : Int)) (rh_dec1 tdJ7_charAt rfl) rfl rfl rfl rfl ?_
  refine rh_lenT 3 hq (rh_dec1 tdJ7_charAt rfl) hn rfl ?_
  refine eA.cs (Y' := YJ6_checkIndex) (av := [(0, j), (0, (q.2.2.2.length : Int))]) (S1 := []) (rh_csr.of (Or.inl q2623) kJ6_checkIndex) (Nat.lt_succ_self 1) (rh_dec1 tdJ7_charAt rfl) rfl (LE0 rfl) rfl (c_chk h M) (fun m => ?_) m
  refine rh_ald_n 7 (j := 0) (x := (i : Int)) (rh_dec1 tdJ7_charAt rfl) rfl rfl rfl rfl ?_
  refine rh_ild_n 8 (j := 1) (x := j) (rh_dec1 tdJ7_charAt rfl) rfl rfl rfl ?_
  refine rh_baT 9 hq (rh_dec1 tdJ7_charAt rfl) rfl h hn (fun a ha => ⟨by have := hb a ha; omega, by have := hb a ha; omega⟩) rfl ?_
  refine rh_sip 12 (v := 255) (rh_dec1 tdJ7_charAt rfl) (by decide) (by decide) rfl ?_
  refine rh_iand_ 13 (rh_dec1 tdJ7_charAt rfl) rfl rfl rfl ?_
  rw [by_e (x := q.2.2.2.getD j.toNat 0) ⟨by omega, by omega⟩, if_neg (by omega)]
  refine rh_i2c_ 14 (rh_dec1 tdJ7_charAt rfl) rfl ⟨by omega, by omega⟩ rfl ?_
  exact (rh_retI (mc := 0) (ms := 0) (ty := .char) (t := 0) (v := q.2.2.2.getD j.toNat 0) (rh_dec1 tdJ7_charAt rfl) rfl rfl rfl (fun _ => ⟨by omega, by omega⟩) ⟨rfl, rfl⟩).zq
theorem c_charAt {i : Nat} {q : String × Nat × String × List Int} {j : Int} (hq : rh_st[i]? = some q) (hn : q.2.2.2.length ≤ 2147483647) (hb : ∀ a ∈ q.2.2.2, 0 ≤ a ∧ a ≤ 127) (h : 0 ≤ j ∧ j < (q.2.2.2.length : Int)) (M : rhM) : eC w YJ6_charAt 3 [(9, (i : Int)), (0, j)] M (q.2.2.2.getD j.toNat 0) M := by
  have hi : j.toNat < q.2.2.2.length := by omega
  have hv : 0 ≤ q.2.2.2.getD j.toNat 0 ∧ q.2.2.2.getD j.toNat 0 ≤ 127 := by
    rw [List.getD_eq_getElem?_getD, List.getElem?_eq_getElem hi]
    exact hb _ (List.getElem_mem hi)
  refine eC.ofF (plainS (by decide +kernel)) (LE0 rfl) (fun m => ?_)
  refine rh_ald_n 1 (j := 0) (x := (i : Int)) (rh_dec1 tdJ6_charAt rfl) rfl rfl rfl rfl ?_
  refine eA.ct (Y' := YJ6_isLatin1) (av := []) (S1 := []) (st_lt hq) q2616 kJ6_isLatin1 (by decide : 0 < 3) (rh_dec1 tdJ6_charAt rfl) rfl (LE0 rfl) rfl (c_isLatin1 (st_lt hq) M) (fun m => ?_) m
  refine rh_iz_eq 16 7 (rh_dec1 tdJ6_charAt rfl) rfl (.inl rfl) rfl rfl (fun c => absurd c (by decide)) (fun _ => ?_)
  refine rh_ald_n 8 (j := 0) (x := (i : Int)) (rh_dec1 tdJ6_charAt rfl) rfl rfl rfl rfl ?_
  refine rh_valT 11 (st_lt hq) q5176 (rh_dec1 tdJ6_charAt rfl) rfl ?_
  refine rh_ild_n 12 (j := 1) (x := j) (rh_dec1 tdJ6_charAt rfl) rfl rfl rfl ?_
  refine eA.cs (Y' := YJ7_charAt) (av := [(10, (i : Int)), (0, j)]) (S1 := []) (rh_csr.of (Or.inl q2620) kJ7_charAt) (by decide : 2 < 3) (rh_dec1 tdJ6_charAt rfl) rfl (LE0 rfl) rfl (c_lcharAt hq hn hb h M) (fun m => ?_) m
  exact (rh_retI (mc := 0) (ms := 0) (ty := .char) (t := 0) (v := q.2.2.2.getD j.toNat 0) (rh_dec1 tdJ6_charAt rfl) rfl rfl rfl (fun _ => ⟨by omega, by omega⟩) ⟨rfl, rfl⟩).zq
end TxtChar

/-! ===== division of numbers below 0: Math.floorDiv, floor ===== -/
section Div
theorem tdiv_b {x y : Int} (h1 : 0 < y) : (0 ≤ x → Int.tdiv x y = x / y) ∧ (x < 0 → (Int.tdiv x y = x / y ∧ x / y * y = x) ∨ (Int.tdiv x y = x / y + 1 ∧ x / y * y < x ∧ x < (x / y + 1) * y)) := by
  refine ⟨fun h => Int.tdiv_eq_ediv_of_nonneg h, fun h => ?_⟩
  have e := Int.tdiv_eq_ediv (a := x) (b := y)
  have a3 := Int.emod_nonneg x (Int.ne_of_gt h1)
  have a4 := Int.emod_lt_of_pos x h1
  have a5 := Int.emod_def x y
  rw [Int.mul_comm] at a5
  have a6 : (x / y + 1) * y = x / y * y + y := by rw [Int.add_mul, Int.one_mul]
  by_cases hd : y ∣ x
  · rw [if_pos (.inr hd)] at e
    have := Int.emod_eq_zero_of_dvd hd
    exact .inl ⟨by omega, by omega⟩
  · rw [if_neg (by omega), Int.sign_eq_one_of_pos h1] at e
    have : x % y ≠ 0 := fun z => hd (Int.dvd_of_emod_eq_zero z)
    exact .inr ⟨e, by omega, by omega⟩
theorem ediv_r {x y m : Int} (h1 : 0 < y) (hm : 0 ≤ m) (hx : -m ≤ x ∧ x ≤ m) : -m ≤ x / y ∧ x / y ≤ m := by
  have a3 := Int.emod_nonneg x (Int.ne_of_gt h1)
  have a4 := Int.emod_lt_of_pos x h1
  constructor
  · refine Int.le_ediv_of_mul_le h1 ?_
    have : -m * y ≤ -m * 1 := Int.mul_le_mul_of_nonpos_left (by omega) (by omega)
    omega
  · by_cases h : 0 ≤ x
    · have := Int.ediv_le_self y h
      omega
    · have := Int.ediv_neg_of_neg_of_pos (show x < 0 by omega) h1
      omega
theorem tdiv_r {x y m : Int} (h1 : 0 < y) (hm : 0 ≤ m) (hx : -m ≤ x ∧ x ≤ m) : -m ≤ Int.tdiv x y ∧ Int.tdiv x y ≤ m := by
  obtain ⟨b1, b2⟩ := tdiv_b (x := x) h1
  have a := ediv_r h1 hm hx
  by_cases h : 0 ≤ x
  · rw [b1 h]; exact a
  · have := Int.ediv_neg_of_neg_of_pos (show x < 0 by omega) h1
    rcases b2 (by omega) with b2 | b2 <;> omega
theorem rh_divT {x y : Int} (hx : -2147483647 ≤ x ∧ x ≤ 2147483647) (hy : rI y) (h1 : 0 < y) : rhI x / rhI y = rhI (Int.tdiv x y) := by
  have hq := tdiv_r h1 (by decide) hx
  rw [← Int32.toInt_inj, Int32.toInt_div, rh_ti ⟨(by omega), (by omega)⟩, rh_ti hy, rh_ti ⟨(by omega), (by omega)⟩]
  exact Int.bmod_eq_of_le (by omega) (by omega)
theorem rh_ldivT {x y : Int} (hx : -9223372036854775807 ≤ x ∧ x ≤ 9223372036854775807) (hy : rL y) (h1 : 0 < y) : rhJ x / rhJ y = rhJ (Int.tdiv x y) := by
  have hq := tdiv_r h1 (by decide) hx
  rw [← Int64.toInt_inj, Int64.toInt_div, rh_tj ⟨(by omega), (by omega)⟩, rh_tj hy, rh_tj ⟨(by omega), (by omega)⟩]
  exact Int.bmod_eq_of_le (by omega) (by omega)
variable {w : rhW} {Y : rhY} {n : Nat} {k : Nat × Nat × Nat × Nat} {Z : List Frame → Array Value → State → State → Prop} {pc : Nat} {L : rhL} {S : List rhA} {M : rhM}
theorem rh_idivT_ (pc' : Nat) {x y : Int} (hd : decode (ry_c Y) pc = .ok (.idiv, 1)) (hx : -2147483647 ≤ x ∧ x ≤ 2147483647) (h1 : 0 < y) (hp : pc + 1 = pc') (K : rh_At w Y n k Z pc' L ((0, Int.tdiv x y) :: S) M) : rh_At w Y n k Z pc L ((0, y) :: (0, x) :: S) M := by
  subst hp
  refine rh_known (fun _ _ hs0 => ?_)
  have hy : rI y := hs0 (0, y) (by simp)
  have hq := tdiv_r h1 (by decide) hx
  refine rh_stepS K (fun _ h2 => rh_okc (a := (0, Int.tdiv x y)) (show rI _ from ⟨(by omega), (by omega)⟩) (rh_okt (rh_okt h2))) (fun p l e R s m args below meth c H locs ls cells slots Qf hx1 hb hl hs kk => ?_)
  refine lv_idiv hx1 hb hd (fun h => ?_) ?_
  · rw [show (0 : Int32) = rhI 0 from rfl, rh_eq hy ⟨by decide, by decide⟩] at h
    omega
  · rw [rh_divT hx hy h1]
    exact kk
theorem rh_ldivT_ (pc' : Nat) {x y : Int} (hd : decode (ry_c Y) pc = .ok (.ldiv, 1)) (hx : -9223372036854775807 ≤ x ∧ x ≤ 9223372036854775807) (h1 : 0 < y) (hp : pc + 1 = pc') (K : rh_At w Y n k Z pc' L ((1, Int.tdiv x y) :: S) M) : rh_At w Y n k Z pc L ((1, y) :: (1, x) :: S) M := by
  subst hp
  refine rh_known (fun _ _ hs0 => ?_)
  have hy : rL y := hs0 (1, y) (by simp)
  have hq := tdiv_r h1 (by decide) hx
  refine rh_stepS K (fun _ h2 => rh_okc (a := (1, Int.tdiv x y)) (show rL _ from ⟨(by omega), (by omega)⟩) (rh_okt (rh_okt h2))) (fun p l e R s m args below meth c H locs ls cells slots Qf hx1 hb hl hs kk => ?_)
  refine lv_ldiv hx1 hb hd (fun h => ?_) ?_
  · rw [show (0 : Int64) = rhJ 0 from rfl, rh_leqj hy ⟨by decide, by decide⟩] at h
    omega
  · rw [rh_ldivT hx hy h1]
    exact kk
theorem rh_lremT_ (pc' : Nat) {x y : Int} (hd : decode (ry_c Y) pc = .ok (.lrem, 1)) (hx : -9223372036854775807 ≤ x ∧ x ≤ 9223372036854775807) (h1 : 0 < y) (hp : pc + 1 = pc') (K : rh_At w Y n k Z pc' L ((1, x - Int.tdiv x y * y) :: S) M) : rh_At w Y n k Z pc L ((1, y) :: (1, x) :: S) M := by
  subst hp
  refine rh_known (fun _ _ hs0 => ?_)
  have hy : rL y := hs0 (1, y) (by simp)
  have hq := tdiv_r h1 (by decide) hx
  have hr : rL (x - Int.tdiv x y * y) := by
    obtain ⟨b1, b2⟩ := tdiv_b (x := x) h1
    have a3 := Int.emod_nonneg x (Int.ne_of_gt h1)
    have a4 := Int.emod_lt_of_pos x h1
    have a5 := Int.emod_def x y
    rw [Int.mul_comm] at a5
    by_cases h : 0 ≤ x
    · rw [b1 h]; exact ⟨(by omega), (by omega)⟩
    · have a6 : (x / y + 1) * y = x / y * y + y := by rw [Int.add_mul, Int.one_mul]
      rcases b2 (by omega) with b2 | b2
      · rw [b2.1]; exact ⟨(by omega), (by omega)⟩
      · rw [b2.1]; exact ⟨(by omega), (by omega)⟩
  refine rh_stepS K (fun _ h2 => rh_okc (a := (1, x - Int.tdiv x y * y)) hr (rh_okt (rh_okt h2))) (fun p l e R s m args below meth c H locs ls cells slots Qf hx1 hb hl hs kk => ?_)
  refine lv_lrem hx1 hb hd (fun h => ?_) ?_
  · rw [show (0 : Int64) = rhJ 0 from rfl, rh_leqj hy ⟨by decide, by decide⟩] at h
    omega
  · rw [rh_ldivT hx hy h1, ← Int64.ofInt_mul, ← Int64.ofInt_sub]
    exact kk
theorem xor_neg {x y : Int} (hx : rI x) (hy : rI y) (h : 0 ≤ y) : (0 ≤ rh_xor x y ↔ 0 ≤ x) := by
  have e : ∀ a : Int32, (0 ≤ a.toInt ↔ a.toBitVec.msb = false) := fun a => by
    show 0 ≤ a.toBitVec.toInt ↔ _
    rw [BitVec.toInt_eq_msb_cond]
    have := a.toBitVec.isLt
    cases a.toBitVec.msb
    · simp
    · simp; omega
  have e1 := e (rhI x)
  have e2 := e (rhI y)
  have e3 := e (rhI x ^^^ rhI y)
  rw [rh_ti hx] at e1
  rw [rh_ti hy] at e2
  rw [Int32.toBitVec_xor, BitVec.msb_xor, e2.mp h, Bool.xor_false] at e3
  exact e3.trans e1.symm
/-- a method of a library class that the model runs as bytes -/
theorem rh_bodyF {Q : Int → rhM → Prop} {av : List rhA} (hy : plainFor (ry_y Y) = true) (hn : rh_wd av ≤ ry_L Y) (K : rh_At w Y n (0, 0, 0, 0) (rh_Z w Y 0 0 Q) 0 (rh_lo 0 av) [] M) : rh_OK w Y n av M Q := by
  intro l
  refine MetFree.of_bodySF (code := ry_c Y) (maxLocals := ry_L Y) (ret := ry_r Y) hy ?_ ?_
  · intro args s m h hn
    obtain ⟨meth, c, h1, h2, h3, h4, h5, h6, -, -⟩ := Cond.code_spec hn (atoms_spec (ws := ws_ (ry_y Y) (ry_c Y) (ry_L Y) (ry_r Y)) h _ List.mem_cons_self)
    exact ⟨meth, c, h1, h2, h3, h4, h5, h6⟩
  intro p e s m args below meth c s₁ B hml hv _
  obtain ⟨rfl, hX, hsz, hwm, hok, hH, htg⟩ := hv
  have hts := atoms_spec (ws := ws_ (ry_y Y) (ry_c Y) (ry_L Y) (ry_r Y)) B.pre
  have hts : ∀ x ∈ lw_all, x.before _ s = true := fun x h => hts x (List.mem_cons_of_mem _ h)
  have hown : s.vm.findClass (ry_y Y).cls = some m.cls := findClass_of_methodNamed B.named
  have hnm : meth.name = (ry_y Y).name := (name_of_methodNamed B.named B.method).1
  have hl := lv_entry (av.map (rh_a w)) (n := ry_L Y) (by rw [rh_wd_eq]; exact hn)
  rw [lg_entry_eq]
  generalize (lg_sl (av.map (rh_a w)) ++ List.replicate (ry_L Y - (lg_sl (av.map (rh_a w))).length) Slot.unset).toArray = ls0 at hl ⊢
  rw [← rh_lo_eq w av 0] at hl
  have KK := K p l e (headSpec (ws_ (ry_y Y) (ry_c Y) (ry_L Y) (ry_r Y)) (rh_rm n 0 0)).room s m _ below meth c s.heap [] ls0 ⟨B.exec, B.bytes, hml, B.returns, B.notSynchronized, hown, hnm, hts, hX, Nat.le_refl _, Nat.le_refl _, Nat.le_refl _, Nat.le_refl _, Nat.zero_le _, Nat.zero_le _, hsz, htg, B.named⟩
    ⟨hwm, ?_, (fun z hz => absurd hz List.not_mem_nil), hH, va_S.rf, hl⟩
  · have hh0 : s₁.heap = s.heap := by rw [B.state]; rfl
    obtain ⟨t, a1, o, b1, b2, b3⟩ := KK s₁ hh0 (Stand.of_body B)
    exact ⟨t, o, a1, b1, b2, ⟨b3.1, b3.2⟩⟩
  · have : ∀ (av : List rhA) (i : Nat), (∀ z ∈ av, rh_ok z) → ∀ z ∈ rh_lo i av, rh_ok z.2 := by
      intro av
      induction av with
      | nil => intro i _ z hz; cases hz
      | cons a t ih =>
        intro i h z hz
        rcases List.mem_cons.mp hz with rfl | hz
        · exact h _ List.mem_cons_self
        · exact ih _ (fun y hy => h y (List.mem_cons_of_mem _ hy)) z hz
    exact this av 0 hok
theorem eC.ofF {h : Nat} {av : List rhA} {r : Int} {M' : rhM} (hy : plainFor (ry_y Y) = true) (hn : rh_wd av ≤ ry_L Y) (E : eA w Y h 0 (rh_lo 0 av) [] M r M') : eC w Y h av M r M' := fun n => rh_bodyF hy hn (E n).qz
theorem mathRowsI : (Jvm.natives.all fun r => r.cls != "java/lang/Math" || r.desc != "(II)I") = true := by decide +kernel
theorem fdPlain : plainFor yJ2_floorDiv = true := by
  unfold plainFor
  rw [Bool.or_eq_true]; right
  rw [Option.isNone_iff_eq_none, NativeRow.find?, List.find?_eq_none]
  intro r hr h
  have := List.all_eq_true.mp mathRowsI r hr
  simp only [Bool.and_eq_true, beq_iff_eq] at h
  rw [h.1.2, h.2] at this
  exact absurd this (by decide)
theorem rh_dec1 {dt : rhDt} {C : ByteArray} (hd : rh_dok C dt) {pc : Nat} {i : Instr} {q : Nat} (h : rh_dk dt pc = .ok (i, q)) : decode C pc = .ok (i, q) := by
  rcases hd pc with z | z
  · rw [← z, h]
  · rw [h] at z; cases z
theorem c_floorDiv {x y : Int} (M : rhM) (hx : -2147483647 ≤ x ∧ x ≤ 2147483647) (hy : rI y) (h1 : 0 < y) : eC w YJ2_floorDiv 0 [(0, x), (0, y)] M (x / y) M := by
  have hq := tdiv_r h1 (by decide) hx
  have he := ediv_r h1 (by decide) hx
  have hx2 : rI x := ⟨by omega, by omega⟩
  obtain ⟨b1, b2⟩ := tdiv_b (x := x) h1
  refine eC.ofF fdPlain (LE0 rfl) (fun n => ?_)
  refine rh_ild_n 1 (j := 0) (x := x) (rh_dec1 tdJ2_floorDiv rfl) rfl rfl rfl ?_
  refine rh_ild_n 2 (j := 1) (x := y) (rh_dec1 tdJ2_floorDiv rfl) rfl rfl rfl ?_
  refine rh_idivT_ 3 (rh_dec1 tdJ2_floorDiv rfl) hx h1 rfl ?_
  refine rh_ist_n 4 [1, 2, 0] (L' := [(0, 0, x), (1, 0, y), (2, 0, Int.tdiv x y)]) (rh_dec1 tdJ2_floorDiv rfl) rfl (by decide) rfl (.inl rfl) rfl rfl ?_
  refine rh_ild_n 5 (j := 0) (x := x) (rh_dec1 tdJ2_floorDiv rfl) rfl rfl rfl ?_
  refine rh_ild_n 6 (j := 1) (x := y) (rh_dec1 tdJ2_floorDiv rfl) rfl rfl rfl ?_
  refine rh_ixor_ 7 (rh_dec1 tdJ2_floorDiv rfl) rfl rfl rfl ?_
  refine rh_iz_ge 21 10 (rh_dec1 tdJ2_floorDiv rfl) rfl (.inl rfl) rfl rfl (fun c => ?_) (fun c => ?_)
  · refine rh_ild_n 22 (j := 2) (x := Int.tdiv x y) (rh_dec1 tdJ2_floorDiv rfl) rfl rfl rfl ?_
    refine (rh_retI (mc := 0) (ms := 0) (ty := .int) (t := 0) (v := Int.tdiv x y) (rh_dec1 tdJ2_floorDiv rfl) rfl rfl rfl (fun z => z) ⟨?_, rfl⟩).zq
    exact b1 ((xor_neg hx2 hy (by omega)).mp c)
  · have hxn : x < 0 := by
      have := xor_neg hx2 hy (show 0 ≤ y by omega)
      omega
    have b2 := b2 hxn
    refine rh_ild_n 11 (j := 2) (x := Int.tdiv x y) (rh_dec1 tdJ2_floorDiv rfl) rfl rfl rfl ?_
    refine rh_ild_n 12 (j := 1) (x := y) (rh_dec1 tdJ2_floorDiv rfl) rfl rfl rfl ?_
    refine rh_imul 13 (rh_dec1 tdJ2_floorDiv rfl) rfl rfl rfl ?_
    refine rh_ild_n 14 (j := 0) (x := x) (rh_dec1 tdJ2_floorDiv rfl) rfl rfl rfl ?_
    have hr : rI (Int.tdiv x y * y) := by
      have a6 : (x / y + 1) * y = x / y * y + y := by rw [Int.add_mul, Int.one_mul]
      rcases b2 with b2 | b2
      · rw [b2.1]; exact ⟨(by omega), (by omega)⟩
      · rw [b2.1]; exact ⟨(by omega), (by omega)⟩
    refine rh_ic_eq 21 17 (rh_dec1 tdJ2_floorDiv rfl) rfl rfl (.inr hr) (.inl rfl) rfl rfl (fun c2 => ?_) (fun c2 => ?_)
    · refine rh_ild_n 22 (j := 2) (x := Int.tdiv x y) (rh_dec1 tdJ2_floorDiv rfl) rfl rfl rfl ?_
      refine (rh_retI (mc := 0) (ms := 0) (ty := .int) (t := 0) (v := Int.tdiv x y) (rh_dec1 tdJ2_floorDiv rfl) rfl rfl rfl (fun z => z) ⟨?_, rfl⟩).zq
      rcases b2 with b2 | b2
      · exact b2.1
      · rw [b2.1] at c2; omega
    · refine rh_ild_n 18 (j := 2) (x := Int.tdiv x y) (rh_dec1 tdJ2_floorDiv rfl) rfl rfl rfl ?_
      refine rh_ico 19 (rh_dec1 tdJ2_floorDiv rfl) (by decide) rfl ?_
      refine rh_isub 20 (rh_dec1 tdJ2_floorDiv rfl) rfl rfl rfl ?_
      have e : Int.tdiv x y - 1 = x / y := by
        rcases b2 with b2 | b2
        · rw [b2.1] at c2; exact absurd b2.2 c2
        · rw [b2.1]; omega
      refine (rh_retI (mc := 0) (ms := 0) (rh_dec1 tdJ2_floorDiv rfl) rfl rfl rfl (fun _ => ?_) ⟨e, rfl⟩).zq
      show rI _
      exact ⟨by omega, by omega⟩
theorem c_floor {x y : Int} (M : rhM) (hx : -4611686018427387904 ≤ x ∧ x ≤ 4611686018427387904) (hy : rL y) (h1 : 0 < y) : eC w YX32_floor 0 [(1, x), (1, y)] M (x / y) M := by
  have hq := tdiv_r h1 (by decide) hx
  have he := ediv_r h1 (by decide) hx
  have hx' : -9223372036854775807 ≤ x ∧ x ≤ 9223372036854775807 := ⟨by omega, by omega⟩
  obtain ⟨b1, b2⟩ := tdiv_b (x := x) h1
  have a3 := Int.emod_nonneg x (Int.ne_of_gt h1)
  have a4 := Int.emod_lt_of_pos x h1
  have a5 := Int.emod_def x y
  rw [Int.mul_comm] at a5
  have a6 : (x / y + 1) * y = x / y * y + y := by rw [Int.add_mul, Int.one_mul]
  refine eC.of (by decide) (LE0 rfl) (fun n => ?_)
  refine rh_lld_n 1 (j := 0) (x := x) (rh_dec1 tdX32_floor rfl) rfl rfl rfl ?_
  refine rh_lld_n 2 (j := 1) (x := y) (rh_dec1 tdX32_floor rfl) rfl rfl rfl ?_
  refine rh_ldivT_ 3 (rh_dec1 tdX32_floor rfl) hx' h1 rfl ?_
  refine rh_lst 5 [1, 2, 0] (L' := [(0, 1, x), (2, 1, y), (4, 1, Int.tdiv x y)]) (rh_dec1 tdX32_floor rfl) (by decide) rfl (.inl rfl) rfl rfl ?_
  refine rh_lld_n 6 (j := 0) (x := x) (rh_dec1 tdX32_floor rfl) rfl rfl rfl ?_
  refine rh_lld_n 7 (j := 1) (x := y) (rh_dec1 tdX32_floor rfl) rfl rfl rfl ?_
  refine rh_lremT_ 8 (rh_dec1 tdX32_floor rfl) hx' h1 rfl ?_
  refine rh_lco 9 (x := 0) (rh_dec1 tdX32_floor rfl) rfl (by decide) rfl ?_
  refine rh_lc_ge 20 10 13 (rh_dec1 tdX32_floor rfl) (rh_dec1 tdX32_floor rfl) rfl rfl (.inl rfl) (.inl rfl) rfl rfl rfl (fun c => ?_) (fun c => ?_)
  · refine rh_lld 22 (j := 2) (x := Int.tdiv x y) (rh_dec1 tdX32_floor rfl) rfl rfl ?_
    refine (rh_retJ (mc := 0) (ms := 0) (rh_dec1 tdX32_floor rfl) rfl rfl (.inl rfl) ⟨?_, rfl⟩).zq
    by_cases h : 0 ≤ x
    · exact b1 h
    · rcases b2 (by omega) with b2 | b2
      · exact b2.1
      · rw [b2.1] at c; omega
  · have e : Int.tdiv x y - 1 = x / y := by
      by_cases h : 0 ≤ x
      · rw [b1 h] at c; omega
      · rcases b2 (by omega) with b2 | b2
        · rw [b2.1] at c; omega
        · rw [b2.1]; omega
    refine rh_lld 15 (j := 2) (x := Int.tdiv x y) (rh_dec1 tdX32_floor rfl) rfl rfl ?_
    refine rh_lco 16 (x := 1) (rh_dec1 tdX32_floor rfl) rfl (by decide) rfl ?_
    refine rh_lsub 17 (rh_dec1 tdX32_floor rfl) rfl rfl rfl ?_
    refine rh_goto 22 (rh_dec1 tdX32_floor rfl) rfl ?_
    refine (rh_retJ (mc := 0) (ms := 0) (rh_dec1 tdX32_floor rfl) rfl rfl (.inr ?_) ⟨e, rfl⟩).zq
    exact ⟨by omega, by omega⟩
theorem c_fall {a b : Int} (hh : rh_hs w) {x : Int} (hx : rh_bl w 5 x 0) (M : rhM) (hz : -2147483647 ≤ b * a ∧ b * a ≤ 2147483647) (hW : 0 < M x 1) (hW2 : M x 1 ≤ 128) : eC w YX1_fall 1 [(2, x), (0, a), (0, b)] M (b * a / M x 1) M := by
  refine eC.of1 (rC1.of (by decide) (LE0 rfl) ?_)
  refine rh1.of (rX1_fall_0 hh _ _ _ _ hx ?_)
  refine rh1.s (eS.fx 1 (x := b * a) rfl ⟨by omega, by omega⟩ rfl) ?_
  refine rh1.s (vX1_fall_7 (c_floorDiv M hz ⟨by omega, by omega⟩ hW) (LE0 rfl)) ?_
  refine rh1.of (rX1_fall_10 hh _ _ ?_)
  exact ⟨rfl, rfl⟩
end Div

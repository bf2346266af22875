/-! ===== String.length ===== -/
theorem q2606 : (Jvm.Cond.methodLink "java/lang/String" (335 : Nat) ({ cls := "java/lang/String", name := "coder", desc := "()B" } : Jvm.MethodName)) ∈ lw_all := lw_g (lw_at lw_m10 193 rfl) rfl
section TxtLen
theorem c_length {w : rhW} {i : Nat} {q : String × Nat × String × List Int} (hq : rh_st[i]? = some q) (hs : rh_shr (q.2.2.2.length : Int) 0 = (q.2.2.2.length : Int)) (hn : q.2.2.2.length ≤ 2147483647) (M : rhM) : eC w YJ6_length 1 [(9, (i : Int))] M (q.2.2.2.length : Int) M := by
  refine eC.ofF (plainNo (by decide +kernel)) (LE0 rfl) (fun n => ?_)
  refine rh_ald_n 1 (j := 0) (x := (i : Int)) (rh_dec1 tdJ6_length rfl) rfl rfl rfl rfl ?_
  refine rh_valT 4 (st_lt hq) q5176 (rh_dec1 tdJ6_length rfl) rfl ?_
  refine rh_lenT 5 hq (rh_dec1 tdJ6_length rfl) hn rfl ?_
  refine rh_ald_n 6 (j := 0) (x := (i : Int)) (rh_dec1 tdJ6_length rfl) rfl rfl rfl rfl ?_
  refine eA.ct (Y' := YJ6_coder) (av := []) (S1 := [(0, (q.2.2.2.length : Int))]) (st_lt hq) q2606 kJ6_coder (Nat.lt_succ_self 0) (rh_dec1 tdJ6_length rfl) rfl (LE0 rfl) rfl (c_coder (st_lt hq) M) (fun n => ?_) n
  refine rh_ishr_ 10 (rh_dec1 tdJ6_length rfl) rfl rfl rfl ?_
  rw [hs]
  exact (rh_retI (mc := 0) (ms := 0) (ty := .int) (t := 0) (v := (q.2.2.2.length : Int)) (rh_dec1 tdJ6_length rfl) rfl rfl rfl (fun z => z) ⟨rfl, rfl⟩).zq
end TxtLen

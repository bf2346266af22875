/-! ===== calls through a text ===== -/
section TxtCall
theorem eA.ct {w : rhW} {Y Y' : rhY} {h h' pc : Nat} {L : rhL} {S : List rhA} {M : rhM} {idx na i : Nat} {av S1 : List rhA} {r0 : Int} {M0 : rhM} {r : Int} {M' : rhM} (hi : i < rh_st.length) (hl : Cond.methodLink (ry_y Y).cls idx (ry_y Y') ∈ lw_all) (kk : rh_kV Y' "java/lang/String" na) (hh : h' < h) (hd : decode (ry_c Y) pc = .ok (.invokevirtual idx, 3)) (hna : na = av.length) (hw : rh_wd S1 ≤ 8) (hS : S = av.reverse ++ (9, (i : Int)) :: S1) (E : eC w Y' h' ((9, (i : Int)) :: av) M r0 M0) (K : eA w Y h (pc + 3) L (rh_res (ry_r Y') r0 S1) M0 r M') : eA w Y h pc L S M r M' := by
  intro n
  subst hS
  subst hna
  have hn : n + h = (n + (h - 1 - h') + h') + 1 := by omega
  have K2 := K n
  rw [hn] at K2 ⊢
  obtain ⟨k1, k2, k3, k4, k5, k6, k7⟩ := kk
  refine rh_callT (n' := rw_n w) (kd' := rw_kd w) (rf' := rw_rf w) (mc := 0) (ms := 0) (pc + 3) hi hd hl k1 k2 k3 k4 k5 k6 k7 rfl hw ⟨rfl, .inr rfl⟩ (Nat.le_refl _) (Nat.le_refl _) rfl (rh_OK.mono (E _) (fun r1 M1 _ _ hz => ?_))
  rw [hz.1, hz.2]
  exact K2
end TxtCall

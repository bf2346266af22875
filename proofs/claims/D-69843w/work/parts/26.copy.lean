/-! ===== System.arraycopy of ints, bytes ===== -/
section RhCopy
variable {w : rhW} {Y : rhY} {n : Nat} {Q : rhQ} {pc : Nat} {L : rhL} {S1 : List rhA} {M : rhM}
def rh_cpy (M : rhM) (r sp r1 dp m : Int) : rhM := fun a j => if a = r1 then (if dp ≤ j ∧ j < dp + m then M r (sp + (j - dp)) else M a j) else M a j
theorem rh_cpy_a {M : rhM} {r sp r1 dp m a j : Int} (h : a ≠ r1) : rh_cpy M r sp r1 dp m a j = M a j := by simp [rh_cpy, h]
theorem rh_copy {idx n0 n1 t2 t4 t5 : Nat} {ty : FieldType} {tt : Nat} {r sp r1 dp m : Int} (hl : Cond.methodLink (ry_y Y).cls idx arraycopyName ∈ lw_all) (hnat : Cond.native arraycopyName ∈ lw_all) (hst : Cond.static arraycopyName ∈ lw_all) (hin : Cond.initialized "java/lang/System" ∈ lw_all)
    (hd : decode (ry_c Y) pc = .ok (.invokestatic idx, 3)) (hty : rh_it ty = true) (hrk : refKind ty = false) (hT : rh_tl[tt]? = some ty) (ha : rh_ar w r ty n0) (hb : rh_ar w r1 ty n1) (h2 : rh_ik t2 = true) (h4 : rh_ik t4 = true) (h5 : rh_ik t5 = true)
    (hs : 0 ≤ sp) (hdp : 0 ≤ dp) (hm : 0 ≤ m) (hn0 : sp + m ≤ n0) (hn1 : dp + m ≤ n1) (hn0' : n0 ≤ 2147483647) (hn1' : n1 ≤ 2147483647) (hw : rh_wd S1 ≤ 8)
    (K : rh_AT w Y (n + 1) Q (pc + 3) L S1 (rh_cpy M r sp r1 dp m)) : rh_AT w Y (n + 1) Q pc L ((t5, m) :: (t4, dp) :: (2, r1) :: (t2, sp) :: (2, r) :: S1) M := by
  obtain ⟨a0, a1, a2⟩ := ha
  obtain ⟨b0, b1, b2⟩ := hb
  obtain ⟨r, rfl⟩ : ∃ k : Nat, r = (k : Int) := ⟨r.toNat, by omega⟩
  obtain ⟨r1, rfl⟩ : ∃ k : Nat, r1 = (k : Int) := ⟨r1.toNat, by omega⟩
  simp only [Int.toNat_natCast] at a1 a2 b1 b2
  intro p l e R s m0 args below meth c H locs ls C D
  obtain ⟨g1, g2, g3, g4, g5, g6⟩ := D
  have hX := C.2.2.2.2.2.2.2.2.1
  have hts := C.2.2.2.2.2.2.2.1
  have hf := C.2.2.2.2.2.2.2.2.2.1
  have hlo := C.2.2.2.2.2.2.2.2.2.2.1
  have hr := rh_rest (w := w) hw
  have he := rh_e_arr (M := M) a1 a2
  have he1 := rh_e_arr (M := M) b1 b2
  rw [rh_ac_i hty] at he he1
  have z0 : ∀ x : Int, 0 ≤ x → x ≤ 2147483647 → (rhI x).toNatClampNeg = x.toNat := fun x hx hy => rh_cl ⟨by omega, by omega⟩
  have nn : ∀ x : Int, 0 ≤ x → x ≤ 2147483647 → ¬ rhI x < 0 := fun x hx hy hz => by
    rw [show (0 : Int32) = rhI 0 from rfl, rh_lt ⟨by omega, by omega⟩ ⟨by decide, by decide⟩] at hz
    omega
  have hset : (rh_ws w M).set r1 (rw_b w + r1, .inl (rw_c w ty, n1, .inl (va_cpy (fun j => rhI (M r j)) (fun j => rhI (M r1 j)) sp.toNat dp.toNat m.toNat))) = rh_ws w (rh_cpy M r sp r1 dp m) := by
    refine rh_ws_set ?_ (fun z hz => ?_)
    · simp only [rh_e, b2]
      rw [rh_ac_i hty]
      congr 4
      funext j
      show rhI (if (r1 : Int) = r1 then (if dp ≤ (j : Int) ∧ (j : Int) < dp + m then M r (sp + ((j : Int) - dp)) else M r1 j) else M r1 j) = if dp.toNat ≤ j ∧ j < dp.toNat + m.toNat then rhI (M r ((sp.toNat + (j - dp.toNat) : Nat) : Int)) else rhI (M r1 j)
      rw [if_pos rfl]
      by_cases hj : dp ≤ (j : Int) ∧ (j : Int) < dp + m
      · rw [if_pos hj, if_pos (by omega)]
        congr 2
        omega
      · rw [if_neg hj, if_neg (by omega)]
    · have hz2 : ∀ j : Int, rh_cpy M r sp r1 dp m z j = M z j := fun j => rh_cpy_a (by omega)
      unfold rh_e
      cases rw_kd w z with
      | inl q =>
        have : rh_ac w (rh_cpy M r sp r1 dp m) z q.1 = rh_ac w M z q.1 := by
          unfold rh_ac rh_rr
          simp only [hz2]
        simp only [this]
      | inr ci =>
        have : rh_fs w (rh_cpy M r sp r1 dp m) z ci = rh_fs w M z ci := by
          unfold rh_fs rh_fv
          simp only [hz2]
        simp only [this]
  have hrgs : ∀ x : Int, 0 ≤ x → x < n0 → rh_rg ty (M r x) := fun x hx hy => rh_wm.arr g1 a1 a2 hx hy
  have hwm : rh_wm w (rh_cpy M r sp r1 dp m) := by
    intro a ha
    by_cases ea : a = r1
    · subst ea
      have h1 := g1 a ha
      rw [b2] at h1 ⊢
      intro j hj
      show rh_rg ty (if (a : Int) = a then (if dp ≤ (j : Int) ∧ (j : Int) < dp + m then M r (sp + ((j : Int) - dp)) else M a j) else M a j)
      rw [if_pos rfl]
      by_cases hz : dp ≤ (j : Int) ∧ (j : Int) < dp + m
      · rw [if_pos hz]
        exact hrgs _ (by omega) (by omega)
      · rw [if_neg hz]
        exact h1 j hj
    · have h1 := g1 a ha
      have hz2 : ∀ j : Int, rh_cpy M r sp r1 dp m a j = M a j := fun j => rh_cpy_a (by omega)
      cases hq : rw_kd w a with
      | inl q => rw [hq] at h1; intro j hj; rw [hz2]; exact h1 j hj
      | inr ci => rw [hq] at h1; intro j hj hf; rw [hz2]; exact h1 j hj hf
  show W p l e R s m0 args below meth c H locs 0 0 (rh_Zq w Y Q below args s) (F0 m0 pc ls (rh_a w (t5, m) :: rh_a w (t4, dp) :: va_rf (rh_r (rw_b w) r1) :: rh_a w (t2, sp) :: va_rf (rh_r (rw_b w) r) :: S1.map (rh_a w)))
  rw [rh_r_n, rh_r_n, rh_a_i h2, rh_a_i h4, rh_a_i h5]
  refine va_copyi C.1 C.2.1 (by rw [C.2.2.1, g6.1]) C.2.2.2.2.2.1 (hts _ hl) (hts _ hnat) (hts _ hst) (hts _ hin) hX.1 g4 (rh_ws_D w M) g5 r r1 tt tt he he1 (rh_tys_get hT) (rh_tys_get hT) hrk (nn _ hs (by omega)) (nn _ hdp (by omega)) (nn _ hm (by omega)) ?_ ?_ ?_ (by omega) ?_ hd ?_
  · rw [z0 _ hs (by omega), z0 _ hm (by omega)]; omega
  · rw [z0 _ hdp (by omega), z0 _ hm (by omega)]; omega
  · intro i hi
    rw [z0 _ hm (by omega)] at hi
    rw [z0 _ hs (by omega)]
    have := (rh_nar (b := 0) (hrgs ((sp.toNat + i : Nat) : Int) (by omega) (by omega)) (Or.inl hty)).2
    rw [rh_v_i hty] at this
    exact this
  · have hnw : nativeFrameWords "java/lang/System" "arraycopy" 5 ≤ 60 := by decide
    omega
  · rw [z0 _ hs (by omega), z0 _ hdp (by omega), z0 _ hm (by omega), hset]
    exact fun H1 locs1 q1 _ q3 => K p l e R s m0 args below meth c H1 locs1 ls C ⟨hwm, g2, rh_okt (rh_okt (rh_okt (rh_okt (rh_okt g3)))), q1, q3, g6⟩
end RhCopy

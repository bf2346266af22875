/-! ===== texts: constants, calls, their bytes ===== -/
section RhTexts
variable {w : rhW} {Y : rhY} {n : Nat} {k : Nat × Nat × Nat × Nat} {Z : List Frame → Array Value → State → State → Prop} {pc : Nat} {L : rhL} {S S1 : List rhA} {M : rhM}
theorem rh_ldcT (pc' : Nat) {i : Nat} {q : String × Nat × String × List Int} (hq : rh_st[i]? = some q) (ho : (ry_y Y).cls = q.1) (hd : decode (ry_c Y) pc = .ok (.ldc q.2.1, 2)) (hp : pc + 2 = pc') (K : rh_At w Y n k Z pc' L ((9, (i : Int)) :: S) M) : rh_At w Y n k Z pc L S M := by
  subst hp
  intro p l e R s m args below meth c H locs ls C D
  obtain ⟨g1, g2, g3, g4, g5⟩ := D
  have hX := C.2.2.2.2.2.2.2.2.1
  have hown := C.2.2.2.2.2.1
  rw [ho] at hown
  exact va_ldcS C.1 C.2.1 hown (hX.2.2.2.1 i q hq) hd (K p l e R s m args below meth c H locs ls C ⟨g1, g2, rh_okc (a := (9, (i : Int))) trivial g3, g4, g5⟩)
theorem rh_ldwT (pc' : Nat) {i : Nat} {q : String × Nat × String × List Int} (hq : rh_st[i]? = some q) (ho : (ry_y Y).cls = q.1) (hd : decode (ry_c Y) pc = .ok (.ldc_w q.2.1, 3)) (hp : pc + 3 = pc') (K : rh_At w Y n k Z pc' L ((9, (i : Int)) :: S) M) : rh_At w Y n k Z pc L S M := by
  subst hp
  intro p l e R s m args below meth c H locs ls C D
  obtain ⟨g1, g2, g3, g4, g5⟩ := D
  have hX := C.2.2.2.2.2.2.2.2.1
  have hown := C.2.2.2.2.2.1
  rw [ho] at hown
  have hZ := hX.2.2.2.1 i q hq
  have KK := K p l e R s m args below meth c H locs ls C ⟨g1, g2, rh_okc (a := (9, (i : Int))) trivial g3, g4, g5⟩
  intro T hT X
  obtain ⟨t, a1, b1⟩ := KK T hT X
  exact ⟨t, X.ldcStringW C.1 hown (text := q.2.2.1) (a := rw_k w i) hZ.1 hZ.2 (g := F0 m pc ls (S.map (rh_a w))) rfl (by rw [C.2.1]; exact hd) t a1, b1⟩
/-- its bytes, its coder -/
theorem rh_valT (pc' : Nat) {i idx : Nat} (hi : i < rh_st.length) (hl : Cond.fieldLink (ry_y Y).cls idx "java/lang/String" "value" "[B" ∈ lw_all) (hd : decode (ry_c Y) pc = .ok (.getfield idx, 3)) (hp : pc + 3 = pc') (K : rh_At w Y n k Z pc' L ((10, (i : Int)) :: S) M) : rh_At w Y n k Z pc L ((9, (i : Int)) :: S) M := by
  subst hp
  intro p l e R s m args below meth c H locs ls C D
  obtain ⟨g1, g2, g3, g4, g5⟩ := D
  have hX := C.2.2.2.2.2.2.2.2.1
  have hts := C.2.2.2.2.2.2.2.1
  exact vk_getf C.1 C.2.1 (hX.2.2.2.2.1.1 i hi).2.2.1 g5.1 C.2.2.2.2.2.1 (hts _ hl) (fun _ h => h) hd (K p l e R s m args below meth c H locs ls C ⟨g1, g2, rh_okc (a := (10, (i : Int))) trivial (rh_okt g3), g4, g5⟩)
theorem rh_codT (pc' : Nat) {i idx : Nat} (hi : i < rh_st.length) (hl : Cond.fieldLink (ry_y Y).cls idx "java/lang/String" "coder" "B" ∈ lw_all) (hd : decode (ry_c Y) pc = .ok (.getfield idx, 3)) (hp : pc + 3 = pc') (K : rh_At w Y n k Z pc' L ((0, 0) :: S) M) : rh_At w Y n k Z pc L ((9, (i : Int)) :: S) M := by
  subst hp
  intro p l e R s m args below meth c H locs ls C D
  obtain ⟨g1, g2, g3, g4, g5⟩ := D
  have hX := C.2.2.2.2.2.2.2.2.1
  have hts := C.2.2.2.2.2.2.2.1
  exact vk_getf C.1 C.2.1 (hX.2.2.2.2.1.1 i hi).2.1 g5.1 C.2.2.2.2.2.1 (hts _ hl) (fun _ h => h) hd (K p l e R s m args below meth c H locs ls C ⟨g1, g2, rh_okc (a := (0, 0)) (show rI 0 from ⟨by decide, by decide⟩) (rh_okt g3), g4, g5⟩)
/-- a call through a text -/
theorem rh_callT (pc' : Nat) {Y' : rhY} {idx mc ms n' : Nat} {kd' : Nat → rhK} {rf' : Nat → Nat → Option Nat} {av : List rhA} {i : Nat} (hi : i < rh_st.length) (hd : decode (ry_c Y) pc = .ok (.invokevirtual idx, 3)) (hl : Cond.methodLink (ry_y Y).cls idx (ry_y Y') ∈ lw_all) (him : Cond.instanceMethod (ry_y Y') ∈ lw_all) (hse : Cond.selects "java/lang/String" (ry_y Y') (ry_y Y') ∈ lw_all) (hin : Cond.initialized "java/lang/String" ∈ lw_all) (hcd : Cond.code (ry_y Y') (ry_c Y') (ry_L Y') (ry_r Y') ∈ lw_all)
    (hy : (ry_y Y').cls = "java/lang/String" ∧ (ry_y Y').cls ≠ "java/lang/invoke/MethodHandle" ∧ (ry_y Y').cls ≠ "java/lang/invoke/VarHandle" ∧ (parseMethodDescriptor (ry_y Y').desc).map (fun d => d.parameters.length) = some av.length) (hm : ry_L Y' ≤ 81) (hro : rh_rok (ry_r Y') = true) (hS : S = av.reverse ++ (9, (i : Int)) :: S1) (hS1 : rh_wd S1 ≤ 8) (hn : n' = rw_n w + mc ∧ (rw_g w = true ∨ mc = 0)) (hk1 : k.1 + mc ≤ k.2.2.1) (hk2 : k.2.1 + ms ≤ k.2.2.2) (hp : pc + 3 = pc') (K : rh_OKg w (rh_up w n' kd' rf') Y' n mc ms ((9, (i : Int)) :: av) M (fun r M' => rh_At (rh_up w n' kd' rf') Y (n + 1) (k.1 + mc, k.2.1 + ms, k.2.2.1, k.2.2.2) Z pc' L (rh_res (ry_r Y') r S1) M')) : rh_At w Y (n + 1) k Z pc L S M := by
  subst hp
  subst hS
  intro p l e R s m args below meth c H locs ls C D
  obtain ⟨g1, g2, g3, g4, g5, g6⟩ := D
  refine rh_tight C (fun htg => ?_)
  have hts := C.2.2.2.2.2.2.2.1
  have hX := C.2.2.2.2.2.2.2.2.1
  have hok : ∀ z ∈ (9, (i : Int)) :: av, rh_ok z := by
    intro z hz
    rcases List.mem_cons.mp hz with rfl | hz
    · trivial
    · exact g3 z (List.mem_append_left _ (List.mem_reverse.mpr hz))
  have hok1 : ∀ z ∈ S1, rh_ok z := fun z hz => g3 z (List.mem_append_right _ (List.mem_cons_of_mem _ hz))
  have hsum : (List.map (fun v => v.category) (S1.map (rh_a w))).sum ≤ 8 := by rw [rh_wd_sum]; exact hS1
  have hrecv := vk_recv hX.2.2.2.2.1 hi g5
  have hb9 : rh_a w (9, (i : Int)) = .ref (rw_k w i) := rfl
  have hpre := rh_preS C g1 hok g4 g5 htg
  rw [List.map_cons, hb9] at hpre
  refine rh_after hro (va_runV (As := av.map (rh_a w)) (b := rw_k w i) (C := "java/lang/String") ⟨C.1, C.2.1, C.2.2.1, C.2.2.2.2.2.1, hts⟩ (K l) (cwV av.length hts (lw_V hl him hse hin hcd) rfl rfl rfl hy ⟨?_, ?_⟩) ⟨rh_blind, hrecv, hpre⟩ rfl (List.length_map _) g6.1 ?_ (lv_room hsum) hd ⟨?_, ?_⟩) hn hk1 hk2 C g2 hok1 g5 g6
  · exact C.2.2.2.2.2.2.2.2.2.1
  · have := C.2.2.2.2.2.2.2.2.2.2.1
    show 8 + (ry_L Y' + 11) + 100 * n ≤ R.locals
    omega
  · simp [hb9]
  · exact Nat.le_trans hk1 C.2.2.2.2.2.2.2.2.2.2.2.1
  · exact Nat.le_trans hk2 C.2.2.2.2.2.2.2.2.2.2.2.2.1
theorem st_len {i : Nat} {q : String × Nat × String × List Int} (hq : rh_st[i]? = some q) : (rh_st.map fun q => q.2.2.2.length).getD i 0 = q.2.2.2.length := by
  rw [List.getD_eq_getElem?_getD, List.getElem?_map, hq]
  rfl
theorem st_byt {i : Nat} {q : String × Nat × String × List Int} (hq : rh_st[i]? = some q) (j : Nat) (hj : j < q.2.2.2.length) : (((rh_st.map fun q => q.2.2.2.map fun x => rhI x).getD i []).getD j 0) = rhI (q.2.2.2.getD j 0) := by
  rw [List.getD_eq_getElem?_getD (l := rh_st.map _), List.getElem?_map, hq]
  show (q.2.2.2.map fun x => rhI x).getD j 0 = _
  rw [List.getD_eq_getElem?_getD, List.getD_eq_getElem?_getD, List.getElem?_map, List.getElem?_eq_getElem hj]
  rfl
theorem st_lt {i : Nat} {q : String × Nat × String × List Int} (hq : rh_st[i]? = some q) : i < rh_st.length := (List.getElem?_eq_some_iff.mp hq).1
/-- a byte of a text -/
theorem rh_baT (pc' : Nat) {i t : Nat} {j : Int} {q : String × Nat × String × List Int} (hq : rh_st[i]? = some q) (hd : decode (ry_c Y) pc = .ok (.baload, 1)) (ht : rh_ik t = true) (hb : 0 ≤ j ∧ j < (q.2.2.2.length : Int)) (hn : q.2.2.2.length ≤ 2147483647) (hr : ∀ a ∈ q.2.2.2, rI a) (hp : pc + 1 = pc') (K : rh_At w Y n k Z pc' L ((0, q.2.2.2.getD j.toNat 0) :: S) M) : rh_At w Y n k Z pc L ((t, j) :: (10, (i : Int)) :: S) M := by
  subst hp
  intro p l e R s m args below meth c H locs ls C D
  obtain ⟨g1, g2, g3, g4, g5⟩ := D
  have hX := C.2.2.2.2.2.2.2.2.1
  have hi : j.toNat < q.2.2.2.length := by omega
  have hv : rI (q.2.2.2.getD j.toNat 0) := by
    rw [List.getD_eq_getElem?_getD, List.getElem?_eq_getElem hi]
    exact hr _ (List.getElem_mem hi)
  have KK := K p l e R s m args below meth c H locs ls C ⟨g1, g2, rh_okc (a := (0, q.2.2.2.getD j.toNat 0)) hv (rh_okt (rh_okt g3)), g4, g5⟩
  have hT := (hX.2.2.2.2.1.1 i (st_lt hq)).2.2.2
  rw [st_len hq] at hT
  show W p l e R s m args below meth c H locs k.1 k.2.1 (Z below args s) (F0 m pc ls (rh_a w (t, j) :: .ref (rw_v w i) :: S.map (rh_a w)))
  rw [rh_a_i ht]
  refine va_tb C.1 C.2.1 hT g5.1 (rh_in hb.1 hb.2 hn) (v := .int (rhI (q.2.2.2.getD j.toNat 0))) ?_ hd KK
  rw [rh_cl ⟨by omega, by omega⟩, st_byt hq _ hi]
theorem rh_lenT (pc' : Nat) {i : Nat} {q : String × Nat × String × List Int} (hq : rh_st[i]? = some q) (hd : decode (ry_c Y) pc = .ok (.arraylength, 1)) (hn : q.2.2.2.length ≤ 2147483647) (hp : pc + 1 = pc') (K : rh_At w Y n k Z pc' L ((0, (q.2.2.2.length : Int)) :: S) M) : rh_At w Y n k Z pc L ((10, (i : Int)) :: S) M := by
  subst hp
  intro p l e R s m args below meth c H locs ls C D
  obtain ⟨g1, g2, g3, g4, g5⟩ := D
  have hX := C.2.2.2.2.2.2.2.2.1
  have KK := K p l e R s m args below meth c H locs ls C ⟨g1, g2, rh_okc (a := (0, (q.2.2.2.length : Int))) (show rI _ from ⟨by omega, by omega⟩) (rh_okt g3), g4, g5⟩
  have hT := (hX.2.2.2.2.1.1 i (st_lt hq)).2.2.2
  rw [st_len hq] at hT
  exact va_tlen C.1 C.2.1 hT g5.1 (v := rhI (q.2.2.2.length : Int)) Int32.ofInt_eq_ofNat.symm hd KK
theorem rh_cmpT (pc' : Nat) {idx : Nat} (hl : Cond.fieldLink (ry_y Y).cls idx "java/lang/String" "COMPACT_STRINGS" "Z" ∈ lw_all) (hd : decode (ry_c Y) pc = .ok (.getstatic idx, 3)) (hp : pc + 3 = pc') (K : rh_At w Y n k Z pc' L ((0, 1) :: S) M) : rh_At w Y n k Z pc L S M := by
  subst hp
  intro p l e R s m args below meth c H locs ls C D
  obtain ⟨g1, g2, g3, g4, g5⟩ := D
  have hts := C.2.2.2.2.2.2.2.1
  have hX := C.2.2.2.2.2.2.2.2.1
  have KK := K p l e R s m args below meth c H locs ls C ⟨g1, g2, rh_okc (a := (0, 1)) (show rI 1 from ⟨by decide, by decide⟩) g3, g4, g5⟩
  exact va_gets C.1 C.2.1 hX.2.2.2.2.2.1 g5.1 C.2.2.2.2.2.1 (hts _ hl) (fun _ h => h) hd KK
/-- the JDK's maker of exceptions: null, or a reference that is named as text 18 -/
theorem rh_sio (pc' : Nat) {idx : Nat} (hl : Cond.fieldLink (ry_y Y).cls idx "jdk/internal/util/Preconditions" "SIOOBE_FORMATTER" "Ljava/util/function/BiFunction;" ∈ lw_all) (hd : decode (ry_c Y) pc = .ok (.getstatic idx, 3)) (hp : pc + 3 = pc') (K : ∀ z : rhA, (z = (2, -1) ∨ z = (9, 18)) → rh_At w Y n k Z pc' L (z :: S) M) : rh_At w Y n k Z pc L S M := by
  subst hp
  intro p l e R s m args below meth c H locs ls C D
  obtain ⟨g1, g2, g3, g4, g5⟩ := D
  have hts := C.2.2.2.2.2.2.2.1
  have hX := C.2.2.2.2.2.2.2.2.1
  rcases hX.2.2.2.2.2.2 with hz | hz
  · exact va_gets C.1 C.2.1 hz g5.1 C.2.2.2.2.2.1 (hts _ hl) (fun _ h => h) hd (K (2, -1) (.inl rfl) p l e R s m args below meth c H locs ls C ⟨g1, g2, rh_okc (a := (2, -1)) trivial g3, g4, g5⟩)
  · exact va_gets C.1 C.2.1 hz g5.1 C.2.2.2.2.2.1 (hts _ hl) (fun _ h => h) hd (K (9, 18) (.inr rfl) p l e R s m args below meth c H locs ls C ⟨g1, g2, rh_okc (a := (9, 18)) trivial g3, g4, g5⟩)
end RhTexts

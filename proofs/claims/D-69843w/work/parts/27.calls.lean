/-! ===== calls: a lemma for every one that isn't told in one step ===== -/
theorem rh_obl {lo hi : Nat} {w : rhW} (hs : rh_sd lo hi w) (r : Int) {ci : Nat} (hc : (match rh_ceN lo hi r with | some (.inl [c], _) => Nat.beq c ci | _ => false) = true) : rh_ob w r ci := by
  split at hc
  · rename_i c l hce
    obtain rfl := Nat.eq_of_beq_eq_true hc
    obtain ⟨c2, hm, hob⟩ := (rh_ceN_ok (e := ([], [], w)) hs hce).1 _ rfl
    rw [List.mem_singleton] at hm
    subst hm
    exact hob
  · cases hc
theorem rh_obk {w : rhW} {t : Nat} {cis : List Nat} {x p : Int} (hc : rh_tcl t cis = true) (hb : rh_bl w t x p) : ∃ c ∈ cis, rh_ob w x c := by
  unfold rh_tcl at hc
  split at hc
  · rename_i cs q hq
    obtain ⟨ci, hm, hob⟩ := (hb.2 0 _ hq).1
    exact ⟨ci, by simpa using List.all_eq_true.mp hc ci hm, by simpa using hob⟩
  · cases hc
theorem eS.fx {w : rhW} {Y : rhY} {h pc : Nat} {L : rhL} {S S' : List rhA} {M : rhM} {x : Int} (j : Nat) (hj : S[j]? = some (3, x)) (hr : rI x) (hS : S.set j (0, x) = S') : eS w Y h pc L S M pc L S' M := fun _ _ K n => rh_fx j hj hr hS (K n)
theorem eS.fxl {w : rhW} {Y : rhY} {h pc : Nat} {L : rhL} {S S' : List rhA} {M : rhM} {x : Int} (j : Nat) (hj : S[j]? = some (4, x)) (hr : rL x) (hS : S.set j (1, x) = S') : eS w Y h pc L S M pc L S' M := fun _ _ K n => rh_fxl j hj hr hS (K n)
theorem q4187 : (Jvm.Cond.methodLink "ReadingHouseModel" (674 : Nat) ({ cls := "ReadingHouseModel", name := "skipPictureBlanks", desc := "()V" } : Jvm.MethodName)) ∈ lw_all := lw_g (lw_at lw_m17 94 rfl) rfl
theorem jX32_pictureNumber_674 {w : rhW} : ∀ ci ∈ ([29] : List Nat), rh_cvr w YX32_pictureNumber YX32_skipPictureBlanks 674 0 ci := rh_one (rh_cvr.of rfl (Or.inl q4187) kX32_skipPictureBlanks)
theorem vX32_pictureNumber_1 {w : rhW} (hw : rh_ms w) {L : rhL} {S1 : List rhA} {M M0 : rhM} {r : Int} (E : eC w YX32_skipPictureBlanks 1 [(2, 0)] M r M0) (hw1 : rh_wd S1 ≤ 8) : eS w YX32_pictureNumber 2 1 L ((2, 0) :: S1) M 4 L S1 M0 := by
  have hd : decode (ry_c YX32_pictureNumber) 1 = .ok (.invokevirtual 674, 3) := (tdX32_pictureNumber 1).resolve_right (by decide +kernel) ▸ (by decide +kernel : rh_dk dtX32_pictureNumber 1 = .ok (.invokevirtual 674, 3))
  exact fun _ _ K => eA.cv (jX32_pictureNumber_674 29 (by decide)) (rh_obl hw 0 (by decide +kernel)) (by decide) hd rfl hw1 rfl E K
theorem q4183 : (Jvm.Cond.methodLink "ReadingHouseModel" (689 : Nat) ({ cls := "ReadingHouseModel", name := "pictureNumber", desc := "(II)I" } : Jvm.MethodName)) ∈ lw_all := lw_g (lw_at lw_m17 90 rfl) rfl
theorem jX32_textPicture_689 {w : rhW} : ∀ ci ∈ ([29] : List Nat), rh_cvr w YX32_textPicture YX32_pictureNumber 689 2 ci := rh_one (rh_cvr.of rfl (Or.inl q4183) kX32_pictureNumber)
theorem vX32_textPicture_5 {w : rhW} (hw : rh_ms w) {L : rhL} {S1 : List rhA} {M M0 : rhM} {r : Int} {y1 y2 : Int} (E : eC w YX32_pictureNumber 2 [(2, 0), (0, y1), (0, y2)] M r M0) (hw1 : rh_wd S1 ≤ 8) : eS w YX32_textPicture 3 5 L ((0, y2) :: (0, y1) :: (2, 0) :: S1) M 8 L ((0, r) :: S1) M0 := by
  have hd : decode (ry_c YX32_textPicture) 5 = .ok (.invokevirtual 689, 3) := (tdX32_textPicture 5).resolve_right (by decide +kernel) ▸ (by decide +kernel : rh_dk dtX32_textPicture 5 = .ok (.invokevirtual 689, 3))
  exact fun _ _ K => eA.cv (jX32_textPicture_689 29 (by decide)) (rh_obl hw 0 (by decide +kernel)) (by decide) hd rfl hw1 rfl E K
theorem vX32_textPicture_29 {w : rhW} (hw : rh_ms w) {L : rhL} {S1 : List rhA} {M M0 : rhM} {r : Int} {y1 y2 : Int} (E : eC w YX32_pictureNumber 2 [(2, 0), (0, y1), (0, y2)] M r M0) (hw1 : rh_wd S1 ≤ 8) : eS w YX32_textPicture 3 29 L ((0, y2) :: (0, y1) :: (2, 0) :: S1) M 32 L ((0, r) :: S1) M0 := by
  have hd : decode (ry_c YX32_textPicture) 29 = .ok (.invokevirtual 689, 3) := (tdX32_textPicture 29).resolve_right (by decide +kernel) ▸ (by decide +kernel : rh_dk dtX32_textPicture 29 = .ok (.invokevirtual 689, 3))
  exact fun _ _ K => eA.cv (jX32_textPicture_689 29 (by decide)) (rh_obl hw 0 (by decide +kernel)) (by decide) hd rfl hw1 rfl E K
theorem vX32_textPicture_50 {w : rhW} (hw : rh_ms w) {L : rhL} {S1 : List rhA} {M M0 : rhM} {r : Int} {y1 y2 : Int} (E : eC w YX32_pictureNumber 2 [(2, 0), (0, y1), (0, y2)] M r M0) (hw1 : rh_wd S1 ≤ 8) : eS w YX32_textPicture 3 50 L ((0, y2) :: (0, y1) :: (2, 0) :: S1) M 53 L ((0, r) :: S1) M0 := by
  have hd : decode (ry_c YX32_textPicture) 50 = .ok (.invokevirtual 689, 3) := (tdX32_textPicture 50).resolve_right (by decide +kernel) ▸ (by decide +kernel : rh_dk dtX32_textPicture 50 = .ok (.invokevirtual 689, 3))
  exact fun _ _ K => eA.cv (jX32_textPicture_689 29 (by decide)) (rh_obl hw 0 (by decide +kernel)) (by decide) hd rfl hw1 rfl E K
theorem vX32_textPicture_82 {w : rhW} (hw : rh_ms w) {L : rhL} {S1 : List rhA} {M M0 : rhM} {r : Int} {y1 y2 : Int} (E : eC w YX32_pictureNumber 2 [(2, 0), (0, y1), (0, y2)] M r M0) (hw1 : rh_wd S1 ≤ 8) : eS w YX32_textPicture 3 82 L ((0, y2) :: (0, y1) :: (2, 0) :: S1) M 85 L ((0, r) :: S1) M0 := by
  have hd : decode (ry_c YX32_textPicture) 82 = .ok (.invokevirtual 689, 3) := (tdX32_textPicture 82).resolve_right (by decide +kernel) ▸ (by decide +kernel : rh_dk dtX32_textPicture 82 = .ok (.invokevirtual 689, 3))
  exact fun _ _ K => eA.cv (jX32_textPicture_689 29 (by decide)) (rh_obl hw 0 (by decide +kernel)) (by decide) hd rfl hw1 rfl E K
theorem jX32_textPicture_674 {w : rhW} : ∀ ci ∈ ([29] : List Nat), rh_cvr w YX32_textPicture YX32_skipPictureBlanks 674 0 ci := rh_one (rh_cvr.of rfl (Or.inl q4187) kX32_skipPictureBlanks)
theorem vX32_textPicture_122 {w : rhW} (hw : rh_ms w) {L : rhL} {S1 : List rhA} {M M0 : rhM} {r : Int} (E : eC w YX32_skipPictureBlanks 1 [(2, 0)] M r M0) (hw1 : rh_wd S1 ≤ 8) : eS w YX32_textPicture 3 122 L ((2, 0) :: S1) M 125 L S1 M0 := by
  have hd : decode (ry_c YX32_textPicture) 122 = .ok (.invokevirtual 674, 3) := (tdX32_textPicture 122).resolve_right (by decide +kernel) ▸ (by decide +kernel : rh_dk dtX32_textPicture 122 = .ok (.invokevirtual 674, 3))
  exact fun _ _ K => eA.cv (jX32_textPicture_674 29 (by decide)) (rh_obl hw 0 (by decide +kernel)) (by decide) hd rfl hw1 rfl E K
theorem q4202 : (Jvm.Cond.methodLink "ReadingHouseModel" (696 : Nat) ({ cls := "ReadingHouseModel", name := "becomes", desc := "(III)V" } : Jvm.MethodName)) ∈ lw_all := lw_g (lw_at lw_m17 109 rfl) rfl
theorem jX32_textPicture_696 {w : rhW} : ∀ ci ∈ ([29] : List Nat), rh_cvr w YX32_textPicture YX32_becomes 696 3 ci := rh_one (rh_cvr.of rfl (Or.inl q4202) kX32_becomes)
theorem vX32_textPicture_164 {w : rhW} (hw : rh_ms w) {L : rhL} {S1 : List rhA} {M M0 : rhM} {r : Int} {y1 y2 y3 : Int} (E : eC w YX32_becomes 1 [(2, 0), (0, y1), (0, y2), (0, y3)] M r M0) (hw1 : rh_wd S1 ≤ 8) : eS w YX32_textPicture 3 164 L ((0, y3) :: (0, y2) :: (0, y1) :: (2, 0) :: S1) M 167 L S1 M0 := by
  have hd : decode (ry_c YX32_textPicture) 164 = .ok (.invokevirtual 696, 3) := (tdX32_textPicture 164).resolve_right (by decide +kernel) ▸ (by decide +kernel : rh_dk dtX32_textPicture 164 = .ok (.invokevirtual 696, 3))
  exact fun _ _ K => eA.cv (jX32_textPicture_696 29 (by decide)) (rh_obl hw 0 (by decide +kernel)) (by decide) hd rfl hw1 rfl E K
theorem q4214 : (Jvm.Cond.methodLink "ReadingHouseModel" (700 : Nat) ({ cls := "ReadingHouseModel", name := "takeByte", desc := "()I" } : Jvm.MethodName)) ∈ lw_all := lw_g (lw_at lw_m17 121 rfl) rfl
theorem jX32_bitRow_700 {w : rhW} : ∀ ci ∈ ([29] : List Nat), rh_cvr w YX32_bitRow YX32_takeByte 700 0 ci := rh_one (rh_cvr.of rfl (Or.inl q4214) kX32_takeByte)
theorem vX32_bitRow_22 {w : rhW} (hw : rh_ms w) {L : rhL} {S1 : List rhA} {M M0 : rhM} {r : Int} (E : eC w YX32_takeByte 0 [(2, 0)] M r M0) (hw1 : rh_wd S1 ≤ 8) : eS w YX32_bitRow 1 22 L ((2, 0) :: S1) M 25 L ((0, r) :: S1) M0 := by
  have hd : decode (ry_c YX32_bitRow) 22 = .ok (.invokevirtual 700, 3) := (tdX32_bitRow 22).resolve_right (by decide +kernel) ▸ (by decide +kernel : rh_dk dtX32_bitRow 22 = .ok (.invokevirtual 700, 3))
  exact fun _ _ K => eA.cv (jX32_bitRow_700 29 (by decide)) (rh_obl hw 0 (by decide +kernel)) (by decide) hd rfl hw1 rfl E K
theorem jX32_runRow_700 {w : rhW} : ∀ ci ∈ ([29] : List Nat), rh_cvr w YX32_runRow YX32_takeByte 700 0 ci := rh_one (rh_cvr.of rfl (Or.inl q4214) kX32_takeByte)
theorem vX32_runRow_22 {w : rhW} (hw : rh_ms w) {L : rhL} {S1 : List rhA} {M M0 : rhM} {r : Int} (E : eC w YX32_takeByte 0 [(2, 0)] M r M0) (hw1 : rh_wd S1 ≤ 8) : eS w YX32_runRow 1 22 L ((2, 0) :: S1) M 25 L ((0, r) :: S1) M0 := by
  have hd : decode (ry_c YX32_runRow) 22 = .ok (.invokevirtual 700, 3) := (tdX32_runRow 22).resolve_right (by decide +kernel) ▸ (by decide +kernel : rh_dk dtX32_runRow 22 = .ok (.invokevirtual 700, 3))
  exact fun _ _ K => eA.cv (jX32_runRow_700 29 (by decide)) (rh_obl hw 0 (by decide +kernel)) (by decide) hd rfl hw1 rfl E K
theorem vX32_runRow_97 {w : rhW} (hw : rh_ms w) {L : rhL} {S1 : List rhA} {M M0 : rhM} {r : Int} (E : eC w YX32_takeByte 0 [(2, 0)] M r M0) (hw1 : rh_wd S1 ≤ 8) : eS w YX32_runRow 1 97 L ((2, 0) :: S1) M 100 L ((0, r) :: S1) M0 := by
  have hd : decode (ry_c YX32_runRow) 97 = .ok (.invokevirtual 700, 3) := (tdX32_runRow 97).resolve_right (by decide +kernel) ▸ (by decide +kernel : rh_dk dtX32_runRow 97 = .ok (.invokevirtual 700, 3))
  exact fun _ _ K => eA.cv (jX32_runRow_700 29 (by decide)) (rh_obl hw 0 (by decide +kernel)) (by decide) hd rfl hw1 rfl E K
theorem vX32_runRow_147 {w : rhW} (hw : rh_ms w) {L : rhL} {S1 : List rhA} {M M0 : rhM} {r : Int} (E : eC w YX32_takeByte 0 [(2, 0)] M r M0) (hw1 : rh_wd S1 ≤ 8) : eS w YX32_runRow 1 147 L ((2, 0) :: S1) M 150 L ((0, r) :: S1) M0 := by
  have hd : decode (ry_c YX32_runRow) 147 = .ok (.invokevirtual 700, 3) := (tdX32_runRow 147).resolve_right (by decide +kernel) ▸ (by decide +kernel : rh_dk dtX32_runRow 147 = .ok (.invokevirtual 700, 3))
  exact fun _ _ K => eA.cv (jX32_runRow_700 29 (by decide)) (rh_obl hw 0 (by decide +kernel)) (by decide) hd rfl hw1 rfl E K
theorem jX32_bytePicture_700 {w : rhW} : ∀ ci ∈ ([29] : List Nat), rh_cvr w YX32_bytePicture YX32_takeByte 700 0 ci := rh_one (rh_cvr.of rfl (Or.inl q4214) kX32_takeByte)
theorem vX32_bytePicture_1 {w : rhW} (hw : rh_ms w) {L : rhL} {S1 : List rhA} {M M0 : rhM} {r : Int} (E : eC w YX32_takeByte 0 [(2, 0)] M r M0) (hw1 : rh_wd S1 ≤ 8) : eS w YX32_bytePicture 2 1 L ((2, 0) :: S1) M 4 L ((0, r) :: S1) M0 := by
  have hd : decode (ry_c YX32_bytePicture) 1 = .ok (.invokevirtual 700, 3) := (tdX32_bytePicture 1).resolve_right (by decide +kernel) ▸ (by decide +kernel : rh_dk dtX32_bytePicture 1 = .ok (.invokevirtual 700, 3))
  exact fun _ _ K => eA.cv (jX32_bytePicture_700 29 (by decide)) (rh_obl hw 0 (by decide +kernel)) (by decide) hd rfl hw1 rfl E K
theorem vX32_bytePicture_39 {w : rhW} (hw : rh_ms w) {L : rhL} {S1 : List rhA} {M M0 : rhM} {r : Int} (E : eC w YX32_takeByte 0 [(2, 0)] M r M0) (hw1 : rh_wd S1 ≤ 8) : eS w YX32_bytePicture 2 39 L ((2, 0) :: S1) M 42 L ((0, r) :: S1) M0 := by
  have hd : decode (ry_c YX32_bytePicture) 39 = .ok (.invokevirtual 700, 3) := (tdX32_bytePicture 39).resolve_right (by decide +kernel) ▸ (by decide +kernel : rh_dk dtX32_bytePicture 39 = .ok (.invokevirtual 700, 3))
  exact fun _ _ K => eA.cv (jX32_bytePicture_700 29 (by decide)) (rh_obl hw 0 (by decide +kernel)) (by decide) hd rfl hw1 rfl E K
theorem q4223 : (Jvm.Cond.methodLink "ReadingHouseModel" (708 : Nat) ({ cls := "ReadingHouseModel", name := "runRow", desc := "(II)V" } : Jvm.MethodName)) ∈ lw_all := lw_g (lw_at lw_m17 130 rfl) rfl
theorem jX32_bytePicture_708 {w : rhW} : ∀ ci ∈ ([29] : List Nat), rh_cvr w YX32_bytePicture YX32_runRow 708 2 ci := rh_one (rh_cvr.of rfl (Or.inl q4223) kX32_runRow)
theorem vX32_bytePicture_96 {w : rhW} (hw : rh_ms w) {L : rhL} {S1 : List rhA} {M M0 : rhM} {r : Int} {y1 y2 : Int} (E : eC w YX32_runRow 1 [(2, 0), (0, y1), (0, y2)] M r M0) (hw1 : rh_wd S1 ≤ 8) : eS w YX32_bytePicture 2 96 L ((0, y2) :: (0, y1) :: (2, 0) :: S1) M 99 L S1 M0 := by
  have hd : decode (ry_c YX32_bytePicture) 96 = .ok (.invokevirtual 708, 3) := (tdX32_bytePicture 96).resolve_right (by decide +kernel) ▸ (by decide +kernel : rh_dk dtX32_bytePicture 96 = .ok (.invokevirtual 708, 3))
  exact fun _ _ K => eA.cv (jX32_bytePicture_708 29 (by decide)) (rh_obl hw 0 (by decide +kernel)) (by decide) hd rfl hw1 rfl E K
theorem q4227 : (Jvm.Cond.methodLink "ReadingHouseModel" (712 : Nat) ({ cls := "ReadingHouseModel", name := "bitRow", desc := "(II)V" } : Jvm.MethodName)) ∈ lw_all := lw_g (lw_at lw_m17 134 rfl) rfl
theorem jX32_bytePicture_712 {w : rhW} : ∀ ci ∈ ([29] : List Nat), rh_cvr w YX32_bytePicture YX32_bitRow 712 2 ci := rh_one (rh_cvr.of rfl (Or.inl q4227) kX32_bitRow)
theorem vX32_bytePicture_106 {w : rhW} (hw : rh_ms w) {L : rhL} {S1 : List rhA} {M M0 : rhM} {r : Int} {y1 y2 : Int} (E : eC w YX32_bitRow 1 [(2, 0), (0, y1), (0, y2)] M r M0) (hw1 : rh_wd S1 ≤ 8) : eS w YX32_bytePicture 2 106 L ((0, y2) :: (0, y1) :: (2, 0) :: S1) M 109 L S1 M0 := by
  have hd : decode (ry_c YX32_bytePicture) 106 = .ok (.invokevirtual 712, 3) := (tdX32_bytePicture 106).resolve_right (by decide +kernel) ▸ (by decide +kernel : rh_dk dtX32_bytePicture 106 = .ok (.invokevirtual 712, 3))
  exact fun _ _ K => eA.cv (jX32_bytePicture_712 29 (by decide)) (rh_obl hw 0 (by decide +kernel)) (by decide) hd rfl hw1 rfl E K
theorem jX32_bytePicture_696 {w : rhW} : ∀ ci ∈ ([29] : List Nat), rh_cvr w YX32_bytePicture YX32_becomes 696 3 ci := rh_one (rh_cvr.of rfl (Or.inl q4202) kX32_becomes)
theorem vX32_bytePicture_155 {w : rhW} (hw : rh_ms w) {L : rhL} {S1 : List rhA} {M M0 : rhM} {r : Int} {y1 y2 y3 : Int} (E : eC w YX32_becomes 1 [(2, 0), (0, y1), (0, y2), (0, y3)] M r M0) (hw1 : rh_wd S1 ≤ 8) : eS w YX32_bytePicture 2 155 L ((0, y3) :: (0, y2) :: (0, y1) :: (2, 0) :: S1) M 158 L S1 M0 := by
  have hd : decode (ry_c YX32_bytePicture) 155 = .ok (.invokevirtual 696, 3) := (tdX32_bytePicture 155).resolve_right (by decide +kernel) ▸ (by decide +kernel : rh_dk dtX32_bytePicture 155 = .ok (.invokevirtual 696, 3))
  exact fun _ _ K => eA.cv (jX32_bytePicture_696 29 (by decide)) (rh_obl hw 0 (by decide +kernel)) (by decide) hd rfl hw1 rfl E K
theorem q4179 : (Jvm.Cond.methodLink "ReadingHouseModel" (717 : Nat) ({ cls := "ReadingHouseModel", name := "textPicture", desc := "(I)V" } : Jvm.MethodName)) ∈ lw_all := lw_g (lw_at lw_m17 86 rfl) rfl
theorem jX32_picture_717 {w : rhW} : ∀ ci ∈ ([29] : List Nat), rh_cvr w YX32_picture YX32_textPicture 717 1 ci := rh_one (rh_cvr.of rfl (Or.inl q4179) kX32_textPicture)
theorem vX32_picture_47 {w : rhW} (hw : rh_ms w) {L : rhL} {S1 : List rhA} {M M0 : rhM} {r : Int} {y1 : Int} (E : eC w YX32_textPicture 3 [(2, 0), (0, y1)] M r M0) (hw1 : rh_wd S1 ≤ 8) : eS w YX32_picture 4 47 L ((0, y1) :: (2, 0) :: S1) M 50 L S1 M0 := by
  have hd : decode (ry_c YX32_picture) 47 = .ok (.invokevirtual 717, 3) := (tdX32_picture 47).resolve_right (by decide +kernel) ▸ (by decide +kernel : rh_dk dtX32_picture 47 = .ok (.invokevirtual 717, 3))
  exact fun _ _ K => eA.cv (jX32_picture_717 29 (by decide)) (rh_obl hw 0 (by decide +kernel)) (by decide) hd rfl hw1 rfl E K
theorem q4210 : (Jvm.Cond.methodLink "ReadingHouseModel" (720 : Nat) ({ cls := "ReadingHouseModel", name := "bytePicture", desc := "(IZ)V" } : Jvm.MethodName)) ∈ lw_all := lw_g (lw_at lw_m17 117 rfl) rfl
theorem jX32_picture_720 {w : rhW} : ∀ ci ∈ ([29] : List Nat), rh_cvr w YX32_picture YX32_bytePicture 720 2 ci := rh_one (rh_cvr.of rfl (Or.inl q4210) kX32_bytePicture)
theorem vX32_picture_65 {w : rhW} (hw : rh_ms w) {L : rhL} {S1 : List rhA} {M M0 : rhM} {r : Int} {y1 y2 : Int} (E : eC w YX32_bytePicture 2 [(2, 0), (0, y1), (0, y2)] M r M0) (hw1 : rh_wd S1 ≤ 8) : eS w YX32_picture 4 65 L ((0, y2) :: (0, y1) :: (2, 0) :: S1) M 68 L S1 M0 := by
  have hd : decode (ry_c YX32_picture) 65 = .ok (.invokevirtual 720, 3) := (tdX32_picture 65).resolve_right (by decide +kernel) ▸ (by decide +kernel : rh_dk dtX32_picture 65 = .ok (.invokevirtual 720, 3))
  exact fun _ _ K => eA.cv (jX32_picture_720 29 (by decide)) (rh_obl hw 0 (by decide +kernel)) (by decide) hd rfl hw1 rfl E K
theorem jX32_blank_696 {w : rhW} : ∀ ci ∈ ([29] : List Nat), rh_cvr w YX32_blank YX32_becomes 696 3 ci := rh_one (rh_cvr.of rfl (Or.inl q4202) kX32_becomes)
theorem vX32_blank_58 {w : rhW} (hw : rh_ms w) {L : rhL} {S1 : List rhA} {M M0 : rhM} {r : Int} {y1 y2 y3 : Int} (E : eC w YX32_becomes 1 [(2, 0), (0, y1), (0, y2), (0, y3)] M r M0) (hw1 : rh_wd S1 ≤ 8) : eS w YX32_blank 2 58 L ((0, y3) :: (0, y2) :: (0, y1) :: (2, 0) :: S1) M 61 L S1 M0 := by
  have hd : decode (ry_c YX32_blank) 58 = .ok (.invokevirtual 696, 3) := (tdX32_blank 58).resolve_right (by decide +kernel) ▸ (by decide +kernel : rh_dk dtX32_blank 58 = .ok (.invokevirtual 696, 3))
  exact fun _ _ K => eA.cv (jX32_blank_696 29 (by decide)) (rh_obl hw 0 (by decide +kernel)) (by decide) hd rfl hw1 rfl E K
theorem q4251 : (Jvm.Cond.methodLink "ReadingHouseModel" (730 : Nat) ({ cls := "ReadingHouseModel", name := "isBox", desc := "(IIIII)Z" } : Jvm.MethodName)) ∈ lw_all := lw_g (lw_at lw_m17 158 rfl) rfl
theorem jX32_paint_730 {w : rhW} : ∀ ci ∈ ([29] : List Nat), rh_cvr w YX32_paint YX32_isBox 730 5 ci := rh_one (rh_cvr.of rfl (Or.inl q4251) kX32_isBox)
theorem vX32_paint_24 {w : rhW} (hw : rh_ms w) {L : rhL} {S1 : List rhA} {M M0 : rhM} {r : Int} {y1 y2 y3 y4 y5 : Int} (E : eC w YX32_isBox 0 [(2, 0), (0, y1), (0, y2), (0, y3), (0, y4), (0, y5)] M r M0) (hw1 : rh_wd S1 ≤ 8) : eS w YX32_paint 3 24 L ((0, y5) :: (0, y4) :: (0, y3) :: (0, y2) :: (0, y1) :: (2, 0) :: S1) M 27 L ((0, r) :: S1) M0 := by
  have hd : decode (ry_c YX32_paint) 24 = .ok (.invokevirtual 730, 3) := (tdX32_paint 24).resolve_right (by decide +kernel) ▸ (by decide +kernel : rh_dk dtX32_paint 24 = .ok (.invokevirtual 730, 3))
  exact fun _ _ K => eA.cv (jX32_paint_730 29 (by decide)) (rh_obl hw 0 (by decide +kernel)) (by decide) hd rfl hw1 rfl E K
theorem q4260 : (Jvm.Cond.methodLink "ReadingHouseModel" (736 : Nat) ({ cls := "ReadingHouseModel", name := "blacks", desc := "(I)I" } : Jvm.MethodName)) ∈ lw_all := lw_g (lw_at lw_m17 167 rfl) rfl
theorem jX32_page_736 {w : rhW} : ∀ ci ∈ ([29] : List Nat), rh_cvr w YX32_page YX32_blacks 736 1 ci := rh_one (rh_cvr.of rfl (Or.inl q4260) kX32_blacks)
theorem vX32_page_68 {w : rhW} (hw : rh_ms w) {L : rhL} {S1 : List rhA} {M M0 : rhM} {r : Int} {y1 : Int} (E : eC w YX32_blacks 0 [(2, 0), (0, y1)] M r M0) (hw1 : rh_wd S1 ≤ 8) : eS w YX32_page 3 68 L ((0, y1) :: (2, 0) :: S1) M 71 L ((0, r) :: S1) M0 := by
  have hd : decode (ry_c YX32_page) 68 = .ok (.invokevirtual 736, 3) := (tdX32_page 68).resolve_right (by decide +kernel) ▸ (by decide +kernel : rh_dk dtX32_page 68 = .ok (.invokevirtual 736, 3))
  exact fun _ _ K => eA.cv (jX32_page_736 29 (by decide)) (rh_obl hw 0 (by decide +kernel)) (by decide) hd rfl hw1 rfl E K
theorem jX32_darkness_730 {w : rhW} : ∀ ci ∈ ([29] : List Nat), rh_cvr w YX32_darkness YX32_isBox 730 5 ci := rh_one (rh_cvr.of rfl (Or.inl q4251) kX32_isBox)
theorem vX32_darkness_24 {w : rhW} (hw : rh_ms w) {L : rhL} {S1 : List rhA} {M M0 : rhM} {r : Int} {y1 y2 y3 y4 y5 : Int} (E : eC w YX32_isBox 0 [(2, 0), (0, y1), (0, y2), (0, y3), (0, y4), (0, y5)] M r M0) (hw1 : rh_wd S1 ≤ 8) : eS w YX32_darkness 3 24 L ((0, y5) :: (0, y4) :: (0, y3) :: (0, y2) :: (0, y1) :: (2, 0) :: S1) M 27 L ((0, r) :: S1) M0 := by
  have hd : decode (ry_c YX32_darkness) 24 = .ok (.invokevirtual 730, 3) := (tdX32_darkness 24).resolve_right (by decide +kernel) ▸ (by decide +kernel : rh_dk dtX32_darkness 24 = .ok (.invokevirtual 730, 3))
  exact fun _ _ K => eA.cv (jX32_darkness_730 29 (by decide)) (rh_obl hw 0 (by decide +kernel)) (by decide) hd rfl hw1 rfl E K
theorem q4289 : (Jvm.Cond.methodLink "ReadingHouseModel" (741 : Nat) ({ cls := "ReadingHouseModel", name := "isGreater", desc := "(JJJJ)Z" } : Jvm.MethodName)) ∈ lw_all := lw_g (lw_at lw_m17 196 rfl) rfl
theorem jX32_levelOf_741 {w : rhW} : rh_csr w YX32_levelOf YX32_isGreater 741 4 := rh_csr.of (Or.inl q4289) kX32_isGreater
theorem vX32_levelOf_210 {w : rhW} {L : rhL} {S1 : List rhA} {M M0 : rhM} {r : Int} {y1 y2 y3 y4 : Int} (E : eC w YX32_isGreater 0 [(1, y1), (1, y2), (1, y3), (1, y4)] M r M0) (hw1 : rh_wd S1 ≤ 8) : eS w YX32_levelOf 1 210 L ((1, y4) :: (1, y3) :: (1, y2) :: (1, y1) :: S1) M 213 L ((0, r) :: S1) M0 := by
  have hd : decode (ry_c YX32_levelOf) 210 = .ok (.invokestatic 741, 3) := (tdX32_levelOf 210).resolve_right (by decide +kernel) ▸ (by decide +kernel : rh_dk dtX32_levelOf 210 = .ok (.invokestatic 741, 3))
  exact fun _ _ K => eA.cs (jX32_levelOf_741) (by decide) hd rfl hw1 rfl E K
theorem q4284 : (Jvm.Cond.methodLink "ReadingHouseModel" (745 : Nat) ({ cls := "ReadingHouseModel", name := "levelOf", desc := "(I)I" } : Jvm.MethodName)) ∈ lw_all := lw_g (lw_at lw_m17 191 rfl) rfl
theorem jX32_level_745 {w : rhW} : ∀ ci ∈ ([29] : List Nat), rh_cvr w YX32_level YX32_levelOf 745 1 ci := rh_one (rh_cvr.of rfl (Or.inl q4284) kX32_levelOf)
theorem vX32_level_15 {w : rhW} (hw : rh_ms w) {L : rhL} {S1 : List rhA} {M M0 : rhM} {r : Int} {y1 : Int} (E : eC w YX32_levelOf 1 [(2, 0), (0, y1)] M r M0) (hw1 : rh_wd S1 ≤ 8) : eS w YX32_level 3 15 L ((0, y1) :: (2, 0) :: S1) M 18 L ((0, r) :: S1) M0 := by
  have hd : decode (ry_c YX32_level) 15 = .ok (.invokevirtual 745, 3) := (tdX32_level 15).resolve_right (by decide +kernel) ▸ (by decide +kernel : rh_dk dtX32_level 15 = .ok (.invokevirtual 745, 3))
  exact fun _ _ K => eA.cv (jX32_level_745 29 (by decide)) (rh_obl hw 0 (by decide +kernel)) (by decide) hd rfl hw1 rfl E K
theorem jX32_black_745 {w : rhW} : ∀ ci ∈ ([29] : List Nat), rh_cvr w YX32_black YX32_levelOf 745 1 ci := rh_one (rh_cvr.of rfl (Or.inl q4284) kX32_levelOf)
theorem vX32_black_116 {w : rhW} (hw : rh_ms w) {L : rhL} {S1 : List rhA} {M M0 : rhM} {r : Int} {y1 : Int} (E : eC w YX32_levelOf 1 [(2, 0), (0, y1)] M r M0) (hw1 : rh_wd S1 ≤ 8) : eS w YX32_black 3 116 L ((0, y1) :: (2, 0) :: S1) M 119 L ((0, r) :: S1) M0 := by
  have hd : decode (ry_c YX32_black) 116 = .ok (.invokevirtual 745, 3) := (tdX32_black 116).resolve_right (by decide +kernel) ▸ (by decide +kernel : rh_dk dtX32_black 116 = .ok (.invokevirtual 745, 3))
  exact fun _ _ K => eA.cv (jX32_black_745 29 (by decide)) (rh_obl hw 0 (by decide +kernel)) (by decide) hd rfl hw1 rfl E K
theorem q4298 : (Jvm.Cond.methodLink "ReadingHouseModel" (757 : Nat) ({ cls := "ReadingHouseModel", name := "byMeans", desc := "(IIIII)Z" } : Jvm.MethodName)) ∈ lw_all := lw_g (lw_at lw_m17 205 rfl) rfl
theorem jX32_black_757 {w : rhW} : ∀ ci ∈ ([29] : List Nat), rh_cvr w YX32_black YX32_byMeans 757 5 ci := rh_one (rh_cvr.of rfl (Or.inl q4298) kX32_byMeans)
theorem vX32_black_208 {w : rhW} (hw : rh_ms w) {L : rhL} {S1 : List rhA} {M M0 : rhM} {r : Int} {y1 y2 y3 y4 y5 : Int} (E : eC w YX32_byMeans 1 [(2, 0), (0, y1), (0, y2), (0, y3), (0, y4), (0, y5)] M r M0) (hw1 : rh_wd S1 ≤ 8) : eS w YX32_black 3 208 L ((0, y5) :: (0, y4) :: (0, y3) :: (0, y2) :: (0, y1) :: (2, 0) :: S1) M 211 L ((0, r) :: S1) M0 := by
  have hd : decode (ry_c YX32_black) 208 = .ok (.invokevirtual 757, 3) := (tdX32_black 208).resolve_right (by decide +kernel) ▸ (by decide +kernel : rh_dk dtX32_black 208 = .ok (.invokevirtual 757, 3))
  exact fun _ _ K => eA.cv (jX32_black_757 29 (by decide)) (rh_obl hw 0 (by decide +kernel)) (by decide) hd rfl hw1 rfl E K
theorem q4303 : (Jvm.Cond.methodLink "ReadingHouseModel" (760 : Nat) ({ cls := "ReadingHouseModel", name := "byRange", desc := "(IIIIII)Z" } : Jvm.MethodName)) ∈ lw_all := lw_g (lw_at lw_m17 210 rfl) rfl
theorem jX32_black_760 {w : rhW} : ∀ ci ∈ ([29] : List Nat), rh_cvr w YX32_black YX32_byRange 760 6 ci := rh_one (rh_cvr.of rfl (Or.inl q4303) kX32_byRange)
theorem vX32_black_226 {w : rhW} (hw : rh_ms w) {L : rhL} {S1 : List rhA} {M M0 : rhM} {r : Int} {y1 y2 y3 y4 y5 y6 : Int} (E : eC w YX32_byRange 1 [(2, 0), (0, y1), (0, y2), (0, y3), (0, y4), (0, y5), (0, y6)] M r M0) (hw1 : rh_wd S1 ≤ 8) : eS w YX32_black 3 226 L ((0, y6) :: (0, y5) :: (0, y4) :: (0, y3) :: (0, y2) :: (0, y1) :: (2, 0) :: S1) M 229 L ((0, r) :: S1) M0 := by
  have hd : decode (ry_c YX32_black) 226 = .ok (.invokevirtual 760, 3) := (tdX32_black 226).resolve_right (by decide +kernel) ▸ (by decide +kernel : rh_dk dtX32_black 226 = .ok (.invokevirtual 760, 3))
  exact fun _ _ K => eA.cv (jX32_black_760 29 (by decide)) (rh_obl hw 0 (by decide +kernel)) (by decide) hd rfl hw1 rfl E K
theorem jX32_black_696 {w : rhW} : ∀ ci ∈ ([29] : List Nat), rh_cvr w YX32_black YX32_becomes 696 3 ci := rh_one (rh_cvr.of rfl (Or.inl q4202) kX32_becomes)
theorem vX32_black_277 {w : rhW} (hw : rh_ms w) {L : rhL} {S1 : List rhA} {M M0 : rhM} {r : Int} {y1 y2 y3 : Int} (E : eC w YX32_becomes 1 [(2, 0), (0, y1), (0, y2), (0, y3)] M r M0) (hw1 : rh_wd S1 ≤ 8) : eS w YX32_black 3 277 L ((0, y3) :: (0, y2) :: (0, y1) :: (2, 0) :: S1) M 280 L S1 M0 := by
  have hd : decode (ry_c YX32_black) 277 = .ok (.invokevirtual 696, 3) := (tdX32_black 277).resolve_right (by decide +kernel) ▸ (by decide +kernel : rh_dk dtX32_black 277 = .ok (.invokevirtual 696, 3))
  exact fun _ _ K => eA.cv (jX32_black_696 29 (by decide)) (rh_obl hw 0 (by decide +kernel)) (by decide) hd rfl hw1 rfl E K
theorem q4320 : (Jvm.Cond.methodLink "ReadingHouseModel" (773 : Nat) ({ cls := "ReadingHouseModel", name := "spread", desc := "(IZZ)V" } : Jvm.MethodName)) ∈ lw_all := lw_g (lw_at lw_m17 227 rfl) rfl
theorem jX32_labelAll_773 {w : rhW} : ∀ ci ∈ ([29] : List Nat), rh_cvr w YX32_labelAll YX32_spread 773 3 ci := rh_one (rh_cvr.of rfl (Or.inl q4320) kX32_spread)
theorem vX32_labelAll_72 {w : rhW} (hw : rh_ms w) {L : rhL} {S1 : List rhA} {M M0 : rhM} {r : Int} {y1 y2 y3 : Int} (E : eC w YX32_spread 0 [(2, 0), (0, y1), (0, y2), (0, y3)] M r M0) (hw1 : rh_wd S1 ≤ 8) : eS w YX32_labelAll 1 72 L ((0, y3) :: (0, y2) :: (0, y1) :: (2, 0) :: S1) M 75 L S1 M0 := by
  have hd : decode (ry_c YX32_labelAll) 72 = .ok (.invokevirtual 773, 3) := (tdX32_labelAll 72).resolve_right (by decide +kernel) ▸ (by decide +kernel : rh_dk dtX32_labelAll 72 = .ok (.invokevirtual 773, 3))
  exact fun _ _ K => eA.cv (jX32_labelAll_773 29 (by decide)) (rh_obl hw 0 (by decide +kernel)) (by decide) hd rfl hw1 rfl E K
theorem q4312 : (Jvm.Cond.methodLink "ReadingHouseModel" (779 : Nat) ({ cls := "ReadingHouseModel", name := "inkOf", desc := "(I)V" } : Jvm.MethodName)) ∈ lw_all := lw_g (lw_at lw_m17 219 rfl) rfl
theorem jX32_clean_779 {w : rhW} : ∀ ci ∈ ([29] : List Nat), rh_cvr w YX32_clean YX32_inkOf 779 1 ci := rh_one (rh_cvr.of rfl (Or.inl q4312) kX32_inkOf)
theorem vX32_clean_54 {w : rhW} (hw : rh_ms w) {L : rhL} {S1 : List rhA} {M M0 : rhM} {r : Int} {y1 : Int} (E : eC w YX32_inkOf 0 [(2, 0), (0, y1)] M r M0) (hw1 : rh_wd S1 ≤ 8) : eS w YX32_clean 3 54 L ((0, y1) :: (2, 0) :: S1) M 57 L S1 M0 := by
  have hd : decode (ry_c YX32_clean) 54 = .ok (.invokevirtual 779, 3) := (tdX32_clean 54).resolve_right (by decide +kernel) ▸ (by decide +kernel : rh_dk dtX32_clean 54 = .ok (.invokevirtual 779, 3))
  exact fun _ _ K => eA.cv (jX32_clean_779 29 (by decide)) (rh_obl hw 0 (by decide +kernel)) (by decide) hd rfl hw1 rfl E K
theorem q4316 : (Jvm.Cond.methodLink "ReadingHouseModel" (782 : Nat) ({ cls := "ReadingHouseModel", name := "labelAll", desc := "(ZZ)V" } : Jvm.MethodName)) ∈ lw_all := lw_g (lw_at lw_m17 223 rfl) rfl
theorem jX32_clean_782 {w : rhW} : ∀ ci ∈ ([29] : List Nat), rh_cvr w YX32_clean YX32_labelAll 782 2 ci := rh_one (rh_cvr.of rfl (Or.inl q4316) kX32_labelAll)
theorem vX32_clean_78 {w : rhW} (hw : rh_ms w) {L : rhL} {S1 : List rhA} {M M0 : rhM} {r : Int} {y1 y2 : Int} (E : eC w YX32_labelAll 1 [(2, 0), (0, y1), (0, y2)] M r M0) (hw1 : rh_wd S1 ≤ 8) : eS w YX32_clean 3 78 L ((0, y2) :: (0, y1) :: (2, 0) :: S1) M 81 L S1 M0 := by
  have hd : decode (ry_c YX32_clean) 78 = .ok (.invokevirtual 782, 3) := (tdX32_clean 78).resolve_right (by decide +kernel) ▸ (by decide +kernel : rh_dk dtX32_clean 78 = .ok (.invokevirtual 782, 3))
  exact fun _ _ K => eA.cv (jX32_clean_782 29 (by decide)) (rh_obl hw 0 (by decide +kernel)) (by decide) hd rfl hw1 rfl E K
theorem q4324 : (Jvm.Cond.methodLink "ReadingHouseModel" (786 : Nat) ({ cls := "ReadingHouseModel", name := "measureSets", desc := "()V" } : Jvm.MethodName)) ∈ lw_all := lw_g (lw_at lw_m17 231 rfl) rfl
theorem jX32_clean_786 {w : rhW} : ∀ ci ∈ ([29] : List Nat), rh_cvr w YX32_clean YX32_measureSets 786 0 ci := rh_one (rh_cvr.of rfl (Or.inl q4324) kX32_measureSets)
theorem vX32_clean_82 {w : rhW} (hw : rh_ms w) {L : rhL} {S1 : List rhA} {M M0 : rhM} {r : Int} (E : eC w YX32_measureSets 0 [(2, 0)] M r M0) (hw1 : rh_wd S1 ≤ 8) : eS w YX32_clean 3 82 L ((2, 0) :: S1) M 85 L S1 M0 := by
  have hd : decode (ry_c YX32_clean) 82 = .ok (.invokevirtual 786, 3) := (tdX32_clean 82).resolve_right (by decide +kernel) ▸ (by decide +kernel : rh_dk dtX32_clean 82 = .ok (.invokevirtual 786, 3))
  exact fun _ _ K => eA.cv (jX32_clean_786 29 (by decide)) (rh_obl hw 0 (by decide +kernel)) (by decide) hd rfl hw1 rfl E K
theorem q4328 : (Jvm.Cond.methodLink "ReadingHouseModel" (789 : Nat) ({ cls := "ReadingHouseModel", name := "toWork", desc := "(I)V" } : Jvm.MethodName)) ∈ lw_all := lw_g (lw_at lw_m17 235 rfl) rfl
theorem jX32_clean_789 {w : rhW} : ∀ ci ∈ ([29] : List Nat), rh_cvr w YX32_clean YX32_toWork 789 1 ci := rh_one (rh_cvr.of rfl (Or.inl q4328) kX32_toWork)
theorem vX32_clean_87 {w : rhW} (hw : rh_ms w) {L : rhL} {S1 : List rhA} {M M0 : rhM} {r : Int} {y1 : Int} (E : eC w YX32_toWork 0 [(2, 0), (0, y1)] M r M0) (hw1 : rh_wd S1 ≤ 8) : eS w YX32_clean 3 87 L ((0, y1) :: (2, 0) :: S1) M 90 L S1 M0 := by
  have hd : decode (ry_c YX32_clean) 87 = .ok (.invokevirtual 789, 3) := (tdX32_clean 87).resolve_right (by decide +kernel) ▸ (by decide +kernel : rh_dk dtX32_clean 87 = .ok (.invokevirtual 789, 3))
  exact fun _ _ K => eA.cv (jX32_clean_789 29 (by decide)) (rh_obl hw 0 (by decide +kernel)) (by decide) hd rfl hw1 rfl E K
theorem jX32_clean_696 {w : rhW} : ∀ ci ∈ ([29] : List Nat), rh_cvr w YX32_clean YX32_becomes 696 3 ci := rh_one (rh_cvr.of rfl (Or.inl q4202) kX32_becomes)
theorem vX32_clean_220 {w : rhW} (hw : rh_ms w) {L : rhL} {S1 : List rhA} {M M0 : rhM} {r : Int} {y1 y2 y3 : Int} (E : eC w YX32_becomes 1 [(2, 0), (0, y1), (0, y2), (0, y3)] M r M0) (hw1 : rh_wd S1 ≤ 8) : eS w YX32_clean 3 220 L ((0, y3) :: (0, y2) :: (0, y1) :: (2, 0) :: S1) M 223 L S1 M0 := by
  have hd : decode (ry_c YX32_clean) 220 = .ok (.invokevirtual 696, 3) := (tdX32_clean 220).resolve_right (by decide +kernel) ▸ (by decide +kernel : rh_dk dtX32_clean 220 = .ok (.invokevirtual 696, 3))
  exact fun _ _ K => eA.cv (jX32_clean_696 29 (by decide)) (rh_obl hw 0 (by decide +kernel)) (by decide) hd rfl hw1 rfl E K
theorem q4342 : (Jvm.Cond.methodLink "ReadingHouseModel" (792 : Nat) ({ cls := "ReadingHouseModel", name := "floor", desc := "(JJ)J" } : Jvm.MethodName)) ∈ lw_all := lw_g (lw_at lw_m18 9 rfl) rfl
theorem jX32_shearInto_792 {w : rhW} : rh_csr w YX32_shearInto YX32_floor 792 2 := rh_csr.of (Or.inl q4342) kX32_floor
theorem vX32_shearInto_32 {w : rhW} {L : rhL} {S1 : List rhA} {M M0 : rhM} {r : Int} {y1 y2 : Int} (E : eC w YX32_floor 0 [(1, y1), (1, y2)] M r M0) (hw1 : rh_wd S1 ≤ 8) : eS w YX32_shearInto 1 32 L ((1, y2) :: (1, y1) :: S1) M 35 L ((1, r) :: S1) M0 := by
  have hd : decode (ry_c YX32_shearInto) 32 = .ok (.invokestatic 792, 3) := (tdX32_shearInto 32).resolve_right (by decide +kernel) ▸ (by decide +kernel : rh_dk dtX32_shearInto 32 = .ok (.invokestatic 792, 3))
  exact fun _ _ K => eA.cs (jX32_shearInto_792) (by decide) hd rfl hw1 rfl E K
theorem q4338 : (Jvm.Cond.methodLink "ReadingHouseModel" (800 : Nat) ({ cls := "ReadingHouseModel", name := "shearInto", desc := "(II)V" } : Jvm.MethodName)) ∈ lw_all := lw_g (lw_at lw_m18 5 rfl) rfl
theorem jX32_shear_800 {w : rhW} : ∀ ci ∈ ([29] : List Nat), rh_cvr w YX32_shear YX32_shearInto 800 2 ci := rh_one (rh_cvr.of rfl (Or.inl q4338) kX32_shearInto)
theorem vX32_shear_44 {w : rhW} (hw : rh_ms w) {L : rhL} {S1 : List rhA} {M M0 : rhM} {r : Int} {y1 y2 : Int} (E : eC w YX32_shearInto 1 [(2, 0), (0, y1), (0, y2)] M r M0) (hw1 : rh_wd S1 ≤ 8) : eS w YX32_shear 3 44 L ((0, y2) :: (0, y1) :: (2, 0) :: S1) M 47 L S1 M0 := by
  have hd : decode (ry_c YX32_shear) 44 = .ok (.invokevirtual 800, 3) := (tdX32_shear 44).resolve_right (by decide +kernel) ▸ (by decide +kernel : rh_dk dtX32_shear 44 = .ok (.invokevirtual 800, 3))
  exact fun _ _ K => eA.cv (jX32_shear_800 29 (by decide)) (rh_obl hw 0 (by decide +kernel)) (by decide) hd rfl hw1 rfl E K
theorem jX32_shear_696 {w : rhW} : ∀ ci ∈ ([29] : List Nat), rh_cvr w YX32_shear YX32_becomes 696 3 ci := rh_one (rh_cvr.of rfl (Or.inl q4202) kX32_becomes)
theorem vX32_shear_61 {w : rhW} (hw : rh_ms w) {L : rhL} {S1 : List rhA} {M M0 : rhM} {r : Int} {y1 y2 y3 : Int} (E : eC w YX32_becomes 1 [(2, 0), (0, y1), (0, y2), (0, y3)] M r M0) (hw1 : rh_wd S1 ≤ 8) : eS w YX32_shear 3 61 L ((0, y3) :: (0, y2) :: (0, y1) :: (2, 0) :: S1) M 64 L S1 M0 := by
  have hd : decode (ry_c YX32_shear) 61 = .ok (.invokevirtual 696, 3) := (tdX32_shear 61).resolve_right (by decide +kernel) ▸ (by decide +kernel : rh_dk dtX32_shear 61 = .ok (.invokevirtual 696, 3))
  exact fun _ _ K => eA.cv (jX32_shear_696 29 (by decide)) (rh_obl hw 0 (by decide +kernel)) (by decide) hd rfl hw1 rfl E K
theorem jX32_steepness_800 {w : rhW} : ∀ ci ∈ ([29] : List Nat), rh_cvr w YX32_steepness YX32_shearInto 800 2 ci := rh_one (rh_cvr.of rfl (Or.inl q4338) kX32_shearInto)
theorem vX32_steepness_3 {w : rhW} (hw : rh_ms w) {L : rhL} {S1 : List rhA} {M M0 : rhM} {r : Int} {y1 y2 : Int} (E : eC w YX32_shearInto 1 [(2, 0), (0, y1), (0, y2)] M r M0) (hw1 : rh_wd S1 ≤ 8) : eS w YX32_steepness 2 3 L ((0, y2) :: (0, y1) :: (2, 0) :: S1) M 6 L S1 M0 := by
  have hd : decode (ry_c YX32_steepness) 3 = .ok (.invokevirtual 800, 3) := (tdX32_steepness 3).resolve_right (by decide +kernel) ▸ (by decide +kernel : rh_dk dtX32_steepness 3 = .ok (.invokevirtual 800, 3))
  exact fun _ _ K => eA.cv (jX32_steepness_800 29 (by decide)) (rh_obl hw 0 (by decide +kernel)) (by decide) hd rfl hw1 rfl E K
theorem q4349 : (Jvm.Cond.methodLink "ReadingHouseModel" (803 : Nat) ({ cls := "ReadingHouseModel", name := "steepness", desc := "(II)J" } : Jvm.MethodName)) ∈ lw_all := lw_g (lw_at lw_m18 16 rfl) rfl
theorem jX32_turn_803 {w : rhW} : ∀ ci ∈ ([29] : List Nat), rh_cvr w YX32_turn YX32_steepness 803 2 ci := rh_one (rh_cvr.of rfl (Or.inl q4349) kX32_steepness)
theorem vX32_turn_45 {w : rhW} (hw : rh_ms w) {L : rhL} {S1 : List rhA} {M M0 : rhM} {r : Int} {y1 y2 : Int} (E : eC w YX32_steepness 2 [(2, 0), (0, y1), (0, y2)] M r M0) (hw1 : rh_wd S1 ≤ 8) : eS w YX32_turn 3 45 L ((0, y2) :: (0, y1) :: (2, 0) :: S1) M 48 L ((1, r) :: S1) M0 := by
  have hd : decode (ry_c YX32_turn) 45 = .ok (.invokevirtual 803, 3) := (tdX32_turn 45).resolve_right (by decide +kernel) ▸ (by decide +kernel : rh_dk dtX32_turn 45 = .ok (.invokevirtual 803, 3))
  exact fun _ _ K => eA.cv (jX32_turn_803 29 (by decide)) (rh_obl hw 0 (by decide +kernel)) (by decide) hd rfl hw1 rfl E K
theorem vX32_turn_75 {w : rhW} (hw : rh_ms w) {L : rhL} {S1 : List rhA} {M M0 : rhM} {r : Int} {y1 y2 : Int} (E : eC w YX32_steepness 2 [(2, 0), (0, y1), (0, y2)] M r M0) (hw1 : rh_wd S1 ≤ 8) : eS w YX32_turn 3 75 L ((0, y2) :: (0, y1) :: (2, 0) :: S1) M 78 L ((1, r) :: S1) M0 := by
  have hd : decode (ry_c YX32_turn) 75 = .ok (.invokevirtual 803, 3) := (tdX32_turn 75).resolve_right (by decide +kernel) ▸ (by decide +kernel : rh_dk dtX32_turn 75 = .ok (.invokevirtual 803, 3))
  exact fun _ _ K => eA.cv (jX32_turn_803 29 (by decide)) (rh_obl hw 0 (by decide +kernel)) (by decide) hd rfl hw1 rfl E K
theorem jX32_turn_800 {w : rhW} : ∀ ci ∈ ([29] : List Nat), rh_cvr w YX32_turn YX32_shearInto 800 2 ci := rh_one (rh_cvr.of rfl (Or.inl q4338) kX32_shearInto)
theorem vX32_turn_115 {w : rhW} (hw : rh_ms w) {L : rhL} {S1 : List rhA} {M M0 : rhM} {r : Int} {y1 y2 : Int} (E : eC w YX32_shearInto 1 [(2, 0), (0, y1), (0, y2)] M r M0) (hw1 : rh_wd S1 ≤ 8) : eS w YX32_turn 3 115 L ((0, y2) :: (0, y1) :: (2, 0) :: S1) M 118 L S1 M0 := by
  have hd : decode (ry_c YX32_turn) 115 = .ok (.invokevirtual 800, 3) := (tdX32_turn 115).resolve_right (by decide +kernel) ▸ (by decide +kernel : rh_dk dtX32_turn 115 = .ok (.invokevirtual 800, 3))
  exact fun _ _ K => eA.cv (jX32_turn_800 29 (by decide)) (rh_obl hw 0 (by decide +kernel)) (by decide) hd rfl hw1 rfl E K
theorem jX32_turn_696 {w : rhW} : ∀ ci ∈ ([29] : List Nat), rh_cvr w YX32_turn YX32_becomes 696 3 ci := rh_one (rh_cvr.of rfl (Or.inl q4202) kX32_becomes)
theorem vX32_turn_132 {w : rhW} (hw : rh_ms w) {L : rhL} {S1 : List rhA} {M M0 : rhM} {r : Int} {y1 y2 y3 : Int} (E : eC w YX32_becomes 1 [(2, 0), (0, y1), (0, y2), (0, y3)] M r M0) (hw1 : rh_wd S1 ≤ 8) : eS w YX32_turn 3 132 L ((0, y3) :: (0, y2) :: (0, y1) :: (2, 0) :: S1) M 135 L S1 M0 := by
  have hd : decode (ry_c YX32_turn) 132 = .ok (.invokevirtual 696, 3) := (tdX32_turn 132).resolve_right (by decide +kernel) ▸ (by decide +kernel : rh_dk dtX32_turn 132 = .ok (.invokevirtual 696, 3))
  exact fun _ _ K => eA.cv (jX32_turn_696 29 (by decide)) (rh_obl hw 0 (by decide +kernel)) (by decide) hd rfl hw1 rfl E K
theorem q4357 : (Jvm.Cond.methodLink "ReadingHouseModel" (807 : Nat) ({ cls := "ReadingHouseModel", name := "behind", desc := "(IIIII)I" } : Jvm.MethodName)) ∈ lw_all := lw_g (lw_at lw_m18 24 rfl) rfl
theorem jX32_back_807 {w : rhW} : ∀ ci ∈ ([29] : List Nat), rh_cvr w YX32_back YX32_behind 807 5 ci := rh_one (rh_cvr.of rfl (Or.inl q4357) kX32_behind)
theorem vX32_back_175 {w : rhW} (hw : rh_ms w) {L : rhL} {S1 : List rhA} {M M0 : rhM} {r : Int} {y1 y2 y3 y4 y5 : Int} (E : eC w YX32_behind 1 [(2, 0), (0, y1), (0, y2), (0, y3), (0, y4), (0, y5)] M r M0) (hw1 : rh_wd S1 ≤ 8) : eS w YX32_back 3 175 L ((0, y5) :: (0, y4) :: (0, y3) :: (0, y2) :: (0, y1) :: (2, 0) :: S1) M 178 L ((0, r) :: S1) M0 := by
  have hd : decode (ry_c YX32_back) 175 = .ok (.invokevirtual 807, 3) := (tdX32_back 175).resolve_right (by decide +kernel) ▸ (by decide +kernel : rh_dk dtX32_back 175 = .ok (.invokevirtual 807, 3))
  exact fun _ _ K => eA.cv (jX32_back_807 29 (by decide)) (rh_obl hw 0 (by decide +kernel)) (by decide) hd rfl hw1 rfl E K
theorem q4361 : (Jvm.Cond.methodLink "ReadingHouseModel" (811 : Nat) ({ cls := "ReadingHouseModel", name := "isNearer", desc := "(IIII)Z" } : Jvm.MethodName)) ∈ lw_all := lw_g (lw_at lw_m18 28 rfl) rfl
theorem jX32_back_811 {w : rhW} : rh_csr w YX32_back YX32_isNearer 811 4 := rh_csr.of (Or.inl q4361) kX32_isNearer
theorem vX32_back_214 {w : rhW} {L : rhL} {S1 : List rhA} {M M0 : rhM} {r : Int} {y1 y2 y3 y4 : Int} (E : eC w YX32_isNearer 0 [(0, y1), (0, y2), (0, y3), (0, y4)] M r M0) (hw1 : rh_wd S1 ≤ 8) : eS w YX32_back 3 214 L ((0, y4) :: (0, y3) :: (0, y2) :: (0, y1) :: S1) M 217 L ((0, r) :: S1) M0 := by
  have hd : decode (ry_c YX32_back) 214 = .ok (.invokestatic 811, 3) := (tdX32_back 214).resolve_right (by decide +kernel) ▸ (by decide +kernel : rh_dk dtX32_back 214 = .ok (.invokestatic 811, 3))
  exact fun _ _ K => eA.cs (jX32_back_811) (by decide) hd rfl hw1 rfl E K
theorem vX32_back_303 {w : rhW} (hw : rh_ms w) {L : rhL} {S1 : List rhA} {M M0 : rhM} {r : Int} {y1 y2 y3 y4 y5 : Int} (E : eC w YX32_behind 1 [(2, 0), (0, y1), (0, y2), (0, y3), (0, y4), (0, y5)] M r M0) (hw1 : rh_wd S1 ≤ 8) : eS w YX32_back 3 303 L ((0, y5) :: (0, y4) :: (0, y3) :: (0, y2) :: (0, y1) :: (2, 0) :: S1) M 306 L ((0, r) :: S1) M0 := by
  have hd : decode (ry_c YX32_back) 303 = .ok (.invokevirtual 807, 3) := (tdX32_back 303).resolve_right (by decide +kernel) ▸ (by decide +kernel : rh_dk dtX32_back 303 = .ok (.invokevirtual 807, 3))
  exact fun _ _ K => eA.cv (jX32_back_807 29 (by decide)) (rh_obl hw 0 (by decide +kernel)) (by decide) hd rfl hw1 rfl E K
theorem jX32_back_696 {w : rhW} : ∀ ci ∈ ([29] : List Nat), rh_cvr w YX32_back YX32_becomes 696 3 ci := rh_one (rh_cvr.of rfl (Or.inl q4202) kX32_becomes)
theorem vX32_back_331 {w : rhW} (hw : rh_ms w) {L : rhL} {S1 : List rhA} {M M0 : rhM} {r : Int} {y1 y2 y3 : Int} (E : eC w YX32_becomes 1 [(2, 0), (0, y1), (0, y2), (0, y3)] M r M0) (hw1 : rh_wd S1 ≤ 8) : eS w YX32_back 3 331 L ((0, y3) :: (0, y2) :: (0, y1) :: (2, 0) :: S1) M 334 L S1 M0 := by
  have hd : decode (ry_c YX32_back) 331 = .ok (.invokevirtual 696, 3) := (tdX32_back 331).resolve_right (by decide +kernel) ▸ (by decide +kernel : rh_dk dtX32_back 331 = .ok (.invokevirtual 696, 3))
  exact fun _ _ K => eA.cv (jX32_back_696 29 (by decide)) (rh_obl hw 0 (by decide +kernel)) (by decide) hd rfl hw1 rfl E K
theorem q4376 : (Jvm.Cond.methodLink "ReadingHouseModel" (818 : Nat) ({ cls := "ReadingHouseModel", name := "lookAround", desc := "(II)V" } : Jvm.MethodName)) ∈ lw_all := lw_g (lw_at lw_m18 43 rfl) rfl
theorem jX32_isThin_818 {w : rhW} : ∀ ci ∈ ([29] : List Nat), rh_cvr w YX32_isThin YX32_lookAround 818 2 ci := rh_one (rh_cvr.of rfl (Or.inl q4376) kX32_lookAround)
theorem vX32_isThin_3 {w : rhW} (hw : rh_ms w) {L : rhL} {S1 : List rhA} {M M0 : rhM} {r : Int} {y1 y2 : Int} (E : eC w YX32_lookAround 1 [(2, 0), (0, y1), (0, y2)] M r M0) (hw1 : rh_wd S1 ≤ 8) : eS w YX32_isThin 2 3 L ((0, y2) :: (0, y1) :: (2, 0) :: S1) M 6 L S1 M0 := by
  have hd : decode (ry_c YX32_isThin) 3 = .ok (.invokevirtual 818, 3) := (tdX32_isThin 3).resolve_right (by decide +kernel) ▸ (by decide +kernel : rh_dk dtX32_isThin 3 = .ok (.invokevirtual 818, 3))
  exact fun _ _ K => eA.cv (jX32_isThin_818 29 (by decide)) (rh_obl hw 0 (by decide +kernel)) (by decide) hd rfl hw1 rfl E K
theorem q4372 : (Jvm.Cond.methodLink "ReadingHouseModel" (821 : Nat) ({ cls := "ReadingHouseModel", name := "isThin", desc := "(IIZ)Z" } : Jvm.MethodName)) ∈ lw_all := lw_g (lw_at lw_m18 39 rfl) rfl
theorem jX32_thinHalf_821 {w : rhW} : ∀ ci ∈ ([29] : List Nat), rh_cvr w YX32_thinHalf YX32_isThin 821 3 ci := rh_one (rh_cvr.of rfl (Or.inl q4372) kX32_isThin)
theorem vX32_thinHalf_40 {w : rhW} (hw : rh_ms w) {L : rhL} {S1 : List rhA} {M M0 : rhM} {r : Int} {y1 y2 y3 : Int} (E : eC w YX32_isThin 2 [(2, 0), (0, y1), (0, y2), (0, y3)] M r M0) (hw1 : rh_wd S1 ≤ 8) : eS w YX32_thinHalf 3 40 L ((0, y3) :: (0, y2) :: (0, y1) :: (2, 0) :: S1) M 43 L ((0, r) :: S1) M0 := by
  have hd : decode (ry_c YX32_thinHalf) 40 = .ok (.invokevirtual 821, 3) := (tdX32_thinHalf 40).resolve_right (by decide +kernel) ▸ (by decide +kernel : rh_dk dtX32_thinHalf 40 = .ok (.invokevirtual 821, 3))
  exact fun _ _ K => eA.cv (jX32_thinHalf_821 29 (by decide)) (rh_obl hw 0 (by decide +kernel)) (by decide) hd rfl hw1 rfl E K
theorem jX32_thin_779 {w : rhW} : ∀ ci ∈ ([29] : List Nat), rh_cvr w YX32_thin YX32_inkOf 779 1 ci := rh_one (rh_cvr.of rfl (Or.inl q4312) kX32_inkOf)
theorem vX32_thin_26 {w : rhW} (hw : rh_ms w) {L : rhL} {S1 : List rhA} {M M0 : rhM} {r : Int} {y1 : Int} (E : eC w YX32_inkOf 0 [(2, 0), (0, y1)] M r M0) (hw1 : rh_wd S1 ≤ 8) : eS w YX32_thin 4 26 L ((0, y1) :: (2, 0) :: S1) M 29 L S1 M0 := by
  have hd : decode (ry_c YX32_thin) 26 = .ok (.invokevirtual 779, 3) := (tdX32_thin 26).resolve_right (by decide +kernel) ▸ (by decide +kernel : rh_dk dtX32_thin 26 = .ok (.invokevirtual 779, 3))
  exact fun _ _ K => eA.cv (jX32_thin_779 29 (by decide)) (rh_obl hw 0 (by decide +kernel)) (by decide) hd rfl hw1 rfl E K
theorem q4368 : (Jvm.Cond.methodLink "ReadingHouseModel" (825 : Nat) ({ cls := "ReadingHouseModel", name := "thinHalf", desc := "(Z)I" } : Jvm.MethodName)) ∈ lw_all := lw_g (lw_at lw_m18 35 rfl) rfl
theorem jX32_thin_825 {w : rhW} : ∀ ci ∈ ([29] : List Nat), rh_cvr w YX32_thin YX32_thinHalf 825 1 ci := rh_one (rh_cvr.of rfl (Or.inl q4368) kX32_thinHalf)
theorem vX32_thin_44 {w : rhW} (hw : rh_ms w) {L : rhL} {S1 : List rhA} {M M0 : rhM} {r : Int} {y1 : Int} (E : eC w YX32_thinHalf 3 [(2, 0), (0, y1)] M r M0) (hw1 : rh_wd S1 ≤ 8) : eS w YX32_thin 4 44 L ((0, y1) :: (2, 0) :: S1) M 47 L ((0, r) :: S1) M0 := by
  have hd : decode (ry_c YX32_thin) 44 = .ok (.invokevirtual 825, 3) := (tdX32_thin 44).resolve_right (by decide +kernel) ▸ (by decide +kernel : rh_dk dtX32_thin 44 = .ok (.invokevirtual 825, 3))
  exact fun _ _ K => eA.cv (jX32_thin_825 29 (by decide)) (rh_obl hw 0 (by decide +kernel)) (by decide) hd rfl hw1 rfl E K
theorem vX32_thin_53 {w : rhW} (hw : rh_ms w) {L : rhL} {S1 : List rhA} {M M0 : rhM} {r : Int} {y1 : Int} (E : eC w YX32_thinHalf 3 [(2, 0), (0, y1)] M r M0) (hw1 : rh_wd S1 ≤ 8) : eS w YX32_thin 4 53 L ((0, y1) :: (2, 0) :: S1) M 56 L ((0, r) :: S1) M0 := by
  have hd : decode (ry_c YX32_thin) 53 = .ok (.invokevirtual 825, 3) := (tdX32_thin 53).resolve_right (by decide +kernel) ▸ (by decide +kernel : rh_dk dtX32_thin 53 = .ok (.invokevirtual 825, 3))
  exact fun _ _ K => eA.cv (jX32_thin_825 29 (by decide)) (rh_obl hw 0 (by decide +kernel)) (by decide) hd rfl hw1 rfl E K
theorem jX32_thin_696 {w : rhW} : ∀ ci ∈ ([29] : List Nat), rh_cvr w YX32_thin YX32_becomes 696 3 ci := rh_one (rh_cvr.of rfl (Or.inl q4202) kX32_becomes)
theorem vX32_thin_131 {w : rhW} (hw : rh_ms w) {L : rhL} {S1 : List rhA} {M M0 : rhM} {r : Int} {y1 y2 y3 : Int} (E : eC w YX32_becomes 1 [(2, 0), (0, y1), (0, y2), (0, y3)] M r M0) (hw1 : rh_wd S1 ≤ 8) : eS w YX32_thin 4 131 L ((0, y3) :: (0, y2) :: (0, y1) :: (2, 0) :: S1) M 134 L S1 M0 := by
  have hd : decode (ry_c YX32_thin) 131 = .ok (.invokevirtual 696, 3) := (tdX32_thin 131).resolve_right (by decide +kernel) ▸ (by decide +kernel : rh_dk dtX32_thin 131 = .ok (.invokevirtual 696, 3))
  exact fun _ _ K => eA.cv (jX32_thin_696 29 (by decide)) (rh_obl hw 0 (by decide +kernel)) (by decide) hd rfl hw1 rfl E K
theorem jX32_findPieces_779 {w : rhW} : ∀ ci ∈ ([29] : List Nat), rh_cvr w YX32_findPieces YX32_inkOf 779 1 ci := rh_one (rh_cvr.of rfl (Or.inl q4312) kX32_inkOf)
theorem vX32_findPieces_2 {w : rhW} (hw : rh_ms w) {L : rhL} {S1 : List rhA} {M M0 : rhM} {r : Int} {y1 : Int} (E : eC w YX32_inkOf 0 [(2, 0), (0, y1)] M r M0) (hw1 : rh_wd S1 ≤ 8) : eS w YX32_findPieces 2 2 L ((0, y1) :: (2, 0) :: S1) M 5 L S1 M0 := by
  have hd : decode (ry_c YX32_findPieces) 2 = .ok (.invokevirtual 779, 3) := (tdX32_findPieces 2).resolve_right (by decide +kernel) ▸ (by decide +kernel : rh_dk dtX32_findPieces 2 = .ok (.invokevirtual 779, 3))
  exact fun _ _ K => eA.cv (jX32_findPieces_779 29 (by decide)) (rh_obl hw 0 (by decide +kernel)) (by decide) hd rfl hw1 rfl E K
theorem jX32_findPieces_782 {w : rhW} : ∀ ci ∈ ([29] : List Nat), rh_cvr w YX32_findPieces YX32_labelAll 782 2 ci := rh_one (rh_cvr.of rfl (Or.inl q4316) kX32_labelAll)
theorem vX32_findPieces_8 {w : rhW} (hw : rh_ms w) {L : rhL} {S1 : List rhA} {M M0 : rhM} {r : Int} {y1 y2 : Int} (E : eC w YX32_labelAll 1 [(2, 0), (0, y1), (0, y2)] M r M0) (hw1 : rh_wd S1 ≤ 8) : eS w YX32_findPieces 2 8 L ((0, y2) :: (0, y1) :: (2, 0) :: S1) M 11 L S1 M0 := by
  have hd : decode (ry_c YX32_findPieces) 8 = .ok (.invokevirtual 782, 3) := (tdX32_findPieces 8).resolve_right (by decide +kernel) ▸ (by decide +kernel : rh_dk dtX32_findPieces 8 = .ok (.invokevirtual 782, 3))
  exact fun _ _ K => eA.cv (jX32_findPieces_782 29 (by decide)) (rh_obl hw 0 (by decide +kernel)) (by decide) hd rfl hw1 rfl E K
theorem q4388 : (Jvm.Cond.methodLink "ReadingHouseModel" (832 : Nat) ({ cls := "ReadingHouseModel", name := "findPieces", desc := "(I)V" } : Jvm.MethodName)) ∈ lw_all := lw_g (lw_at lw_m18 55 rfl) rfl
theorem jX32_pieces_832 {w : rhW} : ∀ ci ∈ ([29] : List Nat), rh_cvr w YX32_pieces YX32_findPieces 832 1 ci := rh_one (rh_cvr.of rfl (Or.inl q4388) kX32_findPieces)
theorem vX32_pieces_18 {w : rhW} (hw : rh_ms w) {L : rhL} {S1 : List rhA} {M M0 : rhM} {r : Int} {y1 : Int} (E : eC w YX32_findPieces 2 [(2, 0), (0, y1)] M r M0) (hw1 : rh_wd S1 ≤ 8) : eS w YX32_pieces 3 18 L ((0, y1) :: (2, 0) :: S1) M 21 L S1 M0 := by
  have hd : decode (ry_c YX32_pieces) 18 = .ok (.invokevirtual 832, 3) := (tdX32_pieces 18).resolve_right (by decide +kernel) ▸ (by decide +kernel : rh_dk dtX32_pieces 18 = .ok (.invokevirtual 832, 3))
  exact fun _ _ K => eA.cv (jX32_pieces_832 29 (by decide)) (rh_obl hw 0 (by decide +kernel)) (by decide) hd rfl hw1 rfl E K
theorem q4400 : (Jvm.Cond.methodLink "ReadingHouseModel" (835 : Nat) ({ cls := "ReadingHouseModel", name := "alone", desc := "(I)V" } : Jvm.MethodName)) ∈ lw_all := lw_g (lw_at lw_m18 67 rfl) rfl
theorem jX32_holesOf_835 {w : rhW} : ∀ ci ∈ ([29] : List Nat), rh_cvr w YX32_holesOf YX32_alone 835 1 ci := rh_one (rh_cvr.of rfl (Or.inl q4400) kX32_alone)
theorem vX32_holesOf_2 {w : rhW} (hw : rh_ms w) {L : rhL} {S1 : List rhA} {M M0 : rhM} {r : Int} {y1 : Int} (E : eC w YX32_alone 0 [(2, 0), (0, y1)] M r M0) (hw1 : rh_wd S1 ≤ 8) : eS w YX32_holesOf 2 2 L ((0, y1) :: (2, 0) :: S1) M 5 L S1 M0 := by
  have hd : decode (ry_c YX32_holesOf) 2 = .ok (.invokevirtual 835, 3) := (tdX32_holesOf 2).resolve_right (by decide +kernel) ▸ (by decide +kernel : rh_dk dtX32_holesOf 2 = .ok (.invokevirtual 835, 3))
  exact fun _ _ K => eA.cv (jX32_holesOf_835 29 (by decide)) (rh_obl hw 0 (by decide +kernel)) (by decide) hd rfl hw1 rfl E K
theorem jX32_holesOf_782 {w : rhW} : ∀ ci ∈ ([29] : List Nat), rh_cvr w YX32_holesOf YX32_labelAll 782 2 ci := rh_one (rh_cvr.of rfl (Or.inl q4316) kX32_labelAll)
theorem vX32_holesOf_8 {w : rhW} (hw : rh_ms w) {L : rhL} {S1 : List rhA} {M M0 : rhM} {r : Int} {y1 y2 : Int} (E : eC w YX32_labelAll 1 [(2, 0), (0, y1), (0, y2)] M r M0) (hw1 : rh_wd S1 ≤ 8) : eS w YX32_holesOf 2 8 L ((0, y2) :: (0, y1) :: (2, 0) :: S1) M 11 L S1 M0 := by
  have hd : decode (ry_c YX32_holesOf) 8 = .ok (.invokevirtual 782, 3) := (tdX32_holesOf 8).resolve_right (by decide +kernel) ▸ (by decide +kernel : rh_dk dtX32_holesOf 8 = .ok (.invokevirtual 782, 3))
  exact fun _ _ K => eA.cv (jX32_holesOf_782 29 (by decide)) (rh_obl hw 0 (by decide +kernel)) (by decide) hd rfl hw1 rfl E K
theorem jX32_holesOf_786 {w : rhW} : ∀ ci ∈ ([29] : List Nat), rh_cvr w YX32_holesOf YX32_measureSets 786 0 ci := rh_one (rh_cvr.of rfl (Or.inl q4324) kX32_measureSets)
theorem vX32_holesOf_12 {w : rhW} (hw : rh_ms w) {L : rhL} {S1 : List rhA} {M M0 : rhM} {r : Int} (E : eC w YX32_measureSets 0 [(2, 0)] M r M0) (hw1 : rh_wd S1 ≤ 8) : eS w YX32_holesOf 2 12 L ((2, 0) :: S1) M 15 L S1 M0 := by
  have hd : decode (ry_c YX32_holesOf) 12 = .ok (.invokevirtual 786, 3) := (tdX32_holesOf 12).resolve_right (by decide +kernel) ▸ (by decide +kernel : rh_dk dtX32_holesOf 12 = .ok (.invokevirtual 786, 3))
  exact fun _ _ K => eA.cv (jX32_holesOf_786 29 (by decide)) (rh_obl hw 0 (by decide +kernel)) (by decide) hd rfl hw1 rfl E K
theorem jX32_walkAround_835 {w : rhW} : ∀ ci ∈ ([29] : List Nat), rh_cvr w YX32_walkAround YX32_alone 835 1 ci := rh_one (rh_cvr.of rfl (Or.inl q4400) kX32_alone)
theorem vX32_walkAround_27 {w : rhW} (hw : rh_ms w) {L : rhL} {S1 : List rhA} {M M0 : rhM} {r : Int} {y1 : Int} (E : eC w YX32_alone 0 [(2, 0), (0, y1)] M r M0) (hw1 : rh_wd S1 ≤ 8) : eS w YX32_walkAround 2 27 L ((0, y1) :: (2, 0) :: S1) M 30 L S1 M0 := by
  have hd : decode (ry_c YX32_walkAround) 27 = .ok (.invokevirtual 835, 3) := (tdX32_walkAround 27).resolve_right (by decide +kernel) ▸ (by decide +kernel : rh_dk dtX32_walkAround 27 = .ok (.invokevirtual 835, 3))
  exact fun _ _ K => eA.cv (jX32_walkAround_835 29 (by decide)) (rh_obl hw 0 (by decide +kernel)) (by decide) hd rfl hw1 rfl E K
theorem q4408 : (Jvm.Cond.methodLink "ReadingHouseModel" (856 : Nat) ({ cls := "ReadingHouseModel", name := "ahead", desc := "(I)Z" } : Jvm.MethodName)) ∈ lw_all := lw_g (lw_at lw_m18 75 rfl) rfl
theorem jX32_walkAround_856 {w : rhW} : ∀ ci ∈ ([29] : List Nat), rh_cvr w YX32_walkAround YX32_ahead 856 1 ci := rh_one (rh_cvr.of rfl (Or.inl q4408) kX32_ahead)
theorem vX32_walkAround_178 {w : rhW} (hw : rh_ms w) {L : rhL} {S1 : List rhA} {M M0 : rhM} {r : Int} {y1 : Int} (E : eC w YX32_ahead 1 [(2, 0), (0, y1)] M r M0) (hw1 : rh_wd S1 ≤ 8) : eS w YX32_walkAround 2 178 L ((0, y1) :: (2, 0) :: S1) M 181 L ((0, r) :: S1) M0 := by
  have hd : decode (ry_c YX32_walkAround) 178 = .ok (.invokevirtual 856, 3) := (tdX32_walkAround 178).resolve_right (by decide +kernel) ▸ (by decide +kernel : rh_dk dtX32_walkAround 178 = .ok (.invokevirtual 856, 3))
  exact fun _ _ K => eA.cv (jX32_walkAround_856 29 (by decide)) (rh_obl hw 0 (by decide +kernel)) (by decide) hd rfl hw1 rfl E K
theorem vX32_walkAround_197 {w : rhW} (hw : rh_ms w) {L : rhL} {S1 : List rhA} {M M0 : rhM} {r : Int} {y1 : Int} (E : eC w YX32_ahead 1 [(2, 0), (0, y1)] M r M0) (hw1 : rh_wd S1 ≤ 8) : eS w YX32_walkAround 2 197 L ((0, y1) :: (2, 0) :: S1) M 200 L ((0, r) :: S1) M0 := by
  have hd : decode (ry_c YX32_walkAround) 197 = .ok (.invokevirtual 856, 3) := (tdX32_walkAround 197).resolve_right (by decide +kernel) ▸ (by decide +kernel : rh_dk dtX32_walkAround 197 = .ok (.invokevirtual 856, 3))
  exact fun _ _ K => eA.cv (jX32_walkAround_856 29 (by decide)) (rh_obl hw 0 (by decide +kernel)) (by decide) hd rfl hw1 rfl E K
theorem jX32_piece_832 {w : rhW} : ∀ ci ∈ ([29] : List Nat), rh_cvr w YX32_piece YX32_findPieces 832 1 ci := rh_one (rh_cvr.of rfl (Or.inl q4388) kX32_findPieces)
theorem vX32_piece_18 {w : rhW} (hw : rh_ms w) {L : rhL} {S1 : List rhA} {M M0 : rhM} {r : Int} {y1 : Int} (E : eC w YX32_findPieces 2 [(2, 0), (0, y1)] M r M0) (hw1 : rh_wd S1 ≤ 8) : eS w YX32_piece 3 18 L ((0, y1) :: (2, 0) :: S1) M 21 L S1 M0 := by
  have hd : decode (ry_c YX32_piece) 18 = .ok (.invokevirtual 832, 3) := (tdX32_piece 18).resolve_right (by decide +kernel) ▸ (by decide +kernel : rh_dk dtX32_piece 18 = .ok (.invokevirtual 832, 3))
  exact fun _ _ K => eA.cv (jX32_piece_832 29 (by decide)) (rh_obl hw 0 (by decide +kernel)) (by decide) hd rfl hw1 rfl E K
theorem q4396 : (Jvm.Cond.methodLink "ReadingHouseModel" (859 : Nat) ({ cls := "ReadingHouseModel", name := "holesOf", desc := "(I)I" } : Jvm.MethodName)) ∈ lw_all := lw_g (lw_at lw_m18 63 rfl) rfl
theorem jX32_piece_859 {w : rhW} : ∀ ci ∈ ([29] : List Nat), rh_cvr w YX32_piece YX32_holesOf 859 1 ci := rh_one (rh_cvr.of rfl (Or.inl q4396) kX32_holesOf)
theorem vX32_piece_161 {w : rhW} (hw : rh_ms w) {L : rhL} {S1 : List rhA} {M M0 : rhM} {r : Int} {y1 : Int} (E : eC w YX32_holesOf 2 [(2, 0), (0, y1)] M r M0) (hw1 : rh_wd S1 ≤ 8) : eS w YX32_piece 3 161 L ((0, y1) :: (2, 0) :: S1) M 164 L ((0, r) :: S1) M0 := by
  have hd : decode (ry_c YX32_piece) 161 = .ok (.invokevirtual 859, 3) := (tdX32_piece 161).resolve_right (by decide +kernel) ▸ (by decide +kernel : rh_dk dtX32_piece 161 = .ok (.invokevirtual 859, 3))
  exact fun _ _ K => eA.cv (jX32_piece_859 29 (by decide)) (rh_obl hw 0 (by decide +kernel)) (by decide) hd rfl hw1 rfl E K
theorem q4404 : (Jvm.Cond.methodLink "ReadingHouseModel" (862 : Nat) ({ cls := "ReadingHouseModel", name := "walkAround", desc := "(II)V" } : Jvm.MethodName)) ∈ lw_all := lw_g (lw_at lw_m18 71 rfl) rfl
theorem jX32_piece_862 {w : rhW} : ∀ ci ∈ ([29] : List Nat), rh_cvr w YX32_piece YX32_walkAround 862 2 ci := rh_one (rh_cvr.of rfl (Or.inl q4404) kX32_walkAround)
theorem vX32_piece_168 {w : rhW} (hw : rh_ms w) {L : rhL} {S1 : List rhA} {M M0 : rhM} {r : Int} {y1 y2 : Int} (E : eC w YX32_walkAround 2 [(2, 0), (0, y1), (0, y2)] M r M0) (hw1 : rh_wd S1 ≤ 8) : eS w YX32_piece 3 168 L ((0, y2) :: (0, y1) :: (2, 0) :: S1) M 171 L S1 M0 := by
  have hd : decode (ry_c YX32_piece) 168 = .ok (.invokevirtual 862, 3) := (tdX32_piece 168).resolve_right (by decide +kernel) ▸ (by decide +kernel : rh_dk dtX32_piece 168 = .ok (.invokevirtual 862, 3))
  exact fun _ _ K => eA.cv (jX32_piece_862 29 (by decide)) (rh_obl hw 0 (by decide +kernel)) (by decide) hd rfl hw1 rfl E K
theorem jX32_outline_832 {w : rhW} : ∀ ci ∈ ([29] : List Nat), rh_cvr w YX32_outline YX32_findPieces 832 1 ci := rh_one (rh_cvr.of rfl (Or.inl q4388) kX32_findPieces)
theorem vX32_outline_18 {w : rhW} (hw : rh_ms w) {L : rhL} {S1 : List rhA} {M M0 : rhM} {r : Int} {y1 : Int} (E : eC w YX32_findPieces 2 [(2, 0), (0, y1)] M r M0) (hw1 : rh_wd S1 ≤ 8) : eS w YX32_outline 3 18 L ((0, y1) :: (2, 0) :: S1) M 21 L S1 M0 := by
  have hd : decode (ry_c YX32_outline) 18 = .ok (.invokevirtual 832, 3) := (tdX32_outline 18).resolve_right (by decide +kernel) ▸ (by decide +kernel : rh_dk dtX32_outline 18 = .ok (.invokevirtual 832, 3))
  exact fun _ _ K => eA.cv (jX32_outline_832 29 (by decide)) (rh_obl hw 0 (by decide +kernel)) (by decide) hd rfl hw1 rfl E K
theorem jX32_outline_862 {w : rhW} : ∀ ci ∈ ([29] : List Nat), rh_cvr w YX32_outline YX32_walkAround 862 2 ci := rh_one (rh_cvr.of rfl (Or.inl q4404) kX32_walkAround)
theorem vX32_outline_51 {w : rhW} (hw : rh_ms w) {L : rhL} {S1 : List rhA} {M M0 : rhM} {r : Int} {y1 y2 : Int} (E : eC w YX32_walkAround 2 [(2, 0), (0, y1), (0, y2)] M r M0) (hw1 : rh_wd S1 ≤ 8) : eS w YX32_outline 3 51 L ((0, y2) :: (0, y1) :: (2, 0) :: S1) M 54 L S1 M0 := by
  have hd : decode (ry_c YX32_outline) 51 = .ok (.invokevirtual 862, 3) := (tdX32_outline 51).resolve_right (by decide +kernel) ▸ (by decide +kernel : rh_dk dtX32_outline 51 = .ok (.invokevirtual 862, 3))
  exact fun _ _ K => eA.cv (jX32_outline_862 29 (by decide)) (rh_obl hw 0 (by decide +kernel)) (by decide) hd rfl hw1 rfl E K
theorem q4420 : (Jvm.Cond.methodLink "ReadingHouseModel" (865 : Nat) ({ cls := "ReadingHouseModel", name := "isBlack", desc := "(III)Z" } : Jvm.MethodName)) ∈ lw_all := lw_g (lw_at lw_m18 87 rfl) rfl
theorem jX32_deep_865 {w : rhW} : ∀ ci ∈ ([29] : List Nat), rh_cvr w YX32_deep YX32_isBlack 865 3 ci := rh_one (rh_cvr.of rfl (Or.inl q4420) kX32_isBlack)
theorem vX32_deep_33 {w : rhW} (hw : rh_ms w) {L : rhL} {S1 : List rhA} {M M0 : rhM} {r : Int} {y1 y2 y3 : Int} (E : eC w YX32_isBlack 1 [(2, 0), (0, y1), (0, y2), (0, y3)] M r M0) (hw1 : rh_wd S1 ≤ 8) : eS w YX32_deep 3 33 L ((0, y3) :: (0, y2) :: (0, y1) :: (2, 0) :: S1) M 36 L ((0, r) :: S1) M0 := by
  have hd : decode (ry_c YX32_deep) 33 = .ok (.invokevirtual 865, 3) := (tdX32_deep 33).resolve_right (by decide +kernel) ▸ (by decide +kernel : rh_dk dtX32_deep 33 = .ok (.invokevirtual 865, 3))
  exact fun _ _ K => eA.cv (jX32_deep_865 29 (by decide)) (rh_obl hw 0 (by decide +kernel)) (by decide) hd rfl hw1 rfl E K
theorem jX32_findBlocks_782 {w : rhW} : ∀ ci ∈ ([29] : List Nat), rh_cvr w YX32_findBlocks YX32_labelAll 782 2 ci := rh_one (rh_cvr.of rfl (Or.inl q4316) kX32_labelAll)
theorem vX32_findBlocks_3 {w : rhW} (hw : rh_ms w) {L : rhL} {S1 : List rhA} {M M0 : rhM} {r : Int} {y1 y2 : Int} (E : eC w YX32_labelAll 1 [(2, 0), (0, y1), (0, y2)] M r M0) (hw1 : rh_wd S1 ≤ 8) : eS w YX32_findBlocks 2 3 L ((0, y2) :: (0, y1) :: (2, 0) :: S1) M 6 L S1 M0 := by
  have hd : decode (ry_c YX32_findBlocks) 3 = .ok (.invokevirtual 782, 3) := (tdX32_findBlocks 3).resolve_right (by decide +kernel) ▸ (by decide +kernel : rh_dk dtX32_findBlocks 3 = .ok (.invokevirtual 782, 3))
  exact fun _ _ K => eA.cv (jX32_findBlocks_782 29 (by decide)) (rh_obl hw 0 (by decide +kernel)) (by decide) hd rfl hw1 rfl E K
theorem q4445 : (Jvm.Cond.methodLink "ReadingHouseModel" (877 : Nat) ({ cls := "ReadingHouseModel", name := "goesBefore", desc := "(III)Z" } : Jvm.MethodName)) ∈ lw_all := lw_g (lw_at lw_m18 112 rfl) rfl
theorem jX32_orderBlocks_877 {w : rhW} : ∀ ci ∈ ([29] : List Nat), rh_cvr w YX32_orderBlocks YX32_goesBefore 877 3 ci := rh_one (rh_cvr.of rfl (Or.inl q4445) kX32_goesBefore)
theorem vX32_orderBlocks_125 {w : rhW} (hw : rh_ms w) {L : rhL} {S1 : List rhA} {M M0 : rhM} {r : Int} {y1 y2 y3 : Int} (E : eC w YX32_goesBefore 1 [(2, 0), (0, y1), (0, y2), (0, y3)] M r M0) (hw1 : rh_wd S1 ≤ 8) : eS w YX32_orderBlocks 2 125 L ((0, y3) :: (0, y2) :: (0, y1) :: (2, 0) :: S1) M 128 L ((0, r) :: S1) M0 := by
  have hd : decode (ry_c YX32_orderBlocks) 125 = .ok (.invokevirtual 877, 3) := (tdX32_orderBlocks 125).resolve_right (by decide +kernel) ▸ (by decide +kernel : rh_dk dtX32_orderBlocks 125 = .ok (.invokevirtual 877, 3))
  exact fun _ _ K => eA.cv (jX32_orderBlocks_877 29 (by decide)) (rh_obl hw 0 (by decide +kernel)) (by decide) hd rfl hw1 rfl E K
theorem q4461 : (Jvm.Cond.methodLink "ReadingHouseModel" (880 : Nat) ({ cls := "ReadingHouseModel", name := "isEarlier", desc := "(II)Z" } : Jvm.MethodName)) ∈ lw_all := lw_g (lw_at lw_m18 128 rfl) rfl
theorem jX32_orderBlocks_880 {w : rhW} : ∀ ci ∈ ([29] : List Nat), rh_cvr w YX32_orderBlocks YX32_isEarlier 880 2 ci := rh_one (rh_cvr.of rfl (Or.inl q4461) kX32_isEarlier)
theorem vX32_orderBlocks_160 {w : rhW} (hw : rh_ms w) {L : rhL} {S1 : List rhA} {M M0 : rhM} {r : Int} {y1 y2 : Int} (E : eC w YX32_isEarlier 0 [(2, 0), (0, y1), (0, y2)] M r M0) (hw1 : rh_wd S1 ≤ 8) : eS w YX32_orderBlocks 2 160 L ((0, y2) :: (0, y1) :: (2, 0) :: S1) M 163 L ((0, r) :: S1) M0 := by
  have hd : decode (ry_c YX32_orderBlocks) 160 = .ok (.invokevirtual 880, 3) := (tdX32_orderBlocks 160).resolve_right (by decide +kernel) ▸ (by decide +kernel : rh_dk dtX32_orderBlocks 160 = .ok (.invokevirtual 880, 3))
  exact fun _ _ K => eA.cv (jX32_orderBlocks_880 29 (by decide)) (rh_obl hw 0 (by decide +kernel)) (by decide) hd rfl hw1 rfl E K
theorem vX32_orderBlocks_186 {w : rhW} (hw : rh_ms w) {L : rhL} {S1 : List rhA} {M M0 : rhM} {r : Int} {y1 y2 : Int} (E : eC w YX32_isEarlier 0 [(2, 0), (0, y1), (0, y2)] M r M0) (hw1 : rh_wd S1 ≤ 8) : eS w YX32_orderBlocks 2 186 L ((0, y2) :: (0, y1) :: (2, 0) :: S1) M 189 L ((0, r) :: S1) M0 := by
  have hd : decode (ry_c YX32_orderBlocks) 186 = .ok (.invokevirtual 880, 3) := (tdX32_orderBlocks 186).resolve_right (by decide +kernel) ▸ (by decide +kernel : rh_dk dtX32_orderBlocks 186 = .ok (.invokevirtual 880, 3))
  exact fun _ _ K => eA.cv (jX32_orderBlocks_880 29 (by decide)) (rh_obl hw 0 (by decide +kernel)) (by decide) hd rfl hw1 rfl E K
theorem q4473 : (Jvm.Cond.methodLink "ReadingHouseModel" (883 : Nat) ({ cls := "ReadingHouseModel", name := "areNear", desc := "(II)Z" } : Jvm.MethodName)) ∈ lw_all := lw_g (lw_at lw_m18 140 rfl) rfl
theorem jX32_findSets_883 {w : rhW} : ∀ ci ∈ ([29] : List Nat), rh_cvr w YX32_findSets YX32_areNear 883 2 ci := rh_one (rh_cvr.of rfl (Or.inl q4473) kX32_areNear)
theorem vX32_findSets_108 {w : rhW} (hw : rh_ms w) {L : rhL} {S1 : List rhA} {M M0 : rhM} {r : Int} {y1 y2 : Int} (E : eC w YX32_areNear 1 [(2, 0), (0, y1), (0, y2)] M r M0) (hw1 : rh_wd S1 ≤ 8) : eS w YX32_findSets 2 108 L ((0, y2) :: (0, y1) :: (2, 0) :: S1) M 111 L ((0, r) :: S1) M0 := by
  have hd : decode (ry_c YX32_findSets) 108 = .ok (.invokevirtual 883, 3) := (tdX32_findSets 108).resolve_right (by decide +kernel) ▸ (by decide +kernel : rh_dk dtX32_findSets 108 = .ok (.invokevirtual 883, 3))
  exact fun _ _ K => eA.cv (jX32_findSets_883 29 (by decide)) (rh_obl hw 0 (by decide +kernel)) (by decide) hd rfl hw1 rfl E K
theorem q4469 : (Jvm.Cond.methodLink "ReadingHouseModel" (886 : Nat) ({ cls := "ReadingHouseModel", name := "findSets", desc := "(I)V" } : Jvm.MethodName)) ∈ lw_all := lw_g (lw_at lw_m18 136 rfl) rfl
theorem jX32_linesOfBlock_886 {w : rhW} : ∀ ci ∈ ([29] : List Nat), rh_cvr w YX32_linesOfBlock YX32_findSets 886 1 ci := rh_one (rh_cvr.of rfl (Or.inl q4469) kX32_findSets)
theorem vX32_linesOfBlock_2 {w : rhW} (hw : rh_ms w) {L : rhL} {S1 : List rhA} {M M0 : rhM} {r : Int} {y1 : Int} (E : eC w YX32_findSets 2 [(2, 0), (0, y1)] M r M0) (hw1 : rh_wd S1 ≤ 8) : eS w YX32_linesOfBlock 4 2 L ((0, y1) :: (2, 0) :: S1) M 5 L S1 M0 := by
  have hd : decode (ry_c YX32_linesOfBlock) 2 = .ok (.invokevirtual 886, 3) := (tdX32_linesOfBlock 2).resolve_right (by decide +kernel) ▸ (by decide +kernel : rh_dk dtX32_linesOfBlock 2 = .ok (.invokevirtual 886, 3))
  exact fun _ _ K => eA.cv (jX32_linesOfBlock_886 29 (by decide)) (rh_obl hw 0 (by decide +kernel)) (by decide) hd rfl hw1 rfl E K
theorem q4477 : (Jvm.Cond.methodLink "ReadingHouseModel" (889 : Nat) ({ cls := "ReadingHouseModel", name := "isEarlierSet", desc := "(II)Z" } : Jvm.MethodName)) ∈ lw_all := lw_g (lw_at lw_m18 144 rfl) rfl
theorem jX32_linesOfBlock_889 {w : rhW} : ∀ ci ∈ ([29] : List Nat), rh_cvr w YX32_linesOfBlock YX32_isEarlierSet 889 2 ci := rh_one (rh_cvr.of rfl (Or.inl q4477) kX32_isEarlierSet)
theorem vX32_linesOfBlock_172 {w : rhW} (hw : rh_ms w) {L : rhL} {S1 : List rhA} {M M0 : rhM} {r : Int} {y1 y2 : Int} (E : eC w YX32_isEarlierSet 0 [(2, 0), (0, y1), (0, y2)] M r M0) (hw1 : rh_wd S1 ≤ 8) : eS w YX32_linesOfBlock 4 172 L ((0, y2) :: (0, y1) :: (2, 0) :: S1) M 175 L ((0, r) :: S1) M0 := by
  have hd : decode (ry_c YX32_linesOfBlock) 172 = .ok (.invokevirtual 889, 3) := (tdX32_linesOfBlock 172).resolve_right (by decide +kernel) ▸ (by decide +kernel : rh_dk dtX32_linesOfBlock 172 = .ok (.invokevirtual 889, 3))
  exact fun _ _ K => eA.cv (jX32_linesOfBlock_889 29 (by decide)) (rh_obl hw 0 (by decide +kernel)) (by decide) hd rfl hw1 rfl E K
theorem q4481 : (Jvm.Cond.methodLink "ReadingHouseModel" (892 : Nat) ({ cls := "ReadingHouseModel", name := "lineOfSet", desc := "(III)V" } : Jvm.MethodName)) ∈ lw_all := lw_g (lw_at lw_m18 148 rfl) rfl
theorem jX32_linesOfBlock_892 {w : rhW} : ∀ ci ∈ ([29] : List Nat), rh_cvr w YX32_linesOfBlock YX32_lineOfSet 892 3 ci := rh_one (rh_cvr.of rfl (Or.inl q4481) kX32_lineOfSet)
theorem vX32_linesOfBlock_233 {w : rhW} (hw : rh_ms w) {L : rhL} {S1 : List rhA} {M M0 : rhM} {r : Int} {y1 y2 y3 : Int} (E : eC w YX32_lineOfSet 3 [(2, 0), (0, y1), (0, y2), (0, y3)] M r M0) (hw1 : rh_wd S1 ≤ 8) : eS w YX32_linesOfBlock 4 233 L ((0, y3) :: (0, y2) :: (0, y1) :: (2, 0) :: S1) M 236 L S1 M0 := by
  have hd : decode (ry_c YX32_linesOfBlock) 233 = .ok (.invokevirtual 892, 3) := (tdX32_linesOfBlock 233).resolve_right (by decide +kernel) ▸ (by decide +kernel : rh_dk dtX32_linesOfBlock 233 = .ok (.invokevirtual 892, 3))
  exact fun _ _ K => eA.cv (jX32_linesOfBlock_892 29 (by decide)) (rh_obl hw 0 (by decide +kernel)) (by decide) hd rfl hw1 rfl E K
theorem q4485 : (Jvm.Cond.methodLink "ReadingHouseModel" (898 : Nat) ({ cls := "ReadingHouseModel", name := "isBeforePiece", desc := "(II)Z" } : Jvm.MethodName)) ∈ lw_all := lw_g (lw_at lw_m18 152 rfl) rfl
theorem jX32_lineOfSet_898 {w : rhW} : ∀ ci ∈ ([29] : List Nat), rh_cvr w YX32_lineOfSet YX32_isBeforePiece 898 2 ci := rh_one (rh_cvr.of rfl (Or.inl q4485) kX32_isBeforePiece)
theorem vX32_lineOfSet_215 {w : rhW} (hw : rh_ms w) {L : rhL} {S1 : List rhA} {M M0 : rhM} {r : Int} {y1 y2 : Int} (E : eC w YX32_isBeforePiece 0 [(2, 0), (0, y1), (0, y2)] M r M0) (hw1 : rh_wd S1 ≤ 8) : eS w YX32_lineOfSet 3 215 L ((0, y2) :: (0, y1) :: (2, 0) :: S1) M 218 L ((0, r) :: S1) M0 := by
  have hd : decode (ry_c YX32_lineOfSet) 215 = .ok (.invokevirtual 898, 3) := (tdX32_lineOfSet 215).resolve_right (by decide +kernel) ▸ (by decide +kernel : rh_dk dtX32_lineOfSet 215 = .ok (.invokevirtual 898, 3))
  exact fun _ _ K => eA.cv (jX32_lineOfSet_898 29 (by decide)) (rh_obl hw 0 (by decide +kernel)) (by decide) hd rfl hw1 rfl E K
theorem q4489 : (Jvm.Cond.methodLink "ReadingHouseModel" (901 : Nat) ({ cls := "ReadingHouseModel", name := "wordsOfLine", desc := "(II)V" } : Jvm.MethodName)) ∈ lw_all := lw_g (lw_at lw_m18 156 rfl) rfl
theorem jX32_lineOfSet_901 {w : rhW} : ∀ ci ∈ ([29] : List Nat), rh_cvr w YX32_lineOfSet YX32_wordsOfLine 901 2 ci := rh_one (rh_cvr.of rfl (Or.inl q4489) kX32_wordsOfLine)
theorem vX32_lineOfSet_273 {w : rhW} (hw : rh_ms w) {L : rhL} {S1 : List rhA} {M M0 : rhM} {r : Int} {y1 y2 : Int} (E : eC w YX32_wordsOfLine 2 [(2, 0), (0, y1), (0, y2)] M r M0) (hw1 : rh_wd S1 ≤ 8) : eS w YX32_lineOfSet 3 273 L ((0, y2) :: (0, y1) :: (2, 0) :: S1) M 276 L S1 M0 := by
  have hd : decode (ry_c YX32_lineOfSet) 273 = .ok (.invokevirtual 901, 3) := (tdX32_lineOfSet 273).resolve_right (by decide +kernel) ▸ (by decide +kernel : rh_dk dtX32_lineOfSet 273 = .ok (.invokevirtual 901, 3))
  exact fun _ _ K => eA.cv (jX32_lineOfSet_901 29 (by decide)) (rh_obl hw 0 (by decide +kernel)) (by decide) hd rfl hw1 rfl E K
theorem q4493 : (Jvm.Cond.methodLink "ReadingHouseModel" (904 : Nat) ({ cls := "ReadingHouseModel", name := "partGaps", desc := "(I)I" } : Jvm.MethodName)) ∈ lw_all := lw_g (lw_at lw_m18 160 rfl) rfl
theorem jX32_wordsOfLine_904 {w : rhW} : ∀ ci ∈ ([29] : List Nat), rh_cvr w YX32_wordsOfLine YX32_partGaps 904 1 ci := rh_one (rh_cvr.of rfl (Or.inl q4493) kX32_partGaps)
theorem vX32_wordsOfLine_74 {w : rhW} (hw : rh_ms w) {L : rhL} {S1 : List rhA} {M M0 : rhM} {r : Int} {y1 : Int} (E : eC w YX32_partGaps 0 [(2, 0), (0, y1)] M r M0) (hw1 : rh_wd S1 ≤ 8) : eS w YX32_wordsOfLine 2 74 L ((0, y1) :: (2, 0) :: S1) M 77 L ((0, r) :: S1) M0 := by
  have hd : decode (ry_c YX32_wordsOfLine) 74 = .ok (.invokevirtual 904, 3) := (tdX32_wordsOfLine 74).resolve_right (by decide +kernel) ▸ (by decide +kernel : rh_dk dtX32_wordsOfLine 74 = .ok (.invokevirtual 904, 3))
  exact fun _ _ K => eA.cv (jX32_wordsOfLine_904 29 (by decide)) (rh_obl hw 0 (by decide +kernel)) (by decide) hd rfl hw1 rfl E K
theorem q4497 : (Jvm.Cond.methodLink "ReadingHouseModel" (907 : Nat) ({ cls := "ReadingHouseModel", name := "oneWord", desc := "(IIII)V" } : Jvm.MethodName)) ∈ lw_all := lw_g (lw_at lw_m18 164 rfl) rfl
theorem jX32_wordsOfLine_907 {w : rhW} : ∀ ci ∈ ([29] : List Nat), rh_cvr w YX32_wordsOfLine YX32_oneWord 907 4 ci := rh_one (rh_cvr.of rfl (Or.inl q4497) kX32_oneWord)
theorem vX32_wordsOfLine_164 {w : rhW} (hw : rh_ms w) {L : rhL} {S1 : List rhA} {M M0 : rhM} {r : Int} {y1 y2 y3 y4 : Int} (E : eC w YX32_oneWord 1 [(2, 0), (0, y1), (0, y2), (0, y3), (0, y4)] M r M0) (hw1 : rh_wd S1 ≤ 8) : eS w YX32_wordsOfLine 2 164 L ((0, y4) :: (0, y3) :: (0, y2) :: (0, y1) :: (2, 0) :: S1) M 167 L S1 M0 := by
  have hd : decode (ry_c YX32_wordsOfLine) 164 = .ok (.invokevirtual 907, 3) := (tdX32_wordsOfLine 164).resolve_right (by decide +kernel) ▸ (by decide +kernel : rh_dk dtX32_wordsOfLine 164 = .ok (.invokevirtual 907, 3))
  exact fun _ _ K => eA.cv (jX32_wordsOfLine_907 29 (by decide)) (rh_obl hw 0 (by decide +kernel)) (by decide) hd rfl hw1 rfl E K
theorem jX32_lay_779 {w : rhW} : ∀ ci ∈ ([29] : List Nat), rh_cvr w YX32_lay YX32_inkOf 779 1 ci := rh_one (rh_cvr.of rfl (Or.inl q4312) kX32_inkOf)
theorem vX32_lay_2 {w : rhW} (hw : rh_ms w) {L : rhL} {S1 : List rhA} {M M0 : rhM} {r : Int} {y1 : Int} (E : eC w YX32_inkOf 0 [(2, 0), (0, y1)] M r M0) (hw1 : rh_wd S1 ≤ 8) : eS w YX32_lay 5 2 L ((0, y1) :: (2, 0) :: S1) M 5 L S1 M0 := by
  have hd : decode (ry_c YX32_lay) 2 = .ok (.invokevirtual 779, 3) := (tdX32_lay 2).resolve_right (by decide +kernel) ▸ (by decide +kernel : rh_dk dtX32_lay 2 = .ok (.invokevirtual 779, 3))
  exact fun _ _ K => eA.cv (jX32_lay_779 29 (by decide)) (rh_obl hw 0 (by decide +kernel)) (by decide) hd rfl hw1 rfl E K
theorem q4433 : (Jvm.Cond.methodLink "ReadingHouseModel" (914 : Nat) ({ cls := "ReadingHouseModel", name := "smear", desc := "(II)V" } : Jvm.MethodName)) ∈ lw_all := lw_g (lw_at lw_m18 100 rfl) rfl
theorem jX32_lay_914 {w : rhW} : ∀ ci ∈ ([29] : List Nat), rh_cvr w YX32_lay YX32_smear 914 2 ci := rh_one (rh_cvr.of rfl (Or.inl q4433) kX32_smear)
theorem vX32_lay_8 {w : rhW} (hw : rh_ms w) {L : rhL} {S1 : List rhA} {M M0 : rhM} {r : Int} {y1 y2 : Int} (E : eC w YX32_smear 0 [(2, 0), (0, y1), (0, y2)] M r M0) (hw1 : rh_wd S1 ≤ 8) : eS w YX32_lay 5 8 L ((0, y2) :: (0, y1) :: (2, 0) :: S1) M 11 L S1 M0 := by
  have hd : decode (ry_c YX32_lay) 8 = .ok (.invokevirtual 914, 3) := (tdX32_lay 8).resolve_right (by decide +kernel) ▸ (by decide +kernel : rh_dk dtX32_lay 8 = .ok (.invokevirtual 914, 3))
  exact fun _ _ K => eA.cv (jX32_lay_914 29 (by decide)) (rh_obl hw 0 (by decide +kernel)) (by decide) hd rfl hw1 rfl E K
theorem q4437 : (Jvm.Cond.methodLink "ReadingHouseModel" (917 : Nat) ({ cls := "ReadingHouseModel", name := "findBlocks", desc := "(I)V" } : Jvm.MethodName)) ∈ lw_all := lw_g (lw_at lw_m18 104 rfl) rfl
theorem jX32_lay_917 {w : rhW} : ∀ ci ∈ ([29] : List Nat), rh_cvr w YX32_lay YX32_findBlocks 917 1 ci := rh_one (rh_cvr.of rfl (Or.inl q4437) kX32_findBlocks)
theorem vX32_lay_13 {w : rhW} (hw : rh_ms w) {L : rhL} {S1 : List rhA} {M M0 : rhM} {r : Int} {y1 : Int} (E : eC w YX32_findBlocks 2 [(2, 0), (0, y1)] M r M0) (hw1 : rh_wd S1 ≤ 8) : eS w YX32_lay 5 13 L ((0, y1) :: (2, 0) :: S1) M 16 L S1 M0 := by
  have hd : decode (ry_c YX32_lay) 13 = .ok (.invokevirtual 917, 3) := (tdX32_lay 13).resolve_right (by decide +kernel) ▸ (by decide +kernel : rh_dk dtX32_lay 13 = .ok (.invokevirtual 917, 3))
  exact fun _ _ K => eA.cv (jX32_lay_917 29 (by decide)) (rh_obl hw 0 (by decide +kernel)) (by decide) hd rfl hw1 rfl E K
theorem q4441 : (Jvm.Cond.methodLink "ReadingHouseModel" (920 : Nat) ({ cls := "ReadingHouseModel", name := "orderBlocks", desc := "(I)V" } : Jvm.MethodName)) ∈ lw_all := lw_g (lw_at lw_m18 108 rfl) rfl
theorem jX32_lay_920 {w : rhW} : ∀ ci ∈ ([29] : List Nat), rh_cvr w YX32_lay YX32_orderBlocks 920 1 ci := rh_one (rh_cvr.of rfl (Or.inl q4441) kX32_orderBlocks)
theorem vX32_lay_18 {w : rhW} (hw : rh_ms w) {L : rhL} {S1 : List rhA} {M M0 : rhM} {r : Int} {y1 : Int} (E : eC w YX32_orderBlocks 2 [(2, 0), (0, y1)] M r M0) (hw1 : rh_wd S1 ≤ 8) : eS w YX32_lay 5 18 L ((0, y1) :: (2, 0) :: S1) M 21 L S1 M0 := by
  have hd : decode (ry_c YX32_lay) 18 = .ok (.invokevirtual 920, 3) := (tdX32_lay 18).resolve_right (by decide +kernel) ▸ (by decide +kernel : rh_dk dtX32_lay 18 = .ok (.invokevirtual 920, 3))
  exact fun _ _ K => eA.cv (jX32_lay_920 29 (by decide)) (rh_obl hw 0 (by decide +kernel)) (by decide) hd rfl hw1 rfl E K
theorem jX32_lay_832 {w : rhW} : ∀ ci ∈ ([29] : List Nat), rh_cvr w YX32_lay YX32_findPieces 832 1 ci := rh_one (rh_cvr.of rfl (Or.inl q4388) kX32_findPieces)
theorem vX32_lay_60 {w : rhW} (hw : rh_ms w) {L : rhL} {S1 : List rhA} {M M0 : rhM} {r : Int} {y1 : Int} (E : eC w YX32_findPieces 2 [(2, 0), (0, y1)] M r M0) (hw1 : rh_wd S1 ≤ 8) : eS w YX32_lay 5 60 L ((0, y1) :: (2, 0) :: S1) M 63 L S1 M0 := by
  have hd : decode (ry_c YX32_lay) 60 = .ok (.invokevirtual 832, 3) := (tdX32_lay 60).resolve_right (by decide +kernel) ▸ (by decide +kernel : rh_dk dtX32_lay 60 = .ok (.invokevirtual 832, 3))
  exact fun _ _ K => eA.cv (jX32_lay_832 29 (by decide)) (rh_obl hw 0 (by decide +kernel)) (by decide) hd rfl hw1 rfl E K
theorem q4465 : (Jvm.Cond.methodLink "ReadingHouseModel" (923 : Nat) ({ cls := "ReadingHouseModel", name := "linesOfBlock", desc := "(II)V" } : Jvm.MethodName)) ∈ lw_all := lw_g (lw_at lw_m18 132 rfl) rfl
theorem jX32_lay_923 {w : rhW} : ∀ ci ∈ ([29] : List Nat), rh_cvr w YX32_lay YX32_linesOfBlock 923 2 ci := rh_one (rh_cvr.of rfl (Or.inl q4465) kX32_linesOfBlock)
theorem vX32_lay_161 {w : rhW} (hw : rh_ms w) {L : rhL} {S1 : List rhA} {M M0 : rhM} {r : Int} {y1 y2 : Int} (E : eC w YX32_linesOfBlock 4 [(2, 0), (0, y1), (0, y2)] M r M0) (hw1 : rh_wd S1 ≤ 8) : eS w YX32_lay 5 161 L ((0, y2) :: (0, y1) :: (2, 0) :: S1) M 164 L S1 M0 := by
  have hd : decode (ry_c YX32_lay) 161 = .ok (.invokevirtual 923, 3) := (tdX32_lay 161).resolve_right (by decide +kernel) ▸ (by decide +kernel : rh_dk dtX32_lay 161 = .ok (.invokevirtual 923, 3))
  exact fun _ _ K => eA.cv (jX32_lay_923 29 (by decide)) (rh_obl hw 0 (by decide +kernel)) (by decide) hd rfl hw1 rfl E K
theorem q4429 : (Jvm.Cond.methodLink "ReadingHouseModel" (928 : Nat) ({ cls := "ReadingHouseModel", name := "lay", desc := "(III)V" } : Jvm.MethodName)) ∈ lw_all := lw_g (lw_at lw_m18 96 rfl) rfl
theorem jX32_layout_928 {w : rhW} : ∀ ci ∈ ([29] : List Nat), rh_cvr w YX32_layout YX32_lay 928 3 ci := rh_one (rh_cvr.of rfl (Or.inl q4429) kX32_lay)
theorem vX32_layout_47 {w : rhW} (hw : rh_ms w) {L : rhL} {S1 : List rhA} {M M0 : rhM} {r : Int} {y1 y2 y3 : Int} (E : eC w YX32_lay 5 [(2, 0), (0, y1), (0, y2), (0, y3)] M r M0) (hw1 : rh_wd S1 ≤ 8) : eS w YX32_layout 6 47 L ((0, y3) :: (0, y2) :: (0, y1) :: (2, 0) :: S1) M 50 L S1 M0 := by
  have hd : decode (ry_c YX32_layout) 47 = .ok (.invokevirtual 928, 3) := (tdX32_layout 47).resolve_right (by decide +kernel) ▸ (by decide +kernel : rh_dk dtX32_layout 47 = .ok (.invokevirtual 928, 3))
  exact fun _ _ K => eA.cv (jX32_layout_928 29 (by decide)) (rh_obl hw 0 (by decide +kernel)) (by decide) hd rfl hw1 rfl E K
theorem q4521 : (Jvm.Cond.methodLink "ReadingHouseModel" (934 : Nat) ({ cls := "ReadingHouseModel", name := "wordOrNot", desc := "(II)I" } : Jvm.MethodName)) ∈ lw_all := lw_g (lw_at lw_m18 188 rfl) rfl
theorem jX32_word_934 {w : rhW} : ∀ ci ∈ ([29] : List Nat), rh_cvr w YX32_word YX32_wordOrNot 934 2 ci := rh_one (rh_cvr.of rfl (Or.inl q4521) kX32_wordOrNot)
theorem vX32_word_3 {w : rhW} (hw : rh_ms w) {L : rhL} {S1 : List rhA} {M M0 : rhM} {r : Int} {y1 y2 : Int} (E : eC w YX32_wordOrNot 4 [(2, 0), (0, y1), (0, y2)] M r M0) (hw1 : rh_wd S1 ≤ 8) : eS w YX32_word 5 3 L ((0, y2) :: (0, y1) :: (2, 0) :: S1) M 6 L ((0, r) :: S1) M0 := by
  have hd : decode (ry_c YX32_word) 3 = .ok (.invokevirtual 934, 3) := (tdX32_word 3).resolve_right (by decide +kernel) ▸ (by decide +kernel : rh_dk dtX32_word 3 = .ok (.invokevirtual 934, 3))
  exact fun _ _ K => eA.cv (jX32_word_934 29 (by decide)) (rh_obl hw 0 (by decide +kernel)) (by decide) hd rfl hw1 rfl E K
theorem q4525 : (Jvm.Cond.methodLink "ReadingHouseModel" (937 : Nat) ({ cls := "ReadingHouseModel", name := "findPlaces", desc := "(II)V" } : Jvm.MethodName)) ∈ lw_all := lw_g (lw_at lw_m18 192 rfl) rfl
theorem jX32_word_937 {w : rhW} : ∀ ci ∈ ([29] : List Nat), rh_cvr w YX32_word YX32_findPlaces 937 2 ci := rh_one (rh_cvr.of rfl (Or.inl q4525) kX32_findPlaces)
theorem vX32_word_139 {w : rhW} (hw : rh_ms w) {L : rhL} {S1 : List rhA} {M M0 : rhM} {r : Int} {y1 y2 : Int} (E : eC w YX32_findPlaces 4 [(2, 0), (0, y1), (0, y2)] M r M0) (hw1 : rh_wd S1 ≤ 8) : eS w YX32_word 5 139 L ((0, y2) :: (0, y1) :: (2, 0) :: S1) M 142 L S1 M0 := by
  have hd : decode (ry_c YX32_word) 139 = .ok (.invokevirtual 937, 3) := (tdX32_word 139).resolve_right (by decide +kernel) ▸ (by decide +kernel : rh_dk dtX32_word 139 = .ok (.invokevirtual 937, 3))
  exact fun _ _ K => eA.cv (jX32_word_937 29 (by decide)) (rh_obl hw 0 (by decide +kernel)) (by decide) hd rfl hw1 rfl E K
theorem vX32_word_163 {w : rhW} (hw : rh_ms w) {L : rhL} {S1 : List rhA} {M M0 : rhM} {r : Int} {y1 y2 : Int} (E : eC w YX32_findPlaces 4 [(2, 0), (0, y1), (0, y2)] M r M0) (hw1 : rh_wd S1 ≤ 8) : eS w YX32_word 5 163 L ((0, y2) :: (0, y1) :: (2, 0) :: S1) M 166 L S1 M0 := by
  have hd : decode (ry_c YX32_word) 163 = .ok (.invokevirtual 937, 3) := (tdX32_word 163).resolve_right (by decide +kernel) ▸ (by decide +kernel : rh_dk dtX32_word 163 = .ok (.invokevirtual 937, 3))
  exact fun _ _ K => eA.cv (jX32_word_937 29 (by decide)) (rh_obl hw 0 (by decide +kernel)) (by decide) hd rfl hw1 rfl E K
theorem jX32_pieceOf_934 {w : rhW} : ∀ ci ∈ ([29] : List Nat), rh_cvr w YX32_pieceOf YX32_wordOrNot 934 2 ci := rh_one (rh_cvr.of rfl (Or.inl q4521) kX32_wordOrNot)
theorem vX32_pieceOf_3 {w : rhW} (hw : rh_ms w) {L : rhL} {S1 : List rhA} {M M0 : rhM} {r : Int} {y1 y2 : Int} (E : eC w YX32_wordOrNot 4 [(2, 0), (0, y1), (0, y2)] M r M0) (hw1 : rh_wd S1 ≤ 8) : eS w YX32_pieceOf 5 3 L ((0, y2) :: (0, y1) :: (2, 0) :: S1) M 6 L ((0, r) :: S1) M0 := by
  have hd : decode (ry_c YX32_pieceOf) 3 = .ok (.invokevirtual 934, 3) := (tdX32_pieceOf 3).resolve_right (by decide +kernel) ▸ (by decide +kernel : rh_dk dtX32_pieceOf 3 = .ok (.invokevirtual 934, 3))
  exact fun _ _ K => eA.cv (jX32_pieceOf_934 29 (by decide)) (rh_obl hw 0 (by decide +kernel)) (by decide) hd rfl hw1 rfl E K
theorem jX32_inkOfWord_832 {w : rhW} : ∀ ci ∈ ([29] : List Nat), rh_cvr w YX32_inkOfWord YX32_findPieces 832 1 ci := rh_one (rh_cvr.of rfl (Or.inl q4388) kX32_findPieces)
theorem vX32_inkOfWord_2 {w : rhW} (hw : rh_ms w) {L : rhL} {S1 : List rhA} {M M0 : rhM} {r : Int} {y1 : Int} (E : eC w YX32_findPieces 2 [(2, 0), (0, y1)] M r M0) (hw1 : rh_wd S1 ≤ 8) : eS w YX32_inkOfWord 3 2 L ((0, y1) :: (2, 0) :: S1) M 5 L S1 M0 := by
  have hd : decode (ry_c YX32_inkOfWord) 2 = .ok (.invokevirtual 832, 3) := (tdX32_inkOfWord 2).resolve_right (by decide +kernel) ▸ (by decide +kernel : rh_dk dtX32_inkOfWord 2 = .ok (.invokevirtual 832, 3))
  exact fun _ _ K => eA.cv (jX32_inkOfWord_832 29 (by decide)) (rh_obl hw 0 (by decide +kernel)) (by decide) hd rfl hw1 rfl E K
theorem q4529 : (Jvm.Cond.methodLink "ReadingHouseModel" (952 : Nat) ({ cls := "ReadingHouseModel", name := "inkOfWord", desc := "(II)V" } : Jvm.MethodName)) ∈ lw_all := lw_g (lw_at lw_m18 196 rfl) rfl
theorem jX32_findPlaces_952 {w : rhW} : ∀ ci ∈ ([29] : List Nat), rh_cvr w YX32_findPlaces YX32_inkOfWord 952 2 ci := rh_one (rh_cvr.of rfl (Or.inl q4529) kX32_inkOfWord)
theorem vX32_findPlaces_3 {w : rhW} (hw : rh_ms w) {L : rhL} {S1 : List rhA} {M M0 : rhM} {r : Int} {y1 y2 : Int} (E : eC w YX32_inkOfWord 3 [(2, 0), (0, y1), (0, y2)] M r M0) (hw1 : rh_wd S1 ≤ 8) : eS w YX32_findPlaces 4 3 L ((0, y2) :: (0, y1) :: (2, 0) :: S1) M 6 L S1 M0 := by
  have hd : decode (ry_c YX32_findPlaces) 3 = .ok (.invokevirtual 952, 3) := (tdX32_findPlaces 3).resolve_right (by decide +kernel) ▸ (by decide +kernel : rh_dk dtX32_findPlaces 3 = .ok (.invokevirtual 952, 3))
  exact fun _ _ K => eA.cv (jX32_findPlaces_952 29 (by decide)) (rh_obl hw 0 (by decide +kernel)) (by decide) hd rfl hw1 rfl E K
theorem q4533 : (Jvm.Cond.methodLink "ReadingHouseModel" (955 : Nat) ({ cls := "ReadingHouseModel", name := "putPlace", desc := "(IZ)V" } : Jvm.MethodName)) ∈ lw_all := lw_g (lw_at lw_m18 200 rfl) rfl
theorem jX32_findPlaces_955 {w : rhW} : ∀ ci ∈ ([29] : List Nat), rh_cvr w YX32_findPlaces YX32_putPlace 955 2 ci := rh_one (rh_cvr.of rfl (Or.inl q4533) kX32_putPlace)
theorem vX32_findPlaces_204 {w : rhW} (hw : rh_ms w) {L : rhL} {S1 : List rhA} {M M0 : rhM} {r : Int} {y1 y2 : Int} (E : eC w YX32_putPlace 0 [(2, 0), (0, y1), (0, y2)] M r M0) (hw1 : rh_wd S1 ≤ 8) : eS w YX32_findPlaces 4 204 L ((0, y2) :: (0, y1) :: (2, 0) :: S1) M 207 L S1 M0 := by
  have hd : decode (ry_c YX32_findPlaces) 204 = .ok (.invokevirtual 955, 3) := (tdX32_findPlaces 204).resolve_right (by decide +kernel) ▸ (by decide +kernel : rh_dk dtX32_findPlaces 204 = .ok (.invokevirtual 955, 3))
  exact fun _ _ K => eA.cv (jX32_findPlaces_955 29 (by decide)) (rh_obl hw 0 (by decide +kernel)) (by decide) hd rfl hw1 rfl E K
theorem q4537 : (Jvm.Cond.methodLink "ReadingHouseModel" (958 : Nat) ({ cls := "ReadingHouseModel", name := "isInnerPlace", desc := "(I)Z" } : Jvm.MethodName)) ∈ lw_all := lw_g (lw_at lw_m18 204 rfl) rfl
theorem jX32_findPlaces_958 {w : rhW} : ∀ ci ∈ ([29] : List Nat), rh_cvr w YX32_findPlaces YX32_isInnerPlace 958 1 ci := rh_one (rh_cvr.of rfl (Or.inl q4537) kX32_isInnerPlace)
theorem vX32_findPlaces_269 {w : rhW} (hw : rh_ms w) {L : rhL} {S1 : List rhA} {M M0 : rhM} {r : Int} {y1 : Int} (E : eC w YX32_isInnerPlace 0 [(2, 0), (0, y1)] M r M0) (hw1 : rh_wd S1 ≤ 8) : eS w YX32_findPlaces 4 269 L ((0, y1) :: (2, 0) :: S1) M 272 L ((0, r) :: S1) M0 := by
  have hd : decode (ry_c YX32_findPlaces) 269 = .ok (.invokevirtual 958, 3) := (tdX32_findPlaces 269).resolve_right (by decide +kernel) ▸ (by decide +kernel : rh_dk dtX32_findPlaces 269 = .ok (.invokevirtual 958, 3))
  exact fun _ _ K => eA.cv (jX32_findPlaces_958 29 (by decide)) (rh_obl hw 0 (by decide +kernel)) (by decide) hd rfl hw1 rfl E K
theorem vX32_findPlaces_279 {w : rhW} (hw : rh_ms w) {L : rhL} {S1 : List rhA} {M M0 : rhM} {r : Int} {y1 y2 : Int} (E : eC w YX32_putPlace 0 [(2, 0), (0, y1), (0, y2)] M r M0) (hw1 : rh_wd S1 ≤ 8) : eS w YX32_findPlaces 4 279 L ((0, y2) :: (0, y1) :: (2, 0) :: S1) M 282 L S1 M0 := by
  have hd : decode (ry_c YX32_findPlaces) 279 = .ok (.invokevirtual 955, 3) := (tdX32_findPlaces 279).resolve_right (by decide +kernel) ▸ (by decide +kernel : rh_dk dtX32_findPlaces 279 = .ok (.invokevirtual 955, 3))
  exact fun _ _ K => eA.cv (jX32_findPlaces_955 29 (by decide)) (rh_obl hw 0 (by decide +kernel)) (by decide) hd rfl hw1 rfl E K
theorem vX32_findPlaces_307 {w : rhW} (hw : rh_ms w) {L : rhL} {S1 : List rhA} {M M0 : rhM} {r : Int} {y1 y2 : Int} (E : eC w YX32_putPlace 0 [(2, 0), (0, y1), (0, y2)] M r M0) (hw1 : rh_wd S1 ≤ 8) : eS w YX32_findPlaces 4 307 L ((0, y2) :: (0, y1) :: (2, 0) :: S1) M 310 L S1 M0 := by
  have hd : decode (ry_c YX32_findPlaces) 307 = .ok (.invokevirtual 955, 3) := (tdX32_findPlaces 307).resolve_right (by decide +kernel) ▸ (by decide +kernel : rh_dk dtX32_findPlaces 307 = .ok (.invokevirtual 955, 3))
  exact fun _ _ K => eA.cv (jX32_findPlaces_955 29 (by decide)) (rh_obl hw 0 (by decide +kernel)) (by decide) hd rfl hw1 rfl E K
theorem jX32_place_934 {w : rhW} : ∀ ci ∈ ([29] : List Nat), rh_cvr w YX32_place YX32_wordOrNot 934 2 ci := rh_one (rh_cvr.of rfl (Or.inl q4521) kX32_wordOrNot)
theorem vX32_place_3 {w : rhW} (hw : rh_ms w) {L : rhL} {S1 : List rhA} {M M0 : rhM} {r : Int} {y1 y2 : Int} (E : eC w YX32_wordOrNot 4 [(2, 0), (0, y1), (0, y2)] M r M0) (hw1 : rh_wd S1 ≤ 8) : eS w YX32_place 5 3 L ((0, y2) :: (0, y1) :: (2, 0) :: S1) M 6 L ((0, r) :: S1) M0 := by
  have hd : decode (ry_c YX32_place) 3 = .ok (.invokevirtual 934, 3) := (tdX32_place 3).resolve_right (by decide +kernel) ▸ (by decide +kernel : rh_dk dtX32_place 3 = .ok (.invokevirtual 934, 3))
  exact fun _ _ K => eA.cv (jX32_place_934 29 (by decide)) (rh_obl hw 0 (by decide +kernel)) (by decide) hd rfl hw1 rfl E K
theorem jX32_place_937 {w : rhW} : ∀ ci ∈ ([29] : List Nat), rh_cvr w YX32_place YX32_findPlaces 937 2 ci := rh_one (rh_cvr.of rfl (Or.inl q4525) kX32_findPlaces)
theorem vX32_place_19 {w : rhW} (hw : rh_ms w) {L : rhL} {S1 : List rhA} {M M0 : rhM} {r : Int} {y1 y2 : Int} (E : eC w YX32_findPlaces 4 [(2, 0), (0, y1), (0, y2)] M r M0) (hw1 : rh_wd S1 ≤ 8) : eS w YX32_place 5 19 L ((0, y2) :: (0, y1) :: (2, 0) :: S1) M 22 L S1 M0 := by
  have hd : decode (ry_c YX32_place) 19 = .ok (.invokevirtual 937, 3) := (tdX32_place 19).resolve_right (by decide +kernel) ▸ (by decide +kernel : rh_dk dtX32_place 19 = .ok (.invokevirtual 937, 3))
  exact fun _ _ K => eA.cv (jX32_place_937 29 (by decide)) (rh_obl hw 0 (by decide +kernel)) (by decide) hd rfl hw1 rfl E K
theorem q4558 : (Jvm.Cond.methodLink "ReadingHouseModel" (973 : Nat) ({ cls := "ReadingHouseModel", name := "findBox", desc := "(II)Z" } : Jvm.MethodName)) ∈ lw_all := lw_g (lw_at lw_m18 225 rfl) rfl
theorem jX32_isPart_973 {w : rhW} : ∀ ci ∈ ([29] : List Nat), rh_cvr w YX32_isPart YX32_findBox 973 2 ci := rh_one (rh_cvr.of rfl (Or.inl q4558) kX32_findBox)
theorem vX32_isPart_61 {w : rhW} (hw : rh_ms w) {L : rhL} {S1 : List rhA} {M M0 : rhM} {r : Int} {y1 y2 : Int} (E : eC w YX32_findBox 1 [(2, 0), (0, y1), (0, y2)] M r M0) (hw1 : rh_wd S1 ≤ 8) : eS w YX32_isPart 2 61 L ((0, y2) :: (0, y1) :: (2, 0) :: S1) M 64 L ((0, r) :: S1) M0 := by
  have hd : decode (ry_c YX32_isPart) 61 = .ok (.invokevirtual 973, 3) := (tdX32_isPart 61).resolve_right (by decide +kernel) ▸ (by decide +kernel : rh_dk dtX32_isPart 61 = .ok (.invokevirtual 973, 3))
  exact fun _ _ K => eA.cv (jX32_isPart_973 29 (by decide)) (rh_obl hw 0 (by decide +kernel)) (by decide) hd rfl hw1 rfl E K
theorem jX32_feature_934 {w : rhW} : ∀ ci ∈ ([29] : List Nat), rh_cvr w YX32_feature YX32_wordOrNot 934 2 ci := rh_one (rh_cvr.of rfl (Or.inl q4521) kX32_wordOrNot)
theorem vX32_feature_3 {w : rhW} (hw : rh_ms w) {L : rhL} {S1 : List rhA} {M M0 : rhM} {r : Int} {y1 y2 : Int} (E : eC w YX32_wordOrNot 4 [(2, 0), (0, y1), (0, y2)] M r M0) (hw1 : rh_wd S1 ≤ 8) : eS w YX32_feature 5 3 L ((0, y2) :: (0, y1) :: (2, 0) :: S1) M 6 L ((0, r) :: S1) M0 := by
  have hd : decode (ry_c YX32_feature) 3 = .ok (.invokevirtual 934, 3) := (tdX32_feature 3).resolve_right (by decide +kernel) ▸ (by decide +kernel : rh_dk dtX32_feature 3 = .ok (.invokevirtual 934, 3))
  exact fun _ _ K => eA.cv (jX32_feature_934 29 (by decide)) (rh_obl hw 0 (by decide +kernel)) (by decide) hd rfl hw1 rfl E K
theorem jX32_feature_937 {w : rhW} : ∀ ci ∈ ([29] : List Nat), rh_cvr w YX32_feature YX32_findPlaces 937 2 ci := rh_one (rh_cvr.of rfl (Or.inl q4525) kX32_findPlaces)
theorem vX32_feature_35 {w : rhW} (hw : rh_ms w) {L : rhL} {S1 : List rhA} {M M0 : rhM} {r : Int} {y1 y2 : Int} (E : eC w YX32_findPlaces 4 [(2, 0), (0, y1), (0, y2)] M r M0) (hw1 : rh_wd S1 ≤ 8) : eS w YX32_feature 5 35 L ((0, y2) :: (0, y1) :: (2, 0) :: S1) M 38 L S1 M0 := by
  have hd : decode (ry_c YX32_feature) 35 = .ok (.invokevirtual 937, 3) := (tdX32_feature 35).resolve_right (by decide +kernel) ▸ (by decide +kernel : rh_dk dtX32_feature 35 = .ok (.invokevirtual 937, 3))
  exact fun _ _ K => eA.cv (jX32_feature_937 29 (by decide)) (rh_obl hw 0 (by decide +kernel)) (by decide) hd rfl hw1 rfl E K
theorem q4554 : (Jvm.Cond.methodLink "ReadingHouseModel" (982 : Nat) ({ cls := "ReadingHouseModel", name := "isPart", desc := "(II)Z" } : Jvm.MethodName)) ∈ lw_all := lw_g (lw_at lw_m18 221 rfl) rfl
theorem jX32_feature_982 {w : rhW} : ∀ ci ∈ ([29] : List Nat), rh_cvr w YX32_feature YX32_isPart 982 2 ci := rh_one (rh_cvr.of rfl (Or.inl q4554) kX32_isPart)
theorem vX32_feature_42 {w : rhW} (hw : rh_ms w) {L : rhL} {S1 : List rhA} {M M0 : rhM} {r : Int} {y1 y2 : Int} (E : eC w YX32_isPart 2 [(2, 0), (0, y1), (0, y2)] M r M0) (hw1 : rh_wd S1 ≤ 8) : eS w YX32_feature 5 42 L ((0, y2) :: (0, y1) :: (2, 0) :: S1) M 45 L ((0, r) :: S1) M0 := by
  have hd : decode (ry_c YX32_feature) 42 = .ok (.invokevirtual 982, 3) := (tdX32_feature 42).resolve_right (by decide +kernel) ▸ (by decide +kernel : rh_dk dtX32_feature 42 = .ok (.invokevirtual 982, 3))
  exact fun _ _ K => eA.cv (jX32_feature_982 29 (by decide)) (rh_obl hw 0 (by decide +kernel)) (by decide) hd rfl hw1 rfl E K
theorem q3358 : (Jvm.Cond.methodLink "ReadingHouseModel" (985 : Nat) ({ cls := "ReadingHouseModel", name := "findFeatures", desc := "()V" } : Jvm.MethodName)) ∈ lw_all := lw_g (lw_at lw_m13 225 rfl) rfl
theorem jX32_feature_985 {w : rhW} : ∀ ci ∈ ([29] : List Nat), rh_cvr w YX32_feature YX32_findFeatures 985 0 ci := rh_one (rh_cvr.of rfl (Or.inl q3358) kX32_findFeatures)
theorem vX32_feature_51 {w : rhW} (hw : rh_ms w) {L : rhL} {S1 : List rhA} {M M0 : rhM} {r : Int} (E : eC w YX32_findFeatures 2 [(2, 0)] M r M0) (hw1 : rh_wd S1 ≤ 8) : eS w YX32_feature 5 51 L ((2, 0) :: S1) M 54 L S1 M0 := by
  have hd : decode (ry_c YX32_feature) 51 = .ok (.invokevirtual 985, 3) := (tdX32_feature 51).resolve_right (by decide +kernel) ▸ (by decide +kernel : rh_dk dtX32_feature 51 = .ok (.invokevirtual 985, 3))
  exact fun _ _ K => eA.cv (jX32_feature_985 29 (by decide)) (rh_obl hw 0 (by decide +kernel)) (by decide) hd rfl hw1 rfl E K
theorem jX32_keepForm_985 {w : rhW} : ∀ ci ∈ ([29] : List Nat), rh_cvr w YX32_keepForm YX32_findFeatures 985 0 ci := rh_one (rh_cvr.of rfl (Or.inl q3358) kX32_findFeatures)
theorem vX32_keepForm_75 {w : rhW} (hw : rh_ms w) {L : rhL} {S1 : List rhA} {M M0 : rhM} {r : Int} (E : eC w YX32_findFeatures 2 [(2, 0)] M r M0) (hw1 : rh_wd S1 ≤ 8) : eS w YX32_keepForm 3 75 L ((2, 0) :: S1) M 78 L S1 M0 := by
  have hd : decode (ry_c YX32_keepForm) 75 = .ok (.invokevirtual 985, 3) := (tdX32_keepForm 75).resolve_right (by decide +kernel) ▸ (by decide +kernel : rh_dk dtX32_keepForm 75 = .ok (.invokevirtual 985, 3))
  exact fun _ _ K => eA.cv (jX32_keepForm_985 29 (by decide)) (rh_obl hw 0 (by decide +kernel)) (by decide) hd rfl hw1 rfl E K
theorem q3354 : (Jvm.Cond.methodLink "ReadingHouseModel" (988 : Nat) ({ cls := "ReadingHouseModel", name := "keepForm", desc := "(II)V" } : Jvm.MethodName)) ∈ lw_all := lw_g (lw_at lw_m13 221 rfl) rfl
theorem jX32_firstForm_988 {w : rhW} : ∀ ci ∈ ([29] : List Nat), rh_cvr w YX32_firstForm YX32_keepForm 988 2 ci := rh_one (rh_cvr.of rfl (Or.inl q3354) kX32_keepForm)
theorem vX32_firstForm_115 {w : rhW} (hw : rh_ms w) {L : rhL} {S1 : List rhA} {M M0 : rhM} {r : Int} {y1 y2 : Int} (E : eC w YX32_keepForm 3 [(2, 0), (0, y1), (0, y2)] M r M0) (hw1 : rh_wd S1 ≤ 8) : eS w YX32_firstForm 4 115 L ((0, y2) :: (0, y1) :: (2, 0) :: S1) M 118 L S1 M0 := by
  have hd : decode (ry_c YX32_firstForm) 115 = .ok (.invokevirtual 988, 3) := (tdX32_firstForm 115).resolve_right (by decide +kernel) ▸ (by decide +kernel : rh_dk dtX32_firstForm 115 = .ok (.invokevirtual 988, 3))
  exact fun _ _ K => eA.cv (jX32_firstForm_988 29 (by decide)) (rh_obl hw 0 (by decide +kernel)) (by decide) hd rfl hw1 rfl E K
theorem q3316 : (Jvm.Cond.methodLink "ReadingHouseModel" (1022 : Nat) ({ cls := "ReadingHouseModel", name := "firstRows", desc := "(I)I" } : Jvm.MethodName)) ∈ lw_all := lw_g (lw_at lw_m13 183 rfl) rfl
theorem jX32_firstForms_1022 {w : rhW} : rh_csr w YX32_firstForms YX32_firstRows 1022 1 := rh_csr.of (Or.inl q3316) kX32_firstRows
theorem vX32_firstForms_27 {w : rhW} {L : rhL} {S1 : List rhA} {M M0 : rhM} {r : Int} {y1 : Int} (E : eC w YX32_firstRows 0 [(0, y1)] M r M0) (hw1 : rh_wd S1 ≤ 8) : eS w YX32_firstForms 5 27 L ((0, y1) :: S1) M 30 L ((0, r) :: S1) M0 := by
  have hd : decode (ry_c YX32_firstForms) 27 = .ok (.invokestatic 1022, 3) := (tdX32_firstForms 27).resolve_right (by decide +kernel) ▸ (by decide +kernel : rh_dk dtX32_firstForms 27 = .ok (.invokestatic 1022, 3))
  exact fun _ _ K => eA.cs (jX32_firstForms_1022) (by decide) hd rfl hw1 rfl E K
theorem q3350 : (Jvm.Cond.methodLink "ReadingHouseModel" (1025 : Nat) ({ cls := "ReadingHouseModel", name := "firstForm", desc := "(II)V" } : Jvm.MethodName)) ∈ lw_all := lw_g (lw_at lw_m13 217 rfl) rfl
theorem jX32_firstForms_1025 {w : rhW} : ∀ ci ∈ ([29] : List Nat), rh_cvr w YX32_firstForms YX32_firstForm 1025 2 ci := rh_one (rh_cvr.of rfl (Or.inl q3350) kX32_firstForm)
theorem vX32_firstForms_30 {w : rhW} (hw : rh_ms w) {L : rhL} {S1 : List rhA} {M M0 : rhM} {r : Int} {y1 y2 : Int} (E : eC w YX32_firstForm 4 [(2, 0), (0, y1), (0, y2)] M r M0) (hw1 : rh_wd S1 ≤ 8) : eS w YX32_firstForms 5 30 L ((0, y2) :: (0, y1) :: (2, 0) :: S1) M 33 L S1 M0 := by
  have hd : decode (ry_c YX32_firstForms) 30 = .ok (.invokevirtual 1025, 3) := (tdX32_firstForms 30).resolve_right (by decide +kernel) ▸ (by decide +kernel : rh_dk dtX32_firstForms 30 = .ok (.invokevirtual 1025, 3))
  exact fun _ _ K => eA.cv (jX32_firstForms_1025 29 (by decide)) (rh_obl hw 0 (by decide +kernel)) (by decide) hd rfl hw1 rfl E K
theorem jX32_learn_934 {w : rhW} : ∀ ci ∈ ([29] : List Nat), rh_cvr w YX32_learn YX32_wordOrNot 934 2 ci := rh_one (rh_cvr.of rfl (Or.inl q4521) kX32_wordOrNot)
theorem vX32_learn_4 {w : rhW} (hw : rh_ms w) {L : rhL} {S1 : List rhA} {M M0 : rhM} {r : Int} {y1 y2 : Int} (E : eC w YX32_wordOrNot 4 [(2, 0), (0, y1), (0, y2)] M r M0) (hw1 : rh_wd S1 ≤ 8) : eS w YX32_learn 5 4 L ((0, y2) :: (0, y1) :: (2, 0) :: S1) M 7 L ((0, r) :: S1) M0 := by
  have hd : decode (ry_c YX32_learn) 4 = .ok (.invokevirtual 934, 3) := (tdX32_learn 4).resolve_right (by decide +kernel) ▸ (by decide +kernel : rh_dk dtX32_learn 4 = .ok (.invokevirtual 934, 3))
  exact fun _ _ K => eA.cv (jX32_learn_934 29 (by decide)) (rh_obl hw 0 (by decide +kernel)) (by decide) hd rfl hw1 rfl E K
theorem jX32_learn_937 {w : rhW} : ∀ ci ∈ ([29] : List Nat), rh_cvr w YX32_learn YX32_findPlaces 937 2 ci := rh_one (rh_cvr.of rfl (Or.inl q4525) kX32_findPlaces)
theorem vX32_learn_21 {w : rhW} (hw : rh_ms w) {L : rhL} {S1 : List rhA} {M M0 : rhM} {r : Int} {y1 y2 : Int} (E : eC w YX32_findPlaces 4 [(2, 0), (0, y1), (0, y2)] M r M0) (hw1 : rh_wd S1 ≤ 8) : eS w YX32_learn 5 21 L ((0, y2) :: (0, y1) :: (2, 0) :: S1) M 24 L S1 M0 := by
  have hd : decode (ry_c YX32_learn) 21 = .ok (.invokevirtual 937, 3) := (tdX32_learn 21).resolve_right (by decide +kernel) ▸ (by decide +kernel : rh_dk dtX32_learn 21 = .ok (.invokevirtual 937, 3))
  exact fun _ _ K => eA.cv (jX32_learn_937 29 (by decide)) (rh_obl hw 0 (by decide +kernel)) (by decide) hd rfl hw1 rfl E K
theorem jX32_learn_982 {w : rhW} : ∀ ci ∈ ([29] : List Nat), rh_cvr w YX32_learn YX32_isPart 982 2 ci := rh_one (rh_cvr.of rfl (Or.inl q4554) kX32_isPart)
theorem vX32_learn_29 {w : rhW} (hw : rh_ms w) {L : rhL} {S1 : List rhA} {M M0 : rhM} {r : Int} {y1 y2 : Int} (E : eC w YX32_isPart 2 [(2, 0), (0, y1), (0, y2)] M r M0) (hw1 : rh_wd S1 ≤ 8) : eS w YX32_learn 5 29 L ((0, y2) :: (0, y1) :: (2, 0) :: S1) M 32 L ((0, r) :: S1) M0 := by
  have hd : decode (ry_c YX32_learn) 29 = .ok (.invokevirtual 982, 3) := (tdX32_learn 29).resolve_right (by decide +kernel) ▸ (by decide +kernel : rh_dk dtX32_learn 29 = .ok (.invokevirtual 982, 3))
  exact fun _ _ K => eA.cv (jX32_learn_982 29 (by decide)) (rh_obl hw 0 (by decide +kernel)) (by decide) hd rfl hw1 rfl E K
theorem jX32_learn_988 {w : rhW} : ∀ ci ∈ ([29] : List Nat), rh_cvr w YX32_learn YX32_keepForm 988 2 ci := rh_one (rh_cvr.of rfl (Or.inl q3354) kX32_keepForm)
theorem vX32_learn_104 {w : rhW} (hw : rh_ms w) {L : rhL} {S1 : List rhA} {M M0 : rhM} {r : Int} {y1 y2 : Int} (E : eC w YX32_keepForm 3 [(2, 0), (0, y1), (0, y2)] M r M0) (hw1 : rh_wd S1 ≤ 8) : eS w YX32_learn 5 104 L ((0, y2) :: (0, y1) :: (2, 0) :: S1) M 107 L S1 M0 := by
  have hd : decode (ry_c YX32_learn) 104 = .ok (.invokevirtual 988, 3) := (tdX32_learn 104).resolve_right (by decide +kernel) ▸ (by decide +kernel : rh_dk dtX32_learn 104 = .ok (.invokevirtual 988, 3))
  exact fun _ _ K => eA.cv (jX32_learn_988 29 (by decide)) (rh_obl hw 0 (by decide +kernel)) (by decide) hd rfl hw1 rfl E K
theorem q4573 : (Jvm.Cond.methodLink "ReadingHouseModel" (1041 : Nat) ({ cls := "ReadingHouseModel", name := "splitTape", desc := "(II)I" } : Jvm.MethodName)) ∈ lw_all := lw_g (lw_at lw_m19 0 rfl) rfl
theorem jX32_learnText_1041 {w : rhW} : ∀ ci ∈ ([29] : List Nat), rh_cvr w YX32_learnText YX32_splitTape 1041 2 ci := rh_one (rh_cvr.of rfl (Or.inl q4573) kX32_splitTape)
theorem vX32_learnText_32 {w : rhW} (hw : rh_ms w) {L : rhL} {S1 : List rhA} {M M0 : rhM} {r : Int} {y1 y2 : Int} (E : eC w YX32_splitTape 1 [(2, 0), (0, y1), (0, y2)] M r M0) (hw1 : rh_wd S1 ≤ 8) : eS w YX32_learnText 5 32 L ((0, y2) :: (0, y1) :: (2, 0) :: S1) M 35 L ((0, r) :: S1) M0 := by
  have hd : decode (ry_c YX32_learnText) 32 = .ok (.invokevirtual 1041, 3) := (tdX32_learnText 32).resolve_right (by decide +kernel) ▸ (by decide +kernel : rh_dk dtX32_learnText 32 = .ok (.invokevirtual 1041, 3))
  exact fun _ _ K => eA.cv (jX32_learnText_1041 29 (by decide)) (rh_obl hw 0 (by decide +kernel)) (by decide) hd rfl hw1 rfl E K
theorem jX32_learnText_937 {w : rhW} : ∀ ci ∈ ([29] : List Nat), rh_cvr w YX32_learnText YX32_findPlaces 937 2 ci := rh_one (rh_cvr.of rfl (Or.inl q4525) kX32_findPlaces)
theorem vX32_learnText_72 {w : rhW} (hw : rh_ms w) {L : rhL} {S1 : List rhA} {M M0 : rhM} {r : Int} {y1 y2 : Int} (E : eC w YX32_findPlaces 4 [(2, 0), (0, y1), (0, y2)] M r M0) (hw1 : rh_wd S1 ≤ 8) : eS w YX32_learnText 5 72 L ((0, y2) :: (0, y1) :: (2, 0) :: S1) M 75 L S1 M0 := by
  have hd : decode (ry_c YX32_learnText) 72 = .ok (.invokevirtual 937, 3) := (tdX32_learnText 72).resolve_right (by decide +kernel) ▸ (by decide +kernel : rh_dk dtX32_learnText 72 = .ok (.invokevirtual 937, 3))
  exact fun _ _ K => eA.cv (jX32_learnText_937 29 (by decide)) (rh_obl hw 0 (by decide +kernel)) (by decide) hd rfl hw1 rfl E K
theorem q4580 : (Jvm.Cond.methodLink "ReadingHouseModel" (1044 : Nat) ({ cls := "ReadingHouseModel", name := "alignWords", desc := "(I)V" } : Jvm.MethodName)) ∈ lw_all := lw_g (lw_at lw_m19 7 rfl) rfl
theorem jX32_learnText_1044 {w : rhW} : ∀ ci ∈ ([29] : List Nat), rh_cvr w YX32_learnText YX32_alignWords 1044 1 ci := rh_one (rh_cvr.of rfl (Or.inl q4580) kX32_alignWords)
theorem vX32_learnText_95 {w : rhW} (hw : rh_ms w) {L : rhL} {S1 : List rhA} {M M0 : rhM} {r : Int} {y1 : Int} (E : eC w YX32_alignWords 1 [(2, 0), (0, y1)] M r M0) (hw1 : rh_wd S1 ≤ 8) : eS w YX32_learnText 5 95 L ((0, y1) :: (2, 0) :: S1) M 98 L S1 M0 := by
  have hd : decode (ry_c YX32_learnText) 95 = .ok (.invokevirtual 1044, 3) := (tdX32_learnText 95).resolve_right (by decide +kernel) ▸ (by decide +kernel : rh_dk dtX32_learnText 95 = .ok (.invokevirtual 1044, 3))
  exact fun _ _ K => eA.cv (jX32_learnText_1044 29 (by decide)) (rh_obl hw 0 (by decide +kernel)) (by decide) hd rfl hw1 rfl E K
theorem vX32_learnText_150 {w : rhW} (hw : rh_ms w) {L : rhL} {S1 : List rhA} {M M0 : rhM} {r : Int} {y1 y2 : Int} (E : eC w YX32_findPlaces 4 [(2, 0), (0, y1), (0, y2)] M r M0) (hw1 : rh_wd S1 ≤ 8) : eS w YX32_learnText 5 150 L ((0, y2) :: (0, y1) :: (2, 0) :: S1) M 153 L S1 M0 := by
  have hd : decode (ry_c YX32_learnText) 150 = .ok (.invokevirtual 937, 3) := (tdX32_learnText 150).resolve_right (by decide +kernel) ▸ (by decide +kernel : rh_dk dtX32_learnText 150 = .ok (.invokevirtual 937, 3))
  exact fun _ _ K => eA.cv (jX32_learnText_937 29 (by decide)) (rh_obl hw 0 (by decide +kernel)) (by decide) hd rfl hw1 rfl E K
theorem jX32_learnText_973 {w : rhW} : ∀ ci ∈ ([29] : List Nat), rh_cvr w YX32_learnText YX32_findBox 973 2 ci := rh_one (rh_cvr.of rfl (Or.inl q4558) kX32_findBox)
theorem vX32_learnText_180 {w : rhW} (hw : rh_ms w) {L : rhL} {S1 : List rhA} {M M0 : rhM} {r : Int} {y1 y2 : Int} (E : eC w YX32_findBox 1 [(2, 0), (0, y1), (0, y2)] M r M0) (hw1 : rh_wd S1 ≤ 8) : eS w YX32_learnText 5 180 L ((0, y2) :: (0, y1) :: (2, 0) :: S1) M 183 L ((0, r) :: S1) M0 := by
  have hd : decode (ry_c YX32_learnText) 180 = .ok (.invokevirtual 973, 3) := (tdX32_learnText 180).resolve_right (by decide +kernel) ▸ (by decide +kernel : rh_dk dtX32_learnText 180 = .ok (.invokevirtual 973, 3))
  exact fun _ _ K => eA.cv (jX32_learnText_973 29 (by decide)) (rh_obl hw 0 (by decide +kernel)) (by decide) hd rfl hw1 rfl E K
theorem jX32_learnText_988 {w : rhW} : ∀ ci ∈ ([29] : List Nat), rh_cvr w YX32_learnText YX32_keepForm 988 2 ci := rh_one (rh_cvr.of rfl (Or.inl q3354) kX32_keepForm)
theorem vX32_learnText_239 {w : rhW} (hw : rh_ms w) {L : rhL} {S1 : List rhA} {M M0 : rhM} {r : Int} {y1 y2 : Int} (E : eC w YX32_keepForm 3 [(2, 0), (0, y1), (0, y2)] M r M0) (hw1 : rh_wd S1 ≤ 8) : eS w YX32_learnText 5 239 L ((0, y2) :: (0, y1) :: (2, 0) :: S1) M 242 L S1 M0 := by
  have hd : decode (ry_c YX32_learnText) 239 = .ok (.invokevirtual 988, 3) := (tdX32_learnText 239).resolve_right (by decide +kernel) ▸ (by decide +kernel : rh_dk dtX32_learnText 239 = .ok (.invokevirtual 988, 3))
  exact fun _ _ K => eA.cv (jX32_learnText_988 29 (by decide)) (rh_obl hw 0 (by decide +kernel)) (by decide) hd rfl hw1 rfl E K
theorem q4606 : (Jvm.Cond.methodLink "ReadingHouseModel" (1051 : Nat) ({ cls := "ReadingHouseModel", name := "countLetters", desc := "(I)J" } : Jvm.MethodName)) ∈ lw_all := lw_g (lw_at lw_m19 33 rfl) rfl
theorem jX32_findQuestion_1051 {w : rhW} : ∀ ci ∈ ([29] : List Nat), rh_cvr w YX32_findQuestion YX32_countLetters 1051 1 ci := rh_one (rh_cvr.of rfl (Or.inl q4606) kX32_countLetters)
theorem vX32_findQuestion_2 {w : rhW} (hw : rh_ms w) {L : rhL} {S1 : List rhA} {M M0 : rhM} {r : Int} {y1 : Int} (E : eC w YX32_countLetters 0 [(2, 0), (0, y1)] M r M0) (hw1 : rh_wd S1 ≤ 8) : eS w YX32_findQuestion 1 2 L ((0, y1) :: (2, 0) :: S1) M 5 L ((1, r) :: S1) M0 := by
  have hd : decode (ry_c YX32_findQuestion) 2 = .ok (.invokevirtual 1051, 3) := (tdX32_findQuestion 2).resolve_right (by decide +kernel) ▸ (by decide +kernel : rh_dk dtX32_findQuestion 2 = .ok (.invokevirtual 1051, 3))
  exact fun _ _ K => eA.cv (jX32_findQuestion_1051 29 (by decide)) (rh_obl hw 0 (by decide +kernel)) (by decide) hd rfl hw1 rfl E K
theorem q4614 : (Jvm.Cond.methodLink "ReadingHouseModel" (1058 : Nat) ({ cls := "ReadingHouseModel", name := "partSquares", desc := "(III)J" } : Jvm.MethodName)) ∈ lw_all := lw_g (lw_at lw_m19 41 rfl) rfl
theorem jX32_findQuestion_1058 {w : rhW} : ∀ ci ∈ ([29] : List Nat), rh_cvr w YX32_findQuestion YX32_partSquares 1058 3 ci := rh_one (rh_cvr.of rfl (Or.inl q4614) kX32_partSquares)
theorem vX32_findQuestion_136 {w : rhW} (hw : rh_ms w) {L : rhL} {S1 : List rhA} {M M0 : rhM} {r : Int} {y1 y2 y3 : Int} (E : eC w YX32_partSquares 0 [(2, 0), (0, y1), (0, y2), (0, y3)] M r M0) (hw1 : rh_wd S1 ≤ 8) : eS w YX32_findQuestion 1 136 L ((0, y3) :: (0, y2) :: (0, y1) :: (2, 0) :: S1) M 139 L ((1, r) :: S1) M0 := by
  have hd : decode (ry_c YX32_findQuestion) 136 = .ok (.invokevirtual 1058, 3) := (tdX32_findQuestion 136).resolve_right (by decide +kernel) ▸ (by decide +kernel : rh_dk dtX32_findQuestion 136 = .ok (.invokevirtual 1058, 3))
  exact fun _ _ K => eA.cv (jX32_findQuestion_1058 29 (by decide)) (rh_obl hw 0 (by decide +kernel)) (by decide) hd rfl hw1 rfl E K
theorem q4602 : (Jvm.Cond.methodLink "ReadingHouseModel" (1069 : Nat) ({ cls := "ReadingHouseModel", name := "faceForms", desc := "(I)I" } : Jvm.MethodName)) ∈ lw_all := lw_g (lw_at lw_m19 29 rfl) rfl
theorem jX32_tree_1069 {w : rhW} : ∀ ci ∈ ([29] : List Nat), rh_cvr w YX32_tree YX32_faceForms 1069 1 ci := rh_one (rh_cvr.of rfl (Or.inl q4602) kX32_faceForms)
theorem vX32_tree_22 {w : rhW} (hw : rh_ms w) {L : rhL} {S1 : List rhA} {M M0 : rhM} {r : Int} {y1 : Int} (E : eC w YX32_faceForms 0 [(2, 0), (0, y1)] M r M0) (hw1 : rh_wd S1 ≤ 8) : eS w YX32_tree 2 22 L ((0, y1) :: (2, 0) :: S1) M 25 L ((0, r) :: S1) M0 := by
  have hd : decode (ry_c YX32_tree) 22 = .ok (.invokevirtual 1069, 3) := (tdX32_tree 22).resolve_right (by decide +kernel) ▸ (by decide +kernel : rh_dk dtX32_tree 22 = .ok (.invokevirtual 1069, 3))
  exact fun _ _ K => eA.cv (jX32_tree_1069 29 (by decide)) (rh_obl hw 0 (by decide +kernel)) (by decide) hd rfl hw1 rfl E K
theorem jX32_tree_1051 {w : rhW} : ∀ ci ∈ ([29] : List Nat), rh_cvr w YX32_tree YX32_countLetters 1051 1 ci := rh_one (rh_cvr.of rfl (Or.inl q4606) kX32_countLetters)
theorem vX32_tree_135 {w : rhW} (hw : rh_ms w) {L : rhL} {S1 : List rhA} {M M0 : rhM} {r : Int} {y1 : Int} (E : eC w YX32_countLetters 0 [(2, 0), (0, y1)] M r M0) (hw1 : rh_wd S1 ≤ 8) : eS w YX32_tree 2 135 L ((0, y1) :: (2, 0) :: S1) M 138 L ((1, r) :: S1) M0 := by
  have hd : decode (ry_c YX32_tree) 135 = .ok (.invokevirtual 1051, 3) := (tdX32_tree 135).resolve_right (by decide +kernel) ▸ (by decide +kernel : rh_dk dtX32_tree 135 = .ok (.invokevirtual 1051, 3))
  exact fun _ _ K => eA.cv (jX32_tree_1051 29 (by decide)) (rh_obl hw 0 (by decide +kernel)) (by decide) hd rfl hw1 rfl E K
theorem q4610 : (Jvm.Cond.methodLink "ReadingHouseModel" (1072 : Nat) ({ cls := "ReadingHouseModel", name := "findQuestion", desc := "(II)Z" } : Jvm.MethodName)) ∈ lw_all := lw_g (lw_at lw_m19 37 rfl) rfl
theorem jX32_tree_1072 {w : rhW} : ∀ ci ∈ ([29] : List Nat), rh_cvr w YX32_tree YX32_findQuestion 1072 2 ci := rh_one (rh_cvr.of rfl (Or.inl q4610) kX32_findQuestion)
theorem vX32_tree_271 {w : rhW} (hw : rh_ms w) {L : rhL} {S1 : List rhA} {M M0 : rhM} {r : Int} {y1 y2 : Int} (E : eC w YX32_findQuestion 1 [(2, 0), (0, y1), (0, y2)] M r M0) (hw1 : rh_wd S1 ≤ 8) : eS w YX32_tree 2 271 L ((0, y2) :: (0, y1) :: (2, 0) :: S1) M 274 L ((0, r) :: S1) M0 := by
  have hd : decode (ry_c YX32_tree) 271 = .ok (.invokevirtual 1072, 3) := (tdX32_tree 271).resolve_right (by decide +kernel) ▸ (by decide +kernel : rh_dk dtX32_tree 271 = .ok (.invokevirtual 1072, 3))
  exact fun _ _ K => eA.cv (jX32_tree_1072 29 (by decide)) (rh_obl hw 0 (by decide +kernel)) (by decide) hd rfl hw1 rfl E K
theorem q4631 : (Jvm.Cond.methodLink "ReadingHouseModel" (1077 : Nat) ({ cls := "ReadingHouseModel", name := "distance", desc := "(I)I" } : Jvm.MethodName)) ∈ lw_all := lw_g (lw_at lw_m19 58 rfl) rfl
theorem jX32_findCandidates_1077 {w : rhW} : ∀ ci ∈ ([29] : List Nat), rh_cvr w YX32_findCandidates YX32_distance 1077 1 ci := rh_one (rh_cvr.of rfl (Or.inl q4631) kX32_distance)
theorem vX32_findCandidates_44 {w : rhW} (hw : rh_ms w) {L : rhL} {S1 : List rhA} {M M0 : rhM} {r : Int} {y1 : Int} (E : eC w YX32_distance 0 [(2, 0), (0, y1)] M r M0) (hw1 : rh_wd S1 ≤ 8) : eS w YX32_findCandidates 1 44 L ((0, y1) :: (2, 0) :: S1) M 47 L ((0, r) :: S1) M0 := by
  have hd : decode (ry_c YX32_findCandidates) 44 = .ok (.invokevirtual 1077, 3) := (tdX32_findCandidates 44).resolve_right (by decide +kernel) ▸ (by decide +kernel : rh_dk dtX32_findCandidates 44 = .ok (.invokevirtual 1077, 3))
  exact fun _ _ K => eA.cv (jX32_findCandidates_1077 29 (by decide)) (rh_obl hw 0 (by decide +kernel)) (by decide) hd rfl hw1 rfl E K
theorem q4635 : (Jvm.Cond.methodLink "ReadingHouseModel" (1080 : Nat) ({ cls := "ReadingHouseModel", name := "letterByTree", desc := "(I)I" } : Jvm.MethodName)) ∈ lw_all := lw_g (lw_at lw_m19 62 rfl) rfl
theorem jX32_findCandidates_1080 {w : rhW} : ∀ ci ∈ ([29] : List Nat), rh_cvr w YX32_findCandidates YX32_letterByTree 1080 1 ci := rh_one (rh_cvr.of rfl (Or.inl q4635) kX32_letterByTree)
theorem vX32_findCandidates_111 {w : rhW} (hw : rh_ms w) {L : rhL} {S1 : List rhA} {M M0 : rhM} {r : Int} {y1 : Int} (E : eC w YX32_letterByTree 0 [(2, 0), (0, y1)] M r M0) (hw1 : rh_wd S1 ≤ 8) : eS w YX32_findCandidates 1 111 L ((0, y1) :: (2, 0) :: S1) M 114 L ((0, r) :: S1) M0 := by
  have hd : decode (ry_c YX32_findCandidates) 111 = .ok (.invokevirtual 1080, 3) := (tdX32_findCandidates 111).resolve_right (by decide +kernel) ▸ (by decide +kernel : rh_dk dtX32_findCandidates 111 = .ok (.invokevirtual 1080, 3))
  exact fun _ _ K => eA.cv (jX32_findCandidates_1080 29 (by decide)) (rh_obl hw 0 (by decide +kernel)) (by decide) hd rfl hw1 rfl E K
theorem jX32_candidate_934 {w : rhW} : ∀ ci ∈ ([29] : List Nat), rh_cvr w YX32_candidate YX32_wordOrNot 934 2 ci := rh_one (rh_cvr.of rfl (Or.inl q4521) kX32_wordOrNot)
theorem vX32_candidate_3 {w : rhW} (hw : rh_ms w) {L : rhL} {S1 : List rhA} {M M0 : rhM} {r : Int} {y1 y2 : Int} (E : eC w YX32_wordOrNot 4 [(2, 0), (0, y1), (0, y2)] M r M0) (hw1 : rh_wd S1 ≤ 8) : eS w YX32_candidate 5 3 L ((0, y2) :: (0, y1) :: (2, 0) :: S1) M 6 L ((0, r) :: S1) M0 := by
  have hd : decode (ry_c YX32_candidate) 3 = .ok (.invokevirtual 934, 3) := (tdX32_candidate 3).resolve_right (by decide +kernel) ▸ (by decide +kernel : rh_dk dtX32_candidate 3 = .ok (.invokevirtual 934, 3))
  exact fun _ _ K => eA.cv (jX32_candidate_934 29 (by decide)) (rh_obl hw 0 (by decide +kernel)) (by decide) hd rfl hw1 rfl E K
theorem jX32_candidate_937 {w : rhW} : ∀ ci ∈ ([29] : List Nat), rh_cvr w YX32_candidate YX32_findPlaces 937 2 ci := rh_one (rh_cvr.of rfl (Or.inl q4525) kX32_findPlaces)
theorem vX32_candidate_19 {w : rhW} (hw : rh_ms w) {L : rhL} {S1 : List rhA} {M M0 : rhM} {r : Int} {y1 y2 : Int} (E : eC w YX32_findPlaces 4 [(2, 0), (0, y1), (0, y2)] M r M0) (hw1 : rh_wd S1 ≤ 8) : eS w YX32_candidate 5 19 L ((0, y2) :: (0, y1) :: (2, 0) :: S1) M 22 L S1 M0 := by
  have hd : decode (ry_c YX32_candidate) 19 = .ok (.invokevirtual 937, 3) := (tdX32_candidate 19).resolve_right (by decide +kernel) ▸ (by decide +kernel : rh_dk dtX32_candidate 19 = .ok (.invokevirtual 937, 3))
  exact fun _ _ K => eA.cv (jX32_candidate_937 29 (by decide)) (rh_obl hw 0 (by decide +kernel)) (by decide) hd rfl hw1 rfl E K
theorem jX32_candidate_982 {w : rhW} : ∀ ci ∈ ([29] : List Nat), rh_cvr w YX32_candidate YX32_isPart 982 2 ci := rh_one (rh_cvr.of rfl (Or.inl q4554) kX32_isPart)
theorem vX32_candidate_26 {w : rhW} (hw : rh_ms w) {L : rhL} {S1 : List rhA} {M M0 : rhM} {r : Int} {y1 y2 : Int} (E : eC w YX32_isPart 2 [(2, 0), (0, y1), (0, y2)] M r M0) (hw1 : rh_wd S1 ≤ 8) : eS w YX32_candidate 5 26 L ((0, y2) :: (0, y1) :: (2, 0) :: S1) M 29 L ((0, r) :: S1) M0 := by
  have hd : decode (ry_c YX32_candidate) 26 = .ok (.invokevirtual 982, 3) := (tdX32_candidate 26).resolve_right (by decide +kernel) ▸ (by decide +kernel : rh_dk dtX32_candidate 26 = .ok (.invokevirtual 982, 3))
  exact fun _ _ K => eA.cv (jX32_candidate_982 29 (by decide)) (rh_obl hw 0 (by decide +kernel)) (by decide) hd rfl hw1 rfl E K
theorem jX32_candidate_985 {w : rhW} : ∀ ci ∈ ([29] : List Nat), rh_cvr w YX32_candidate YX32_findFeatures 985 0 ci := rh_one (rh_cvr.of rfl (Or.inl q3358) kX32_findFeatures)
theorem vX32_candidate_76 {w : rhW} (hw : rh_ms w) {L : rhL} {S1 : List rhA} {M M0 : rhM} {r : Int} (E : eC w YX32_findFeatures 2 [(2, 0)] M r M0) (hw1 : rh_wd S1 ≤ 8) : eS w YX32_candidate 5 76 L ((2, 0) :: S1) M 79 L S1 M0 := by
  have hd : decode (ry_c YX32_candidate) 76 = .ok (.invokevirtual 985, 3) := (tdX32_candidate 76).resolve_right (by decide +kernel) ▸ (by decide +kernel : rh_dk dtX32_candidate 76 = .ok (.invokevirtual 985, 3))
  exact fun _ _ K => eA.cv (jX32_candidate_985 29 (by decide)) (rh_obl hw 0 (by decide +kernel)) (by decide) hd rfl hw1 rfl E K
theorem q4627 : (Jvm.Cond.methodLink "ReadingHouseModel" (1086 : Nat) ({ cls := "ReadingHouseModel", name := "findCandidates", desc := "(I)V" } : Jvm.MethodName)) ∈ lw_all := lw_g (lw_at lw_m19 54 rfl) rfl
theorem jX32_candidate_1086 {w : rhW} : ∀ ci ∈ ([29] : List Nat), rh_cvr w YX32_candidate YX32_findCandidates 1086 1 ci := rh_one (rh_cvr.of rfl (Or.inl q4627) kX32_findCandidates)
theorem vX32_candidate_82 {w : rhW} (hw : rh_ms w) {L : rhL} {S1 : List rhA} {M M0 : rhM} {r : Int} {y1 : Int} (E : eC w YX32_findCandidates 1 [(2, 0), (0, y1)] M r M0) (hw1 : rh_wd S1 ≤ 8) : eS w YX32_candidate 5 82 L ((0, y1) :: (2, 0) :: S1) M 85 L S1 M0 := by
  have hd : decode (ry_c YX32_candidate) 82 = .ok (.invokevirtual 1086, 3) := (tdX32_candidate 82).resolve_right (by decide +kernel) ▸ (by decide +kernel : rh_dk dtX32_candidate 82 = .ok (.invokevirtual 1086, 3))
  exact fun _ _ K => eA.cv (jX32_candidate_1086 29 (by decide)) (rh_obl hw 0 (by decide +kernel)) (by decide) hd rfl hw1 rfl E K
theorem q4643 : (Jvm.Cond.methodLink "ReadingHouseModel" (1089 : Nat) ({ cls := "ReadingHouseModel", name := "findListed", desc := "([III)I" } : Jvm.MethodName)) ∈ lw_all := lw_g (lw_at lw_m19 70 rfl) rfl
theorem jX32_words_1089 {w : rhW} : ∀ ci ∈ ([29] : List Nat), rh_cvr w YX32_words YX32_findListed 1089 3 ci := rh_one (rh_cvr.of rfl (Or.inl q4643) kX32_findListed)
theorem vX32_words_152 {w : rhW} (hw : rh_ms w) {L : rhL} {S1 : List rhA} {M M0 : rhM} {r : Int} {y1 y2 y3 : Int} (E : eC w YX32_findListed 0 [(2, 0), (2, y1), (0, y2), (0, y3)] M r M0) (hw1 : rh_wd S1 ≤ 8) : eS w YX32_words 2 152 L ((0, y3) :: (0, y2) :: (2, y1) :: (2, 0) :: S1) M 155 L ((0, r) :: S1) M0 := by
  have hd : decode (ry_c YX32_words) 152 = .ok (.invokevirtual 1089, 3) := (tdX32_words 152).resolve_right (by decide +kernel) ▸ (by decide +kernel : rh_dk dtX32_words 152 = .ok (.invokevirtual 1089, 3))
  exact fun _ _ K => eA.cv (jX32_words_1089 29 (by decide)) (rh_obl hw 0 (by decide +kernel)) (by decide) hd rfl hw1 rfl E K
theorem jX32_known_1089 {w : rhW} : ∀ ci ∈ ([29] : List Nat), rh_cvr w YX32_known YX32_findListed 1089 3 ci := rh_one (rh_cvr.of rfl (Or.inl q4643) kX32_findListed)
theorem vX32_known_16 {w : rhW} (hw : rh_ms w) {L : rhL} {S1 : List rhA} {M M0 : rhM} {r : Int} {y1 y2 y3 : Int} (E : eC w YX32_findListed 0 [(2, 0), (2, y1), (0, y2), (0, y3)] M r M0) (hw1 : rh_wd S1 ≤ 8) : eS w YX32_known 1 16 L ((0, y3) :: (0, y2) :: (2, y1) :: (2, 0) :: S1) M 19 L ((0, r) :: S1) M0 := by
  have hd : decode (ry_c YX32_known) 16 = .ok (.invokevirtual 1089, 3) := (tdX32_known 16).resolve_right (by decide +kernel) ▸ (by decide +kernel : rh_dk dtX32_known 16 = .ok (.invokevirtual 1089, 3))
  exact fun _ _ K => eA.cv (jX32_known_1089 29 (by decide)) (rh_obl hw 0 (by decide +kernel)) (by decide) hd rfl hw1 rfl E K
theorem q4663 : (Jvm.Cond.methodLink "ReadingHouseModel" (1096 : Nat) ({ cls := "ReadingHouseModel", name := "child", desc := "(II)I" } : Jvm.MethodName)) ∈ lw_all := lw_g (lw_at lw_m19 90 rfl) rfl
theorem jX32_makeBeginnings_1096 {w : rhW} : ∀ ci ∈ ([29] : List Nat), rh_cvr w YX32_makeBeginnings YX32_child 1096 2 ci := rh_one (rh_cvr.of rfl (Or.inl q4663) kX32_child)
theorem vX32_makeBeginnings_63 {w : rhW} (hw : rh_ms w) {L : rhL} {S1 : List rhA} {M M0 : rhM} {r : Int} {y1 y2 : Int} (E : eC w YX32_child 0 [(2, 0), (0, y1), (0, y2)] M r M0) (hw1 : rh_wd S1 ≤ 8) : eS w YX32_makeBeginnings 1 63 L ((0, y2) :: (0, y1) :: (2, 0) :: S1) M 66 L ((0, r) :: S1) M0 := by
  have hd : decode (ry_c YX32_makeBeginnings) 63 = .ok (.invokevirtual 1096, 3) := (tdX32_makeBeginnings 63).resolve_right (by decide +kernel) ▸ (by decide +kernel : rh_dk dtX32_makeBeginnings 63 = .ok (.invokevirtual 1096, 3))
  exact fun _ _ K => eA.cv (jX32_makeBeginnings_1096 29 (by decide)) (rh_obl hw 0 (by decide +kernel)) (by decide) hd rfl hw1 rfl E K
theorem jX32_sameRests_1096 {w : rhW} : ∀ ci ∈ ([29] : List Nat), rh_cvr w YX32_sameRests YX32_child 1096 2 ci := rh_one (rh_cvr.of rfl (Or.inl q4663) kX32_child)
theorem vX32_sameRests_51 {w : rhW} (hw : rh_ms w) {L : rhL} {S1 : List rhA} {M M0 : rhM} {r : Int} {y1 y2 : Int} (E : eC w YX32_child 0 [(2, 0), (0, y1), (0, y2)] M r M0) (hw1 : rh_wd S1 ≤ 8) : eS w YX32_sameRests 1 51 L ((0, y2) :: (0, y1) :: (2, 0) :: S1) M 54 L ((0, r) :: S1) M0 := by
  have hd : decode (ry_c YX32_sameRests) 51 = .ok (.invokevirtual 1096, 3) := (tdX32_sameRests 51).resolve_right (by decide +kernel) ▸ (by decide +kernel : rh_dk dtX32_sameRests 51 = .ok (.invokevirtual 1096, 3))
  exact fun _ _ K => eA.cv (jX32_sameRests_1096 29 (by decide)) (rh_obl hw 0 (by decide +kernel)) (by decide) hd rfl hw1 rfl E K
theorem q4671 : (Jvm.Cond.methodLink "ReadingHouseModel" (1099 : Nat) ({ cls := "ReadingHouseModel", name := "sameRests", desc := "(II)Z" } : Jvm.MethodName)) ∈ lw_all := lw_g (lw_at lw_m19 98 rfl) rfl
theorem jX32_joinBeginnings_1099 {w : rhW} : ∀ ci ∈ ([29] : List Nat), rh_cvr w YX32_joinBeginnings YX32_sameRests 1099 2 ci := rh_one (rh_cvr.of rfl (Or.inl q4671) kX32_sameRests)
theorem vX32_joinBeginnings_160 {w : rhW} (hw : rh_ms w) {L : rhL} {S1 : List rhA} {M M0 : rhM} {r : Int} {y1 y2 : Int} (E : eC w YX32_sameRests 1 [(2, 0), (0, y1), (0, y2)] M r M0) (hw1 : rh_wd S1 ≤ 8) : eS w YX32_joinBeginnings 2 160 L ((0, y2) :: (0, y1) :: (2, 0) :: S1) M 163 L ((0, r) :: S1) M0 := by
  have hd : decode (ry_c YX32_joinBeginnings) 160 = .ok (.invokevirtual 1099, 3) := (tdX32_joinBeginnings 160).resolve_right (by decide +kernel) ▸ (by decide +kernel : rh_dk dtX32_joinBeginnings 160 = .ok (.invokevirtual 1099, 3))
  exact fun _ _ K => eA.cv (jX32_joinBeginnings_1099 29 (by decide)) (rh_obl hw 0 (by decide +kernel)) (by decide) hd rfl hw1 rfl E K
theorem q4659 : (Jvm.Cond.methodLink "ReadingHouseModel" (1102 : Nat) ({ cls := "ReadingHouseModel", name := "makeBeginnings", desc := "()V" } : Jvm.MethodName)) ∈ lw_all := lw_g (lw_at lw_m19 86 rfl) rfl
theorem jX32_machine_1102 {w : rhW} : ∀ ci ∈ ([29] : List Nat), rh_cvr w YX32_machine YX32_makeBeginnings 1102 0 ci := rh_one (rh_cvr.of rfl (Or.inl q4659) kX32_makeBeginnings)
theorem vX32_machine_19 {w : rhW} (hw : rh_ms w) {L : rhL} {S1 : List rhA} {M M0 : rhM} {r : Int} (E : eC w YX32_makeBeginnings 1 [(2, 0)] M r M0) (hw1 : rh_wd S1 ≤ 8) : eS w YX32_machine 3 19 L ((2, 0) :: S1) M 22 L S1 M0 := by
  have hd : decode (ry_c YX32_machine) 19 = .ok (.invokevirtual 1102, 3) := (tdX32_machine 19).resolve_right (by decide +kernel) ▸ (by decide +kernel : rh_dk dtX32_machine 19 = .ok (.invokevirtual 1102, 3))
  exact fun _ _ K => eA.cv (jX32_machine_1102 29 (by decide)) (rh_obl hw 0 (by decide +kernel)) (by decide) hd rfl hw1 rfl E K
theorem q4667 : (Jvm.Cond.methodLink "ReadingHouseModel" (1105 : Nat) ({ cls := "ReadingHouseModel", name := "joinBeginnings", desc := "()V" } : Jvm.MethodName)) ∈ lw_all := lw_g (lw_at lw_m19 94 rfl) rfl
theorem jX32_machine_1105 {w : rhW} : ∀ ci ∈ ([29] : List Nat), rh_cvr w YX32_machine YX32_joinBeginnings 1105 0 ci := rh_one (rh_cvr.of rfl (Or.inl q4667) kX32_joinBeginnings)
theorem vX32_machine_23 {w : rhW} (hw : rh_ms w) {L : rhL} {S1 : List rhA} {M M0 : rhM} {r : Int} (E : eC w YX32_joinBeginnings 2 [(2, 0)] M r M0) (hw1 : rh_wd S1 ≤ 8) : eS w YX32_machine 3 23 L ((2, 0) :: S1) M 26 L S1 M0 := by
  have hd : decode (ry_c YX32_machine) 23 = .ok (.invokevirtual 1105, 3) := (tdX32_machine 23).resolve_right (by decide +kernel) ▸ (by decide +kernel : rh_dk dtX32_machine 23 = .ok (.invokevirtual 1105, 3))
  exact fun _ _ K => eA.cv (jX32_machine_1105 29 (by decide)) (rh_obl hw 0 (by decide +kernel)) (by decide) hd rfl hw1 rfl E K
theorem q4679 : (Jvm.Cond.methodLink "ReadingHouseModel" (1111 : Nat) ({ cls := "ReadingHouseModel", name := "changes", desc := "(II)I" } : Jvm.MethodName)) ∈ lw_all := lw_g (lw_at lw_m19 106 rfl) rfl
theorem jX32_near_1111 {w : rhW} : ∀ ci ∈ ([29] : List Nat), rh_cvr w YX32_near YX32_changes 1111 2 ci := rh_one (rh_cvr.of rfl (Or.inl q4679) kX32_changes)
theorem vX32_near_64 {w : rhW} (hw : rh_ms w) {L : rhL} {S1 : List rhA} {M M0 : rhM} {r : Int} {y1 y2 : Int} (E : eC w YX32_changes 1 [(2, 0), (0, y1), (0, y2)] M r M0) (hw1 : rh_wd S1 ≤ 8) : eS w YX32_near 2 64 L ((0, y2) :: (0, y1) :: (2, 0) :: S1) M 67 L ((0, r) :: S1) M0 := by
  have hd : decode (ry_c YX32_near) 64 = .ok (.invokevirtual 1111, 3) := (tdX32_near 64).resolve_right (by decide +kernel) ▸ (by decide +kernel : rh_dk dtX32_near 64 = .ok (.invokevirtual 1111, 3))
  exact fun _ _ K => eA.cv (jX32_near_1111 29 (by decide)) (rh_obl hw 0 (by decide +kernel)) (by decide) hd rfl hw1 rfl E K
theorem q4698 : (Jvm.Cond.methodLink "ReadingHouseModel" (1119 : Nat) ({ cls := "ReadingHouseModel", name := "priceOf", desc := "(II)I" } : Jvm.MethodName)) ∈ lw_all := lw_g (lw_at lw_m19 125 rfl) rfl
theorem jX32_price_1119 {w : rhW} : ∀ ci ∈ ([29] : List Nat), rh_cvr w YX32_price YX32_priceOf 1119 2 ci := rh_one (rh_cvr.of rfl (Or.inl q4698) kX32_priceOf)
theorem vX32_price_40 {w : rhW} (hw : rh_ms w) {L : rhL} {S1 : List rhA} {M M0 : rhM} {r : Int} {y1 y2 : Int} (E : eC w YX32_priceOf 1 [(2, 0), (0, y1), (0, y2)] M r M0) (hw1 : rh_wd S1 ≤ 8) : eS w YX32_price 2 40 L ((0, y2) :: (0, y1) :: (2, 0) :: S1) M 43 L ((0, r) :: S1) M0 := by
  have hd : decode (ry_c YX32_price) 40 = .ok (.invokevirtual 1119, 3) := (tdX32_price 40).resolve_right (by decide +kernel) ▸ (by decide +kernel : rh_dk dtX32_price 40 = .ok (.invokevirtual 1119, 3))
  exact fun _ _ K => eA.cv (jX32_price_1119 29 (by decide)) (rh_obl hw 0 (by decide +kernel)) (by decide) hd rfl hw1 rfl E K
theorem q4726 : (Jvm.Cond.methodLink "ReadingHouseModel" (1122 : Nat) ({ cls := "ReadingHouseModel", name := "copyText", desc := "(II)V" } : Jvm.MethodName)) ∈ lw_all := lw_g (lw_at lw_m19 153 rfl) rfl
theorem jX32_putText_1122 {w : rhW} : ∀ ci ∈ ([29] : List Nat), rh_cvr w YX32_putText YX32_copyText 1122 2 ci := rh_one (rh_cvr.of rfl (Or.inl q4726) kX32_copyText)
theorem vX32_putText_161 {w : rhW} (hw : rh_ms w) {L : rhL} {S1 : List rhA} {M M0 : rhM} {r : Int} {y1 y2 : Int} (E : eC w YX32_copyText 0 [(2, 0), (0, y1), (0, y2)] M r M0) (hw1 : rh_wd S1 ≤ 8) : eS w YX32_putText 1 161 L ((0, y2) :: (0, y1) :: (2, 0) :: S1) M 164 L S1 M0 := by
  have hd : decode (ry_c YX32_putText) 161 = .ok (.invokevirtual 1122, 3) := (tdX32_putText 161).resolve_right (by decide +kernel) ▸ (by decide +kernel : rh_dk dtX32_putText 161 = .ok (.invokevirtual 1122, 3))
  exact fun _ _ K => eA.cv (jX32_putText_1122 29 (by decide)) (rh_obl hw 0 (by decide +kernel)) (by decide) hd rfl hw1 rfl E K
theorem vX32_putText_277 {w : rhW} (hw : rh_ms w) {L : rhL} {S1 : List rhA} {M M0 : rhM} {r : Int} {y1 y2 : Int} (E : eC w YX32_copyText 0 [(2, 0), (0, y1), (0, y2)] M r M0) (hw1 : rh_wd S1 ≤ 8) : eS w YX32_putText 1 277 L ((0, y2) :: (0, y1) :: (2, 0) :: S1) M 280 L S1 M0 := by
  have hd : decode (ry_c YX32_putText) 277 = .ok (.invokevirtual 1122, 3) := (tdX32_putText 277).resolve_right (by decide +kernel) ▸ (by decide +kernel : rh_dk dtX32_putText 277 = .ok (.invokevirtual 1122, 3))
  exact fun _ _ K => eA.cv (jX32_putText_1122 29 (by decide)) (rh_obl hw 0 (by decide +kernel)) (by decide) hd rfl hw1 rfl E K
theorem jX32_findParts_982 {w : rhW} : ∀ ci ∈ ([29] : List Nat), rh_cvr w YX32_findParts YX32_isPart 982 2 ci := rh_one (rh_cvr.of rfl (Or.inl q4554) kX32_isPart)
theorem vX32_findParts_67 {w : rhW} (hw : rh_ms w) {L : rhL} {S1 : List rhA} {M M0 : rhM} {r : Int} {y1 y2 : Int} (E : eC w YX32_isPart 2 [(2, 0), (0, y1), (0, y2)] M r M0) (hw1 : rh_wd S1 ≤ 8) : eS w YX32_findParts 3 67 L ((0, y2) :: (0, y1) :: (2, 0) :: S1) M 70 L ((0, r) :: S1) M0 := by
  have hd : decode (ry_c YX32_findParts) 67 = .ok (.invokevirtual 982, 3) := (tdX32_findParts 67).resolve_right (by decide +kernel) ▸ (by decide +kernel : rh_dk dtX32_findParts 67 = .ok (.invokevirtual 982, 3))
  exact fun _ _ K => eA.cv (jX32_findParts_982 29 (by decide)) (rh_obl hw 0 (by decide +kernel)) (by decide) hd rfl hw1 rfl E K
theorem jX32_findParts_985 {w : rhW} : ∀ ci ∈ ([29] : List Nat), rh_cvr w YX32_findParts YX32_findFeatures 985 0 ci := rh_one (rh_cvr.of rfl (Or.inl q3358) kX32_findFeatures)
theorem vX32_findParts_77 {w : rhW} (hw : rh_ms w) {L : rhL} {S1 : List rhA} {M M0 : rhM} {r : Int} (E : eC w YX32_findFeatures 2 [(2, 0)] M r M0) (hw1 : rh_wd S1 ≤ 8) : eS w YX32_findParts 3 77 L ((2, 0) :: S1) M 80 L S1 M0 := by
  have hd : decode (ry_c YX32_findParts) 77 = .ok (.invokevirtual 985, 3) := (tdX32_findParts 77).resolve_right (by decide +kernel) ▸ (by decide +kernel : rh_dk dtX32_findParts 77 = .ok (.invokevirtual 985, 3))
  exact fun _ _ K => eA.cv (jX32_findParts_985 29 (by decide)) (rh_obl hw 0 (by decide +kernel)) (by decide) hd rfl hw1 rfl E K
theorem jX32_findParts_1086 {w : rhW} : ∀ ci ∈ ([29] : List Nat), rh_cvr w YX32_findParts YX32_findCandidates 1086 1 ci := rh_one (rh_cvr.of rfl (Or.inl q4627) kX32_findCandidates)
theorem vX32_findParts_82 {w : rhW} (hw : rh_ms w) {L : rhL} {S1 : List rhA} {M M0 : rhM} {r : Int} {y1 : Int} (E : eC w YX32_findCandidates 1 [(2, 0), (0, y1)] M r M0) (hw1 : rh_wd S1 ≤ 8) : eS w YX32_findParts 3 82 L ((0, y1) :: (2, 0) :: S1) M 85 L S1 M0 := by
  have hd : decode (ry_c YX32_findParts) 82 = .ok (.invokevirtual 1086, 3) := (tdX32_findParts 82).resolve_right (by decide +kernel) ▸ (by decide +kernel : rh_dk dtX32_findParts 82 = .ok (.invokevirtual 1086, 3))
  exact fun _ _ K => eA.cv (jX32_findParts_1086 29 (by decide)) (rh_obl hw 0 (by decide +kernel)) (by decide) hd rfl hw1 rfl E K
theorem jX32_goOn_1119 {w : rhW} : ∀ ci ∈ ([29] : List Nat), rh_cvr w YX32_goOn YX32_priceOf 1119 2 ci := rh_one (rh_cvr.of rfl (Or.inl q4698) kX32_priceOf)
theorem vX32_goOn_129 {w : rhW} (hw : rh_ms w) {L : rhL} {S1 : List rhA} {M M0 : rhM} {r : Int} {y1 y2 : Int} (E : eC w YX32_priceOf 1 [(2, 0), (0, y1), (0, y2)] M r M0) (hw1 : rh_wd S1 ≤ 8) : eS w YX32_goOn 2 129 L ((0, y2) :: (0, y1) :: (2, 0) :: S1) M 132 L ((0, r) :: S1) M0 := by
  have hd : decode (ry_c YX32_goOn) 129 = .ok (.invokevirtual 1119, 3) := (tdX32_goOn 129).resolve_right (by decide +kernel) ▸ (by decide +kernel : rh_dk dtX32_goOn 129 = .ok (.invokevirtual 1119, 3))
  exact fun _ _ K => eA.cv (jX32_goOn_1119 29 (by decide)) (rh_obl hw 0 (by decide +kernel)) (by decide) hd rfl hw1 rfl E K
theorem q4722 : (Jvm.Cond.methodLink "ReadingHouseModel" (1138 : Nat) ({ cls := "ReadingHouseModel", name := "putText", desc := "(IIJJJ)V" } : Jvm.MethodName)) ∈ lw_all := lw_g (lw_at lw_m19 149 rfl) rfl
theorem jX32_goOn_1138 {w : rhW} : ∀ ci ∈ ([29] : List Nat), rh_cvr w YX32_goOn YX32_putText 1138 5 ci := rh_one (rh_cvr.of rfl (Or.inl q4722) kX32_putText)
theorem vX32_goOn_257 {w : rhW} (hw : rh_ms w) {L : rhL} {S1 : List rhA} {M M0 : rhM} {r : Int} {y1 y2 y3 y4 y5 : Int} (E : eC w YX32_putText 1 [(2, 0), (0, y1), (0, y2), (1, y3), (1, y4), (1, y5)] M r M0) (hw1 : rh_wd S1 ≤ 8) : eS w YX32_goOn 2 257 L ((1, y5) :: (1, y4) :: (1, y3) :: (0, y2) :: (0, y1) :: (2, 0) :: S1) M 260 L S1 M0 := by
  have hd : decode (ry_c YX32_goOn) 257 = .ok (.invokevirtual 1138, 3) := (tdX32_goOn 257).resolve_right (by decide +kernel) ▸ (by decide +kernel : rh_dk dtX32_goOn 257 = .ok (.invokevirtual 1138, 3))
  exact fun _ _ K => eA.cv (jX32_goOn_1138 29 (by decide)) (rh_obl hw 0 (by decide +kernel)) (by decide) hd rfl hw1 rfl E K
theorem q4715 : (Jvm.Cond.methodLink "ReadingHouseModel" (1142 : Nat) ({ cls := "ReadingHouseModel", name := "findParts", desc := "(I)V" } : Jvm.MethodName)) ∈ lw_all := lw_g (lw_at lw_m19 142 rfl) rfl
theorem jX32_findChoices_1142 {w : rhW} : ∀ ci ∈ ([29] : List Nat), rh_cvr w YX32_findChoices YX32_findParts 1142 1 ci := rh_one (rh_cvr.of rfl (Or.inl q4715) kX32_findParts)
theorem vX32_findChoices_2 {w : rhW} (hw : rh_ms w) {L : rhL} {S1 : List rhA} {M M0 : rhM} {r : Int} {y1 : Int} (E : eC w YX32_findParts 3 [(2, 0), (0, y1)] M r M0) (hw1 : rh_wd S1 ≤ 8) : eS w YX32_findChoices 4 2 L ((0, y1) :: (2, 0) :: S1) M 5 L S1 M0 := by
  have hd : decode (ry_c YX32_findChoices) 2 = .ok (.invokevirtual 1142, 3) := (tdX32_findChoices 2).resolve_right (by decide +kernel) ▸ (by decide +kernel : rh_dk dtX32_findChoices 2 = .ok (.invokevirtual 1142, 3))
  exact fun _ _ K => eA.cv (jX32_findChoices_1142 29 (by decide)) (rh_obl hw 0 (by decide +kernel)) (by decide) hd rfl hw1 rfl E K
theorem jX32_findChoices_1138 {w : rhW} : ∀ ci ∈ ([29] : List Nat), rh_cvr w YX32_findChoices YX32_putText 1138 5 ci := rh_one (rh_cvr.of rfl (Or.inl q4722) kX32_putText)
theorem vX32_findChoices_38 {w : rhW} (hw : rh_ms w) {L : rhL} {S1 : List rhA} {M M0 : rhM} {r : Int} {y1 y2 y3 y4 y5 : Int} (E : eC w YX32_putText 1 [(2, 0), (0, y1), (0, y2), (1, y3), (1, y4), (1, y5)] M r M0) (hw1 : rh_wd S1 ≤ 8) : eS w YX32_findChoices 4 38 L ((1, y5) :: (1, y4) :: (1, y3) :: (0, y2) :: (0, y1) :: (2, 0) :: S1) M 41 L S1 M0 := by
  have hd : decode (ry_c YX32_findChoices) 38 = .ok (.invokevirtual 1138, 3) := (tdX32_findChoices 38).resolve_right (by decide +kernel) ▸ (by decide +kernel : rh_dk dtX32_findChoices 38 = .ok (.invokevirtual 1138, 3))
  exact fun _ _ K => eA.cv (jX32_findChoices_1138 29 (by decide)) (rh_obl hw 0 (by decide +kernel)) (by decide) hd rfl hw1 rfl E K
theorem q4733 : (Jvm.Cond.methodLink "ReadingHouseModel" (1145 : Nat) ({ cls := "ReadingHouseModel", name := "goOn", desc := "(III)V" } : Jvm.MethodName)) ∈ lw_all := lw_g (lw_at lw_m19 160 rfl) rfl
theorem jX32_findChoices_1145 {w : rhW} : ∀ ci ∈ ([29] : List Nat), rh_cvr w YX32_findChoices YX32_goOn 1145 3 ci := rh_one (rh_cvr.of rfl (Or.inl q4733) kX32_goOn)
theorem vX32_findChoices_73 {w : rhW} (hw : rh_ms w) {L : rhL} {S1 : List rhA} {M M0 : rhM} {r : Int} {y1 y2 y3 : Int} (E : eC w YX32_goOn 2 [(2, 0), (0, y1), (0, y2), (0, y3)] M r M0) (hw1 : rh_wd S1 ≤ 8) : eS w YX32_findChoices 4 73 L ((0, y3) :: (0, y2) :: (0, y1) :: (2, 0) :: S1) M 76 L S1 M0 := by
  have hd : decode (ry_c YX32_findChoices) 73 = .ok (.invokevirtual 1145, 3) := (tdX32_findChoices 73).resolve_right (by decide +kernel) ▸ (by decide +kernel : rh_dk dtX32_findChoices 73 = .ok (.invokevirtual 1145, 3))
  exact fun _ _ K => eA.cv (jX32_findChoices_1145 29 (by decide)) (rh_obl hw 0 (by decide +kernel)) (by decide) hd rfl hw1 rfl E K
theorem vX32_findChoices_106 {w : rhW} (hw : rh_ms w) {L : rhL} {S1 : List rhA} {M M0 : rhM} {r : Int} {y1 y2 y3 : Int} (E : eC w YX32_goOn 2 [(2, 0), (0, y1), (0, y2), (0, y3)] M r M0) (hw1 : rh_wd S1 ≤ 8) : eS w YX32_findChoices 4 106 L ((0, y3) :: (0, y2) :: (0, y1) :: (2, 0) :: S1) M 109 L S1 M0 := by
  have hd : decode (ry_c YX32_findChoices) 106 = .ok (.invokevirtual 1145, 3) := (tdX32_findChoices 106).resolve_right (by decide +kernel) ▸ (by decide +kernel : rh_dk dtX32_findChoices 106 = .ok (.invokevirtual 1145, 3))
  exact fun _ _ K => eA.cv (jX32_findChoices_1145 29 (by decide)) (rh_obl hw 0 (by decide +kernel)) (by decide) hd rfl hw1 rfl E K
theorem jX32_findChoices_1119 {w : rhW} : ∀ ci ∈ ([29] : List Nat), rh_cvr w YX32_findChoices YX32_priceOf 1119 2 ci := rh_one (rh_cvr.of rfl (Or.inl q4698) kX32_priceOf)
theorem vX32_findChoices_192 {w : rhW} (hw : rh_ms w) {L : rhL} {S1 : List rhA} {M M0 : rhM} {r : Int} {y1 y2 : Int} (E : eC w YX32_priceOf 1 [(2, 0), (0, y1), (0, y2)] M r M0) (hw1 : rh_wd S1 ≤ 8) : eS w YX32_findChoices 4 192 L ((0, y2) :: (0, y1) :: (2, 0) :: S1) M 195 L ((0, r) :: S1) M0 := by
  have hd : decode (ry_c YX32_findChoices) 192 = .ok (.invokevirtual 1119, 3) := (tdX32_findChoices 192).resolve_right (by decide +kernel) ▸ (by decide +kernel : rh_dk dtX32_findChoices 192 = .ok (.invokevirtual 1119, 3))
  exact fun _ _ K => eA.cv (jX32_findChoices_1119 29 (by decide)) (rh_obl hw 0 (by decide +kernel)) (by decide) hd rfl hw1 rfl E K
theorem vX32_findChoices_265 {w : rhW} (hw : rh_ms w) {L : rhL} {S1 : List rhA} {M M0 : rhM} {r : Int} {y1 y2 y3 y4 y5 : Int} (E : eC w YX32_putText 1 [(2, 0), (0, y1), (0, y2), (1, y3), (1, y4), (1, y5)] M r M0) (hw1 : rh_wd S1 ≤ 8) : eS w YX32_findChoices 4 265 L ((1, y5) :: (1, y4) :: (1, y3) :: (0, y2) :: (0, y1) :: (2, 0) :: S1) M 268 L S1 M0 := by
  have hd : decode (ry_c YX32_findChoices) 265 = .ok (.invokevirtual 1138, 3) := (tdX32_findChoices 265).resolve_right (by decide +kernel) ▸ (by decide +kernel : rh_dk dtX32_findChoices 265 = .ok (.invokevirtual 1138, 3))
  exact fun _ _ K => eA.cv (jX32_findChoices_1138 29 (by decide)) (rh_obl hw 0 (by decide +kernel)) (by decide) hd rfl hw1 rfl E K
theorem q4749 : (Jvm.Cond.methodLink "ReadingHouseModel" (1152 : Nat) ({ cls := "ReadingHouseModel", name := "textSize", desc := "(I)I" } : Jvm.MethodName)) ∈ lw_all := lw_g (lw_at lw_m19 176 rfl) rfl
theorem jX32_takeChoices_1152 {w : rhW} : ∀ ci ∈ ([29] : List Nat), rh_cvr w YX32_takeChoices YX32_textSize 1152 1 ci := rh_one (rh_cvr.of rfl (Or.inl q4749) kX32_textSize)
theorem vX32_takeChoices_16 {w : rhW} (hw : rh_ms w) {L : rhL} {S1 : List rhA} {M M0 : rhM} {r : Int} {y1 : Int} (E : eC w YX32_textSize 1 [(2, 0), (0, y1)] M r M0) (hw1 : rh_wd S1 ≤ 8) : eS w YX32_takeChoices 3 16 L ((0, y1) :: (2, 0) :: S1) M 19 L ((0, r) :: S1) M0 := by
  have hd : decode (ry_c YX32_takeChoices) 16 = .ok (.invokevirtual 1152, 3) := (tdX32_takeChoices 16).resolve_right (by decide +kernel) ▸ (by decide +kernel : rh_dk dtX32_takeChoices 16 = .ok (.invokevirtual 1152, 3))
  exact fun _ _ K => eA.cv (jX32_takeChoices_1152 29 (by decide)) (rh_obl hw 0 (by decide +kernel)) (by decide) hd rfl hw1 rfl E K
theorem jX32_takeChoices_1089 {w : rhW} : ∀ ci ∈ ([29] : List Nat), rh_cvr w YX32_takeChoices YX32_findListed 1089 3 ci := rh_one (rh_cvr.of rfl (Or.inl q4643) kX32_findListed)
theorem vX32_takeChoices_82 {w : rhW} (hw : rh_ms w) {L : rhL} {S1 : List rhA} {M M0 : rhM} {r : Int} {y1 y2 y3 : Int} (E : eC w YX32_findListed 0 [(2, 0), (2, y1), (0, y2), (0, y3)] M r M0) (hw1 : rh_wd S1 ≤ 8) : eS w YX32_takeChoices 3 82 L ((0, y3) :: (0, y2) :: (2, y1) :: (2, 0) :: S1) M 85 L ((0, r) :: S1) M0 := by
  have hd : decode (ry_c YX32_takeChoices) 82 = .ok (.invokevirtual 1089, 3) := (tdX32_takeChoices 82).resolve_right (by decide +kernel) ▸ (by decide +kernel : rh_dk dtX32_takeChoices 82 = .ok (.invokevirtual 1089, 3))
  exact fun _ _ K => eA.cv (jX32_takeChoices_1089 29 (by decide)) (rh_obl hw 0 (by decide +kernel)) (by decide) hd rfl hw1 rfl E K
theorem vX32_takeChoices_274 {w : rhW} (hw : rh_ms w) {L : rhL} {S1 : List rhA} {M M0 : rhM} {r : Int} {y1 : Int} (E : eC w YX32_textSize 1 [(2, 0), (0, y1)] M r M0) (hw1 : rh_wd S1 ≤ 8) : eS w YX32_takeChoices 3 274 L ((0, y1) :: (2, 0) :: S1) M 277 L ((0, r) :: S1) M0 := by
  have hd : decode (ry_c YX32_takeChoices) 274 = .ok (.invokevirtual 1152, 3) := (tdX32_takeChoices 274).resolve_right (by decide +kernel) ▸ (by decide +kernel : rh_dk dtX32_takeChoices 274 = .ok (.invokevirtual 1152, 3))
  exact fun _ _ K => eA.cv (jX32_takeChoices_1152 29 (by decide)) (rh_obl hw 0 (by decide +kernel)) (by decide) hd rfl hw1 rfl E K
theorem q4756 : (Jvm.Cond.methodLink "ReadingHouseModel" (1155 : Nat) ({ cls := "ReadingHouseModel", name := "takeWay", desc := "(II)V" } : Jvm.MethodName)) ∈ lw_all := lw_g (lw_at lw_m19 183 rfl) rfl
theorem jX32_takeChoices_1155 {w : rhW} : ∀ ci ∈ ([29] : List Nat), rh_cvr w YX32_takeChoices YX32_takeWay 1155 2 ci := rh_one (rh_cvr.of rfl (Or.inl q4756) kX32_takeWay)
theorem vX32_takeChoices_351 {w : rhW} (hw : rh_ms w) {L : rhL} {S1 : List rhA} {M M0 : rhM} {r : Int} {y1 y2 : Int} (E : eC w YX32_takeWay 2 [(2, 0), (0, y1), (0, y2)] M r M0) (hw1 : rh_wd S1 ≤ 8) : eS w YX32_takeChoices 3 351 L ((0, y2) :: (0, y1) :: (2, 0) :: S1) M 354 L S1 M0 := by
  have hd : decode (ry_c YX32_takeChoices) 351 = .ok (.invokevirtual 1155, 3) := (tdX32_takeChoices 351).resolve_right (by decide +kernel) ▸ (by decide +kernel : rh_dk dtX32_takeChoices 351 = .ok (.invokevirtual 1155, 3))
  exact fun _ _ K => eA.cv (jX32_takeChoices_1155 29 (by decide)) (rh_obl hw 0 (by decide +kernel)) (by decide) hd rfl hw1 rfl E K
theorem jX32_takeWay_1119 {w : rhW} : ∀ ci ∈ ([29] : List Nat), rh_cvr w YX32_takeWay YX32_priceOf 1119 2 ci := rh_one (rh_cvr.of rfl (Or.inl q4698) kX32_priceOf)
theorem vX32_takeWay_159 {w : rhW} (hw : rh_ms w) {L : rhL} {S1 : List rhA} {M M0 : rhM} {r : Int} {y1 y2 : Int} (E : eC w YX32_priceOf 1 [(2, 0), (0, y1), (0, y2)] M r M0) (hw1 : rh_wd S1 ≤ 8) : eS w YX32_takeWay 2 159 L ((0, y2) :: (0, y1) :: (2, 0) :: S1) M 162 L ((0, r) :: S1) M0 := by
  have hd : decode (ry_c YX32_takeWay) 159 = .ok (.invokevirtual 1119, 3) := (tdX32_takeWay 159).resolve_right (by decide +kernel) ▸ (by decide +kernel : rh_dk dtX32_takeWay 159 = .ok (.invokevirtual 1119, 3))
  exact fun _ _ K => eA.cv (jX32_takeWay_1119 29 (by decide)) (rh_obl hw 0 (by decide +kernel)) (by decide) hd rfl hw1 rfl E K
theorem jX32_readWord_937 {w : rhW} : ∀ ci ∈ ([29] : List Nat), rh_cvr w YX32_readWord YX32_findPlaces 937 2 ci := rh_one (rh_cvr.of rfl (Or.inl q4525) kX32_findPlaces)
theorem vX32_readWord_159 {w : rhW} (hw : rh_ms w) {L : rhL} {S1 : List rhA} {M M0 : rhM} {r : Int} {y1 y2 : Int} (E : eC w YX32_findPlaces 4 [(2, 0), (0, y1), (0, y2)] M r M0) (hw1 : rh_wd S1 ≤ 8) : eS w YX32_readWord 5 159 L ((0, y2) :: (0, y1) :: (2, 0) :: S1) M 162 L S1 M0 := by
  have hd : decode (ry_c YX32_readWord) 159 = .ok (.invokevirtual 937, 3) := (tdX32_readWord 159).resolve_right (by decide +kernel) ▸ (by decide +kernel : rh_dk dtX32_readWord 159 = .ok (.invokevirtual 937, 3))
  exact fun _ _ K => eA.cv (jX32_readWord_937 29 (by decide)) (rh_obl hw 0 (by decide +kernel)) (by decide) hd rfl hw1 rfl E K
theorem q4711 : (Jvm.Cond.methodLink "ReadingHouseModel" (1160 : Nat) ({ cls := "ReadingHouseModel", name := "findChoices", desc := "(I)Z" } : Jvm.MethodName)) ∈ lw_all := lw_g (lw_at lw_m19 138 rfl) rfl
theorem jX32_readWord_1160 {w : rhW} : ∀ ci ∈ ([29] : List Nat), rh_cvr w YX32_readWord YX32_findChoices 1160 1 ci := rh_one (rh_cvr.of rfl (Or.inl q4711) kX32_findChoices)
theorem vX32_readWord_173 {w : rhW} (hw : rh_ms w) {L : rhL} {S1 : List rhA} {M M0 : rhM} {r : Int} {y1 : Int} (E : eC w YX32_findChoices 4 [(2, 0), (0, y1)] M r M0) (hw1 : rh_wd S1 ≤ 8) : eS w YX32_readWord 5 173 L ((0, y1) :: (2, 0) :: S1) M 176 L ((0, r) :: S1) M0 := by
  have hd : decode (ry_c YX32_readWord) 173 = .ok (.invokevirtual 1160, 3) := (tdX32_readWord 173).resolve_right (by decide +kernel) ▸ (by decide +kernel : rh_dk dtX32_readWord 173 = .ok (.invokevirtual 1160, 3))
  exact fun _ _ K => eA.cv (jX32_readWord_1160 29 (by decide)) (rh_obl hw 0 (by decide +kernel)) (by decide) hd rfl hw1 rfl E K
theorem q4745 : (Jvm.Cond.methodLink "ReadingHouseModel" (1166 : Nat) ({ cls := "ReadingHouseModel", name := "takeChoices", desc := "(I)V" } : Jvm.MethodName)) ∈ lw_all := lw_g (lw_at lw_m19 172 rfl) rfl
theorem jX32_readWord_1166 {w : rhW} : ∀ ci ∈ ([29] : List Nat), rh_cvr w YX32_readWord YX32_takeChoices 1166 1 ci := rh_one (rh_cvr.of rfl (Or.inl q4745) kX32_takeChoices)
theorem vX32_readWord_191 {w : rhW} (hw : rh_ms w) {L : rhL} {S1 : List rhA} {M M0 : rhM} {r : Int} {y1 : Int} (E : eC w YX32_takeChoices 3 [(2, 0), (0, y1)] M r M0) (hw1 : rh_wd S1 ≤ 8) : eS w YX32_readWord 5 191 L ((0, y1) :: (2, 0) :: S1) M 194 L S1 M0 := by
  have hd : decode (ry_c YX32_readWord) 191 = .ok (.invokevirtual 1166, 3) := (tdX32_readWord 191).resolve_right (by decide +kernel) ▸ (by decide +kernel : rh_dk dtX32_readWord 191 = .ok (.invokevirtual 1166, 3))
  exact fun _ _ K => eA.cv (jX32_readWord_1166 29 (by decide)) (rh_obl hw 0 (by decide +kernel)) (by decide) hd rfl hw1 rfl E K
theorem jX32_read_1069 {w : rhW} : ∀ ci ∈ ([29] : List Nat), rh_cvr w YX32_read YX32_faceForms 1069 1 ci := rh_one (rh_cvr.of rfl (Or.inl q4602) kX32_faceForms)
theorem vX32_read_54 {w : rhW} (hw : rh_ms w) {L : rhL} {S1 : List rhA} {M M0 : rhM} {r : Int} {y1 : Int} (E : eC w YX32_faceForms 0 [(2, 0), (0, y1)] M r M0) (hw1 : rh_wd S1 ≤ 8) : eS w YX32_read 6 54 L ((0, y1) :: (2, 0) :: S1) M 57 L ((0, r) :: S1) M0 := by
  have hd : decode (ry_c YX32_read) 54 = .ok (.invokevirtual 1069, 3) := (tdX32_read 54).resolve_right (by decide +kernel) ▸ (by decide +kernel : rh_dk dtX32_read 54 = .ok (.invokevirtual 1069, 3))
  exact fun _ _ K => eA.cv (jX32_read_1069 29 (by decide)) (rh_obl hw 0 (by decide +kernel)) (by decide) hd rfl hw1 rfl E K
theorem q4707 : (Jvm.Cond.methodLink "ReadingHouseModel" (1169 : Nat) ({ cls := "ReadingHouseModel", name := "readWord", desc := "(IIII)V" } : Jvm.MethodName)) ∈ lw_all := lw_g (lw_at lw_m19 134 rfl) rfl
theorem jX32_read_1169 {w : rhW} : ∀ ci ∈ ([29] : List Nat), rh_cvr w YX32_read YX32_readWord 1169 4 ci := rh_one (rh_cvr.of rfl (Or.inl q4707) kX32_readWord)
theorem vX32_read_89 {w : rhW} (hw : rh_ms w) {L : rhL} {S1 : List rhA} {M M0 : rhM} {r : Int} {y1 y2 y3 y4 : Int} (E : eC w YX32_readWord 5 [(2, 0), (0, y1), (0, y2), (0, y3), (0, y4)] M r M0) (hw1 : rh_wd S1 ≤ 8) : eS w YX32_read 6 89 L ((0, y4) :: (0, y3) :: (0, y2) :: (0, y1) :: (2, 0) :: S1) M 92 L S1 M0 := by
  have hd : decode (ry_c YX32_read) 89 = .ok (.invokevirtual 1169, 3) := (tdX32_read 89).resolve_right (by decide +kernel) ▸ (by decide +kernel : rh_dk dtX32_read 89 = .ok (.invokevirtual 1169, 3))
  exact fun _ _ K => eA.cv (jX32_read_1169 29 (by decide)) (rh_obl hw 0 (by decide +kernel)) (by decide) hd rfl hw1 rfl E K
theorem q4826 : (Jvm.Cond.methodLink "ReadingHouseModel" (1195 : Nat) ({ cls := "ReadingHouseModel", name := "putNumber", desc := "(I)V" } : Jvm.MethodName)) ∈ lw_all := lw_g (lw_at lw_m20 13 rfl) rfl
theorem jX32_putMarkedWord_1195 {w : rhW} : ∀ ci ∈ ([29] : List Nat), rh_cvr w YX32_putMarkedWord YX32_putNumber 1195 1 ci := rh_one (rh_cvr.of rfl (Or.inl q4826) kX32_putNumber)
theorem vX32_putMarkedWord_87 {w : rhW} (hw : rh_ms w) {L : rhL} {S1 : List rhA} {M M0 : rhM} {r : Int} {y1 : Int} (E : eC w YX32_putNumber 1 [(2, 0), (0, y1)] M r M0) (hw1 : rh_wd S1 ≤ 8) : eS w YX32_putMarkedWord 2 87 L ((0, y1) :: (2, 0) :: S1) M 90 L S1 M0 := by
  have hd : decode (ry_c YX32_putMarkedWord) 87 = .ok (.invokevirtual 1195, 3) := (tdX32_putMarkedWord 87).resolve_right (by decide +kernel) ▸ (by decide +kernel : rh_dk dtX32_putMarkedWord 87 = .ok (.invokevirtual 1195, 3))
  exact fun _ _ K => eA.cv (jX32_putMarkedWord_1195 29 (by decide)) (rh_obl hw 0 (by decide +kernel)) (by decide) hd rfl hw1 rfl E K
theorem q4818 : (Jvm.Cond.methodLink "ReadingHouseModel" (1198 : Nat) ({ cls := "ReadingHouseModel", name := "putTag", desc := "(II)V" } : Jvm.MethodName)) ∈ lw_all := lw_g (lw_at lw_m20 5 rfl) rfl
theorem jX32_putMarkedWord_1198 {w : rhW} : ∀ ci ∈ ([29] : List Nat), rh_cvr w YX32_putMarkedWord YX32_putTag 1198 2 ci := rh_one (rh_cvr.of rfl (Or.inl q4818) kX32_putTag)
theorem vX32_putMarkedWord_225 {w : rhW} (hw : rh_ms w) {L : rhL} {S1 : List rhA} {M M0 : rhM} {r : Int} {y1 y2 : Int} (E : eC w YX32_putTag 1 [(2, 0), (0, y1), (0, y2)] M r M0) (hw1 : rh_wd S1 ≤ 8) : eS w YX32_putMarkedWord 2 225 L ((0, y2) :: (0, y1) :: (2, 0) :: S1) M 228 L S1 M0 := by
  have hd : decode (ry_c YX32_putMarkedWord) 225 = .ok (.invokevirtual 1198, 3) := (tdX32_putMarkedWord 225).resolve_right (by decide +kernel) ▸ (by decide +kernel : rh_dk dtX32_putMarkedWord 225 = .ok (.invokevirtual 1198, 3))
  exact fun _ _ K => eA.cv (jX32_putMarkedWord_1198 29 (by decide)) (rh_obl hw 0 (by decide +kernel)) (by decide) hd rfl hw1 rfl E K
theorem jX32_markedText_1198 {w : rhW} : ∀ ci ∈ ([29] : List Nat), rh_cvr w YX32_markedText YX32_putTag 1198 2 ci := rh_one (rh_cvr.of rfl (Or.inl q4818) kX32_putTag)
theorem vX32_markedText_89 {w : rhW} (hw : rh_ms w) {L : rhL} {S1 : List rhA} {M M0 : rhM} {r : Int} {y1 y2 : Int} (E : eC w YX32_putTag 1 [(2, 0), (0, y1), (0, y2)] M r M0) (hw1 : rh_wd S1 ≤ 8) : eS w YX32_markedText 3 89 L ((0, y2) :: (0, y1) :: (2, 0) :: S1) M 92 L S1 M0 := by
  have hd : decode (ry_c YX32_markedText) 89 = .ok (.invokevirtual 1198, 3) := (tdX32_markedText 89).resolve_right (by decide +kernel) ▸ (by decide +kernel : rh_dk dtX32_markedText 89 = .ok (.invokevirtual 1198, 3))
  exact fun _ _ K => eA.cv (jX32_markedText_1198 29 (by decide)) (rh_obl hw 0 (by decide +kernel)) (by decide) hd rfl hw1 rfl E K
theorem vX32_markedText_101 {w : rhW} (hw : rh_ms w) {L : rhL} {S1 : List rhA} {M M0 : rhM} {r : Int} {y1 y2 : Int} (E : eC w YX32_putTag 1 [(2, 0), (0, y1), (0, y2)] M r M0) (hw1 : rh_wd S1 ≤ 8) : eS w YX32_markedText 3 101 L ((0, y2) :: (0, y1) :: (2, 0) :: S1) M 104 L S1 M0 := by
  have hd : decode (ry_c YX32_markedText) 101 = .ok (.invokevirtual 1198, 3) := (tdX32_markedText 101).resolve_right (by decide +kernel) ▸ (by decide +kernel : rh_dk dtX32_markedText 101 = .ok (.invokevirtual 1198, 3))
  exact fun _ _ K => eA.cv (jX32_markedText_1198 29 (by decide)) (rh_obl hw 0 (by decide +kernel)) (by decide) hd rfl hw1 rfl E K
theorem q4822 : (Jvm.Cond.methodLink "ReadingHouseModel" (1201 : Nat) ({ cls := "ReadingHouseModel", name := "putMarkedWord", desc := "(I)V" } : Jvm.MethodName)) ∈ lw_all := lw_g (lw_at lw_m20 9 rfl) rfl
theorem jX32_markedText_1201 {w : rhW} : ∀ ci ∈ ([29] : List Nat), rh_cvr w YX32_markedText YX32_putMarkedWord 1201 1 ci := rh_one (rh_cvr.of rfl (Or.inl q4822) kX32_putMarkedWord)
theorem vX32_markedText_106 {w : rhW} (hw : rh_ms w) {L : rhL} {S1 : List rhA} {M M0 : rhM} {r : Int} {y1 : Int} (E : eC w YX32_putMarkedWord 2 [(2, 0), (0, y1)] M r M0) (hw1 : rh_wd S1 ≤ 8) : eS w YX32_markedText 3 106 L ((0, y1) :: (2, 0) :: S1) M 109 L S1 M0 := by
  have hd : decode (ry_c YX32_markedText) 106 = .ok (.invokevirtual 1201, 3) := (tdX32_markedText 106).resolve_right (by decide +kernel) ▸ (by decide +kernel : rh_dk dtX32_markedText 106 = .ok (.invokevirtual 1201, 3))
  exact fun _ _ K => eA.cv (jX32_markedText_1201 29 (by decide)) (rh_obl hw 0 (by decide +kernel)) (by decide) hd rfl hw1 rfl E K
theorem vX32_markedText_154 {w : rhW} (hw : rh_ms w) {L : rhL} {S1 : List rhA} {M M0 : rhM} {r : Int} {y1 y2 : Int} (E : eC w YX32_putTag 1 [(2, 0), (0, y1), (0, y2)] M r M0) (hw1 : rh_wd S1 ≤ 8) : eS w YX32_markedText 3 154 L ((0, y2) :: (0, y1) :: (2, 0) :: S1) M 157 L S1 M0 := by
  have hd : decode (ry_c YX32_markedText) 154 = .ok (.invokevirtual 1198, 3) := (tdX32_markedText 154).resolve_right (by decide +kernel) ▸ (by decide +kernel : rh_dk dtX32_markedText 154 = .ok (.invokevirtual 1198, 3))
  exact fun _ _ K => eA.cv (jX32_markedText_1198 29 (by decide)) (rh_obl hw 0 (by decide +kernel)) (by decide) hd rfl hw1 rfl E K
theorem vX32_markedText_183 {w : rhW} (hw : rh_ms w) {L : rhL} {S1 : List rhA} {M M0 : rhM} {r : Int} {y1 y2 : Int} (E : eC w YX32_putTag 1 [(2, 0), (0, y1), (0, y2)] M r M0) (hw1 : rh_wd S1 ≤ 8) : eS w YX32_markedText 3 183 L ((0, y2) :: (0, y1) :: (2, 0) :: S1) M 186 L S1 M0 := by
  have hd : decode (ry_c YX32_markedText) 183 = .ok (.invokevirtual 1198, 3) := (tdX32_markedText 183).resolve_right (by decide +kernel) ▸ (by decide +kernel : rh_dk dtX32_markedText 183 = .ok (.invokevirtual 1198, 3))
  exact fun _ _ K => eA.cv (jX32_markedText_1198 29 (by decide)) (rh_obl hw 0 (by decide +kernel)) (by decide) hd rfl hw1 rfl E K
theorem q4798 : (Jvm.Cond.methodLink "ReadingHouseModel" (1204 : Nat) ({ cls := "ReadingHouseModel", name := "plainText", desc := "(I)V" } : Jvm.MethodName)) ∈ lw_all := lw_g (lw_at lw_m19 225 rfl) rfl
theorem jX32_text_1204 {w : rhW} : ∀ ci ∈ ([29] : List Nat), rh_cvr w YX32_text YX32_plainText 1204 1 ci := rh_one (rh_cvr.of rfl (Or.inl q4798) kX32_plainText)
theorem vX32_text_35 {w : rhW} (hw : rh_ms w) {L : rhL} {S1 : List rhA} {M M0 : rhM} {r : Int} {y1 : Int} (E : eC w YX32_plainText 1 [(2, 0), (0, y1)] M r M0) (hw1 : rh_wd S1 ≤ 8) : eS w YX32_text 4 35 L ((0, y1) :: (2, 0) :: S1) M 38 L S1 M0 := by
  have hd : decode (ry_c YX32_text) 35 = .ok (.invokevirtual 1204, 3) := (tdX32_text 35).resolve_right (by decide +kernel) ▸ (by decide +kernel : rh_dk dtX32_text 35 = .ok (.invokevirtual 1204, 3))
  exact fun _ _ K => eA.cv (jX32_text_1204 29 (by decide)) (rh_obl hw 0 (by decide +kernel)) (by decide) hd rfl hw1 rfl E K
theorem q4814 : (Jvm.Cond.methodLink "ReadingHouseModel" (1207 : Nat) ({ cls := "ReadingHouseModel", name := "markedText", desc := "(I)V" } : Jvm.MethodName)) ∈ lw_all := lw_g (lw_at lw_m20 1 rfl) rfl
theorem jX32_text_1207 {w : rhW} : ∀ ci ∈ ([29] : List Nat), rh_cvr w YX32_text YX32_markedText 1207 1 ci := rh_one (rh_cvr.of rfl (Or.inl q4814) kX32_markedText)
theorem vX32_text_43 {w : rhW} (hw : rh_ms w) {L : rhL} {S1 : List rhA} {M M0 : rhM} {r : Int} {y1 : Int} (E : eC w YX32_markedText 3 [(2, 0), (0, y1)] M r M0) (hw1 : rh_wd S1 ≤ 8) : eS w YX32_text 4 43 L ((0, y1) :: (2, 0) :: S1) M 46 L S1 M0 := by
  have hd : decode (ry_c YX32_text) 43 = .ok (.invokevirtual 1207, 3) := (tdX32_text 43).resolve_right (by decide +kernel) ▸ (by decide +kernel : rh_dk dtX32_text 43 = .ok (.invokevirtual 1207, 3))
  exact fun _ _ K => eA.cv (jX32_text_1207 29 (by decide)) (rh_obl hw 0 (by decide +kernel)) (by decide) hd rfl hw1 rfl E K
theorem jX32_readOwn_1204 {w : rhW} : ∀ ci ∈ ([29] : List Nat), rh_cvr w YX32_readOwn YX32_plainText 1204 1 ci := rh_one (rh_cvr.of rfl (Or.inl q4798) kX32_plainText)
theorem vX32_readOwn_2 {w : rhW} (hw : rh_ms w) {L : rhL} {S1 : List rhA} {M M0 : rhM} {r : Int} {y1 : Int} (E : eC w YX32_plainText 1 [(2, 0), (0, y1)] M r M0) (hw1 : rh_wd S1 ≤ 8) : eS w YX32_readOwn 2 2 L ((0, y1) :: (2, 0) :: S1) M 5 L S1 M0 := by
  have hd : decode (ry_c YX32_readOwn) 2 = .ok (.invokevirtual 1204, 3) := (tdX32_readOwn 2).resolve_right (by decide +kernel) ▸ (by decide +kernel : rh_dk dtX32_readOwn 2 = .ok (.invokevirtual 1204, 3))
  exact fun _ _ K => eA.cv (jX32_readOwn_1204 29 (by decide)) (rh_obl hw 0 (by decide +kernel)) (by decide) hd rfl hw1 rfl E K
theorem q4834 : (Jvm.Cond.methodLink "ReadingHouseModel" (1216 : Nat) ({ cls := "ReadingHouseModel", name := "readKnown", desc := "()I" } : Jvm.MethodName)) ∈ lw_all := lw_g (lw_at lw_m20 21 rfl) rfl
theorem jX32_compare_1216 {w : rhW} : ∀ ci ∈ ([29] : List Nat), rh_cvr w YX32_compare YX32_readKnown 1216 0 ci := rh_one (rh_cvr.of rfl (Or.inl q4834) kX32_readKnown)
theorem vX32_compare_17 {w : rhW} (hw : rh_ms w) {L : rhL} {S1 : List rhA} {M M0 : rhM} {r : Int} (E : eC w YX32_readKnown 1 [(2, 0)] M r M0) (hw1 : rh_wd S1 ≤ 8) : eS w YX32_compare 3 17 L ((2, 0) :: S1) M 20 L ((0, r) :: S1) M0 := by
  have hd : decode (ry_c YX32_compare) 17 = .ok (.invokevirtual 1216, 3) := (tdX32_compare 17).resolve_right (by decide +kernel) ▸ (by decide +kernel : rh_dk dtX32_compare 17 = .ok (.invokevirtual 1216, 3))
  exact fun _ _ K => eA.cv (jX32_compare_1216 29 (by decide)) (rh_obl hw 0 (by decide +kernel)) (by decide) hd rfl hw1 rfl E K
theorem q4838 : (Jvm.Cond.methodLink "ReadingHouseModel" (1219 : Nat) ({ cls := "ReadingHouseModel", name := "readOwn", desc := "(I)V" } : Jvm.MethodName)) ∈ lw_all := lw_g (lw_at lw_m20 25 rfl) rfl
theorem jX32_compare_1219 {w : rhW} : ∀ ci ∈ ([29] : List Nat), rh_cvr w YX32_compare YX32_readOwn 1219 1 ci := rh_one (rh_cvr.of rfl (Or.inl q4838) kX32_readOwn)
theorem vX32_compare_34 {w : rhW} (hw : rh_ms w) {L : rhL} {S1 : List rhA} {M M0 : rhM} {r : Int} {y1 : Int} (E : eC w YX32_readOwn 2 [(2, 0), (0, y1)] M r M0) (hw1 : rh_wd S1 ≤ 8) : eS w YX32_compare 3 34 L ((0, y1) :: (2, 0) :: S1) M 37 L S1 M0 := by
  have hd : decode (ry_c YX32_compare) 34 = .ok (.invokevirtual 1219, 3) := (tdX32_compare 34).resolve_right (by decide +kernel) ▸ (by decide +kernel : rh_dk dtX32_compare 34 = .ok (.invokevirtual 1219, 3))
  exact fun _ _ K => eA.cv (jX32_compare_1219 29 (by decide)) (rh_obl hw 0 (by decide +kernel)) (by decide) hd rfl hw1 rfl E K
theorem q4842 : (Jvm.Cond.methodLink "ReadingHouseModel" (1222 : Nat) ({ cls := "ReadingHouseModel", name := "countConfusions", desc := "()V" } : Jvm.MethodName)) ∈ lw_all := lw_g (lw_at lw_m20 29 rfl) rfl
theorem jX32_compare_1222 {w : rhW} : ∀ ci ∈ ([29] : List Nat), rh_cvr w YX32_compare YX32_countConfusions 1222 0 ci := rh_one (rh_cvr.of rfl (Or.inl q4842) kX32_countConfusions)
theorem vX32_compare_212 {w : rhW} (hw : rh_ms w) {L : rhL} {S1 : List rhA} {M M0 : rhM} {r : Int} (E : eC w YX32_countConfusions 1 [(2, 0)] M r M0) (hw1 : rh_wd S1 ≤ 8) : eS w YX32_compare 3 212 L ((2, 0) :: S1) M 215 L S1 M0 := by
  have hd : decode (ry_c YX32_compare) 212 = .ok (.invokevirtual 1222, 3) := (tdX32_compare 212).resolve_right (by decide +kernel) ▸ (by decide +kernel : rh_dk dtX32_compare 212 = .ok (.invokevirtual 1222, 3))
  exact fun _ _ K => eA.cv (jX32_compare_1222 29 (by decide)) (rh_obl hw 0 (by decide +kernel)) (by decide) hd rfl hw1 rfl E K
theorem q4860 : (Jvm.Cond.methodLink "ReadingHouseModel" (1231 : Nat) ({ cls := "ReadingHouseModel", name := "isTapeWord", desc := "()Z" } : Jvm.MethodName)) ∈ lw_all := lw_g (lw_at lw_m20 47 rfl) rfl
theorem jX32_answer_1231 {w : rhW} : ∀ ci ∈ ([29] : List Nat), rh_cvr w YX32_answer YX32_isTapeWord 1231 0 ci := rh_one (rh_cvr.of rfl (Or.inl q4860) kX32_isTapeWord)
theorem vX32_answer_28 {w : rhW} (hw : rh_ms w) {L : rhL} {S1 : List rhA} {M M0 : rhM} {r : Int} (E : eC w YX32_isTapeWord 1 [(2, 0)] M r M0) (hw1 : rh_wd S1 ≤ 8) : eS w YX32_answer 3 28 L ((2, 0) :: S1) M 31 L ((0, r) :: S1) M0 := by
  have hd : decode (ry_c YX32_answer) 28 = .ok (.invokevirtual 1231, 3) := (tdX32_answer 28).resolve_right (by decide +kernel) ▸ (by decide +kernel : rh_dk dtX32_answer 28 = .ok (.invokevirtual 1231, 3))
  exact fun _ _ K => eA.cv (jX32_answer_1231 29 (by decide)) (rh_obl hw 0 (by decide +kernel)) (by decide) hd rfl hw1 rfl E K
theorem q4864 : (Jvm.Cond.methodLink "ReadingHouseModel" (1235 : Nat) ({ cls := "ReadingHouseModel", name := "sameAnswer", desc := "(III)Z" } : Jvm.MethodName)) ∈ lw_all := lw_g (lw_at lw_m20 51 rfl) rfl
theorem jX32_answer_1235 {w : rhW} : ∀ ci ∈ ([29] : List Nat), rh_cvr w YX32_answer YX32_sameAnswer 1235 3 ci := rh_one (rh_cvr.of rfl (Or.inl q4864) kX32_sameAnswer)
theorem vX32_answer_207 {w : rhW} (hw : rh_ms w) {L : rhL} {S1 : List rhA} {M M0 : rhM} {r : Int} {y1 y2 y3 : Int} (E : eC w YX32_sameAnswer 0 [(2, 0), (0, y1), (0, y2), (0, y3)] M r M0) (hw1 : rh_wd S1 ≤ 8) : eS w YX32_answer 3 207 L ((0, y3) :: (0, y2) :: (0, y1) :: (2, 0) :: S1) M 210 L ((0, r) :: S1) M0 := by
  have hd : decode (ry_c YX32_answer) 207 = .ok (.invokevirtual 1235, 3) := (tdX32_answer 207).resolve_right (by decide +kernel) ▸ (by decide +kernel : rh_dk dtX32_answer 207 = .ok (.invokevirtual 1235, 3))
  exact fun _ _ K => eA.cv (jX32_answer_1235 29 (by decide)) (rh_obl hw 0 (by decide +kernel)) (by decide) hd rfl hw1 rfl E K
theorem jX32_lookAt_952 {w : rhW} : ∀ ci ∈ ([29] : List Nat), rh_cvr w YX32_lookAt YX32_inkOfWord 952 2 ci := rh_one (rh_cvr.of rfl (Or.inl q4529) kX32_inkOfWord)
theorem vX32_lookAt_3 {w : rhW} (hw : rh_ms w) {L : rhL} {S1 : List rhA} {M M0 : rhM} {r : Int} {y1 y2 : Int} (E : eC w YX32_inkOfWord 3 [(2, 0), (0, y1), (0, y2)] M r M0) (hw1 : rh_wd S1 ≤ 8) : eS w YX32_lookAt 4 3 L ((0, y2) :: (0, y1) :: (2, 0) :: S1) M 6 L S1 M0 := by
  have hd : decode (ry_c YX32_lookAt) 3 = .ok (.invokevirtual 952, 3) := (tdX32_lookAt 3).resolve_right (by decide +kernel) ▸ (by decide +kernel : rh_dk dtX32_lookAt 3 = .ok (.invokevirtual 952, 3))
  exact fun _ _ K => eA.cv (jX32_lookAt_952 29 (by decide)) (rh_obl hw 0 (by decide +kernel)) (by decide) hd rfl hw1 rfl E K
theorem q4876 : (Jvm.Cond.methodLink "ReadingHouseModel" (1238 : Nat) ({ cls := "ReadingHouseModel", name := "lookAt", desc := "(II)J" } : Jvm.MethodName)) ∈ lw_all := lw_g (lw_at lw_m20 63 rfl) rfl
theorem jX32_look_1238 {w : rhW} : ∀ ci ∈ ([29] : List Nat), rh_cvr w YX32_look YX32_lookAt 1238 2 ci := rh_one (rh_cvr.of rfl (Or.inl q4876) kX32_lookAt)
theorem vX32_look_43 {w : rhW} (hw : rh_ms w) {L : rhL} {S1 : List rhA} {M M0 : rhM} {r : Int} {y1 y2 : Int} (E : eC w YX32_lookAt 4 [(2, 0), (0, y1), (0, y2)] M r M0) (hw1 : rh_wd S1 ≤ 8) : eS w YX32_look 5 43 L ((0, y2) :: (0, y1) :: (2, 0) :: S1) M 46 L ((1, r) :: S1) M0 := by
  have hd : decode (ry_c YX32_look) 43 = .ok (.invokevirtual 1238, 3) := (tdX32_look 43).resolve_right (by decide +kernel) ▸ (by decide +kernel : rh_dk dtX32_look 43 = .ok (.invokevirtual 1238, 3))
  exact fun _ _ K => eA.cv (jX32_look_1238 29 (by decide)) (rh_obl hw 0 (by decide +kernel)) (by decide) hd rfl hw1 rfl E K
theorem jX32_groups_1238 {w : rhW} : ∀ ci ∈ ([29] : List Nat), rh_cvr w YX32_groups YX32_lookAt 1238 2 ci := rh_one (rh_cvr.of rfl (Or.inl q4876) kX32_lookAt)
theorem vX32_groups_69 {w : rhW} (hw : rh_ms w) {L : rhL} {S1 : List rhA} {M M0 : rhM} {r : Int} {y1 y2 : Int} (E : eC w YX32_lookAt 4 [(2, 0), (0, y1), (0, y2)] M r M0) (hw1 : rh_wd S1 ≤ 8) : eS w YX32_groups 5 69 L ((0, y2) :: (0, y1) :: (2, 0) :: S1) M 72 L ((1, r) :: S1) M0 := by
  have hd : decode (ry_c YX32_groups) 69 = .ok (.invokevirtual 1238, 3) := (tdX32_groups 69).resolve_right (by decide +kernel) ▸ (by decide +kernel : rh_dk dtX32_groups 69 = .ok (.invokevirtual 1238, 3))
  exact fun _ _ K => eA.cv (jX32_groups_1238 29 (by decide)) (rh_obl hw 0 (by decide +kernel)) (by decide) hd rfl hw1 rfl E K
theorem q4885 : (Jvm.Cond.methodLink "ReadingHouseModel" (1243 : Nat) ({ cls := "ReadingHouseModel", name := "unlike", desc := "(JJ)I" } : Jvm.MethodName)) ∈ lw_all := lw_g (lw_at lw_m20 72 rfl) rfl
theorem jX32_groups_1243 {w : rhW} : rh_csr w YX32_groups YX32_unlike 1243 2 := rh_csr.of (Or.inl q4885) kX32_unlike
theorem vX32_groups_141 {w : rhW} {L : rhL} {S1 : List rhA} {M M0 : rhM} {r : Int} {y1 y2 : Int} (E : eC w YX32_unlike 0 [(1, y1), (1, y2)] M r M0) (hw1 : rh_wd S1 ≤ 8) : eS w YX32_groups 5 141 L ((1, y2) :: (1, y1) :: S1) M 144 L ((0, r) :: S1) M0 := by
  have hd : decode (ry_c YX32_groups) 141 = .ok (.invokestatic 1243, 3) := (tdX32_groups 141).resolve_right (by decide +kernel) ▸ (by decide +kernel : rh_dk dtX32_groups 141 = .ok (.invokestatic 1243, 3))
  exact fun _ _ K => eA.cs (jX32_groups_1243) (by decide) hd rfl hw1 rfl E K
theorem q4908 : (Jvm.Cond.methodLink "ReadingHouseModel" (1250 : Nat) ({ cls := "ReadingHouseModel", name := "isText", desc := "([III[IIIZ)Z" } : Jvm.MethodName)) ∈ lw_all := lw_g (lw_at lw_m20 95 rfl) rfl
theorem jX32_priceAt_1250 {w : rhW} : rh_csr w YX32_priceAt YX32_isText 1250 7 := rh_csr.of (Or.inl q4908) kX32_isText
theorem vX32_priceAt_31 {w : rhW} {L : rhL} {S1 : List rhA} {M M0 : rhM} {r : Int} {y1 y2 y3 y4 y5 y6 y7 : Int} (E : eC w YX32_isText 0 [(2, y1), (0, y2), (0, y3), (2, y4), (0, y5), (0, y6), (0, y7)] M r M0) (hw1 : rh_wd S1 ≤ 8) : eS w YX32_priceAt 1 31 L ((0, y7) :: (0, y6) :: (0, y5) :: (2, y4) :: (0, y3) :: (0, y2) :: (2, y1) :: S1) M 34 L ((0, r) :: S1) M0 := by
  have hd : decode (ry_c YX32_priceAt) 31 = .ok (.invokestatic 1250, 3) := (tdX32_priceAt 31).resolve_right (by decide +kernel) ▸ (by decide +kernel : rh_dk dtX32_priceAt 31 = .ok (.invokestatic 1250, 3))
  exact fun _ _ K => eA.cs (jX32_priceAt_1250) (by decide) hd rfl hw1 rfl E K
theorem vX32_priceAt_79 {w : rhW} {L : rhL} {S1 : List rhA} {M M0 : rhM} {r : Int} {y1 y2 y3 y4 y5 y6 y7 : Int} (E : eC w YX32_isText 0 [(2, y1), (0, y2), (0, y3), (2, y4), (0, y5), (0, y6), (0, y7)] M r M0) (hw1 : rh_wd S1 ≤ 8) : eS w YX32_priceAt 1 79 L ((0, y7) :: (0, y6) :: (0, y5) :: (2, y4) :: (0, y3) :: (0, y2) :: (2, y1) :: S1) M 82 L ((0, r) :: S1) M0 := by
  have hd : decode (ry_c YX32_priceAt) 79 = .ok (.invokestatic 1250, 3) := (tdX32_priceAt 79).resolve_right (by decide +kernel) ▸ (by decide +kernel : rh_dk dtX32_priceAt 79 = .ok (.invokestatic 1250, 3))
  exact fun _ _ K => eA.cs (jX32_priceAt_1250) (by decide) hd rfl hw1 rfl E K
theorem q4904 : (Jvm.Cond.methodLink "ReadingHouseModel" (1260 : Nat) ({ cls := "ReadingHouseModel", name := "priceAt", desc := "(IIZ)I" } : Jvm.MethodName)) ∈ lw_all := lw_g (lw_at lw_m20 91 rfl) rfl
theorem jX32_priceWords_1260 {w : rhW} : ∀ ci ∈ ([29] : List Nat), rh_cvr w YX32_priceWords YX32_priceAt 1260 3 ci := rh_one (rh_cvr.of rfl (Or.inl q4904) kX32_priceAt)
theorem vX32_priceWords_47 {w : rhW} (hw : rh_ms w) {L : rhL} {S1 : List rhA} {M M0 : rhM} {r : Int} {y1 y2 y3 : Int} (E : eC w YX32_priceAt 1 [(2, 0), (0, y1), (0, y2), (0, y3)] M r M0) (hw1 : rh_wd S1 ≤ 8) : eS w YX32_priceWords 2 47 L ((0, y3) :: (0, y2) :: (0, y1) :: (2, 0) :: S1) M 50 L ((0, r) :: S1) M0 := by
  have hd : decode (ry_c YX32_priceWords) 47 = .ok (.invokevirtual 1260, 3) := (tdX32_priceWords 47).resolve_right (by decide +kernel) ▸ (by decide +kernel : rh_dk dtX32_priceWords 47 = .ok (.invokevirtual 1260, 3))
  exact fun _ _ K => eA.cv (jX32_priceWords_1260 29 (by decide)) (rh_obl hw 0 (by decide +kernel)) (by decide) hd rfl hw1 rfl E K
theorem jX32_pricePlaces_1260 {w : rhW} : ∀ ci ∈ ([29] : List Nat), rh_cvr w YX32_pricePlaces YX32_priceAt 1260 3 ci := rh_one (rh_cvr.of rfl (Or.inl q4904) kX32_priceAt)
theorem vX32_pricePlaces_57 {w : rhW} (hw : rh_ms w) {L : rhL} {S1 : List rhA} {M M0 : rhM} {r : Int} {y1 y2 y3 : Int} (E : eC w YX32_priceAt 1 [(2, 0), (0, y1), (0, y2), (0, y3)] M r M0) (hw1 : rh_wd S1 ≤ 8) : eS w YX32_pricePlaces 2 57 L ((0, y3) :: (0, y2) :: (0, y1) :: (2, 0) :: S1) M 60 L ((0, r) :: S1) M0 := by
  have hd : decode (ry_c YX32_pricePlaces) 57 = .ok (.invokevirtual 1260, 3) := (tdX32_pricePlaces 57).resolve_right (by decide +kernel) ▸ (by decide +kernel : rh_dk dtX32_pricePlaces 57 = .ok (.invokevirtual 1260, 3))
  exact fun _ _ K => eA.cv (jX32_pricePlaces_1260 29 (by decide)) (rh_obl hw 0 (by decide +kernel)) (by decide) hd rfl hw1 rfl E K
theorem jX32_find_1041 {w : rhW} : ∀ ci ∈ ([29] : List Nat), rh_cvr w YX32_find YX32_splitTape 1041 2 ci := rh_one (rh_cvr.of rfl (Or.inl q4573) kX32_splitTape)
theorem vX32_find_25 {w : rhW} (hw : rh_ms w) {L : rhL} {S1 : List rhA} {M M0 : rhM} {r : Int} {y1 y2 : Int} (E : eC w YX32_splitTape 1 [(2, 0), (0, y1), (0, y2)] M r M0) (hw1 : rh_wd S1 ≤ 8) : eS w YX32_find 3 25 L ((0, y2) :: (0, y1) :: (2, 0) :: S1) M 28 L ((0, r) :: S1) M0 := by
  have hd : decode (ry_c YX32_find) 25 = .ok (.invokevirtual 1041, 3) := (tdX32_find 25).resolve_right (by decide +kernel) ▸ (by decide +kernel : rh_dk dtX32_find 25 = .ok (.invokevirtual 1041, 3))
  exact fun _ _ K => eA.cv (jX32_find_1041 29 (by decide)) (rh_obl hw 0 (by decide +kernel)) (by decide) hd rfl hw1 rfl E K
theorem q4900 : (Jvm.Cond.methodLink "ReadingHouseModel" (1267 : Nat) ({ cls := "ReadingHouseModel", name := "pricePlaces", desc := "(I)V" } : Jvm.MethodName)) ∈ lw_all := lw_g (lw_at lw_m20 87 rfl) rfl
theorem jX32_find_1267 {w : rhW} : ∀ ci ∈ ([29] : List Nat), rh_cvr w YX32_find YX32_pricePlaces 1267 1 ci := rh_one (rh_cvr.of rfl (Or.inl q4900) kX32_pricePlaces)
theorem vX32_find_68 {w : rhW} (hw : rh_ms w) {L : rhL} {S1 : List rhA} {M M0 : rhM} {r : Int} {y1 : Int} (E : eC w YX32_pricePlaces 2 [(2, 0), (0, y1)] M r M0) (hw1 : rh_wd S1 ≤ 8) : eS w YX32_find 3 68 L ((0, y1) :: (2, 0) :: S1) M 71 L S1 M0 := by
  have hd : decode (ry_c YX32_find) 68 = .ok (.invokevirtual 1267, 3) := (tdX32_find 68).resolve_right (by decide +kernel) ▸ (by decide +kernel : rh_dk dtX32_find 68 = .ok (.invokevirtual 1267, 3))
  exact fun _ _ K => eA.cv (jX32_find_1267 29 (by decide)) (rh_obl hw 0 (by decide +kernel)) (by decide) hd rfl hw1 rfl E K
theorem q4911 : (Jvm.Cond.methodLink "ReadingHouseModel" (1270 : Nat) ({ cls := "ReadingHouseModel", name := "priceWords", desc := "(IIZ)V" } : Jvm.MethodName)) ∈ lw_all := lw_g (lw_at lw_m20 98 rfl) rfl
theorem jX32_find_1270 {w : rhW} : ∀ ci ∈ ([29] : List Nat), rh_cvr w YX32_find YX32_priceWords 1270 3 ci := rh_one (rh_cvr.of rfl (Or.inl q4911) kX32_priceWords)
theorem vX32_find_99 {w : rhW} (hw : rh_ms w) {L : rhL} {S1 : List rhA} {M M0 : rhM} {r : Int} {y1 y2 y3 : Int} (E : eC w YX32_priceWords 2 [(2, 0), (0, y1), (0, y2), (0, y3)] M r M0) (hw1 : rh_wd S1 ≤ 8) : eS w YX32_find 3 99 L ((0, y3) :: (0, y2) :: (0, y1) :: (2, 0) :: S1) M 102 L S1 M0 := by
  have hd : decode (ry_c YX32_find) 99 = .ok (.invokevirtual 1270, 3) := (tdX32_find 99).resolve_right (by decide +kernel) ▸ (by decide +kernel : rh_dk dtX32_find 99 = .ok (.invokevirtual 1270, 3))
  exact fun _ _ K => eA.cv (jX32_find_1270 29 (by decide)) (rh_obl hw 0 (by decide +kernel)) (by decide) hd rfl hw1 rfl E K
theorem q4915 : (Jvm.Cond.methodLink "ReadingHouseModel" (1274 : Nat) ({ cls := "ReadingHouseModel", name := "putHit", desc := "(I)V" } : Jvm.MethodName)) ∈ lw_all := lw_g (lw_at lw_m20 102 rfl) rfl
theorem jX32_find_1274 {w : rhW} : ∀ ci ∈ ([29] : List Nat), rh_cvr w YX32_find YX32_putHit 1274 1 ci := rh_one (rh_cvr.of rfl (Or.inl q4915) kX32_putHit)
theorem vX32_find_134 {w : rhW} (hw : rh_ms w) {L : rhL} {S1 : List rhA} {M M0 : rhM} {r : Int} {y1 : Int} (E : eC w YX32_putHit 0 [(2, 0), (0, y1)] M r M0) (hw1 : rh_wd S1 ≤ 8) : eS w YX32_find 3 134 L ((0, y1) :: (2, 0) :: S1) M 137 L S1 M0 := by
  have hd : decode (ry_c YX32_find) 134 = .ok (.invokevirtual 1274, 3) := (tdX32_find 134).resolve_right (by decide +kernel) ▸ (by decide +kernel : rh_dk dtX32_find 134 = .ok (.invokevirtual 1274, 3))
  exact fun _ _ K => eA.cv (jX32_find_1274 29 (by decide)) (rh_obl hw 0 (by decide +kernel)) (by decide) hd rfl hw1 rfl E K
theorem q4936 : (Jvm.Cond.methodLink "ReadingHouseModel" (1277 : Nat) ({ cls := "ReadingHouseModel", name := "faceHigh", desc := "(I)I" } : Jvm.MethodName)) ∈ lw_all := lw_g (lw_at lw_m20 123 rfl) rfl
theorem jX32_setType_1277 {w : rhW} : ∀ ci ∈ ([29] : List Nat), rh_cvr w YX32_setType YX32_faceHigh 1277 1 ci := rh_one (rh_cvr.of rfl (Or.inl q4936) kX32_faceHigh)
theorem vX32_setType_2 {w : rhW} (hw : rh_ms w) {L : rhL} {S1 : List rhA} {M M0 : rhM} {r : Int} {y1 : Int} (E : eC w YX32_faceHigh 1 [(2, 0), (0, y1)] M r M0) (hw1 : rh_wd S1 ≤ 8) : eS w YX32_setType 2 2 L ((0, y1) :: (2, 0) :: S1) M 5 L ((0, r) :: S1) M0 := by
  have hd : decode (ry_c YX32_setType) 2 = .ok (.invokevirtual 1277, 3) := (tdX32_setType 2).resolve_right (by decide +kernel) ▸ (by decide +kernel : rh_dk dtX32_setType 2 = .ok (.invokevirtual 1277, 3))
  exact fun _ _ K => eA.cv (jX32_setType_1277 29 (by decide)) (rh_obl hw 0 (by decide +kernel)) (by decide) hd rfl hw1 rfl E K
theorem q4928 : (Jvm.Cond.methodLink "ReadingHouseModel" (1283 : Nat) ({ cls := "ReadingHouseModel", name := "leastForm", desc := "(II)I" } : Jvm.MethodName)) ∈ lw_all := lw_g (lw_at lw_m20 115 rfl) rfl
theorem jX32_setType_1283 {w : rhW} : ∀ ci ∈ ([29] : List Nat), rh_cvr w YX32_setType YX32_leastForm 1283 2 ci := rh_one (rh_cvr.of rfl (Or.inl q4928) kX32_leastForm)
theorem vX32_setType_102 {w : rhW} (hw : rh_ms w) {L : rhL} {S1 : List rhA} {M M0 : rhM} {r : Int} {y1 y2 : Int} (E : eC w YX32_leastForm 0 [(2, 0), (0, y1), (0, y2)] M r M0) (hw1 : rh_wd S1 ≤ 8) : eS w YX32_setType 2 102 L ((0, y2) :: (0, y1) :: (2, 0) :: S1) M 105 L ((0, r) :: S1) M0 := by
  have hd : decode (ry_c YX32_setType) 102 = .ok (.invokevirtual 1283, 3) := (tdX32_setType 102).resolve_right (by decide +kernel) ▸ (by decide +kernel : rh_dk dtX32_setType 102 = .ok (.invokevirtual 1283, 3))
  exact fun _ _ K => eA.cv (jX32_setType_1283 29 (by decide)) (rh_obl hw 0 (by decide +kernel)) (by decide) hd rfl hw1 rfl E K
theorem jX32_print_1283 {w : rhW} : ∀ ci ∈ ([29] : List Nat), rh_cvr w YX32_print YX32_leastForm 1283 2 ci := rh_one (rh_cvr.of rfl (Or.inl q4928) kX32_leastForm)
theorem vX32_print_114 {w : rhW} (hw : rh_ms w) {L : rhL} {S1 : List rhA} {M M0 : rhM} {r : Int} {y1 y2 : Int} (E : eC w YX32_leastForm 0 [(2, 0), (0, y1), (0, y2)] M r M0) (hw1 : rh_wd S1 ≤ 8) : eS w YX32_print 3 114 L ((0, y2) :: (0, y1) :: (2, 0) :: S1) M 117 L ((0, r) :: S1) M0 := by
  have hd : decode (ry_c YX32_print) 114 = .ok (.invokevirtual 1283, 3) := (tdX32_print 114).resolve_right (by decide +kernel) ▸ (by decide +kernel : rh_dk dtX32_print 114 = .ok (.invokevirtual 1283, 3))
  exact fun _ _ K => eA.cv (jX32_print_1283 29 (by decide)) (rh_obl hw 0 (by decide +kernel)) (by decide) hd rfl hw1 rfl E K
theorem q4932 : (Jvm.Cond.methodLink "ReadingHouseModel" (1296 : Nat) ({ cls := "ReadingHouseModel", name := "setType", desc := "(IIII)Z" } : Jvm.MethodName)) ∈ lw_all := lw_g (lw_at lw_m20 119 rfl) rfl
theorem jX32_print_1296 {w : rhW} : ∀ ci ∈ ([29] : List Nat), rh_cvr w YX32_print YX32_setType 1296 4 ci := rh_one (rh_cvr.of rfl (Or.inl q4932) kX32_setType)
theorem vX32_print_141 {w : rhW} (hw : rh_ms w) {L : rhL} {S1 : List rhA} {M M0 : rhM} {r : Int} {y1 y2 y3 y4 : Int} (E : eC w YX32_setType 2 [(2, 0), (0, y1), (0, y2), (0, y3), (0, y4)] M r M0) (hw1 : rh_wd S1 ≤ 8) : eS w YX32_print 3 141 L ((0, y4) :: (0, y3) :: (0, y2) :: (0, y1) :: (2, 0) :: S1) M 144 L ((0, r) :: S1) M0 := by
  have hd : decode (ry_c YX32_print) 141 = .ok (.invokevirtual 1296, 3) := (tdX32_print 141).resolve_right (by decide +kernel) ▸ (by decide +kernel : rh_dk dtX32_print 141 = .ok (.invokevirtual 1296, 3))
  exact fun _ _ K => eA.cv (jX32_print_1296 29 (by decide)) (rh_obl hw 0 (by decide +kernel)) (by decide) hd rfl hw1 rfl E K
theorem q4940 : (Jvm.Cond.methodLink "ReadingHouseModel" (1299 : Nat) ({ cls := "ReadingHouseModel", name := "putType", desc := "(IIII)V" } : Jvm.MethodName)) ∈ lw_all := lw_g (lw_at lw_m20 127 rfl) rfl
theorem jX32_print_1299 {w : rhW} : ∀ ci ∈ ([29] : List Nat), rh_cvr w YX32_print YX32_putType 1299 4 ci := rh_one (rh_cvr.of rfl (Or.inl q4940) kX32_putType)
theorem vX32_print_200 {w : rhW} (hw : rh_ms w) {L : rhL} {S1 : List rhA} {M M0 : rhM} {r : Int} {y1 y2 y3 y4 : Int} (E : eC w YX32_putType 0 [(2, 0), (0, y1), (0, y2), (0, y3), (0, y4)] M r M0) (hw1 : rh_wd S1 ≤ 8) : eS w YX32_print 3 200 L ((0, y4) :: (0, y3) :: (0, y2) :: (0, y1) :: (2, 0) :: S1) M 203 L S1 M0 := by
  have hd : decode (ry_c YX32_print) 200 = .ok (.invokevirtual 1299, 3) := (tdX32_print 200).resolve_right (by decide +kernel) ▸ (by decide +kernel : rh_dk dtX32_print 200 = .ok (.invokevirtual 1299, 3))
  exact fun _ _ K => eA.cv (jX32_print_1299 29 (by decide)) (rh_obl hw 0 (by decide +kernel)) (by decide) hd rfl hw1 rfl E K
theorem q4944 : (Jvm.Cond.methodLink "ReadingHouseModel" (1302 : Nat) ({ cls := "ReadingHouseModel", name := "wearOut", desc := "(III)V" } : Jvm.MethodName)) ∈ lw_all := lw_g (lw_at lw_m20 131 rfl) rfl
theorem jX32_print_1302 {w : rhW} : ∀ ci ∈ ([29] : List Nat), rh_cvr w YX32_print YX32_wearOut 1302 3 ci := rh_one (rh_cvr.of rfl (Or.inl q4944) kX32_wearOut)
theorem vX32_print_217 {w : rhW} (hw : rh_ms w) {L : rhL} {S1 : List rhA} {M M0 : rhM} {r : Int} {y1 y2 y3 : Int} (E : eC w YX32_wearOut 1 [(2, 0), (0, y1), (0, y2), (0, y3)] M r M0) (hw1 : rh_wd S1 ≤ 8) : eS w YX32_print 3 217 L ((0, y3) :: (0, y2) :: (0, y1) :: (2, 0) :: S1) M 220 L S1 M0 := by
  have hd : decode (ry_c YX32_print) 217 = .ok (.invokevirtual 1302, 3) := (tdX32_print 217).resolve_right (by decide +kernel) ▸ (by decide +kernel : rh_dk dtX32_print 217 = .ok (.invokevirtual 1302, 3))
  exact fun _ _ K => eA.cv (jX32_print_1302 29 (by decide)) (rh_obl hw 0 (by decide +kernel)) (by decide) hd rfl hw1 rfl E K
theorem jX32_print_696 {w : rhW} : ∀ ci ∈ ([29] : List Nat), rh_cvr w YX32_print YX32_becomes 696 3 ci := rh_one (rh_cvr.of rfl (Or.inl q4202) kX32_becomes)
theorem vX32_print_224 {w : rhW} (hw : rh_ms w) {L : rhL} {S1 : List rhA} {M M0 : rhM} {r : Int} {y1 y2 y3 : Int} (E : eC w YX32_becomes 1 [(2, 0), (0, y1), (0, y2), (0, y3)] M r M0) (hw1 : rh_wd S1 ≤ 8) : eS w YX32_print 3 224 L ((0, y3) :: (0, y2) :: (0, y1) :: (2, 0) :: S1) M 227 L S1 M0 := by
  have hd : decode (ry_c YX32_print) 224 = .ok (.invokevirtual 696, 3) := (tdX32_print 224).resolve_right (by decide +kernel) ▸ (by decide +kernel : rh_dk dtX32_print 224 = .ok (.invokevirtual 696, 3))
  exact fun _ _ K => eA.cv (jX32_print_696 29 (by decide)) (rh_obl hw 0 (by decide +kernel)) (by decide) hd rfl hw1 rfl E K
theorem q4961 : (Jvm.Cond.methodLink "ReadingHouseModel" (1308 : Nat) ({ cls := "ReadingHouseModel", name := "isChecked", desc := "([II)Z" } : Jvm.MethodName)) ∈ lw_all := lw_g (lw_at lw_m20 148 rfl) rfl
theorem jX32_bars_1308 {w : rhW} : rh_csr w YX32_bars YX32_isChecked 1308 2 := rh_csr.of (Or.inl q4961) kX32_isChecked
theorem vX32_bars_134 {w : rhW} {L : rhL} {S1 : List rhA} {M M0 : rhM} {r : Int} {y1 y2 : Int} (E : eC w YX32_isChecked 0 [(2, y1), (0, y2)] M r M0) (hw1 : rh_wd S1 ≤ 8) : eS w YX32_bars 3 134 L ((0, y2) :: (2, y1) :: S1) M 137 L ((0, r) :: S1) M0 := by
  have hd : decode (ry_c YX32_bars) 134 = .ok (.invokestatic 1308, 3) := (tdX32_bars 134).resolve_right (by decide +kernel) ▸ (by decide +kernel : rh_dk dtX32_bars 134 = .ok (.invokestatic 1308, 3))
  exact fun _ _ K => eA.cs (jX32_bars_1308) (by decide) hd rfl hw1 rfl E K
theorem jX32_bars_730 {w : rhW} : ∀ ci ∈ ([29] : List Nat), rh_cvr w YX32_bars YX32_isBox 730 5 ci := rh_one (rh_cvr.of rfl (Or.inl q4251) kX32_isBox)
theorem vX32_bars_330 {w : rhW} (hw : rh_ms w) {L : rhL} {S1 : List rhA} {M M0 : rhM} {r : Int} {y1 y2 y3 y4 y5 : Int} (E : eC w YX32_isBox 0 [(2, 0), (0, y1), (0, y2), (0, y3), (0, y4), (0, y5)] M r M0) (hw1 : rh_wd S1 ≤ 8) : eS w YX32_bars 3 330 L ((0, y5) :: (0, y4) :: (0, y3) :: (0, y2) :: (0, y1) :: (2, 0) :: S1) M 333 L ((0, r) :: S1) M0 := by
  have hd : decode (ry_c YX32_bars) 330 = .ok (.invokevirtual 730, 3) := (tdX32_bars 330).resolve_right (by decide +kernel) ▸ (by decide +kernel : rh_dk dtX32_bars 330 = .ok (.invokevirtual 730, 3))
  exact fun _ _ K => eA.cv (jX32_bars_730 29 (by decide)) (rh_obl hw 0 (by decide +kernel)) (by decide) hd rfl hw1 rfl E K
theorem jX32_findRuns_865 {w : rhW} : ∀ ci ∈ ([29] : List Nat), rh_cvr w YX32_findRuns YX32_isBlack 865 3 ci := rh_one (rh_cvr.of rfl (Or.inl q4420) kX32_isBlack)
theorem vX32_findRuns_45 {w : rhW} (hw : rh_ms w) {L : rhL} {S1 : List rhA} {M M0 : rhM} {r : Int} {y1 y2 y3 : Int} (E : eC w YX32_isBlack 1 [(2, 0), (0, y1), (0, y2), (0, y3)] M r M0) (hw1 : rh_wd S1 ≤ 8) : eS w YX32_findRuns 2 45 L ((0, y3) :: (0, y2) :: (0, y1) :: (2, 0) :: S1) M 48 L ((0, r) :: S1) M0 := by
  have hd : decode (ry_c YX32_findRuns) 45 = .ok (.invokevirtual 865, 3) := (tdX32_findRuns 45).resolve_right (by decide +kernel) ▸ (by decide +kernel : rh_dk dtX32_findRuns 45 = .ok (.invokevirtual 865, 3))
  exact fun _ _ K => eA.cv (jX32_findRuns_865 29 (by decide)) (rh_obl hw 0 (by decide +kernel)) (by decide) hd rfl hw1 rfl E K
theorem q4991 : (Jvm.Cond.methodLink "ReadingHouseModel" (1332 : Nat) ({ cls := "ReadingHouseModel", name := "digitAt", desc := "(I)I" } : Jvm.MethodName)) ∈ lw_all := lw_g (lw_at lw_m20 178 rfl) rfl
theorem jX32_isCode_1332 {w : rhW} : ∀ ci ∈ ([29] : List Nat), rh_cvr w YX32_isCode YX32_digitAt 1332 1 ci := rh_one (rh_cvr.of rfl (Or.inl q4991) kX32_digitAt)
theorem vX32_isCode_162 {w : rhW} (hw : rh_ms w) {L : rhL} {S1 : List rhA} {M M0 : rhM} {r : Int} {y1 : Int} (E : eC w YX32_digitAt 1 [(2, 0), (0, y1)] M r M0) (hw1 : rh_wd S1 ≤ 8) : eS w YX32_isCode 2 162 L ((0, y1) :: (2, 0) :: S1) M 165 L ((0, r) :: S1) M0 := by
  have hd : decode (ry_c YX32_isCode) 162 = .ok (.invokevirtual 1332, 3) := (tdX32_isCode 162).resolve_right (by decide +kernel) ▸ (by decide +kernel : rh_dk dtX32_isCode 162 = .ok (.invokevirtual 1332, 3))
  exact fun _ _ K => eA.cv (jX32_isCode_1332 29 (by decide)) (rh_obl hw 0 (by decide +kernel)) (by decide) hd rfl hw1 rfl E K
theorem vX32_isCode_185 {w : rhW} (hw : rh_ms w) {L : rhL} {S1 : List rhA} {M M0 : rhM} {r : Int} {y1 : Int} (E : eC w YX32_digitAt 1 [(2, 0), (0, y1)] M r M0) (hw1 : rh_wd S1 ≤ 8) : eS w YX32_isCode 2 185 L ((0, y1) :: (2, 0) :: S1) M 188 L ((0, r) :: S1) M0 := by
  have hd : decode (ry_c YX32_isCode) 185 = .ok (.invokevirtual 1332, 3) := (tdX32_isCode 185).resolve_right (by decide +kernel) ▸ (by decide +kernel : rh_dk dtX32_isCode 185 = .ok (.invokevirtual 1332, 3))
  exact fun _ _ K => eA.cv (jX32_isCode_1332 29 (by decide)) (rh_obl hw 0 (by decide +kernel)) (by decide) hd rfl hw1 rfl E K
theorem jX32_isCode_1308 {w : rhW} : rh_csr w YX32_isCode YX32_isChecked 1308 2 := rh_csr.of (Or.inl q4961) kX32_isChecked
theorem vX32_isCode_236 {w : rhW} {L : rhL} {S1 : List rhA} {M M0 : rhM} {r : Int} {y1 y2 : Int} (E : eC w YX32_isChecked 0 [(2, y1), (0, y2)] M r M0) (hw1 : rh_wd S1 ≤ 8) : eS w YX32_isCode 2 236 L ((0, y2) :: (2, y1) :: S1) M 239 L ((0, r) :: S1) M0 := by
  have hd : decode (ry_c YX32_isCode) 236 = .ok (.invokestatic 1308, 3) := (tdX32_isCode 236).resolve_right (by decide +kernel) ▸ (by decide +kernel : rh_dk dtX32_isCode 236 = .ok (.invokestatic 1308, 3))
  exact fun _ _ K => eA.cs (jX32_isCode_1308) (by decide) hd rfl hw1 rfl E K
theorem q4983 : (Jvm.Cond.methodLink "ReadingHouseModel" (1335 : Nat) ({ cls := "ReadingHouseModel", name := "isCode", desc := "(II)Z" } : Jvm.MethodName)) ∈ lw_all := lw_g (lw_at lw_m20 170 rfl) rfl
theorem jX32_findCode_1335 {w : rhW} : ∀ ci ∈ ([29] : List Nat), rh_cvr w YX32_findCode YX32_isCode 1335 2 ci := rh_one (rh_cvr.of rfl (Or.inl q4983) kX32_isCode)
theorem vX32_findCode_32 {w : rhW} (hw : rh_ms w) {L : rhL} {S1 : List rhA} {M M0 : rhM} {r : Int} {y1 y2 : Int} (E : eC w YX32_isCode 2 [(2, 0), (0, y1), (0, y2)] M r M0) (hw1 : rh_wd S1 ≤ 8) : eS w YX32_findCode 3 32 L ((0, y2) :: (0, y1) :: (2, 0) :: S1) M 35 L ((0, r) :: S1) M0 := by
  have hd : decode (ry_c YX32_findCode) 32 = .ok (.invokevirtual 1335, 3) := (tdX32_findCode 32).resolve_right (by decide +kernel) ▸ (by decide +kernel : rh_dk dtX32_findCode 32 = .ok (.invokevirtual 1335, 3))
  exact fun _ _ K => eA.cv (jX32_findCode_1335 29 (by decide)) (rh_obl hw 0 (by decide +kernel)) (by decide) hd rfl hw1 rfl E K
theorem q4975 : (Jvm.Cond.methodLink "ReadingHouseModel" (1338 : Nat) ({ cls := "ReadingHouseModel", name := "findRuns", desc := "(IIZ)V" } : Jvm.MethodName)) ∈ lw_all := lw_g (lw_at lw_m20 162 rfl) rfl
theorem jX32_barsAt_1338 {w : rhW} : ∀ ci ∈ ([29] : List Nat), rh_cvr w YX32_barsAt YX32_findRuns 1338 3 ci := rh_one (rh_cvr.of rfl (Or.inl q4975) kX32_findRuns)
theorem vX32_barsAt_41 {w : rhW} (hw : rh_ms w) {L : rhL} {S1 : List rhA} {M M0 : rhM} {r : Int} {y1 y2 y3 : Int} (E : eC w YX32_findRuns 2 [(2, 0), (0, y1), (0, y2), (0, y3)] M r M0) (hw1 : rh_wd S1 ≤ 8) : eS w YX32_barsAt 4 41 L ((0, y3) :: (0, y2) :: (0, y1) :: (2, 0) :: S1) M 44 L S1 M0 := by
  have hd : decode (ry_c YX32_barsAt) 41 = .ok (.invokevirtual 1338, 3) := (tdX32_barsAt 41).resolve_right (by decide +kernel) ▸ (by decide +kernel : rh_dk dtX32_barsAt 41 = .ok (.invokevirtual 1338, 3))
  exact fun _ _ K => eA.cv (jX32_barsAt_1338 29 (by decide)) (rh_obl hw 0 (by decide +kernel)) (by decide) hd rfl hw1 rfl E K
theorem q4979 : (Jvm.Cond.methodLink "ReadingHouseModel" (1341 : Nat) ({ cls := "ReadingHouseModel", name := "findCode", desc := "()I" } : Jvm.MethodName)) ∈ lw_all := lw_g (lw_at lw_m20 166 rfl) rfl
theorem jX32_barsAt_1341 {w : rhW} : ∀ ci ∈ ([29] : List Nat), rh_cvr w YX32_barsAt YX32_findCode 1341 0 ci := rh_one (rh_cvr.of rfl (Or.inl q4979) kX32_findCode)
theorem vX32_barsAt_45 {w : rhW} (hw : rh_ms w) {L : rhL} {S1 : List rhA} {M M0 : rhM} {r : Int} (E : eC w YX32_findCode 3 [(2, 0)] M r M0) (hw1 : rh_wd S1 ≤ 8) : eS w YX32_barsAt 4 45 L ((2, 0) :: S1) M 48 L ((0, r) :: S1) M0 := by
  have hd : decode (ry_c YX32_barsAt) 45 = .ok (.invokevirtual 1341, 3) := (tdX32_barsAt 45).resolve_right (by decide +kernel) ▸ (by decide +kernel : rh_dk dtX32_barsAt 45 = .ok (.invokevirtual 1341, 3))
  exact fun _ _ K => eA.cv (jX32_barsAt_1341 29 (by decide)) (rh_obl hw 0 (by decide +kernel)) (by decide) hd rfl hw1 rfl E K
theorem vX32_barsAt_58 {w : rhW} (hw : rh_ms w) {L : rhL} {S1 : List rhA} {M M0 : rhM} {r : Int} {y1 y2 y3 : Int} (E : eC w YX32_findRuns 2 [(2, 0), (0, y1), (0, y2), (0, y3)] M r M0) (hw1 : rh_wd S1 ≤ 8) : eS w YX32_barsAt 4 58 L ((0, y3) :: (0, y2) :: (0, y1) :: (2, 0) :: S1) M 61 L S1 M0 := by
  have hd : decode (ry_c YX32_barsAt) 58 = .ok (.invokevirtual 1338, 3) := (tdX32_barsAt 58).resolve_right (by decide +kernel) ▸ (by decide +kernel : rh_dk dtX32_barsAt 58 = .ok (.invokevirtual 1338, 3))
  exact fun _ _ K => eA.cv (jX32_barsAt_1338 29 (by decide)) (rh_obl hw 0 (by decide +kernel)) (by decide) hd rfl hw1 rfl E K
theorem vX32_barsAt_62 {w : rhW} (hw : rh_ms w) {L : rhL} {S1 : List rhA} {M M0 : rhM} {r : Int} (E : eC w YX32_findCode 3 [(2, 0)] M r M0) (hw1 : rh_wd S1 ≤ 8) : eS w YX32_barsAt 4 62 L ((2, 0) :: S1) M 65 L ((0, r) :: S1) M0 := by
  have hd : decode (ry_c YX32_barsAt) 62 = .ok (.invokevirtual 1341, 3) := (tdX32_barsAt 62).resolve_right (by decide +kernel) ▸ (by decide +kernel : rh_dk dtX32_barsAt 62 = .ok (.invokevirtual 1341, 3))
  exact fun _ _ K => eA.cv (jX32_barsAt_1341 29 (by decide)) (rh_obl hw 0 (by decide +kernel)) (by decide) hd rfl hw1 rfl E K
theorem jX32_isRule_865 {w : rhW} : ∀ ci ∈ ([29] : List Nat), rh_cvr w YX32_isRule YX32_isBlack 865 3 ci := rh_one (rh_cvr.of rfl (Or.inl q4420) kX32_isBlack)
theorem vX32_isRule_52 {w : rhW} (hw : rh_ms w) {L : rhL} {S1 : List rhA} {M M0 : rhM} {r : Int} {y1 y2 y3 : Int} (E : eC w YX32_isBlack 1 [(2, 0), (0, y1), (0, y2), (0, y3)] M r M0) (hw1 : rh_wd S1 ≤ 8) : eS w YX32_isRule 2 52 L ((0, y3) :: (0, y2) :: (0, y1) :: (2, 0) :: S1) M 55 L ((0, r) :: S1) M0 := by
  have hd : decode (ry_c YX32_isRule) 52 = .ok (.invokevirtual 865, 3) := (tdX32_isRule 52).resolve_right (by decide +kernel) ▸ (by decide +kernel : rh_dk dtX32_isRule 52 = .ok (.invokevirtual 865, 3))
  exact fun _ _ K => eA.cv (jX32_isRule_865 29 (by decide)) (rh_obl hw 0 (by decide +kernel)) (by decide) hd rfl hw1 rfl E K
theorem jX32_isInked_865 {w : rhW} : ∀ ci ∈ ([29] : List Nat), rh_cvr w YX32_isInked YX32_isBlack 865 3 ci := rh_one (rh_cvr.of rfl (Or.inl q4420) kX32_isBlack)
theorem vX32_isInked_35 {w : rhW} (hw : rh_ms w) {L : rhL} {S1 : List rhA} {M M0 : rhM} {r : Int} {y1 y2 y3 : Int} (E : eC w YX32_isBlack 1 [(2, 0), (0, y1), (0, y2), (0, y3)] M r M0) (hw1 : rh_wd S1 ≤ 8) : eS w YX32_isInked 2 35 L ((0, y3) :: (0, y2) :: (0, y1) :: (2, 0) :: S1) M 38 L ((0, r) :: S1) M0 := by
  have hd : decode (ry_c YX32_isInked) 35 = .ok (.invokevirtual 865, 3) := (tdX32_isInked 35).resolve_right (by decide +kernel) ▸ (by decide +kernel : rh_dk dtX32_isInked 35 = .ok (.invokevirtual 865, 3))
  exact fun _ _ K => eA.cv (jX32_isInked_865 29 (by decide)) (rh_obl hw 0 (by decide +kernel)) (by decide) hd rfl hw1 rfl E K
theorem q5007 : (Jvm.Cond.methodLink "ReadingHouseModel" (1350 : Nat) ({ cls := "ReadingHouseModel", name := "isInked", desc := "(IIIIZ)Z" } : Jvm.MethodName)) ∈ lw_all := lw_g (lw_at lw_m20 194 rfl) rfl
theorem jX32_joinCells_1350 {w : rhW} : ∀ ci ∈ ([29] : List Nat), rh_cvr w YX32_joinCells YX32_isInked 1350 5 ci := rh_one (rh_cvr.of rfl (Or.inl q5007) kX32_isInked)
theorem vX32_joinCells_92 {w : rhW} (hw : rh_ms w) {L : rhL} {S1 : List rhA} {M M0 : rhM} {r : Int} {y1 y2 y3 y4 y5 : Int} (E : eC w YX32_isInked 2 [(2, 0), (0, y1), (0, y2), (0, y3), (0, y4), (0, y5)] M r M0) (hw1 : rh_wd S1 ≤ 8) : eS w YX32_joinCells 3 92 L ((0, y5) :: (0, y4) :: (0, y3) :: (0, y2) :: (0, y1) :: (2, 0) :: S1) M 95 L ((0, r) :: S1) M0 := by
  have hd : decode (ry_c YX32_joinCells) 92 = .ok (.invokevirtual 1350, 3) := (tdX32_joinCells 92).resolve_right (by decide +kernel) ▸ (by decide +kernel : rh_dk dtX32_joinCells 92 = .ok (.invokevirtual 1350, 3))
  exact fun _ _ K => eA.cv (jX32_joinCells_1350 29 (by decide)) (rh_obl hw 0 (by decide +kernel)) (by decide) hd rfl hw1 rfl E K
theorem q5011 : (Jvm.Cond.methodLink "ReadingHouseModel" (1354 : Nat) ({ cls := "ReadingHouseModel", name := "join", desc := "(II)V" } : Jvm.MethodName)) ∈ lw_all := lw_g (lw_at lw_m20 198 rfl) rfl
theorem jX32_joinCells_1354 {w : rhW} : ∀ ci ∈ ([29] : List Nat), rh_cvr w YX32_joinCells YX32_join 1354 2 ci := rh_one (rh_cvr.of rfl (Or.inl q5011) kX32_join)
theorem vX32_joinCells_128 {w : rhW} (hw : rh_ms w) {L : rhL} {S1 : List rhA} {M M0 : rhM} {r : Int} {y1 y2 : Int} (E : eC w YX32_join 1 [(2, 0), (0, y1), (0, y2)] M r M0) (hw1 : rh_wd S1 ≤ 8) : eS w YX32_joinCells 3 128 L ((0, y2) :: (0, y1) :: (2, 0) :: S1) M 131 L S1 M0 := by
  have hd : decode (ry_c YX32_joinCells) 128 = .ok (.invokevirtual 1354, 3) := (tdX32_joinCells 128).resolve_right (by decide +kernel) ▸ (by decide +kernel : rh_dk dtX32_joinCells 128 = .ok (.invokevirtual 1354, 3))
  exact fun _ _ K => eA.cv (jX32_joinCells_1354 29 (by decide)) (rh_obl hw 0 (by decide +kernel)) (by decide) hd rfl hw1 rfl E K
theorem vX32_joinCells_211 {w : rhW} (hw : rh_ms w) {L : rhL} {S1 : List rhA} {M M0 : rhM} {r : Int} {y1 y2 y3 y4 y5 : Int} (E : eC w YX32_isInked 2 [(2, 0), (0, y1), (0, y2), (0, y3), (0, y4), (0, y5)] M r M0) (hw1 : rh_wd S1 ≤ 8) : eS w YX32_joinCells 3 211 L ((0, y5) :: (0, y4) :: (0, y3) :: (0, y2) :: (0, y1) :: (2, 0) :: S1) M 214 L ((0, r) :: S1) M0 := by
  have hd : decode (ry_c YX32_joinCells) 211 = .ok (.invokevirtual 1350, 3) := (tdX32_joinCells 211).resolve_right (by decide +kernel) ▸ (by decide +kernel : rh_dk dtX32_joinCells 211 = .ok (.invokevirtual 1350, 3))
  exact fun _ _ K => eA.cv (jX32_joinCells_1350 29 (by decide)) (rh_obl hw 0 (by decide +kernel)) (by decide) hd rfl hw1 rfl E K
theorem vX32_joinCells_248 {w : rhW} (hw : rh_ms w) {L : rhL} {S1 : List rhA} {M M0 : rhM} {r : Int} {y1 y2 : Int} (E : eC w YX32_join 1 [(2, 0), (0, y1), (0, y2)] M r M0) (hw1 : rh_wd S1 ≤ 8) : eS w YX32_joinCells 3 248 L ((0, y2) :: (0, y1) :: (2, 0) :: S1) M 251 L S1 M0 := by
  have hd : decode (ry_c YX32_joinCells) 248 = .ok (.invokevirtual 1354, 3) := (tdX32_joinCells 248).resolve_right (by decide +kernel) ▸ (by decide +kernel : rh_dk dtX32_joinCells 248 = .ok (.invokevirtual 1354, 3))
  exact fun _ _ K => eA.cv (jX32_joinCells_1354 29 (by decide)) (rh_obl hw 0 (by decide +kernel)) (by decide) hd rfl hw1 rfl E K
theorem q4999 : (Jvm.Cond.methodLink "ReadingHouseModel" (1357 : Nat) ({ cls := "ReadingHouseModel", name := "isRule", desc := "(IIZI)Z" } : Jvm.MethodName)) ∈ lw_all := lw_g (lw_at lw_m20 186 rfl) rfl
theorem jX32_ruled_1357 {w : rhW} : ∀ ci ∈ ([29] : List Nat), rh_cvr w YX32_ruled YX32_isRule 1357 4 ci := rh_one (rh_cvr.of rfl (Or.inl q4999) kX32_isRule)
theorem vX32_ruled_65 {w : rhW} (hw : rh_ms w) {L : rhL} {S1 : List rhA} {M M0 : rhM} {r : Int} {y1 y2 y3 y4 : Int} (E : eC w YX32_isRule 2 [(2, 0), (0, y1), (0, y2), (0, y3), (0, y4)] M r M0) (hw1 : rh_wd S1 ≤ 8) : eS w YX32_ruled 4 65 L ((0, y4) :: (0, y3) :: (0, y2) :: (0, y1) :: (2, 0) :: S1) M 68 L ((0, r) :: S1) M0 := by
  have hd : decode (ry_c YX32_ruled) 65 = .ok (.invokevirtual 1357, 3) := (tdX32_ruled 65).resolve_right (by decide +kernel) ▸ (by decide +kernel : rh_dk dtX32_ruled 65 = .ok (.invokevirtual 1357, 3))
  exact fun _ _ K => eA.cv (jX32_ruled_1357 29 (by decide)) (rh_obl hw 0 (by decide +kernel)) (by decide) hd rfl hw1 rfl E K
theorem vX32_ruled_149 {w : rhW} (hw : rh_ms w) {L : rhL} {S1 : List rhA} {M M0 : rhM} {r : Int} {y1 y2 y3 y4 : Int} (E : eC w YX32_isRule 2 [(2, 0), (0, y1), (0, y2), (0, y3), (0, y4)] M r M0) (hw1 : rh_wd S1 ≤ 8) : eS w YX32_ruled 4 149 L ((0, y4) :: (0, y3) :: (0, y2) :: (0, y1) :: (2, 0) :: S1) M 152 L ((0, r) :: S1) M0 := by
  have hd : decode (ry_c YX32_ruled) 149 = .ok (.invokevirtual 1357, 3) := (tdX32_ruled 149).resolve_right (by decide +kernel) ▸ (by decide +kernel : rh_dk dtX32_ruled 149 = .ok (.invokevirtual 1357, 3))
  exact fun _ _ K => eA.cv (jX32_ruled_1357 29 (by decide)) (rh_obl hw 0 (by decide +kernel)) (by decide) hd rfl hw1 rfl E K
theorem q5003 : (Jvm.Cond.methodLink "ReadingHouseModel" (1361 : Nat) ({ cls := "ReadingHouseModel", name := "joinCells", desc := "(III)V" } : Jvm.MethodName)) ∈ lw_all := lw_g (lw_at lw_m20 190 rfl) rfl
theorem jX32_ruled_1361 {w : rhW} : ∀ ci ∈ ([29] : List Nat), rh_cvr w YX32_ruled YX32_joinCells 1361 3 ci := rh_one (rh_cvr.of rfl (Or.inl q5003) kX32_joinCells)
theorem vX32_ruled_288 {w : rhW} (hw : rh_ms w) {L : rhL} {S1 : List rhA} {M M0 : rhM} {r : Int} {y1 y2 y3 : Int} (E : eC w YX32_joinCells 3 [(2, 0), (0, y1), (0, y2), (0, y3)] M r M0) (hw1 : rh_wd S1 ≤ 8) : eS w YX32_ruled 4 288 L ((0, y3) :: (0, y2) :: (0, y1) :: (2, 0) :: S1) M 291 L S1 M0 := by
  have hd : decode (ry_c YX32_ruled) 288 = .ok (.invokevirtual 1361, 3) := (tdX32_ruled 288).resolve_right (by decide +kernel) ▸ (by decide +kernel : rh_dk dtX32_ruled 288 = .ok (.invokevirtual 1361, 3))
  exact fun _ _ K => eA.cv (jX32_ruled_1361 29 (by decide)) (rh_obl hw 0 (by decide +kernel)) (by decide) hd rfl hw1 rfl E K
theorem jX32_isNearInk_865 {w : rhW} : ∀ ci ∈ ([29] : List Nat), rh_cvr w YX32_isNearInk YX32_isBlack 865 3 ci := rh_one (rh_cvr.of rfl (Or.inl q4420) kX32_isBlack)
theorem vX32_isNearInk_28 {w : rhW} (hw : rh_ms w) {L : rhL} {S1 : List rhA} {M M0 : rhM} {r : Int} {y1 y2 y3 : Int} (E : eC w YX32_isBlack 1 [(2, 0), (0, y1), (0, y2), (0, y3)] M r M0) (hw1 : rh_wd S1 ≤ 8) : eS w YX32_isNearInk 2 28 L ((0, y3) :: (0, y2) :: (0, y1) :: (2, 0) :: S1) M 31 L ((0, r) :: S1) M0 := by
  have hd : decode (ry_c YX32_isNearInk) 28 = .ok (.invokevirtual 865, 3) := (tdX32_isNearInk 28).resolve_right (by decide +kernel) ▸ (by decide +kernel : rh_dk dtX32_isNearInk 28 = .ok (.invokevirtual 865, 3))
  exact fun _ _ K => eA.cv (jX32_isNearInk_865 29 (by decide)) (rh_obl hw 0 (by decide +kernel)) (by decide) hd rfl hw1 rfl E K
theorem jX32_ink_730 {w : rhW} : ∀ ci ∈ ([29] : List Nat), rh_cvr w YX32_ink YX32_isBox 730 5 ci := rh_one (rh_cvr.of rfl (Or.inl q4251) kX32_isBox)
theorem vX32_ink_33 {w : rhW} (hw : rh_ms w) {L : rhL} {S1 : List rhA} {M M0 : rhM} {r : Int} {y1 y2 y3 y4 y5 : Int} (E : eC w YX32_isBox 0 [(2, 0), (0, y1), (0, y2), (0, y3), (0, y4), (0, y5)] M r M0) (hw1 : rh_wd S1 ≤ 8) : eS w YX32_ink 3 33 L ((0, y5) :: (0, y4) :: (0, y3) :: (0, y2) :: (0, y1) :: (2, 0) :: S1) M 36 L ((0, r) :: S1) M0 := by
  have hd : decode (ry_c YX32_ink) 33 = .ok (.invokevirtual 730, 3) := (tdX32_ink 33).resolve_right (by decide +kernel) ▸ (by decide +kernel : rh_dk dtX32_ink 33 = .ok (.invokevirtual 730, 3))
  exact fun _ _ K => eA.cv (jX32_ink_730 29 (by decide)) (rh_obl hw 0 (by decide +kernel)) (by decide) hd rfl hw1 rfl E K
theorem jX32_ink_865 {w : rhW} : ∀ ci ∈ ([29] : List Nat), rh_cvr w YX32_ink YX32_isBlack 865 3 ci := rh_one (rh_cvr.of rfl (Or.inl q4420) kX32_isBlack)
theorem vX32_ink_135 {w : rhW} (hw : rh_ms w) {L : rhL} {S1 : List rhA} {M M0 : rhM} {r : Int} {y1 y2 y3 : Int} (E : eC w YX32_isBlack 1 [(2, 0), (0, y1), (0, y2), (0, y3)] M r M0) (hw1 : rh_wd S1 ≤ 8) : eS w YX32_ink 3 135 L ((0, y3) :: (0, y2) :: (0, y1) :: (2, 0) :: S1) M 138 L ((0, r) :: S1) M0 := by
  have hd : decode (ry_c YX32_ink) 135 = .ok (.invokevirtual 865, 3) := (tdX32_ink 135).resolve_right (by decide +kernel) ▸ (by decide +kernel : rh_dk dtX32_ink 135 = .ok (.invokevirtual 865, 3))
  exact fun _ _ K => eA.cv (jX32_ink_865 29 (by decide)) (rh_obl hw 0 (by decide +kernel)) (by decide) hd rfl hw1 rfl E K
theorem q5023 : (Jvm.Cond.methodLink "ReadingHouseModel" (1364 : Nat) ({ cls := "ReadingHouseModel", name := "isNearInk", desc := "(III)Z" } : Jvm.MethodName)) ∈ lw_all := lw_g (lw_at lw_m20 210 rfl) rfl
theorem jX32_ink_1364 {w : rhW} : ∀ ci ∈ ([29] : List Nat), rh_cvr w YX32_ink YX32_isNearInk 1364 3 ci := rh_one (rh_cvr.of rfl (Or.inl q5023) kX32_isNearInk)
theorem vX32_ink_147 {w : rhW} (hw : rh_ms w) {L : rhL} {S1 : List rhA} {M M0 : rhM} {r : Int} {y1 y2 y3 : Int} (E : eC w YX32_isNearInk 2 [(2, 0), (0, y1), (0, y2), (0, y3)] M r M0) (hw1 : rh_wd S1 ≤ 8) : eS w YX32_ink 3 147 L ((0, y3) :: (0, y2) :: (0, y1) :: (2, 0) :: S1) M 150 L ((0, r) :: S1) M0 := by
  have hd : decode (ry_c YX32_ink) 147 = .ok (.invokevirtual 1364, 3) := (tdX32_ink 147).resolve_right (by decide +kernel) ▸ (by decide +kernel : rh_dk dtX32_ink 147 = .ok (.invokevirtual 1364, 3))
  exact fun _ _ K => eA.cv (jX32_ink_1364 29 (by decide)) (rh_obl hw 0 (by decide +kernel)) (by decide) hd rfl hw1 rfl E K
theorem q5043 : (Jvm.Cond.methodLink "ReadingHouseModel" (1367 : Nat) ({ cls := "ReadingHouseModel", name := "timesField", desc := "(II)I" } : Jvm.MethodName)) ∈ lw_all := lw_g (lw_at lw_m20 230 rfl) rfl
theorem jX32_inverse_1367 {w : rhW} : rh_csr w YX32_inverse YX32_timesField 1367 2 := rh_csr.of (Or.inl q5043) kX32_timesField
theorem vX32_inverse_4 {w : rhW} {L : rhL} {S1 : List rhA} {M M0 : rhM} {r : Int} {y1 y2 : Int} (E : eC w YX32_timesField 0 [(0, y1), (0, y2)] M r M0) (hw1 : rh_wd S1 ≤ 8) : eS w YX32_inverse 1 4 L ((0, y2) :: (0, y1) :: S1) M 7 L ((0, r) :: S1) M0 := by
  have hd : decode (ry_c YX32_inverse) 4 = .ok (.invokestatic 1367, 3) := (tdX32_inverse 4).resolve_right (by decide +kernel) ▸ (by decide +kernel : rh_dk dtX32_inverse 4 = .ok (.invokestatic 1367, 3))
  exact fun _ _ K => eA.cs (jX32_inverse_1367) (by decide) hd rfl hw1 rfl E K
theorem q5036 : (Jvm.Cond.methodLink "ReadingHouseModel" (1370 : Nat) ({ cls := "ReadingHouseModel", name := "powerOf", desc := "(I)I" } : Jvm.MethodName)) ∈ lw_all := lw_g (lw_at lw_m20 223 rfl) rfl
theorem jX32_sumOfWord_1370 {w : rhW} : rh_csr w YX32_sumOfWord YX32_powerOf 1370 1 := rh_csr.of (Or.inl q5036) kX32_powerOf
theorem vX32_sumOfWord_27 {w : rhW} {L : rhL} {S1 : List rhA} {M M0 : rhM} {r : Int} {y1 : Int} (E : eC w YX32_powerOf 0 [(0, y1)] M r M0) (hw1 : rh_wd S1 ≤ 8) : eS w YX32_sumOfWord 1 27 L ((0, y1) :: S1) M 30 L ((0, r) :: S1) M0 := by
  have hd : decode (ry_c YX32_sumOfWord) 27 = .ok (.invokestatic 1370, 3) := (tdX32_sumOfWord 27).resolve_right (by decide +kernel) ▸ (by decide +kernel : rh_dk dtX32_sumOfWord 27 = .ok (.invokestatic 1370, 3))
  exact fun _ _ K => eA.cs (jX32_sumOfWord_1370) (by decide) hd rfl hw1 rfl E K
theorem jX32_sumOfWord_1367 {w : rhW} : rh_csr w YX32_sumOfWord YX32_timesField 1367 2 := rh_csr.of (Or.inl q5043) kX32_timesField
theorem vX32_sumOfWord_30 {w : rhW} {L : rhL} {S1 : List rhA} {M M0 : rhM} {r : Int} {y1 y2 : Int} (E : eC w YX32_timesField 0 [(0, y1), (0, y2)] M r M0) (hw1 : rh_wd S1 ≤ 8) : eS w YX32_sumOfWord 1 30 L ((0, y2) :: (0, y1) :: S1) M 33 L ((0, r) :: S1) M0 := by
  have hd : decode (ry_c YX32_sumOfWord) 30 = .ok (.invokestatic 1367, 3) := (tdX32_sumOfWord 30).resolve_right (by decide +kernel) ▸ (by decide +kernel : rh_dk dtX32_sumOfWord 30 = .ok (.invokestatic 1367, 3))
  exact fun _ _ K => eA.cs (jX32_sumOfWord_1367) (by decide) hd rfl hw1 rfl E K
theorem jX32_solvePlaces_1370 {w : rhW} : rh_csr w YX32_solvePlaces YX32_powerOf 1370 1 := rh_csr.of (Or.inl q5036) kX32_powerOf
theorem vX32_solvePlaces_74 {w : rhW} {L : rhL} {S1 : List rhA} {M M0 : rhM} {r : Int} {y1 : Int} (E : eC w YX32_powerOf 0 [(0, y1)] M r M0) (hw1 : rh_wd S1 ≤ 8) : eS w YX32_solvePlaces 3 74 L ((0, y1) :: S1) M 77 L ((0, r) :: S1) M0 := by
  have hd : decode (ry_c YX32_solvePlaces) 74 = .ok (.invokestatic 1370, 3) := (tdX32_solvePlaces 74).resolve_right (by decide +kernel) ▸ (by decide +kernel : rh_dk dtX32_solvePlaces 74 = .ok (.invokestatic 1370, 3))
  exact fun _ _ K => eA.cs (jX32_solvePlaces_1370) (by decide) hd rfl hw1 rfl E K
theorem q5039 : (Jvm.Cond.methodLink "ReadingHouseModel" (1373 : Nat) ({ cls := "ReadingHouseModel", name := "sumOfWord", desc := "(II)I" } : Jvm.MethodName)) ∈ lw_all := lw_g (lw_at lw_m20 226 rfl) rfl
theorem jX32_solvePlaces_1373 {w : rhW} : ∀ ci ∈ ([29] : List Nat), rh_cvr w YX32_solvePlaces YX32_sumOfWord 1373 2 ci := rh_one (rh_cvr.of rfl (Or.inl q5039) kX32_sumOfWord)
theorem vX32_solvePlaces_102 {w : rhW} (hw : rh_ms w) {L : rhL} {S1 : List rhA} {M M0 : rhM} {r : Int} {y1 y2 : Int} (E : eC w YX32_sumOfWord 1 [(2, 0), (0, y1), (0, y2)] M r M0) (hw1 : rh_wd S1 ≤ 8) : eS w YX32_solvePlaces 3 102 L ((0, y2) :: (0, y1) :: (2, 0) :: S1) M 105 L ((0, r) :: S1) M0 := by
  have hd : decode (ry_c YX32_solvePlaces) 102 = .ok (.invokevirtual 1373, 3) := (tdX32_solvePlaces 102).resolve_right (by decide +kernel) ▸ (by decide +kernel : rh_dk dtX32_solvePlaces 102 = .ok (.invokevirtual 1373, 3))
  exact fun _ _ K => eA.cv (jX32_solvePlaces_1373 29 (by decide)) (rh_obl hw 0 (by decide +kernel)) (by decide) hd rfl hw1 rfl E K
theorem q5046 : (Jvm.Cond.methodLink "ReadingHouseModel" (1376 : Nat) ({ cls := "ReadingHouseModel", name := "reduce", desc := "(III)V" } : Jvm.MethodName)) ∈ lw_all := lw_g (lw_at lw_m20 233 rfl) rfl
theorem jX32_solvePlaces_1376 {w : rhW} : ∀ ci ∈ ([29] : List Nat), rh_cvr w YX32_solvePlaces YX32_reduce 1376 3 ci := rh_one (rh_cvr.of rfl (Or.inl q5046) kX32_reduce)
theorem vX32_solvePlaces_167 {w : rhW} (hw : rh_ms w) {L : rhL} {S1 : List rhA} {M M0 : rhM} {r : Int} {y1 y2 y3 : Int} (E : eC w YX32_reduce 2 [(2, 0), (0, y1), (0, y2), (0, y3)] M r M0) (hw1 : rh_wd S1 ≤ 8) : eS w YX32_solvePlaces 3 167 L ((0, y3) :: (0, y2) :: (0, y1) :: (2, 0) :: S1) M 170 L S1 M0 := by
  have hd : decode (ry_c YX32_solvePlaces) 167 = .ok (.invokevirtual 1376, 3) := (tdX32_solvePlaces 167).resolve_right (by decide +kernel) ▸ (by decide +kernel : rh_dk dtX32_solvePlaces 167 = .ok (.invokevirtual 1376, 3))
  exact fun _ _ K => eA.cv (jX32_solvePlaces_1376 29 (by decide)) (rh_obl hw 0 (by decide +kernel)) (by decide) hd rfl hw1 rfl E K
theorem q5050 : (Jvm.Cond.methodLink "ReadingHouseModel" (1379 : Nat) ({ cls := "ReadingHouseModel", name := "inverse", desc := "(I)I" } : Jvm.MethodName)) ∈ lw_all := lw_g (lw_at lw_m20 237 rfl) rfl
theorem jX32_reduce_1379 {w : rhW} : rh_csr w YX32_reduce YX32_inverse 1379 1 := rh_csr.of (Or.inl q5050) kX32_inverse
theorem vX32_reduce_79 {w : rhW} {L : rhL} {S1 : List rhA} {M M0 : rhM} {r : Int} {y1 : Int} (E : eC w YX32_inverse 1 [(0, y1)] M r M0) (hw1 : rh_wd S1 ≤ 8) : eS w YX32_reduce 2 79 L ((0, y1) :: S1) M 82 L ((0, r) :: S1) M0 := by
  have hd : decode (ry_c YX32_reduce) 79 = .ok (.invokestatic 1379, 3) := (tdX32_reduce 79).resolve_right (by decide +kernel) ▸ (by decide +kernel : rh_dk dtX32_reduce 79 = .ok (.invokestatic 1379, 3))
  exact fun _ _ K => eA.cs (jX32_reduce_1379) (by decide) hd rfl hw1 rfl E K
theorem jX32_reduce_1367 {w : rhW} : rh_csr w YX32_reduce YX32_timesField 1367 2 := rh_csr.of (Or.inl q5043) kX32_timesField
theorem vX32_reduce_119 {w : rhW} {L : rhL} {S1 : List rhA} {M M0 : rhM} {r : Int} {y1 y2 : Int} (E : eC w YX32_timesField 0 [(0, y1), (0, y2)] M r M0) (hw1 : rh_wd S1 ≤ 8) : eS w YX32_reduce 2 119 L ((0, y2) :: (0, y1) :: S1) M 122 L ((0, r) :: S1) M0 := by
  have hd : decode (ry_c YX32_reduce) 119 = .ok (.invokestatic 1367, 3) := (tdX32_reduce 119).resolve_right (by decide +kernel) ▸ (by decide +kernel : rh_dk dtX32_reduce 119 = .ok (.invokestatic 1367, 3))
  exact fun _ _ K => eA.cs (jX32_reduce_1367) (by decide) hd rfl hw1 rfl E K
theorem vX32_reduce_205 {w : rhW} {L : rhL} {S1 : List rhA} {M M0 : rhM} {r : Int} {y1 y2 : Int} (E : eC w YX32_timesField 0 [(0, y1), (0, y2)] M r M0) (hw1 : rh_wd S1 ≤ 8) : eS w YX32_reduce 2 205 L ((0, y2) :: (0, y1) :: S1) M 208 L ((0, r) :: S1) M0 := by
  have hd : decode (ry_c YX32_reduce) 205 = .ok (.invokestatic 1367, 3) := (tdX32_reduce 205).resolve_right (by decide +kernel) ▸ (by decide +kernel : rh_dk dtX32_reduce 205 = .ok (.invokestatic 1367, 3))
  exact fun _ _ K => eA.cs (jX32_reduce_1367) (by decide) hd rfl hw1 rfl E K
theorem q5032 : (Jvm.Cond.methodLink "ReadingHouseModel" (1384 : Nat) ({ cls := "ReadingHouseModel", name := "solvePlaces", desc := "(III)Z" } : Jvm.MethodName)) ∈ lw_all := lw_g (lw_at lw_m20 219 rfl) rfl
theorem jX32_close_1384 {w : rhW} : ∀ ci ∈ ([29] : List Nat), rh_cvr w YX32_close YX32_solvePlaces 1384 3 ci := rh_one (rh_cvr.of rfl (Or.inl q5032) kX32_solvePlaces)
theorem vX32_close_133 {w : rhW} (hw : rh_ms w) {L : rhL} {S1 : List rhA} {M M0 : rhM} {r : Int} {y1 y2 y3 : Int} (E : eC w YX32_solvePlaces 3 [(2, 0), (0, y1), (0, y2), (0, y3)] M r M0) (hw1 : rh_wd S1 ≤ 8) : eS w YX32_close 4 133 L ((0, y3) :: (0, y2) :: (0, y1) :: (2, 0) :: S1) M 136 L ((0, r) :: S1) M0 := by
  have hd : decode (ry_c YX32_close) 133 = .ok (.invokevirtual 1384, 3) := (tdX32_close 133).resolve_right (by decide +kernel) ▸ (by decide +kernel : rh_dk dtX32_close 133 = .ok (.invokevirtual 1384, 3))
  exact fun _ _ K => eA.cv (jX32_close_1384 29 (by decide)) (rh_obl hw 0 (by decide +kernel)) (by decide) hd rfl hw1 rfl E K
theorem jX32_mendWith_1384 {w : rhW} : ∀ ci ∈ ([29] : List Nat), rh_cvr w YX32_mendWith YX32_solvePlaces 1384 3 ci := rh_one (rh_cvr.of rfl (Or.inl q5032) kX32_solvePlaces)
theorem vX32_mendWith_114 {w : rhW} (hw : rh_ms w) {L : rhL} {S1 : List rhA} {M M0 : rhM} {r : Int} {y1 y2 y3 : Int} (E : eC w YX32_solvePlaces 3 [(2, 0), (0, y1), (0, y2), (0, y3)] M r M0) (hw1 : rh_wd S1 ≤ 8) : eS w YX32_mendWith 4 114 L ((0, y3) :: (0, y2) :: (0, y1) :: (2, 0) :: S1) M 117 L ((0, r) :: S1) M0 := by
  have hd : decode (ry_c YX32_mendWith) 114 = .ok (.invokevirtual 1384, 3) := (tdX32_mendWith 114).resolve_right (by decide +kernel) ▸ (by decide +kernel : rh_dk dtX32_mendWith 114 = .ok (.invokevirtual 1384, 3))
  exact fun _ _ K => eA.cv (jX32_mendWith_1384 29 (by decide)) (rh_obl hw 0 (by decide +kernel)) (by decide) hd rfl hw1 rfl E K
theorem q5057 : (Jvm.Cond.methodLink "ReadingHouseModel" (1387 : Nat) ({ cls := "ReadingHouseModel", name := "mendWith", desc := "(IIIII)Z" } : Jvm.MethodName)) ∈ lw_all := lw_g (lw_at lw_m21 4 rfl) rfl
theorem jX32_mend_1387 {w : rhW} : ∀ ci ∈ ([29] : List Nat), rh_cvr w YX32_mend YX32_mendWith 1387 5 ci := rh_one (rh_cvr.of rfl (Or.inl q5057) kX32_mendWith)
theorem vX32_mend_166 {w : rhW} (hw : rh_ms w) {L : rhL} {S1 : List rhA} {M M0 : rhM} {r : Int} {y1 y2 y3 y4 y5 : Int} (E : eC w YX32_mendWith 4 [(2, 0), (0, y1), (0, y2), (0, y3), (0, y4), (0, y5)] M r M0) (hw1 : rh_wd S1 ≤ 8) : eS w YX32_mend 5 166 L ((0, y5) :: (0, y4) :: (0, y3) :: (0, y2) :: (0, y1) :: (2, 0) :: S1) M 169 L ((0, r) :: S1) M0 := by
  have hd : decode (ry_c YX32_mend) 166 = .ok (.invokevirtual 1387, 3) := (tdX32_mend 166).resolve_right (by decide +kernel) ▸ (by decide +kernel : rh_dk dtX32_mend 166 = .ok (.invokevirtual 1387, 3))
  exact fun _ _ K => eA.cv (jX32_mend_1387 29 (by decide)) (rh_obl hw 0 (by decide +kernel)) (by decide) hd rfl hw1 rfl E K
theorem q5069 : (Jvm.Cond.methodLink "ReadingHouseModel" (1393 : Nat) ({ cls := "ReadingHouseModel", name := "next", desc := "()I" } : Jvm.MethodName)) ∈ lw_all := lw_g (lw_at lw_m21 16 rfl) rfl
theorem jX32_readName_1393 {w : rhW} : ∀ ci ∈ ([29] : List Nat), rh_cvr w YX32_readName YX32_next 1393 0 ci := rh_one (rh_cvr.of rfl (Or.inl q5069) kX32_next)
theorem vX32_readName_6 {w : rhW} (hw : rh_ms w) {L : rhL} {S1 : List rhA} {M M0 : rhM} {r : Int} (E : eC w YX32_next 1 [(2, 0)] M r M0) (hw1 : rh_wd S1 ≤ 8) : eS w YX32_readName 2 6 L ((2, 0) :: S1) M 9 L ((0, r) :: S1) M0 := by
  have hd : decode (ry_c YX32_readName) 6 = .ok (.invokevirtual 1393, 3) := (tdX32_readName 6).resolve_right (by decide +kernel) ▸ (by decide +kernel : rh_dk dtX32_readName 6 = .ok (.invokevirtual 1393, 3))
  exact fun _ _ K => eA.cv (jX32_readName_1393 29 (by decide)) (rh_obl hw 0 (by decide +kernel)) (by decide) hd rfl hw1 rfl E K
theorem jX32_takeSign_1393 {w : rhW} : ∀ ci ∈ ([29] : List Nat), rh_cvr w YX32_takeSign YX32_next 1393 0 ci := rh_one (rh_cvr.of rfl (Or.inl q5069) kX32_next)
theorem vX32_takeSign_9 {w : rhW} (hw : rh_ms w) {L : rhL} {S1 : List rhA} {M M0 : rhM} {r : Int} (E : eC w YX32_next 1 [(2, 0)] M r M0) (hw1 : rh_wd S1 ≤ 8) : eS w YX32_takeSign 2 9 L ((2, 0) :: S1) M 12 L ((0, r) :: S1) M0 := by
  have hd : decode (ry_c YX32_takeSign) 9 = .ok (.invokevirtual 1393, 3) := (tdX32_takeSign 9).resolve_right (by decide +kernel) ▸ (by decide +kernel : rh_dk dtX32_takeSign 9 = .ok (.invokevirtual 1393, 3))
  exact fun _ _ K => eA.cv (jX32_takeSign_1393 29 (by decide)) (rh_obl hw 0 (by decide +kernel)) (by decide) hd rfl hw1 rfl E K
theorem q5084 : (Jvm.Cond.methodLink "ReadingHouseModel" (1402 : Nat) ({ cls := "ReadingHouseModel", name := "takeSign", desc := "(I)V" } : Jvm.MethodName)) ∈ lw_all := lw_g (lw_at lw_m21 31 rfl) rfl
theorem jX32_readPattern_1402 {w : rhW} : ∀ ci ∈ ([29] : List Nat), rh_cvr w YX32_readPattern YX32_takeSign 1402 1 ci := rh_one (rh_cvr.of rfl (Or.inl q5084) kX32_takeSign)
theorem vX32_readPattern_8 {w : rhW} (hw : rh_ms w) {L : rhL} {S1 : List rhA} {M M0 : rhM} {r : Int} {y1 : Int} (E : eC w YX32_takeSign 2 [(2, 0), (0, y1)] M r M0) (hw1 : rh_wd S1 ≤ 8) : eS w YX32_readPattern 3 8 L ((0, y1) :: (2, 0) :: S1) M 11 L S1 M0 := by
  have hd : decode (ry_c YX32_readPattern) 8 = .ok (.invokevirtual 1402, 3) := (tdX32_readPattern 8).resolve_right (by decide +kernel) ▸ (by decide +kernel : rh_dk dtX32_readPattern 8 = .ok (.invokevirtual 1402, 3))
  exact fun _ _ K => eA.cv (jX32_readPattern_1402 29 (by decide)) (rh_obl hw 0 (by decide +kernel)) (by decide) hd rfl hw1 rfl E K
theorem jX32_readRule_1393 {w : rhW} : ∀ ci ∈ ([29] : List Nat), rh_cvr w YX32_readRule YX32_next 1393 0 ci := rh_one (rh_cvr.of rfl (Or.inl q5069) kX32_next)
theorem vX32_readRule_12 {w : rhW} (hw : rh_ms w) {L : rhL} {S1 : List rhA} {M M0 : rhM} {r : Int} (E : eC w YX32_next 1 [(2, 0)] M r M0) (hw1 : rh_wd S1 ≤ 8) : eS w YX32_readRule 4 12 L ((2, 0) :: S1) M 15 L ((0, r) :: S1) M0 := by
  have hd : decode (ry_c YX32_readRule) 12 = .ok (.invokevirtual 1393, 3) := (tdX32_readRule 12).resolve_right (by decide +kernel) ▸ (by decide +kernel : rh_dk dtX32_readRule 12 = .ok (.invokevirtual 1393, 3))
  exact fun _ _ K => eA.cv (jX32_readRule_1393 29 (by decide)) (rh_obl hw 0 (by decide +kernel)) (by decide) hd rfl hw1 rfl E K
theorem q5077 : (Jvm.Cond.methodLink "ReadingHouseModel" (1405 : Nat) ({ cls := "ReadingHouseModel", name := "readName", desc := "()V" } : Jvm.MethodName)) ∈ lw_all := lw_g (lw_at lw_m21 24 rfl) rfl
theorem jX32_readRule_1405 {w : rhW} : ∀ ci ∈ ([29] : List Nat), rh_cvr w YX32_readRule YX32_readName 1405 0 ci := rh_one (rh_cvr.of rfl (Or.inl q5077) kX32_readName)
theorem vX32_readRule_22 {w : rhW} (hw : rh_ms w) {L : rhL} {S1 : List rhA} {M M0 : rhM} {r : Int} (E : eC w YX32_readName 2 [(2, 0)] M r M0) (hw1 : rh_wd S1 ≤ 8) : eS w YX32_readRule 4 22 L ((2, 0) :: S1) M 25 L S1 M0 := by
  have hd : decode (ry_c YX32_readRule) 22 = .ok (.invokevirtual 1405, 3) := (tdX32_readRule 22).resolve_right (by decide +kernel) ▸ (by decide +kernel : rh_dk dtX32_readRule 22 = .ok (.invokevirtual 1405, 3))
  exact fun _ _ K => eA.cv (jX32_readRule_1405 29 (by decide)) (rh_obl hw 0 (by decide +kernel)) (by decide) hd rfl hw1 rfl E K
theorem jX32_readRule_1402 {w : rhW} : ∀ ci ∈ ([29] : List Nat), rh_cvr w YX32_readRule YX32_takeSign 1402 1 ci := rh_one (rh_cvr.of rfl (Or.inl q5084) kX32_takeSign)
theorem vX32_readRule_28 {w : rhW} (hw : rh_ms w) {L : rhL} {S1 : List rhA} {M M0 : rhM} {r : Int} {y1 : Int} (E : eC w YX32_takeSign 2 [(2, 0), (0, y1)] M r M0) (hw1 : rh_wd S1 ≤ 8) : eS w YX32_readRule 4 28 L ((0, y1) :: (2, 0) :: S1) M 31 L S1 M0 := by
  have hd : decode (ry_c YX32_readRule) 28 = .ok (.invokevirtual 1402, 3) := (tdX32_readRule 28).resolve_right (by decide +kernel) ▸ (by decide +kernel : rh_dk dtX32_readRule 28 = .ok (.invokevirtual 1402, 3))
  exact fun _ _ K => eA.cv (jX32_readRule_1402 29 (by decide)) (rh_obl hw 0 (by decide +kernel)) (by decide) hd rfl hw1 rfl E K
theorem q5088 : (Jvm.Cond.methodLink "ReadingHouseModel" (1408 : Nat) ({ cls := "ReadingHouseModel", name := "readPattern", desc := "()V" } : Jvm.MethodName)) ∈ lw_all := lw_g (lw_at lw_m21 35 rfl) rfl
theorem jX32_readRule_1408 {w : rhW} : ∀ ci ∈ ([29] : List Nat), rh_cvr w YX32_readRule YX32_readPattern 1408 0 ci := rh_one (rh_cvr.of rfl (Or.inl q5088) kX32_readPattern)
theorem vX32_readRule_40 {w : rhW} (hw : rh_ms w) {L : rhL} {S1 : List rhA} {M M0 : rhM} {r : Int} (E : eC w YX32_readPattern 3 [(2, 0)] M r M0) (hw1 : rh_wd S1 ≤ 8) : eS w YX32_readRule 4 40 L ((2, 0) :: S1) M 43 L S1 M0 := by
  have hd : decode (ry_c YX32_readRule) 40 = .ok (.invokevirtual 1408, 3) := (tdX32_readRule 40).resolve_right (by decide +kernel) ▸ (by decide +kernel : rh_dk dtX32_readRule 40 = .ok (.invokevirtual 1408, 3))
  exact fun _ _ K => eA.cv (jX32_readRule_1408 29 (by decide)) (rh_obl hw 0 (by decide +kernel)) (by decide) hd rfl hw1 rfl E K
theorem vX32_readRule_52 {w : rhW} (hw : rh_ms w) {L : rhL} {S1 : List rhA} {M M0 : rhM} {r : Int} (E : eC w YX32_next 1 [(2, 0)] M r M0) (hw1 : rh_wd S1 ≤ 8) : eS w YX32_readRule 4 52 L ((2, 0) :: S1) M 55 L ((0, r) :: S1) M0 := by
  have hd : decode (ry_c YX32_readRule) 52 = .ok (.invokevirtual 1393, 3) := (tdX32_readRule 52).resolve_right (by decide +kernel) ▸ (by decide +kernel : rh_dk dtX32_readRule 52 = .ok (.invokevirtual 1393, 3))
  exact fun _ _ K => eA.cv (jX32_readRule_1393 29 (by decide)) (rh_obl hw 0 (by decide +kernel)) (by decide) hd rfl hw1 rfl E K
theorem vX32_readRule_126 {w : rhW} (hw : rh_ms w) {L : rhL} {S1 : List rhA} {M M0 : rhM} {r : Int} (E : eC w YX32_next 1 [(2, 0)] M r M0) (hw1 : rh_wd S1 ≤ 8) : eS w YX32_readRule 4 126 L ((2, 0) :: S1) M 129 L ((0, r) :: S1) M0 := by
  have hd : decode (ry_c YX32_readRule) 126 = .ok (.invokevirtual 1393, 3) := (tdX32_readRule 126).resolve_right (by decide +kernel) ▸ (by decide +kernel : rh_dk dtX32_readRule 126 = .ok (.invokevirtual 1393, 3))
  exact fun _ _ K => eA.cv (jX32_readRule_1393 29 (by decide)) (rh_obl hw 0 (by decide +kernel)) (by decide) hd rfl hw1 rfl E K
theorem vX32_readRule_176 {w : rhW} (hw : rh_ms w) {L : rhL} {S1 : List rhA} {M M0 : rhM} {r : Int} {y1 : Int} (E : eC w YX32_takeSign 2 [(2, 0), (0, y1)] M r M0) (hw1 : rh_wd S1 ≤ 8) : eS w YX32_readRule 4 176 L ((0, y1) :: (2, 0) :: S1) M 179 L S1 M0 := by
  have hd : decode (ry_c YX32_readRule) 176 = .ok (.invokevirtual 1402, 3) := (tdX32_readRule 176).resolve_right (by decide +kernel) ▸ (by decide +kernel : rh_dk dtX32_readRule 176 = .ok (.invokevirtual 1402, 3))
  exact fun _ _ K => eA.cv (jX32_readRule_1402 29 (by decide)) (rh_obl hw 0 (by decide +kernel)) (by decide) hd rfl hw1 rfl E K
theorem q5065 : (Jvm.Cond.methodLink "ReadingHouseModel" (1411 : Nat) ({ cls := "ReadingHouseModel", name := "readRule", desc := "()V" } : Jvm.MethodName)) ∈ lw_all := lw_g (lw_at lw_m21 12 rfl) rfl
theorem jX32_rules_1411 {w : rhW} : ∀ ci ∈ ([29] : List Nat), rh_cvr w YX32_rules YX32_readRule 1411 0 ci := rh_one (rh_cvr.of rfl (Or.inl q5065) kX32_readRule)
theorem vX32_rules_35 {w : rhW} (hw : rh_ms w) {L : rhL} {S1 : List rhA} {M M0 : rhM} {r : Int} (E : eC w YX32_readRule 4 [(2, 0)] M r M0) (hw1 : rh_wd S1 ≤ 8) : eS w YX32_rules 5 35 L ((2, 0) :: S1) M 38 L S1 M0 := by
  have hd : decode (ry_c YX32_rules) 35 = .ok (.invokevirtual 1411, 3) := (tdX32_rules 35).resolve_right (by decide +kernel) ▸ (by decide +kernel : rh_dk dtX32_rules 35 = .ok (.invokevirtual 1411, 3))
  exact fun _ _ K => eA.cv (jX32_rules_1411 29 (by decide)) (rh_obl hw 0 (by decide +kernel)) (by decide) hd rfl hw1 rfl E K
theorem jX32_rules_1393 {w : rhW} : ∀ ci ∈ ([29] : List Nat), rh_cvr w YX32_rules YX32_next 1393 0 ci := rh_one (rh_cvr.of rfl (Or.inl q5069) kX32_next)
theorem vX32_rules_47 {w : rhW} (hw : rh_ms w) {L : rhL} {S1 : List rhA} {M M0 : rhM} {r : Int} (E : eC w YX32_next 1 [(2, 0)] M r M0) (hw1 : rh_wd S1 ≤ 8) : eS w YX32_rules 5 47 L ((2, 0) :: S1) M 50 L ((0, r) :: S1) M0 := by
  have hd : decode (ry_c YX32_rules) 47 = .ok (.invokevirtual 1393, 3) := (tdX32_rules 47).resolve_right (by decide +kernel) ▸ (by decide +kernel : rh_dk dtX32_rules 47 = .ok (.invokevirtual 1393, 3))
  exact fun _ _ K => eA.cv (jX32_rules_1393 29 (by decide)) (rh_obl hw 0 (by decide +kernel)) (by decide) hd rfl hw1 rfl E K
theorem q5104 : (Jvm.Cond.methodLink "ReadingHouseModel" (1423 : Nat) ({ cls := "ReadingHouseModel", name := "shareColumns", desc := "(II)Z" } : Jvm.MethodName)) ∈ lw_all := lw_g (lw_at lw_m21 51 rfl) rfl
theorem jX32_wordFrom_1423 {w : rhW} : ∀ ci ∈ ([29] : List Nat), rh_cvr w YX32_wordFrom YX32_shareColumns 1423 2 ci := rh_one (rh_cvr.of rfl (Or.inl q5104) kX32_shareColumns)
theorem vX32_wordFrom_277 {w : rhW} (hw : rh_ms w) {L : rhL} {S1 : List rhA} {M M0 : rhM} {r : Int} {y1 y2 : Int} (E : eC w YX32_shareColumns 0 [(2, 0), (0, y1), (0, y2)] M r M0) (hw1 : rh_wd S1 ≤ 8) : eS w YX32_wordFrom 1 277 L ((0, y2) :: (0, y1) :: (2, 0) :: S1) M 280 L ((0, r) :: S1) M0 := by
  have hd : decode (ry_c YX32_wordFrom) 277 = .ok (.invokevirtual 1423, 3) := (tdX32_wordFrom 277).resolve_right (by decide +kernel) ▸ (by decide +kernel : rh_dk dtX32_wordFrom 277 = .ok (.invokevirtual 1423, 3))
  exact fun _ _ K => eA.cv (jX32_wordFrom_1423 29 (by decide)) (rh_obl hw 0 (by decide +kernel)) (by decide) hd rfl hw1 rfl E K
theorem q5096 : (Jvm.Cond.methodLink "ReadingHouseModel" (1426 : Nat) ({ cls := "ReadingHouseModel", name := "matches", desc := "(II)Z" } : Jvm.MethodName)) ∈ lw_all := lw_g (lw_at lw_m21 43 rfl) rfl
theorem jX32_apply_1426 {w : rhW} : ∀ ci ∈ ([29] : List Nat), rh_cvr w YX32_apply YX32_matches 1426 2 ci := rh_one (rh_cvr.of rfl (Or.inl q5096) kX32_matches)
theorem vX32_apply_86 {w : rhW} (hw : rh_ms w) {L : rhL} {S1 : List rhA} {M M0 : rhM} {r : Int} {y1 y2 : Int} (E : eC w YX32_matches 1 [(2, 0), (0, y1), (0, y2)] M r M0) (hw1 : rh_wd S1 ≤ 8) : eS w YX32_apply 2 86 L ((0, y2) :: (0, y1) :: (2, 0) :: S1) M 89 L ((0, r) :: S1) M0 := by
  have hd : decode (ry_c YX32_apply) 86 = .ok (.invokevirtual 1426, 3) := (tdX32_apply 86).resolve_right (by decide +kernel) ▸ (by decide +kernel : rh_dk dtX32_apply 86 = .ok (.invokevirtual 1426, 3))
  exact fun _ _ K => eA.cv (jX32_apply_1426 29 (by decide)) (rh_obl hw 0 (by decide +kernel)) (by decide) hd rfl hw1 rfl E K
theorem q5100 : (Jvm.Cond.methodLink "ReadingHouseModel" (1429 : Nat) ({ cls := "ReadingHouseModel", name := "wordFrom", desc := "(III)I" } : Jvm.MethodName)) ∈ lw_all := lw_g (lw_at lw_m21 47 rfl) rfl
theorem jX32_apply_1429 {w : rhW} : ∀ ci ∈ ([29] : List Nat), rh_cvr w YX32_apply YX32_wordFrom 1429 3 ci := rh_one (rh_cvr.of rfl (Or.inl q5100) kX32_wordFrom)
theorem vX32_apply_102 {w : rhW} (hw : rh_ms w) {L : rhL} {S1 : List rhA} {M M0 : rhM} {r : Int} {y1 y2 y3 : Int} (E : eC w YX32_wordFrom 1 [(2, 0), (0, y1), (0, y2), (0, y3)] M r M0) (hw1 : rh_wd S1 ≤ 8) : eS w YX32_apply 2 102 L ((0, y3) :: (0, y2) :: (0, y1) :: (2, 0) :: S1) M 105 L ((0, r) :: S1) M0 := by
  have hd : decode (ry_c YX32_apply) 102 = .ok (.invokevirtual 1429, 3) := (tdX32_apply 102).resolve_right (by decide +kernel) ▸ (by decide +kernel : rh_dk dtX32_apply 102 = .ok (.invokevirtual 1429, 3))
  exact fun _ _ K => eA.cv (jX32_apply_1429 29 (by decide)) (rh_obl hw 0 (by decide +kernel)) (by decide) hd rfl hw1 rfl E K
theorem q5108 : (Jvm.Cond.methodLink "ReadingHouseModel" (1432 : Nat) ({ cls := "ReadingHouseModel", name := "readNumber", desc := "(I)V" } : Jvm.MethodName)) ∈ lw_all := lw_g (lw_at lw_m21 55 rfl) rfl
theorem jX32_apply_1432 {w : rhW} : ∀ ci ∈ ([29] : List Nat), rh_cvr w YX32_apply YX32_readNumber 1432 1 ci := rh_one (rh_cvr.of rfl (Or.inl q5108) kX32_readNumber)
theorem vX32_apply_134 {w : rhW} (hw : rh_ms w) {L : rhL} {S1 : List rhA} {M M0 : rhM} {r : Int} {y1 : Int} (E : eC w YX32_readNumber 1 [(2, 0), (0, y1)] M r M0) (hw1 : rh_wd S1 ≤ 8) : eS w YX32_apply 2 134 L ((0, y1) :: (2, 0) :: S1) M 137 L S1 M0 := by
  have hd : decode (ry_c YX32_apply) 134 = .ok (.invokevirtual 1432, 3) := (tdX32_apply 134).resolve_right (by decide +kernel) ▸ (by decide +kernel : rh_dk dtX32_apply 134 = .ok (.invokevirtual 1432, 3))
  exact fun _ _ K => eA.cv (jX32_apply_1432 29 (by decide)) (rh_obl hw 0 (by decide +kernel)) (by decide) hd rfl hw1 rfl E K
theorem jX32_save_1069 {w : rhW} : ∀ ci ∈ ([29] : List Nat), rh_cvr w YX32_save YX32_faceForms 1069 1 ci := rh_one (rh_cvr.of rfl (Or.inl q4602) kX32_faceForms)
theorem vX32_save_73 {w : rhW} (hw : rh_ms w) {L : rhL} {S1 : List rhA} {M M0 : rhM} {r : Int} {y1 : Int} (E : eC w YX32_faceForms 0 [(2, 0), (0, y1)] M r M0) (hw1 : rh_wd S1 ≤ 8) : eS w YX32_save 4 73 L ((0, y1) :: (2, 0) :: S1) M 76 L ((0, r) :: S1) M0 := by
  have hd : decode (ry_c YX32_save) 73 = .ok (.invokevirtual 1069, 3) := (tdX32_save 73).resolve_right (by decide +kernel) ▸ (by decide +kernel : rh_dk dtX32_save 73 = .ok (.invokevirtual 1069, 3))
  exact fun _ _ K => eA.cv (jX32_save_1069 29 (by decide)) (rh_obl hw 0 (by decide +kernel)) (by decide) hd rfl hw1 rfl E K
theorem jX32_save_1207 {w : rhW} : ∀ ci ∈ ([29] : List Nat), rh_cvr w YX32_save YX32_markedText 1207 1 ci := rh_one (rh_cvr.of rfl (Or.inl q4814) kX32_markedText)
theorem vX32_save_162 {w : rhW} (hw : rh_ms w) {L : rhL} {S1 : List rhA} {M M0 : rhM} {r : Int} {y1 : Int} (E : eC w YX32_markedText 3 [(2, 0), (0, y1)] M r M0) (hw1 : rh_wd S1 ≤ 8) : eS w YX32_save 4 162 L ((0, y1) :: (2, 0) :: S1) M 165 L S1 M0 := by
  have hd : decode (ry_c YX32_save) 162 = .ok (.invokevirtual 1207, 3) := (tdX32_save 162).resolve_right (by decide +kernel) ▸ (by decide +kernel : rh_dk dtX32_save 162 = .ok (.invokevirtual 1207, 3))
  exact fun _ _ K => eA.cv (jX32_save_1207 29 (by decide)) (rh_obl hw 0 (by decide +kernel)) (by decide) hd rfl hw1 rfl E K
theorem q5120 : (Jvm.Cond.methodLink "ReadingHouseModel" (1437 : Nat) ({ cls := "ReadingHouseModel", name := "rowOfFace", desc := "(I)V" } : Jvm.MethodName)) ∈ lw_all := lw_g (lw_at lw_m21 67 rfl) rfl
theorem jX32_save_1437 {w : rhW} : ∀ ci ∈ ([29] : List Nat), rh_cvr w YX32_save YX32_rowOfFace 1437 1 ci := rh_one (rh_cvr.of rfl (Or.inl q5120) kX32_rowOfFace)
theorem vX32_save_170 {w : rhW} (hw : rh_ms w) {L : rhL} {S1 : List rhA} {M M0 : rhM} {r : Int} {y1 : Int} (E : eC w YX32_rowOfFace 1 [(2, 0), (0, y1)] M r M0) (hw1 : rh_wd S1 ≤ 8) : eS w YX32_save 4 170 L ((0, y1) :: (2, 0) :: S1) M 173 L S1 M0 := by
  have hd : decode (ry_c YX32_save) 170 = .ok (.invokevirtual 1437, 3) := (tdX32_save 170).resolve_right (by decide +kernel) ▸ (by decide +kernel : rh_dk dtX32_save 170 = .ok (.invokevirtual 1437, 3))
  exact fun _ _ K => eA.cv (jX32_save_1437 29 (by decide)) (rh_obl hw 0 (by decide +kernel)) (by decide) hd rfl hw1 rfl E K
theorem q5124 : (Jvm.Cond.methodLink "ReadingHouseModel" (1440 : Nat) ({ cls := "ReadingHouseModel", name := "rowSum", desc := "(II)I" } : Jvm.MethodName)) ∈ lw_all := lw_g (lw_at lw_m21 71 rfl) rfl
theorem jX32_save_1440 {w : rhW} : ∀ ci ∈ ([29] : List Nat), rh_cvr w YX32_save YX32_rowSum 1440 2 ci := rh_one (rh_cvr.of rfl (Or.inl q5124) kX32_rowSum)
theorem vX32_save_314 {w : rhW} (hw : rh_ms w) {L : rhL} {S1 : List rhA} {M M0 : rhM} {r : Int} {y1 y2 : Int} (E : eC w YX32_rowSum 0 [(2, 0), (0, y1), (0, y2)] M r M0) (hw1 : rh_wd S1 ≤ 8) : eS w YX32_save 4 314 L ((0, y2) :: (0, y1) :: (2, 0) :: S1) M 317 L ((0, r) :: S1) M0 := by
  have hd : decode (ry_c YX32_save) 314 = .ok (.invokevirtual 1440, 3) := (tdX32_save 314).resolve_right (by decide +kernel) ▸ (by decide +kernel : rh_dk dtX32_save 314 = .ok (.invokevirtual 1440, 3))
  exact fun _ _ K => eA.cv (jX32_save_1440 29 (by decide)) (rh_obl hw 0 (by decide +kernel)) (by decide) hd rfl hw1 rfl E K
theorem jX32_isRowRight_1440 {w : rhW} : ∀ ci ∈ ([29] : List Nat), rh_cvr w YX32_isRowRight YX32_rowSum 1440 2 ci := rh_one (rh_cvr.of rfl (Or.inl q5124) kX32_rowSum)
theorem vX32_isRowRight_18 {w : rhW} (hw : rh_ms w) {L : rhL} {S1 : List rhA} {M M0 : rhM} {r : Int} {y1 y2 : Int} (E : eC w YX32_rowSum 0 [(2, 0), (0, y1), (0, y2)] M r M0) (hw1 : rh_wd S1 ≤ 8) : eS w YX32_isRowRight 1 18 L ((0, y2) :: (0, y1) :: (2, 0) :: S1) M 21 L ((0, r) :: S1) M0 := by
  have hd : decode (ry_c YX32_isRowRight) 18 = .ok (.invokevirtual 1440, 3) := (tdX32_isRowRight 18).resolve_right (by decide +kernel) ▸ (by decide +kernel : rh_dk dtX32_isRowRight 18 = .ok (.invokevirtual 1440, 3))
  exact fun _ _ K => eA.cv (jX32_isRowRight_1440 29 (by decide)) (rh_obl hw 0 (by decide +kernel)) (by decide) hd rfl hw1 rfl E K
theorem q5141 : (Jvm.Cond.methodLink "ReadingHouseModel" (1452 : Nat) ({ cls := "ReadingHouseModel", name := "isRowRight", desc := "(I)Z" } : Jvm.MethodName)) ∈ lw_all := lw_g (lw_at lw_m21 88 rfl) rfl
theorem jX32_row_1452 {w : rhW} : ∀ ci ∈ ([29] : List Nat), rh_cvr w YX32_row YX32_isRowRight 1452 1 ci := rh_one (rh_cvr.of rfl (Or.inl q5141) kX32_isRowRight)
theorem vX32_row_62 {w : rhW} (hw : rh_ms w) {L : rhL} {S1 : List rhA} {M M0 : rhM} {r : Int} {y1 : Int} (E : eC w YX32_isRowRight 1 [(2, 0), (0, y1)] M r M0) (hw1 : rh_wd S1 ≤ 8) : eS w YX32_row 2 62 L ((0, y1) :: (2, 0) :: S1) M 65 L ((0, r) :: S1) M0 := by
  have hd : decode (ry_c YX32_row) 62 = .ok (.invokevirtual 1452, 3) := (tdX32_row 62).resolve_right (by decide +kernel) ▸ (by decide +kernel : rh_dk dtX32_row 62 = .ok (.invokevirtual 1452, 3))
  exact fun _ _ K => eA.cv (jX32_row_1452 29 (by decide)) (rh_obl hw 0 (by decide +kernel)) (by decide) hd rfl hw1 rfl E K
theorem jX32_load_1452 {w : rhW} : ∀ ci ∈ ([29] : List Nat), rh_cvr w YX32_load YX32_isRowRight 1452 1 ci := rh_one (rh_cvr.of rfl (Or.inl q5141) kX32_isRowRight)
theorem vX32_load_46 {w : rhW} (hw : rh_ms w) {L : rhL} {S1 : List rhA} {M M0 : rhM} {r : Int} {y1 : Int} (E : eC w YX32_isRowRight 1 [(2, 0), (0, y1)] M r M0) (hw1 : rh_wd S1 ≤ 8) : eS w YX32_load 2 46 L ((0, y1) :: (2, 0) :: S1) M 49 L ((0, r) :: S1) M0 := by
  have hd : decode (ry_c YX32_load) 46 = .ok (.invokevirtual 1452, 3) := (tdX32_load 46).resolve_right (by decide +kernel) ▸ (by decide +kernel : rh_dk dtX32_load 46 = .ok (.invokevirtual 1452, 3))
  exact fun _ _ K => eA.cv (jX32_load_1452 29 (by decide)) (rh_obl hw 0 (by decide +kernel)) (by decide) hd rfl hw1 rfl E K
theorem jX32_load_696 {w : rhW} : ∀ ci ∈ ([29] : List Nat), rh_cvr w YX32_load YX32_becomes 696 3 ci := rh_one (rh_cvr.of rfl (Or.inl q4202) kX32_becomes)
theorem vX32_load_177 {w : rhW} (hw : rh_ms w) {L : rhL} {S1 : List rhA} {M M0 : rhM} {r : Int} {y1 y2 y3 : Int} (E : eC w YX32_becomes 1 [(2, 0), (0, y1), (0, y2), (0, y3)] M r M0) (hw1 : rh_wd S1 ≤ 8) : eS w YX32_load 2 177 L ((0, y3) :: (0, y2) :: (0, y1) :: (2, 0) :: S1) M 180 L S1 M0 := by
  have hd : decode (ry_c YX32_load) 177 = .ok (.invokevirtual 696, 3) := (tdX32_load 177).resolve_right (by decide +kernel) ▸ (by decide +kernel : rh_dk dtX32_load 177 = .ok (.invokevirtual 696, 3))
  exact fun _ _ K => eA.cv (jX32_load_696 29 (by decide)) (rh_obl hw 0 (by decide +kernel)) (by decide) hd rfl hw1 rfl E K
theorem q292 : (Jvm.Cond.initialized "java/lang/System") ∈ lw_all := lw_g (lw_at lw_m1 39 rfl) rfl
theorem q310 : (Jvm.Cond.methodLink "ReadingHouse" (46 : Nat) ({ cls := "java/lang/System", name := "arraycopy", desc := "(Ljava/lang/Object;ILjava/lang/Object;II)V" } : Jvm.MethodName)) ∈ lw_all := lw_g (lw_at lw_m1 57 rfl) rfl
theorem q311 : (Jvm.Cond.static ({ cls := "java/lang/System", name := "arraycopy", desc := "(Ljava/lang/Object;ILjava/lang/Object;II)V" } : Jvm.MethodName)) ∈ lw_all := lw_g (lw_at lw_m1 58 rfl) rfl
theorem q312 : (Jvm.Cond.native ({ cls := "java/lang/System", name := "arraycopy", desc := "(Ljava/lang/Object;ILjava/lang/Object;II)V" } : Jvm.MethodName)) ∈ lw_all := lw_g (lw_at lw_m1 59 rfl) rfl
theorem vX1_pass_53 {w : rhW} {L : rhL} {S1 : List rhA} {M : rhM} {n0 n1 t2 t4 t5 tt : Nat} {ty : FieldType} {r sp r1 dp m : Int} (hty : rh_it ty = true) (hrk : refKind ty = false) (hT : rh_tl[tt]? = some ty) (ha : rh_ar w r ty n0) (hb : rh_ar w r1 ty n1) (h2 : rh_ik t2 = true) (h4 : rh_ik t4 = true) (h5 : rh_ik t5 = true) (hs : 0 ≤ sp) (hdp : 0 ≤ dp) (hm : 0 ≤ m) (hn0 : sp + m ≤ n0) (hn1 : dp + m ≤ n1) (hn0' : n0 ≤ 2147483647) (hn1' : n1 ≤ 2147483647) (hw1 : rh_wd S1 ≤ 8) : eS w YX1_pass 1 53 L ((t5, m) :: (t4, dp) :: (2, r1) :: (t2, sp) :: (2, r) :: S1) M 56 L S1 (rh_cpy M r sp r1 dp m) :=
  fun _ _ K n => by
    have hd : decode (ry_c YX1_pass) 53 = .ok (.invokestatic 46, 3) := (tdX1_pass 53).resolve_right (by decide +kernel) ▸ (by decide +kernel : rh_dk dtX1_pass 53 = .ok (.invokestatic 46, 3))
    exact rh_copy (n := n + 0) q310 q312 q311 q292 hd hty hrk hT ha hb h2 h4 h5 hs hdp hm hn0 hn1 hn0' hn1' hw1 (K n)
theorem q1760 : (Jvm.Cond.methodLink "ReadingHouse" (332 : Nat) ({ cls := "ReadingHouse$Sheet", name := "fill", desc := "(I)V" } : Jvm.MethodName)) ∈ lw_all := lw_g (lw_at lw_m7 67 rfl) rfl
theorem q1763 : (Jvm.Cond.sameMethod "ReadingHouse$Sheet" "ReadingHouse$Sheet" "fill" "(I)V") ∈ lw_all := lw_g (lw_at lw_m7 70 rfl) rfl
theorem q1764 : (Jvm.Cond.selects "ReadingHouse$Page" ({ cls := "ReadingHouse$Sheet", name := "fill", desc := "(I)V" } : Jvm.MethodName) ({ cls := "ReadingHouse$Sheet", name := "fill", desc := "(I)V" } : Jvm.MethodName)) ∈ lw_all := lw_g (lw_at lw_m7 71 rfl) rfl
theorem uX5_fill_X29_X5 : rh_kU YX5_fill "ReadingHouse$Page" ⟨"ReadingHouse$Sheet", "fill", "(I)V"⟩ 1 := ⟨q1763, q1764, q1761, q260, q1765, by decide +kernel, by decide, rfl⟩
theorem jX1_blank_332 {w : rhW} : ∀ ci ∈ ([4, 26] : List Nat), rh_cvr w YX1_blank YX5_fill 332 1 ci := rh_two (rh_cvr.of rfl (Or.inl q1760) kX5_fill) (rh_cvr.ofU rfl q1760 uX5_fill_X29_X5)
theorem vX1_blank_37 {w : rhW} {L : rhL} {S1 : List rhA} {M M0 : rhM} {r y0 p : Int} {y1 : Int} (hb : rh_bl w 5 y0 p) (E : eC w YX5_fill 1 [(2, y0), (0, y1)] M r M0) (hw1 : rh_wd S1 ≤ 8) : eS w YX1_blank 3 37 L ((0, y1) :: (2, y0) :: S1) M 40 L S1 M0 := by
  have hd : decode (ry_c YX1_blank) 37 = .ok (.invokevirtual 332, 3) := (tdX1_blank 37).resolve_right (by decide +kernel) ▸ (by decide +kernel : rh_dk dtX1_blank 37 = .ok (.invokevirtual 332, 3))
  obtain ⟨ci, hci, hob⟩ := rh_obk (cis := [4, 26]) (by decide +kernel) hb
  exact fun _ _ K => eA.cv (jX1_blank_332 ci hci) hob (by decide) hd rfl hw1 rfl E K
theorem q1737 : (Jvm.Cond.methodLink "ReadingHouse" (319 : Nat) ({ cls := "ReadingHouse$Page", name := "lay", desc := "(LReadingHouse$Sheet;)V" } : Jvm.MethodName)) ∈ lw_all := lw_g (lw_at lw_m7 44 rfl) rfl
theorem jX1_blank_319 {w : rhW} : ∀ ci ∈ ([26] : List Nat), rh_cvr w YX1_blank YX29_lay 319 1 ci := rh_one (rh_cvr.of rfl (Or.inl q1737) kX29_lay)
theorem vX1_blank_50 {w : rhW} {L : rhL} {S1 : List rhA} {M M0 : rhM} {r y0 p : Int} {y1 : Int} (hb : rh_bl w 0 y0 p) (E : eC w YX29_lay 2 [(2, y0), (2, y1)] M r M0) (hw1 : rh_wd S1 ≤ 8) : eS w YX1_blank 3 50 L ((2, y1) :: (2, y0) :: S1) M 53 L S1 M0 := by
  have hd : decode (ry_c YX1_blank) 50 = .ok (.invokevirtual 319, 3) := (tdX1_blank 50).resolve_right (by decide +kernel) ▸ (by decide +kernel : rh_dk dtX1_blank 50 = .ok (.invokevirtual 319, 3))
  obtain ⟨ci, hci, hob⟩ := rh_obk (cis := [26]) (by decide +kernel) hb
  exact fun _ _ K => eA.cv (jX1_blank_319 ci hci) hob (by decide) hd rfl hw1 rfl E K
theorem q1774 : (Jvm.Cond.methodLink "ReadingHouse" (335 : Nat) ({ cls := "ReadingHouse$Page", name := "hasBox", desc := "(IIII)Z" } : Jvm.MethodName)) ∈ lw_all := lw_g (lw_at lw_m7 81 rfl) rfl
theorem q1775 : (Jvm.Cond.sameMethod "ReadingHouse$Page" "ReadingHouse$Sheet" "hasBox" "(IIII)Z") ∈ lw_all := lw_g (lw_at lw_m7 82 rfl) rfl
theorem q1777 : (Jvm.Cond.selects "ReadingHouse$Page" ({ cls := "ReadingHouse$Page", name := "hasBox", desc := "(IIII)Z" } : Jvm.MethodName) ({ cls := "ReadingHouse$Sheet", name := "hasBox", desc := "(IIII)Z" } : Jvm.MethodName)) ∈ lw_all := lw_g (lw_at lw_m7 84 rfl) rfl
theorem uX5_hasBox_X29_X29 : rh_kU YX5_hasBox "ReadingHouse$Page" ⟨"ReadingHouse$Page", "hasBox", "(IIII)Z"⟩ 4 := ⟨q1775, q1777, q1778, q260, q1779, by decide +kernel, by decide, rfl⟩
theorem jX1_paint_335 {w : rhW} : ∀ ci ∈ ([26] : List Nat), rh_cvr w YX1_paint YX5_hasBox 335 4 ci := rh_one (rh_cvr.ofU rfl q1774 uX5_hasBox_X29_X29)
theorem vX1_paint_27 {w : rhW} {L : rhL} {S1 : List rhA} {M M0 : rhM} {r y0 p : Int} {y1 y2 y3 y4 : Int} (hb : rh_bl w 0 y0 p) (E : eC w YX5_hasBox 1 [(2, y0), (0, y1), (0, y2), (0, y3), (0, y4)] M r M0) (hw1 : rh_wd S1 ≤ 8) : eS w YX1_paint 3 27 L ((0, y4) :: (0, y3) :: (0, y2) :: (0, y1) :: (2, y0) :: S1) M 30 L ((0, r) :: S1) M0 := by
  have hd : decode (ry_c YX1_paint) 27 = .ok (.invokevirtual 335, 3) := (tdX1_paint 27).resolve_right (by decide +kernel) ▸ (by decide +kernel : rh_dk dtX1_paint 27 = .ok (.invokevirtual 335, 3))
  obtain ⟨ci, hci, hob⟩ := rh_obk (cis := [26]) (by decide +kernel) hb
  exact fun _ _ K => eA.cv (jX1_paint_335 ci hci) hob (by decide) hd rfl hw1 rfl E K
theorem q1802 : (Jvm.Cond.methodLink "ReadingHouse" (358 : Nat) ({ cls := "ReadingHouse$Page", name := "blacks", desc := "()I" } : Jvm.MethodName)) ∈ lw_all := lw_g (lw_at lw_m7 109 rfl) rfl
theorem q1803 : (Jvm.Cond.sameMethod "ReadingHouse$Page" "ReadingHouse$Sheet" "blacks" "()I") ∈ lw_all := lw_g (lw_at lw_m7 110 rfl) rfl
theorem q1805 : (Jvm.Cond.selects "ReadingHouse$Page" ({ cls := "ReadingHouse$Page", name := "blacks", desc := "()I" } : Jvm.MethodName) ({ cls := "ReadingHouse$Sheet", name := "blacks", desc := "()I" } : Jvm.MethodName)) ∈ lw_all := lw_g (lw_at lw_m7 112 rfl) rfl
theorem uX5_blacks_X29_X29 : rh_kU YX5_blacks "ReadingHouse$Page" ⟨"ReadingHouse$Page", "blacks", "()I"⟩ 0 := ⟨q1803, q1805, q1806, q260, q1807, by decide +kernel, by decide, rfl⟩
theorem jX1_page_358 {w : rhW} : ∀ ci ∈ ([26] : List Nat), rh_cvr w YX1_page YX5_blacks 358 0 ci := rh_one (rh_cvr.ofU rfl q1802 uX5_blacks_X29_X29)
theorem vX1_page_63 {w : rhW} {L : rhL} {S1 : List rhA} {M M0 : rhM} {r y0 p : Int} (hb : rh_bl w 0 y0 p) (E : eC w YX5_blacks 1 [(2, y0)] M r M0) (hw1 : rh_wd S1 ≤ 8) : eS w YX1_page 3 63 L ((2, y0) :: S1) M 66 L ((0, r) :: S1) M0 := by
  have hd : decode (ry_c YX1_page) 63 = .ok (.invokevirtual 358, 3) := (tdX1_page 63).resolve_right (by decide +kernel) ▸ (by decide +kernel : rh_dk dtX1_page 63 = .ok (.invokevirtual 358, 3))
  obtain ⟨ci, hci, hob⟩ := rh_obk (cis := [26]) (by decide +kernel) hb
  exact fun _ _ K => eA.cv (jX1_page_358 ci hci) hob (by decide) hd rfl hw1 rfl E K
theorem jX1_darkness_335 {w : rhW} : ∀ ci ∈ ([26] : List Nat), rh_cvr w YX1_darkness YX5_hasBox 335 4 ci := rh_one (rh_cvr.ofU rfl q1774 uX5_hasBox_X29_X29)
theorem vX1_darkness_23 {w : rhW} {L : rhL} {S1 : List rhA} {M M0 : rhM} {r y0 p : Int} {y1 y2 y3 y4 : Int} (hb : rh_bl w 0 y0 p) (E : eC w YX5_hasBox 1 [(2, y0), (0, y1), (0, y2), (0, y3), (0, y4)] M r M0) (hw1 : rh_wd S1 ≤ 8) : eS w YX1_darkness 3 23 L ((0, y4) :: (0, y3) :: (0, y2) :: (0, y1) :: (2, y0) :: S1) M 26 L ((0, r) :: S1) M0 := by
  have hd : decode (ry_c YX1_darkness) 23 = .ok (.invokevirtual 335, 3) := (tdX1_darkness 23).resolve_right (by decide +kernel) ▸ (by decide +kernel : rh_dk dtX1_darkness 23 = .ok (.invokevirtual 335, 3))
  obtain ⟨ci, hci, hob⟩ := rh_obk (cis := [26]) (by decide +kernel) hb
  exact fun _ _ K => eA.cv (jX1_darkness_335 ci hci) hob (by decide) hd rfl hw1 rfl E K
theorem q1830 : (Jvm.Cond.methodLink "ReadingHouse" (367 : Nat) ({ cls := "ReadingHouse$LevelRule", name := "levelOf", desc := "(LReadingHouse$Sheet;)I" } : Jvm.MethodName)) ∈ lw_all := lw_g (lw_at lw_m7 137 rfl) rfl
theorem jX1_level_367 {w : rhW} : ∀ ci ∈ ([7] : List Nat), rh_cvr w YX1_level YX9_levelOf 367 1 ci := rh_one (rh_cvr.of rfl (Or.inl q1830) kX9_levelOf)
theorem vX1_level_18 {w : rhW} (hw : rh_hs w) {L : rhL} {S1 : List rhA} {M M0 : rhM} {r : Int} {y1 : Int} (E : eC w YX9_levelOf 1 [(2, 16), (2, y1)] M r M0) (hw1 : rh_wd S1 ≤ 8) : eS w YX1_level 3 18 L ((2, y1) :: (2, 16) :: S1) M 21 L ((0, r) :: S1) M0 := by
  have hd : decode (ry_c YX1_level) 18 = .ok (.invokevirtual 367, 3) := (tdX1_level 18).resolve_right (by decide +kernel) ▸ (by decide +kernel : rh_dk dtX1_level 18 = .ok (.invokevirtual 367, 3))
  exact fun _ _ K => eA.cv (jX1_level_367 7 (by decide)) (rh_obl hw 16 (by decide +kernel)) (by decide) hd rfl hw1 rfl E K
theorem q1919 : (Jvm.Cond.methodLink "ReadingHouse" (391 : Nat) ({ cls := "ReadingHouse$Parts", name := "find", desc := "(LReadingHouse$Sheet;ZI)V" } : Jvm.MethodName)) ∈ lw_all := lw_g (lw_at lw_m7 226 rfl) rfl
theorem jX1_clean_391 {w : rhW} : ∀ ci ∈ ([5] : List Nat), rh_cvr w YX1_clean YX6_find 391 3 ci := rh_one (rh_cvr.of rfl (Or.inl q1919) kX6_find)
theorem vX1_clean_81 {w : rhW} (hw : rh_hs w) {L : rhL} {S1 : List rhA} {M M0 : rhM} {r : Int} {y1 y2 y3 : Int} (E : eC w YX6_find 2 [(2, 10), (2, y1), (0, y2), (0, y3)] M r M0) (hw1 : rh_wd S1 ≤ 8) : eS w YX1_clean 3 81 L ((0, y3) :: (0, y2) :: (2, y1) :: (2, 10) :: S1) M 84 L S1 M0 := by
  have hd : decode (ry_c YX1_clean) 81 = .ok (.invokevirtual 391, 3) := (tdX1_clean 81).resolve_right (by decide +kernel) ▸ (by decide +kernel : rh_dk dtX1_clean 81 = .ok (.invokevirtual 391, 3))
  exact fun _ _ K => eA.cv (jX1_clean_391 5 (by decide)) (rh_obl hw 10 (by decide +kernel)) (by decide) hd rfl hw1 rfl E K
theorem q1934 : (Jvm.Cond.methodLink "ReadingHouse" (395 : Nat) ({ cls := "ReadingHouse$Sheet", name := "take", desc := "(LReadingHouse$Sheet;)V" } : Jvm.MethodName)) ∈ lw_all := lw_g (lw_at lw_m8 1 rfl) rfl
theorem q5167 : (Jvm.Cond.sameMethod "ReadingHouse$Sheet" "ReadingHouse$Sheet" "take" "(LReadingHouse$Sheet;)V") ∈ lw_all := lw_g (lw_at lw_m21 114 rfl) rfl
theorem q5168 : (Jvm.Cond.selects "ReadingHouse$Page" ({ cls := "ReadingHouse$Sheet", name := "take", desc := "(LReadingHouse$Sheet;)V" } : Jvm.MethodName) ({ cls := "ReadingHouse$Sheet", name := "take", desc := "(LReadingHouse$Sheet;)V" } : Jvm.MethodName)) ∈ lw_all := lw_g (lw_at lw_m21 115 rfl) rfl
theorem uX5_take_X29_X5 : rh_kU YX5_take "ReadingHouse$Page" ⟨"ReadingHouse$Sheet", "take", "(LReadingHouse$Sheet;)V"⟩ 1 := ⟨q5167, q5168, q1745, q260, q1746, by decide +kernel, by decide, rfl⟩
theorem jX1_clean_395 {w : rhW} : ∀ ci ∈ ([4, 26] : List Nat), rh_cvr w YX1_clean YX5_take 395 1 ci := rh_two (rh_cvr.of rfl (Or.inl q1934) kX5_take) (rh_cvr.ofU rfl q1934 uX5_take_X29_X5)
theorem vX1_clean_90 {w : rhW} {L : rhL} {S1 : List rhA} {M M0 : rhM} {r y0 p : Int} {y1 : Int} (hb : rh_bl w 5 y0 p) (E : eC w YX5_take 1 [(2, y0), (2, y1)] M r M0) (hw1 : rh_wd S1 ≤ 8) : eS w YX1_clean 3 90 L ((2, y1) :: (2, y0) :: S1) M 93 L S1 M0 := by
  have hd : decode (ry_c YX1_clean) 90 = .ok (.invokevirtual 395, 3) := (tdX1_clean 90).resolve_right (by decide +kernel) ▸ (by decide +kernel : rh_dk dtX1_clean 90 = .ok (.invokevirtual 395, 3))
  obtain ⟨ci, hci, hob⟩ := rh_obk (cis := [4, 26]) (by decide +kernel) hb
  exact fun _ _ K => eA.cv (jX1_clean_395 ci hci) hob (by decide) hd rfl hw1 rfl E K
theorem jX1_clean_319 {w : rhW} : ∀ ci ∈ ([26] : List Nat), rh_cvr w YX1_clean YX29_lay 319 1 ci := rh_one (rh_cvr.of rfl (Or.inl q1737) kX29_lay)
theorem vX1_clean_264 {w : rhW} {L : rhL} {S1 : List rhA} {M M0 : rhM} {r y0 p : Int} {y1 : Int} (hb : rh_bl w 0 y0 p) (E : eC w YX29_lay 2 [(2, y0), (2, y1)] M r M0) (hw1 : rh_wd S1 ≤ 8) : eS w YX1_clean 3 264 L ((2, y1) :: (2, y0) :: S1) M 267 L S1 M0 := by
  have hd : decode (ry_c YX1_clean) 264 = .ok (.invokevirtual 319, 3) := (tdX1_clean 264).resolve_right (by decide +kernel) ▸ (by decide +kernel : rh_dk dtX1_clean 264 = .ok (.invokevirtual 319, 3))
  obtain ⟨ci, hci, hob⟩ := rh_obk (cis := [26]) (by decide +kernel) hb
  exact fun _ _ K => eA.cv (jX1_clean_319 ci hci) hob (by decide) hd rfl hw1 rfl E K
abbrev cJ2_floorDiv : ByteArray := prog_39_method_47_code
def yJ2_floorDiv : MethodName := ⟨"java/lang/Math", "floorDiv", "(II)I"⟩
abbrev YJ2_floorDiv : rhY := (yJ2_floorDiv, cJ2_floorDiv, 3, (some .int))
def dtJ2_floorDiv : rhDt := [[(0, .iload_n 0, 1), (1, .iload_n 1, 1), (2, .idiv, 1), (3, .istore_n 2, 1), (4, .iload_n 0, 1), (5, .iload_n 1, 1), (6, .ixor, 1), (7, .ifCond .ge 14, 3), (10, .iload_n 2, 1), (11, .iload_n 1, 1), (12, .imul, 1), (13, .iload_n 0, 1), (14, .if_icmp .eq 7, 3), (17, .iload_n 2, 1), (18, .iconst 1, 1), (19, .isub, 1), (20, .ireturn, 1), (21, .iload_n 2, 1), (22, .ireturn, 1)]]
theorem tdJ2_floorDiv : rh_dok cJ2_floorDiv dtJ2_floorDiv := rh_dtc_ok (by decide +kernel)
theorem q1953 : (Jvm.Cond.static ({ cls := "java/lang/Math", name := "floorDiv", desc := "(II)I" } : Jvm.MethodName)) ∈ lw_all := lw_g (lw_at lw_m8 20 rfl) rfl
theorem q1954 : (Jvm.Cond.code ({ cls := "java/lang/Math", name := "floorDiv", desc := "(II)I" } : Jvm.MethodName) prog_39_method_47_code (3 : Nat) (Option.some Jvm.ClassFile.FieldType.int)) ∈ lw_all := lw_g (lw_at lw_m8 21 rfl) rfl
theorem kJ2_floorDiv : rh_kS YJ2_floorDiv 2 := ⟨q1953, q273, q1954, by decide +kernel, by decide, rfl⟩
theorem q1952 : (Jvm.Cond.methodLink "ReadingHouse" (412 : Nat) ({ cls := "java/lang/Math", name := "floorDiv", desc := "(II)I" } : Jvm.MethodName)) ∈ lw_all := lw_g (lw_at lw_m8 19 rfl) rfl
theorem jX1_fall_412 {w : rhW} : rh_csr w YX1_fall YJ2_floorDiv 412 2 := rh_csr.of (Or.inl q1952) kJ2_floorDiv
theorem vX1_fall_7 {w : rhW} {L : rhL} {S1 : List rhA} {M M0 : rhM} {r : Int} {y1 y2 : Int} (E : eC w YJ2_floorDiv 0 [(0, y1), (0, y2)] M r M0) (hw1 : rh_wd S1 ≤ 8) : eS w YX1_fall 1 7 L ((0, y2) :: (0, y1) :: S1) M 10 L ((0, r) :: S1) M0 := by
  have hd : decode (ry_c YX1_fall) 7 = .ok (.invokestatic 412, 3) := (tdX1_fall 7).resolve_right (by decide +kernel) ▸ (by decide +kernel : rh_dk dtX1_fall 7 = .ok (.invokestatic 412, 3))
  exact fun _ _ K => eA.cs (jX1_fall_412) (by decide) hd rfl hw1 rfl E K
theorem q1949 : (Jvm.Cond.methodLink "ReadingHouse" (417 : Nat) ({ cls := "ReadingHouse", name := "fall", desc := "(LReadingHouse$Sheet;II)I" } : Jvm.MethodName)) ∈ lw_all := lw_g (lw_at lw_m8 16 rfl) rfl
theorem jX1_shear_2_417 {w : rhW} : rh_csr w YX1_shear_2 YX1_fall 417 3 := rh_csr.of (Or.inl q1949) kX1_fall
theorem vX1_shear_2_28 {w : rhW} {L : rhL} {S1 : List rhA} {M M0 : rhM} {r : Int} {y1 y2 y3 : Int} (E : eC w YX1_fall 1 [(2, y1), (0, y2), (0, y3)] M r M0) (hw1 : rh_wd S1 ≤ 8) : eS w YX1_shear_2 2 28 L ((0, y3) :: (0, y2) :: (2, y1) :: S1) M 31 L ((0, r) :: S1) M0 := by
  have hd : decode (ry_c YX1_shear_2) 28 = .ok (.invokestatic 417, 3) := (tdX1_shear_2 28).resolve_right (by decide +kernel) ▸ (by decide +kernel : rh_dk dtX1_shear_2 28 = .ok (.invokestatic 417, 3))
  exact fun _ _ K => eA.cs (jX1_shear_2_417) (by decide) hd rfl hw1 rfl E K
theorem q1945 : (Jvm.Cond.methodLink "ReadingHouse" (425 : Nat) ({ cls := "ReadingHouse", name := "shear", desc := "(LReadingHouse$Page;I)V" } : Jvm.MethodName)) ∈ lw_all := lw_g (lw_at lw_m8 12 rfl) rfl
theorem jX1_shear_425 {w : rhW} : ∀ ci ∈ ([0] : List Nat), rh_cvr w YX1_shear YX1_shear_2 425 2 ci := rh_one (rh_cvr.of rfl (Or.inl q1945) kX1_shear_2)
theorem vX1_shear_43 {w : rhW} (hw : rh_hs w) {L : rhL} {S1 : List rhA} {M M0 : rhM} {r : Int} {y1 y2 : Int} (E : eC w YX1_shear_2 2 [(2, 0), (2, y1), (0, y2)] M r M0) (hw1 : rh_wd S1 ≤ 8) : eS w YX1_shear 3 43 L ((0, y2) :: (2, y1) :: (2, 0) :: S1) M 46 L S1 M0 := by
  have hd : decode (ry_c YX1_shear) 43 = .ok (.invokevirtual 425, 3) := (tdX1_shear 43).resolve_right (by decide +kernel) ▸ (by decide +kernel : rh_dk dtX1_shear 43 = .ok (.invokevirtual 425, 3))
  exact fun _ _ K => eA.cv (jX1_shear_425 0 (by decide)) (rh_obl hw 0 (by decide +kernel)) (by decide) hd rfl hw1 rfl E K
theorem jX1_shear_319 {w : rhW} : ∀ ci ∈ ([26] : List Nat), rh_cvr w YX1_shear YX29_lay 319 1 ci := rh_one (rh_cvr.of rfl (Or.inl q1737) kX29_lay)
theorem vX1_shear_56 {w : rhW} {L : rhL} {S1 : List rhA} {M M0 : rhM} {r y0 p : Int} {y1 : Int} (hb : rh_bl w 0 y0 p) (E : eC w YX29_lay 2 [(2, y0), (2, y1)] M r M0) (hw1 : rh_wd S1 ≤ 8) : eS w YX1_shear 3 56 L ((2, y1) :: (2, y0) :: S1) M 59 L S1 M0 := by
  have hd : decode (ry_c YX1_shear) 56 = .ok (.invokevirtual 319, 3) := (tdX1_shear 56).resolve_right (by decide +kernel) ▸ (by decide +kernel : rh_dk dtX1_shear 56 = .ok (.invokevirtual 319, 3))
  obtain ⟨ci, hci, hob⟩ := rh_obk (cis := [26]) (by decide +kernel) hb
  exact fun _ _ K => eA.cv (jX1_shear_319 ci hci) hob (by decide) hd rfl hw1 rfl E K
theorem q1959 : (Jvm.Cond.methodLink "ReadingHouse" (432 : Nat) ({ cls := "ReadingHouse", name := "roughness", desc := "(LReadingHouse$Sheet;)J" } : Jvm.MethodName)) ∈ lw_all := lw_g (lw_at lw_m8 26 rfl) rfl
theorem jX1_turn_432 {w : rhW} : ∀ ci ∈ ([0] : List Nat), rh_cvr w YX1_turn YX1_roughness 432 1 ci := rh_one (rh_cvr.of rfl (Or.inl q1959) kX1_roughness)
theorem vX1_turn_43 {w : rhW} (hw : rh_hs w) {L : rhL} {S1 : List rhA} {M M0 : rhM} {r : Int} {y1 : Int} (E : eC w YX1_roughness 1 [(2, 0), (2, y1)] M r M0) (hw1 : rh_wd S1 ≤ 8) : eS w YX1_turn 3 43 L ((2, y1) :: (2, 0) :: S1) M 46 L ((1, r) :: S1) M0 := by
  have hd : decode (ry_c YX1_turn) 43 = .ok (.invokevirtual 432, 3) := (tdX1_turn 43).resolve_right (by decide +kernel) ▸ (by decide +kernel : rh_dk dtX1_turn 43 = .ok (.invokevirtual 432, 3))
  exact fun _ _ K => eA.cv (jX1_turn_432 0 (by decide)) (rh_obl hw 0 (by decide +kernel)) (by decide) hd rfl hw1 rfl E K
theorem jX1_turn_425 {w : rhW} : ∀ ci ∈ ([0] : List Nat), rh_cvr w YX1_turn YX1_shear_2 425 2 ci := rh_one (rh_cvr.of rfl (Or.inl q1945) kX1_shear_2)
theorem vX1_turn_78 {w : rhW} (hw : rh_hs w) {L : rhL} {S1 : List rhA} {M M0 : rhM} {r : Int} {y1 y2 : Int} (E : eC w YX1_shear_2 2 [(2, 0), (2, y1), (0, y2)] M r M0) (hw1 : rh_wd S1 ≤ 8) : eS w YX1_turn 3 78 L ((0, y2) :: (2, y1) :: (2, 0) :: S1) M 81 L S1 M0 := by
  have hd : decode (ry_c YX1_turn) 78 = .ok (.invokevirtual 425, 3) := (tdX1_turn 78).resolve_right (by decide +kernel) ▸ (by decide +kernel : rh_dk dtX1_turn 78 = .ok (.invokevirtual 425, 3))
  exact fun _ _ K => eA.cv (jX1_turn_425 0 (by decide)) (rh_obl hw 0 (by decide +kernel)) (by decide) hd rfl hw1 rfl E K
theorem vX1_turn_86 {w : rhW} (hw : rh_hs w) {L : rhL} {S1 : List rhA} {M M0 : rhM} {r : Int} {y1 : Int} (E : eC w YX1_roughness 1 [(2, 0), (2, y1)] M r M0) (hw1 : rh_wd S1 ≤ 8) : eS w YX1_turn 3 86 L ((2, y1) :: (2, 0) :: S1) M 89 L ((1, r) :: S1) M0 := by
  have hd : decode (ry_c YX1_turn) 86 = .ok (.invokevirtual 432, 3) := (tdX1_turn 86).resolve_right (by decide +kernel) ▸ (by decide +kernel : rh_dk dtX1_turn 86 = .ok (.invokevirtual 432, 3))
  exact fun _ _ K => eA.cv (jX1_turn_432 0 (by decide)) (rh_obl hw 0 (by decide +kernel)) (by decide) hd rfl hw1 rfl E K
theorem vX1_turn_144 {w : rhW} (hw : rh_hs w) {L : rhL} {S1 : List rhA} {M M0 : rhM} {r : Int} {y1 y2 : Int} (E : eC w YX1_shear_2 2 [(2, 0), (2, y1), (0, y2)] M r M0) (hw1 : rh_wd S1 ≤ 8) : eS w YX1_turn 3 144 L ((0, y2) :: (2, y1) :: (2, 0) :: S1) M 147 L S1 M0 := by
  have hd : decode (ry_c YX1_turn) 144 = .ok (.invokevirtual 425, 3) := (tdX1_turn 144).resolve_right (by decide +kernel) ▸ (by decide +kernel : rh_dk dtX1_turn 144 = .ok (.invokevirtual 425, 3))
  exact fun _ _ K => eA.cv (jX1_turn_425 0 (by decide)) (rh_obl hw 0 (by decide +kernel)) (by decide) hd rfl hw1 rfl E K
theorem jX1_turn_319 {w : rhW} : ∀ ci ∈ ([26] : List Nat), rh_cvr w YX1_turn YX29_lay 319 1 ci := rh_one (rh_cvr.of rfl (Or.inl q1737) kX29_lay)
theorem vX1_turn_157 {w : rhW} {L : rhL} {S1 : List rhA} {M M0 : rhM} {r y0 p : Int} {y1 : Int} (hb : rh_bl w 0 y0 p) (E : eC w YX29_lay 2 [(2, y0), (2, y1)] M r M0) (hw1 : rh_wd S1 ≤ 8) : eS w YX1_turn 3 157 L ((2, y1) :: (2, y0) :: S1) M 160 L S1 M0 := by
  have hd : decode (ry_c YX1_turn) 157 = .ok (.invokevirtual 319, 3) := (tdX1_turn 157).resolve_right (by decide +kernel) ▸ (by decide +kernel : rh_dk dtX1_turn 157 = .ok (.invokevirtual 319, 3))
  obtain ⟨ci, hci, hob⟩ := rh_obk (cis := [26]) (by decide +kernel) hb
  exact fun _ _ K => eA.cv (jX1_turn_319 ci hci) hob (by decide) hd rfl hw1 rfl E K
theorem q1981 : (Jvm.Cond.methodLink "ReadingHouse" (452 : Nat) ({ cls := "ReadingHouse", name := "behind", desc := "(LReadingHouse$Sheet;IIII)I" } : Jvm.MethodName)) ∈ lw_all := lw_g (lw_at lw_m8 48 rfl) rfl
theorem jX1_back_452 {w : rhW} : rh_csr w YX1_back YX1_behind 452 5 := rh_csr.of (Or.inl q1981) kX1_behind
theorem vX1_back_179 {w : rhW} {L : rhL} {S1 : List rhA} {M M0 : rhM} {r : Int} {y1 y2 y3 y4 y5 : Int} (E : eC w YX1_behind 1 [(2, y1), (0, y2), (0, y3), (0, y4), (0, y5)] M r M0) (hw1 : rh_wd S1 ≤ 8) : eS w YX1_back 3 179 L ((0, y5) :: (0, y4) :: (0, y3) :: (0, y2) :: (2, y1) :: S1) M 182 L ((0, r) :: S1) M0 := by
  have hd : decode (ry_c YX1_back) 179 = .ok (.invokestatic 452, 3) := (tdX1_back 179).resolve_right (by decide +kernel) ▸ (by decide +kernel : rh_dk dtX1_back 179 = .ok (.invokestatic 452, 3))
  exact fun _ _ K => eA.cs (jX1_back_452) (by decide) hd rfl hw1 rfl E K
theorem vX1_back_348 {w : rhW} {L : rhL} {S1 : List rhA} {M M0 : rhM} {r : Int} {y1 y2 y3 y4 y5 : Int} (E : eC w YX1_behind 1 [(2, y1), (0, y2), (0, y3), (0, y4), (0, y5)] M r M0) (hw1 : rh_wd S1 ≤ 8) : eS w YX1_back 3 348 L ((0, y5) :: (0, y4) :: (0, y3) :: (0, y2) :: (2, y1) :: S1) M 351 L ((0, r) :: S1) M0 := by
  have hd : decode (ry_c YX1_back) 348 = .ok (.invokestatic 452, 3) := (tdX1_back 348).resolve_right (by decide +kernel) ▸ (by decide +kernel : rh_dk dtX1_back 348 = .ok (.invokestatic 452, 3))
  exact fun _ _ K => eA.cs (jX1_back_452) (by decide) hd rfl hw1 rfl E K
theorem jX1_back_319 {w : rhW} : ∀ ci ∈ ([26] : List Nat), rh_cvr w YX1_back YX29_lay 319 1 ci := rh_one (rh_cvr.of rfl (Or.inl q1737) kX29_lay)
theorem vX1_back_377 {w : rhW} {L : rhL} {S1 : List rhA} {M M0 : rhM} {r y0 p : Int} {y1 : Int} (hb : rh_bl w 0 y0 p) (E : eC w YX29_lay 2 [(2, y0), (2, y1)] M r M0) (hw1 : rh_wd S1 ≤ 8) : eS w YX1_back 3 377 L ((2, y1) :: (2, y0) :: S1) M 380 L S1 M0 := by
  have hd : decode (ry_c YX1_back) 377 = .ok (.invokevirtual 319, 3) := (tdX1_back 377).resolve_right (by decide +kernel) ▸ (by decide +kernel : rh_dk dtX1_back 377 = .ok (.invokevirtual 319, 3))
  obtain ⟨ci, hci, hob⟩ := rh_obk (cis := [26]) (by decide +kernel) hb
  exact fun _ _ K => eA.cv (jX1_back_319 ci hci) hob (by decide) hd rfl hw1 rfl E K
theorem q1995 : (Jvm.Cond.methodLink "ReadingHouse" (468 : Nat) ({ cls := "ReadingHouse", name := "isThinned", desc := "(LReadingHouse$Sheet;III)Z" } : Jvm.MethodName)) ∈ lw_all := lw_g (lw_at lw_m8 62 rfl) rfl
theorem jX1_thin_468 {w : rhW} : rh_csr w YX1_thin YX1_isThinned 468 4 := rh_csr.of (Or.inl q1995) kX1_isThinned
theorem vX1_thin_170 {w : rhW} {L : rhL} {S1 : List rhA} {M M0 : rhM} {r : Int} {y1 y2 y3 y4 : Int} (E : eC w YX1_isThinned 2 [(2, y1), (0, y2), (0, y3), (0, y4)] M r M0) (hw1 : rh_wd S1 ≤ 8) : eS w YX1_thin 3 170 L ((0, y4) :: (0, y3) :: (0, y2) :: (2, y1) :: S1) M 173 L ((0, r) :: S1) M0 := by
  have hd : decode (ry_c YX1_thin) 170 = .ok (.invokestatic 468, 3) := (tdX1_thin 170).resolve_right (by decide +kernel) ▸ (by decide +kernel : rh_dk dtX1_thin 170 = .ok (.invokestatic 468, 3))
  exact fun _ _ K => eA.cs (jX1_thin_468) (by decide) hd rfl hw1 rfl E K
theorem jX1_thin_319 {w : rhW} : ∀ ci ∈ ([26] : List Nat), rh_cvr w YX1_thin YX29_lay 319 1 ci := rh_one (rh_cvr.of rfl (Or.inl q1737) kX29_lay)
theorem vX1_thin_274 {w : rhW} {L : rhL} {S1 : List rhA} {M M0 : rhM} {r y0 p : Int} {y1 : Int} (hb : rh_bl w 0 y0 p) (E : eC w YX29_lay 2 [(2, y0), (2, y1)] M r M0) (hw1 : rh_wd S1 ≤ 8) : eS w YX1_thin 3 274 L ((2, y1) :: (2, y0) :: S1) M 277 L S1 M0 := by
  have hd : decode (ry_c YX1_thin) 274 = .ok (.invokevirtual 319, 3) := (tdX1_thin 274).resolve_right (by decide +kernel) ▸ (by decide +kernel : rh_dk dtX1_thin 274 = .ok (.invokevirtual 319, 3))
  obtain ⟨ci, hci, hob⟩ := rh_obk (cis := [26]) (by decide +kernel) hb
  exact fun _ _ K => eA.cv (jX1_thin_319 ci hci) hob (by decide) hd rfl hw1 rfl E K
theorem q2016 : (Jvm.Cond.methodLink "ReadingHouse" (472 : Nat) ({ cls := "ReadingHouse$Page", name := "search", desc := "(LReadingHouse$Parts;)V" } : Jvm.MethodName)) ∈ lw_all := lw_g (lw_at lw_m8 83 rfl) rfl
theorem jX1_searched_472 {w : rhW} : ∀ ci ∈ ([26] : List Nat), rh_cvr w YX1_searched YX29_search 472 1 ci := rh_one (rh_cvr.of rfl (Or.inl q2016) kX29_search)
theorem vX1_searched_10 {w : rhW} {L : rhL} {S1 : List rhA} {M M0 : rhM} {r y0 p : Int} {y1 : Int} (hb : rh_bl w 0 y0 p) (E : eC w YX29_search 3 [(2, y0), (2, y1)] M r M0) (hw1 : rh_wd S1 ≤ 8) : eS w YX1_searched 4 10 L ((2, y1) :: (2, y0) :: S1) M 13 L S1 M0 := by
  have hd : decode (ry_c YX1_searched) 10 = .ok (.invokevirtual 472, 3) := (tdX1_searched 10).resolve_right (by decide +kernel) ▸ (by decide +kernel : rh_dk dtX1_searched 10 = .ok (.invokevirtual 472, 3))
  obtain ⟨ci, hci, hob⟩ := rh_obk (cis := [26]) (by decide +kernel) hb
  exact fun _ _ K => eA.cv (jX1_searched_472 ci hci) hob (by decide) hd rfl hw1 rfl E K
theorem q2012 : (Jvm.Cond.methodLink "ReadingHouse" (476 : Nat) ({ cls := "ReadingHouse", name := "searched", desc := "(I)LReadingHouse$Page;" } : Jvm.MethodName)) ∈ lw_all := lw_g (lw_at lw_m8 79 rfl) rfl
theorem jX1_isPiece_476 {w : rhW} : ∀ ci ∈ ([0] : List Nat), rh_cvr w YX1_isPiece YX1_searched 476 1 ci := rh_one (rh_cvr.of rfl (Or.inl q2012) kX1_searched)
theorem vX1_isPiece_13 {w : rhW} (hw : rh_hs w) {L : rhL} {S1 : List rhA} {M M0 : rhM} {r : Int} {y1 : Int} (E : eC w YX1_searched 4 [(2, 0), (0, y1)] M r M0) (hw1 : rh_wd S1 ≤ 8) : eS w YX1_isPiece 5 13 L ((0, y1) :: (2, 0) :: S1) M 16 L ((2, r) :: S1) M0 := by
  have hd : decode (ry_c YX1_isPiece) 13 = .ok (.invokevirtual 476, 3) := (tdX1_isPiece 13).resolve_right (by decide +kernel) ▸ (by decide +kernel : rh_dk dtX1_isPiece 13 = .ok (.invokevirtual 476, 3))
  exact fun _ _ K => eA.cv (jX1_isPiece_476 0 (by decide)) (rh_obl hw 0 (by decide +kernel)) (by decide) hd rfl hw1 rfl E K
theorem jX1_pieces_476 {w : rhW} : ∀ ci ∈ ([0] : List Nat), rh_cvr w YX1_pieces YX1_searched 476 1 ci := rh_one (rh_cvr.of rfl (Or.inl q2012) kX1_searched)
theorem vX1_pieces_10 {w : rhW} (hw : rh_hs w) {L : rhL} {S1 : List rhA} {M M0 : rhM} {r : Int} {y1 : Int} (E : eC w YX1_searched 4 [(2, 0), (0, y1)] M r M0) (hw1 : rh_wd S1 ≤ 8) : eS w YX1_pieces 5 10 L ((0, y1) :: (2, 0) :: S1) M 13 L ((2, r) :: S1) M0 := by
  have hd : decode (ry_c YX1_pieces) 10 = .ok (.invokevirtual 476, 3) := (tdX1_pieces 10).resolve_right (by decide +kernel) ▸ (by decide +kernel : rh_dk dtX1_pieces 10 = .ok (.invokevirtual 476, 3))
  exact fun _ _ K => eA.cv (jX1_pieces_476 0 (by decide)) (rh_obl hw 0 (by decide +kernel)) (by decide) hd rfl hw1 rfl E K
theorem q2032 : (Jvm.Cond.methodLink "ReadingHouse" (505 : Nat) ({ cls := "ReadingHouse", name := "isPiece", desc := "(II)Z" } : Jvm.MethodName)) ∈ lw_all := lw_g (lw_at lw_m8 99 rfl) rfl
theorem jX1_piece_505 {w : rhW} : ∀ ci ∈ ([0] : List Nat), rh_cvr w YX1_piece YX1_isPiece 505 2 ci := rh_one (rh_cvr.of rfl (Or.inl q2032) kX1_isPiece)
theorem vX1_piece_3 {w : rhW} (hw : rh_hs w) {L : rhL} {S1 : List rhA} {M M0 : rhM} {r : Int} {y1 y2 : Int} (E : eC w YX1_isPiece 5 [(2, 0), (0, y1), (0, y2)] M r M0) (hw1 : rh_wd S1 ≤ 8) : eS w YX1_piece 6 3 L ((0, y2) :: (0, y1) :: (2, 0) :: S1) M 6 L ((0, r) :: S1) M0 := by
  have hd : decode (ry_c YX1_piece) 3 = .ok (.invokevirtual 505, 3) := (tdX1_piece 3).resolve_right (by decide +kernel) ▸ (by decide +kernel : rh_dk dtX1_piece 3 = .ok (.invokevirtual 505, 3))
  exact fun _ _ K => eA.cv (jX1_piece_505 0 (by decide)) (rh_obl hw 0 (by decide +kernel)) (by decide) hd rfl hw1 rfl E K
theorem q2036 : (Jvm.Cond.methodLink "ReadingHouse" (509 : Nat) ({ cls := "ReadingHouse$Page", name := "sumOf", desc := "(IZ)I" } : Jvm.MethodName)) ∈ lw_all := lw_g (lw_at lw_m8 103 rfl) rfl
theorem jX1_piece_509 {w : rhW} : ∀ ci ∈ ([26] : List Nat), rh_cvr w YX1_piece YX29_sumOf 509 2 ci := rh_one (rh_cvr.of rfl (Or.inl q2036) kX29_sumOf)
theorem vX1_piece_145 {w : rhW} {L : rhL} {S1 : List rhA} {M M0 : rhM} {r y0 p : Int} {y1 y2 : Int} (hb : rh_bl w 0 y0 p) (E : eC w YX29_sumOf 1 [(2, y0), (0, y1), (0, y2)] M r M0) (hw1 : rh_wd S1 ≤ 8) : eS w YX1_piece 6 145 L ((0, y2) :: (0, y1) :: (2, y0) :: S1) M 148 L ((0, r) :: S1) M0 := by
  have hd : decode (ry_c YX1_piece) 145 = .ok (.invokevirtual 509, 3) := (tdX1_piece 145).resolve_right (by decide +kernel) ▸ (by decide +kernel : rh_dk dtX1_piece 145 = .ok (.invokevirtual 509, 3))
  obtain ⟨ci, hci, hob⟩ := rh_obk (cis := [26]) (by decide +kernel) hb
  exact fun _ _ K => eA.cv (jX1_piece_509 ci hci) hob (by decide) hd rfl hw1 rfl E K
theorem q2040 : (Jvm.Cond.methodLink "ReadingHouse" (513 : Nat) ({ cls := "ReadingHouse", name := "holes", desc := "(LReadingHouse$Page;I)I" } : Jvm.MethodName)) ∈ lw_all := lw_g (lw_at lw_m8 107 rfl) rfl
theorem jX1_piece_513 {w : rhW} : ∀ ci ∈ ([0] : List Nat), rh_cvr w YX1_piece YX1_holes 513 2 ci := rh_one (rh_cvr.of rfl (Or.inl q2040) kX1_holes)
theorem vX1_piece_153 {w : rhW} (hw : rh_hs w) {L : rhL} {S1 : List rhA} {M M0 : rhM} {r : Int} {y1 y2 : Int} (E : eC w YX1_holes 2 [(2, 0), (2, y1), (0, y2)] M r M0) (hw1 : rh_wd S1 ≤ 8) : eS w YX1_piece 6 153 L ((0, y2) :: (2, y1) :: (2, 0) :: S1) M 156 L ((0, r) :: S1) M0 := by
  have hd : decode (ry_c YX1_piece) 153 = .ok (.invokevirtual 513, 3) := (tdX1_piece 153).resolve_right (by decide +kernel) ▸ (by decide +kernel : rh_dk dtX1_piece 153 = .ok (.invokevirtual 513, 3))
  exact fun _ _ K => eA.cv (jX1_piece_513 0 (by decide)) (rh_obl hw 0 (by decide +kernel)) (by decide) hd rfl hw1 rfl E K
theorem q2053 : (Jvm.Cond.methodLink "ReadingHouse" (517 : Nat) ({ cls := "ReadingHouse$Walk", name := "go", desc := "(LReadingHouse$Page;II)V" } : Jvm.MethodName)) ∈ lw_all := lw_g (lw_at lw_m8 120 rfl) rfl
theorem jX1_piece_517 {w : rhW} : ∀ ci ∈ ([6] : List Nat), rh_cvr w YX1_piece YX7_go 517 3 ci := rh_one (rh_cvr.of rfl (Or.inl q2053) kX7_go)
theorem vX1_piece_165 {w : rhW} (hw : rh_hs w) {L : rhL} {S1 : List rhA} {M M0 : rhM} {r : Int} {y1 y2 y3 : Int} (E : eC w YX7_go 3 [(2, 15), (2, y1), (0, y2), (0, y3)] M r M0) (hw1 : rh_wd S1 ≤ 8) : eS w YX1_piece 6 165 L ((0, y3) :: (0, y2) :: (2, y1) :: (2, 15) :: S1) M 168 L S1 M0 := by
  have hd : decode (ry_c YX1_piece) 165 = .ok (.invokevirtual 517, 3) := (tdX1_piece 165).resolve_right (by decide +kernel) ▸ (by decide +kernel : rh_dk dtX1_piece 165 = .ok (.invokevirtual 517, 3))
  exact fun _ _ K => eA.cv (jX1_piece_517 6 (by decide)) (rh_obl hw 15 (by decide +kernel)) (by decide) hd rfl hw1 rfl E K
theorem jX1_outline_505 {w : rhW} : ∀ ci ∈ ([0] : List Nat), rh_cvr w YX1_outline YX1_isPiece 505 2 ci := rh_one (rh_cvr.of rfl (Or.inl q2032) kX1_isPiece)
theorem vX1_outline_3 {w : rhW} (hw : rh_hs w) {L : rhL} {S1 : List rhA} {M M0 : rhM} {r : Int} {y1 y2 : Int} (E : eC w YX1_isPiece 5 [(2, 0), (0, y1), (0, y2)] M r M0) (hw1 : rh_wd S1 ≤ 8) : eS w YX1_outline 6 3 L ((0, y2) :: (0, y1) :: (2, 0) :: S1) M 6 L ((0, r) :: S1) M0 := by
  have hd : decode (ry_c YX1_outline) 3 = .ok (.invokevirtual 505, 3) := (tdX1_outline 3).resolve_right (by decide +kernel) ▸ (by decide +kernel : rh_dk dtX1_outline 3 = .ok (.invokevirtual 505, 3))
  exact fun _ _ K => eA.cv (jX1_outline_505 0 (by decide)) (rh_obl hw 0 (by decide +kernel)) (by decide) hd rfl hw1 rfl E K
theorem jX1_outline_517 {w : rhW} : ∀ ci ∈ ([6] : List Nat), rh_cvr w YX1_outline YX7_go 517 3 ci := rh_one (rh_cvr.of rfl (Or.inl q2053) kX7_go)
theorem vX1_outline_24 {w : rhW} (hw : rh_hs w) {L : rhL} {S1 : List rhA} {M M0 : rhM} {r : Int} {y1 y2 y3 : Int} (E : eC w YX7_go 3 [(2, 15), (2, y1), (0, y2), (0, y3)] M r M0) (hw1 : rh_wd S1 ≤ 8) : eS w YX1_outline 6 24 L ((0, y3) :: (0, y2) :: (2, y1) :: (2, 15) :: S1) M 27 L S1 M0 := by
  have hd : decode (ry_c YX1_outline) 24 = .ok (.invokevirtual 517, 3) := (tdX1_outline 24).resolve_right (by decide +kernel) ▸ (by decide +kernel : rh_dk dtX1_outline 24 = .ok (.invokevirtual 517, 3))
  exact fun _ _ K => eA.cv (jX1_outline_517 6 (by decide)) (rh_obl hw 15 (by decide +kernel)) (by decide) hd rfl hw1 rfl E K
theorem jX1_layout_476 {w : rhW} : ∀ ci ∈ ([0] : List Nat), rh_cvr w YX1_layout YX1_searched 476 1 ci := rh_one (rh_cvr.of rfl (Or.inl q2012) kX1_searched)
theorem vX1_layout_40 {w : rhW} (hw : rh_hs w) {L : rhL} {S1 : List rhA} {M M0 : rhM} {r : Int} {y1 : Int} (E : eC w YX1_searched 4 [(2, 0), (0, y1)] M r M0) (hw1 : rh_wd S1 ≤ 8) : eS w YX1_layout 7 40 L ((0, y1) :: (2, 0) :: S1) M 43 L ((2, r) :: S1) M0 := by
  have hd : decode (ry_c YX1_layout) 40 = .ok (.invokevirtual 476, 3) := (tdX1_layout 40).resolve_right (by decide +kernel) ▸ (by decide +kernel : rh_dk dtX1_layout 40 = .ok (.invokevirtual 476, 3))
  exact fun _ _ K => eA.cv (jX1_layout_476 0 (by decide)) (rh_obl hw 0 (by decide +kernel)) (by decide) hd rfl hw1 rfl E K
theorem q2080 : (Jvm.Cond.methodLink "ReadingHouse" (533 : Nat) ({ cls := "ReadingHouse$Layout", name := "make", desc := "(LReadingHouse$Page;IILReadingHouse$Sheet;LReadingHouse$Parts;)V" } : Jvm.MethodName)) ∈ lw_all := lw_g (lw_at lw_m8 147 rfl) rfl
theorem jX1_layout_533 {w : rhW} : ∀ ci ∈ ([27] : List Nat), rh_cvr w YX1_layout YX30_make 533 5 ci := rh_one (rh_cvr.of rfl (Or.inl q2080) kX30_make)
theorem vX1_layout_62 {w : rhW} {L : rhL} {S1 : List rhA} {M M0 : rhM} {r y0 p : Int} {y1 y2 y3 y4 y5 : Int} (hb : rh_bl w 1 y0 p) (E : eC w YX30_make 6 [(2, y0), (2, y1), (0, y2), (0, y3), (2, y4), (2, y5)] M r M0) (hw1 : rh_wd S1 ≤ 8) : eS w YX1_layout 7 62 L ((2, y5) :: (2, y4) :: (0, y3) :: (0, y2) :: (2, y1) :: (2, y0) :: S1) M 65 L S1 M0 := by
  have hd : decode (ry_c YX1_layout) 62 = .ok (.invokevirtual 533, 3) := (tdX1_layout 62).resolve_right (by decide +kernel) ▸ (by decide +kernel : rh_dk dtX1_layout 62 = .ok (.invokevirtual 533, 3))
  obtain ⟨ci, hci, hob⟩ := rh_obk (cis := [27]) (by decide +kernel) hb
  exact fun _ _ K => eA.cv (jX1_layout_533 ci hci) hob (by decide) hd rfl hw1 rfl E K
theorem q2192 : (Jvm.Cond.methodLink "ReadingHouse" (583 : Nat) ({ cls := "ReadingHouse", name := "laidWord", desc := "(II)I" } : Jvm.MethodName)) ∈ lw_all := lw_g (lw_at lw_m9 19 rfl) rfl
theorem jX1_word_583 {w : rhW} : ∀ ci ∈ ([0] : List Nat), rh_cvr w YX1_word YX1_laidWord 583 2 ci := rh_one (rh_cvr.of rfl (Or.inl q2192) kX1_laidWord)
theorem vX1_word_3 {w : rhW} (hw : rh_hs w) {L : rhL} {S1 : List rhA} {M M0 : rhM} {r : Int} {y1 y2 : Int} (E : eC w YX1_laidWord 4 [(2, 0), (0, y1), (0, y2)] M r M0) (hw1 : rh_wd S1 ≤ 8) : eS w YX1_word 5 3 L ((0, y2) :: (0, y1) :: (2, 0) :: S1) M 6 L ((0, r) :: S1) M0 := by
  have hd : decode (ry_c YX1_word) 3 = .ok (.invokevirtual 583, 3) := (tdX1_word 3).resolve_right (by decide +kernel) ▸ (by decide +kernel : rh_dk dtX1_word 3 = .ok (.invokevirtual 583, 3))
  exact fun _ _ K => eA.cv (jX1_word_583 0 (by decide)) (rh_obl hw 0 (by decide +kernel)) (by decide) hd rfl hw1 rfl E K
theorem q2196 : (Jvm.Cond.methodLink "ReadingHouse" (586 : Nat) ({ cls := "ReadingHouse$Cuts", name := "prepare", desc := "(LReadingHouse$Page;I)V" } : Jvm.MethodName)) ∈ lw_all := lw_g (lw_at lw_m9 23 rfl) rfl
theorem jX1_word_586 {w : rhW} : ∀ ci ∈ ([13] : List Nat), rh_cvr w YX1_word YX16_prepare 586 2 ci := rh_one (rh_cvr.of rfl (Or.inl q2196) kX16_prepare)
theorem vX1_word_38 {w : rhW} (hw : rh_hs w) {L : rhL} {S1 : List rhA} {M M0 : rhM} {r : Int} {y1 y2 : Int} (E : eC w YX16_prepare 2 [(2, 25), (2, y1), (0, y2)] M r M0) (hw1 : rh_wd S1 ≤ 8) : eS w YX1_word 5 38 L ((0, y2) :: (2, y1) :: (2, 25) :: S1) M 41 L S1 M0 := by
  have hd : decode (ry_c YX1_word) 38 = .ok (.invokevirtual 586, 3) := (tdX1_word 38).resolve_right (by decide +kernel) ▸ (by decide +kernel : rh_dk dtX1_word 38 = .ok (.invokevirtual 586, 3))
  exact fun _ _ K => eA.cv (jX1_word_586 13 (by decide)) (rh_obl hw 25 (by decide +kernel)) (by decide) hd rfl hw1 rfl E K
theorem jX1_pieceOf_583 {w : rhW} : ∀ ci ∈ ([0] : List Nat), rh_cvr w YX1_pieceOf YX1_laidWord 583 2 ci := rh_one (rh_cvr.of rfl (Or.inl q2192) kX1_laidWord)
theorem vX1_pieceOf_3 {w : rhW} (hw : rh_hs w) {L : rhL} {S1 : List rhA} {M M0 : rhM} {r : Int} {y1 y2 : Int} (E : eC w YX1_laidWord 4 [(2, 0), (0, y1), (0, y2)] M r M0) (hw1 : rh_wd S1 ≤ 8) : eS w YX1_pieceOf 5 3 L ((0, y2) :: (0, y1) :: (2, 0) :: S1) M 6 L ((0, r) :: S1) M0 := by
  have hd : decode (ry_c YX1_pieceOf) 3 = .ok (.invokevirtual 583, 3) := (tdX1_pieceOf 3).resolve_right (by decide +kernel) ▸ (by decide +kernel : rh_dk dtX1_pieceOf 3 = .ok (.invokevirtual 583, 3))
  exact fun _ _ K => eA.cv (jX1_pieceOf_583 0 (by decide)) (rh_obl hw 0 (by decide +kernel)) (by decide) hd rfl hw1 rfl E K
theorem jX1_place_583 {w : rhW} : ∀ ci ∈ ([0] : List Nat), rh_cvr w YX1_place YX1_laidWord 583 2 ci := rh_one (rh_cvr.of rfl (Or.inl q2192) kX1_laidWord)
theorem vX1_place_3 {w : rhW} (hw : rh_hs w) {L : rhL} {S1 : List rhA} {M M0 : rhM} {r : Int} {y1 y2 : Int} (E : eC w YX1_laidWord 4 [(2, 0), (0, y1), (0, y2)] M r M0) (hw1 : rh_wd S1 ≤ 8) : eS w YX1_place 5 3 L ((0, y2) :: (0, y1) :: (2, 0) :: S1) M 6 L ((0, r) :: S1) M0 := by
  have hd : decode (ry_c YX1_place) 3 = .ok (.invokevirtual 583, 3) := (tdX1_place 3).resolve_right (by decide +kernel) ▸ (by decide +kernel : rh_dk dtX1_place 3 = .ok (.invokevirtual 583, 3))
  exact fun _ _ K => eA.cv (jX1_place_583 0 (by decide)) (rh_obl hw 0 (by decide +kernel)) (by decide) hd rfl hw1 rfl E K
theorem jX1_place_586 {w : rhW} : ∀ ci ∈ ([13] : List Nat), rh_cvr w YX1_place YX16_prepare 586 2 ci := rh_one (rh_cvr.of rfl (Or.inl q2196) kX16_prepare)
theorem vX1_place_27 {w : rhW} (hw : rh_hs w) {L : rhL} {S1 : List rhA} {M M0 : rhM} {r : Int} {y1 y2 : Int} (E : eC w YX16_prepare 2 [(2, 25), (2, y1), (0, y2)] M r M0) (hw1 : rh_wd S1 ≤ 8) : eS w YX1_place 5 27 L ((0, y2) :: (2, y1) :: (2, 25) :: S1) M 30 L S1 M0 := by
  have hd : decode (ry_c YX1_place) 27 = .ok (.invokevirtual 586, 3) := (tdX1_place 27).resolve_right (by decide +kernel) ▸ (by decide +kernel : rh_dk dtX1_place 27 = .ok (.invokevirtual 586, 3))
  exact fun _ _ K => eA.cv (jX1_place_586 13 (by decide)) (rh_obl hw 25 (by decide +kernel)) (by decide) hd rfl hw1 rfl E K
theorem jX1_feature_583 {w : rhW} : ∀ ci ∈ ([0] : List Nat), rh_cvr w YX1_feature YX1_laidWord 583 2 ci := rh_one (rh_cvr.of rfl (Or.inl q2192) kX1_laidWord)
theorem vX1_feature_3 {w : rhW} (hw : rh_hs w) {L : rhL} {S1 : List rhA} {M M0 : rhM} {r : Int} {y1 y2 : Int} (E : eC w YX1_laidWord 4 [(2, 0), (0, y1), (0, y2)] M r M0) (hw1 : rh_wd S1 ≤ 8) : eS w YX1_feature 5 3 L ((0, y2) :: (0, y1) :: (2, 0) :: S1) M 6 L ((0, r) :: S1) M0 := by
  have hd : decode (ry_c YX1_feature) 3 = .ok (.invokevirtual 583, 3) := (tdX1_feature 3).resolve_right (by decide +kernel) ▸ (by decide +kernel : rh_dk dtX1_feature 3 = .ok (.invokevirtual 583, 3))
  exact fun _ _ K => eA.cv (jX1_feature_583 0 (by decide)) (rh_obl hw 0 (by decide +kernel)) (by decide) hd rfl hw1 rfl E K
theorem jX1_feature_586 {w : rhW} : ∀ ci ∈ ([13] : List Nat), rh_cvr w YX1_feature YX16_prepare 586 2 ci := rh_one (rh_cvr.of rfl (Or.inl q2196) kX16_prepare)
theorem vX1_feature_43 {w : rhW} (hw : rh_hs w) {L : rhL} {S1 : List rhA} {M M0 : rhM} {r : Int} {y1 y2 : Int} (E : eC w YX16_prepare 2 [(2, 25), (2, y1), (0, y2)] M r M0) (hw1 : rh_wd S1 ≤ 8) : eS w YX1_feature 5 43 L ((0, y2) :: (2, y1) :: (2, 25) :: S1) M 46 L S1 M0 := by
  have hd : decode (ry_c YX1_feature) 43 = .ok (.invokevirtual 586, 3) := (tdX1_feature 43).resolve_right (by decide +kernel) ▸ (by decide +kernel : rh_dk dtX1_feature 43 = .ok (.invokevirtual 586, 3))
  exact fun _ _ K => eA.cv (jX1_feature_586 13 (by decide)) (rh_obl hw 25 (by decide +kernel)) (by decide) hd rfl hw1 rfl E K
theorem q2234 : (Jvm.Cond.methodLink "ReadingHouse" (624 : Nat) ({ cls := "ReadingHouse$Cuts", name := "hasPart", desc := "(II)Z" } : Jvm.MethodName)) ∈ lw_all := lw_g (lw_at lw_m9 61 rfl) rfl
theorem jX1_feature_624 {w : rhW} : ∀ ci ∈ ([13] : List Nat), rh_cvr w YX1_feature YX16_hasPart 624 2 ci := rh_one (rh_cvr.of rfl (Or.inl q2234) kX16_hasPart)
theorem vX1_feature_53 {w : rhW} (hw : rh_hs w) {L : rhL} {S1 : List rhA} {M M0 : rhM} {r : Int} {y1 y2 : Int} (E : eC w YX16_hasPart 2 [(2, 25), (0, y1), (0, y2)] M r M0) (hw1 : rh_wd S1 ≤ 8) : eS w YX1_feature 5 53 L ((0, y2) :: (0, y1) :: (2, 25) :: S1) M 56 L ((0, r) :: S1) M0 := by
  have hd : decode (ry_c YX1_feature) 53 = .ok (.invokevirtual 624, 3) := (tdX1_feature 53).resolve_right (by decide +kernel) ▸ (by decide +kernel : rh_dk dtX1_feature 53 = .ok (.invokevirtual 624, 3))
  exact fun _ _ K => eA.cv (jX1_feature_624 13 (by decide)) (rh_obl hw 25 (by decide +kernel)) (by decide) hd rfl hw1 rfl E K
theorem q2242 : (Jvm.Cond.methodLink "ReadingHouse" (627 : Nat) ({ cls := "ReadingHouse$Cuts", name := "describe", desc := "()V" } : Jvm.MethodName)) ∈ lw_all := lw_g (lw_at lw_m9 69 rfl) rfl
theorem jX1_feature_627 {w : rhW} : ∀ ci ∈ ([13] : List Nat), rh_cvr w YX1_feature YX16_describe 627 0 ci := rh_one (rh_cvr.of rfl (Or.inl q2242) kX16_describe)
theorem vX1_feature_65 {w : rhW} (hw : rh_hs w) {L : rhL} {S1 : List rhA} {M M0 : rhM} {r : Int} (E : eC w YX16_describe 4 [(2, 25)] M r M0) (hw1 : rh_wd S1 ≤ 8) : eS w YX1_feature 5 65 L ((2, 25) :: S1) M 68 L S1 M0 := by
  have hd : decode (ry_c YX1_feature) 65 = .ok (.invokevirtual 627, 3) := (tdX1_feature 65).resolve_right (by decide +kernel) ▸ (by decide +kernel : rh_dk dtX1_feature 65 = .ok (.invokevirtual 627, 3))
  exact fun _ _ K => eA.cv (jX1_feature_627 13 (by decide)) (rh_obl hw 25 (by decide +kernel)) (by decide) hd rfl hw1 rfl E K
theorem jX1_learn_583 {w : rhW} : ∀ ci ∈ ([0] : List Nat), rh_cvr w YX1_learn YX1_laidWord 583 2 ci := rh_one (rh_cvr.of rfl (Or.inl q2192) kX1_laidWord)
theorem vX1_learn_4 {w : rhW} (hw : rh_hs w) {L : rhL} {S1 : List rhA} {M M0 : rhM} {r : Int} {y1 y2 : Int} (E : eC w YX1_laidWord 4 [(2, 0), (0, y1), (0, y2)] M r M0) (hw1 : rh_wd S1 ≤ 8) : eS w YX1_learn 6 4 L ((0, y2) :: (0, y1) :: (2, 0) :: S1) M 7 L ((0, r) :: S1) M0 := by
  have hd : decode (ry_c YX1_learn) 4 = .ok (.invokevirtual 583, 3) := (tdX1_learn 4).resolve_right (by decide +kernel) ▸ (by decide +kernel : rh_dk dtX1_learn 4 = .ok (.invokevirtual 583, 3))
  exact fun _ _ K => eA.cv (jX1_learn_583 0 (by decide)) (rh_obl hw 0 (by decide +kernel)) (by decide) hd rfl hw1 rfl E K
theorem jX1_learn_586 {w : rhW} : ∀ ci ∈ ([13] : List Nat), rh_cvr w YX1_learn YX16_prepare 586 2 ci := rh_one (rh_cvr.of rfl (Or.inl q2196) kX16_prepare)
theorem vX1_learn_29 {w : rhW} (hw : rh_hs w) {L : rhL} {S1 : List rhA} {M M0 : rhM} {r : Int} {y1 y2 : Int} (E : eC w YX16_prepare 2 [(2, 25), (2, y1), (0, y2)] M r M0) (hw1 : rh_wd S1 ≤ 8) : eS w YX1_learn 6 29 L ((0, y2) :: (2, y1) :: (2, 25) :: S1) M 32 L S1 M0 := by
  have hd : decode (ry_c YX1_learn) 29 = .ok (.invokevirtual 586, 3) := (tdX1_learn 29).resolve_right (by decide +kernel) ▸ (by decide +kernel : rh_dk dtX1_learn 29 = .ok (.invokevirtual 586, 3))
  exact fun _ _ K => eA.cv (jX1_learn_586 13 (by decide)) (rh_obl hw 25 (by decide +kernel)) (by decide) hd rfl hw1 rfl E K
theorem jX1_learn_624 {w : rhW} : ∀ ci ∈ ([13] : List Nat), rh_cvr w YX1_learn YX16_hasPart 624 2 ci := rh_one (rh_cvr.of rfl (Or.inl q2234) kX16_hasPart)
theorem vX1_learn_40 {w : rhW} (hw : rh_hs w) {L : rhL} {S1 : List rhA} {M M0 : rhM} {r : Int} {y1 y2 : Int} (E : eC w YX16_hasPart 2 [(2, 25), (0, y1), (0, y2)] M r M0) (hw1 : rh_wd S1 ≤ 8) : eS w YX1_learn 6 40 L ((0, y2) :: (0, y1) :: (2, 25) :: S1) M 43 L ((0, r) :: S1) M0 := by
  have hd : decode (ry_c YX1_learn) 40 = .ok (.invokevirtual 624, 3) := (tdX1_learn 40).resolve_right (by decide +kernel) ▸ (by decide +kernel : rh_dk dtX1_learn 40 = .ok (.invokevirtual 624, 3))
  exact fun _ _ K => eA.cv (jX1_learn_624 13 (by decide)) (rh_obl hw 25 (by decide +kernel)) (by decide) hd rfl hw1 rfl E K
theorem q2271 : (Jvm.Cond.methodLink "ReadingHouse" (643 : Nat) ({ cls := "ReadingHouse$Forms", name := "learn", desc := "(IILReadingHouse$Cuts;)I" } : Jvm.MethodName)) ∈ lw_all := lw_g (lw_at lw_m9 98 rfl) rfl
theorem jX1_learn_643 {w : rhW} : ∀ ci ∈ ([14] : List Nat), rh_cvr w YX1_learn YX17_learn 643 3 ci := rh_one (rh_cvr.of rfl (Or.inl q2271) kX17_learn)
theorem vX1_learn_104 {w : rhW} (hw : rh_hs w) {L : rhL} {S1 : List rhA} {M M0 : rhM} {r : Int} {y1 y2 y3 : Int} (E : eC w YX17_learn 5 [(2, 41), (0, y1), (0, y2), (2, y3)] M r M0) (hw1 : rh_wd S1 ≤ 8) : eS w YX1_learn 6 104 L ((2, y3) :: (0, y2) :: (0, y1) :: (2, 41) :: S1) M 107 L ((0, r) :: S1) M0 := by
  have hd : decode (ry_c YX1_learn) 104 = .ok (.invokevirtual 643, 3) := (tdX1_learn 104).resolve_right (by decide +kernel) ▸ (by decide +kernel : rh_dk dtX1_learn 104 = .ok (.invokevirtual 643, 3))
  exact fun _ _ K => eA.cv (jX1_learn_643 14 (by decide)) (rh_obl hw 41 (by decide +kernel)) (by decide) hd rfl hw1 rfl E K
theorem q2290 : (Jvm.Cond.methodLink "ReadingHouse" (650 : Nat) ({ cls := "ReadingHouse$Tape", name := "must", desc := "(ZI)V" } : Jvm.MethodName)) ∈ lw_all := lw_g (lw_at lw_m9 117 rfl) rfl
theorem jX1_findGiven_650 {w : rhW} : ∀ ci ∈ ([1] : List Nat), rh_cvr w YX1_findGiven YX2_must 650 2 ci := rh_one (rh_cvr.of rfl (Or.inl q2290) kX2_must)
theorem vX1_findGiven_104 {w : rhW} (hw : rh_hs w) {L : rhL} {S1 : List rhA} {M M0 : rhM} {r : Int} {y1 y2 : Int} (E : eC w YX2_must 1 [(2, 1), (0, y1), (0, y2)] M r M0) (hw1 : rh_wd S1 ≤ 8) : eS w YX1_findGiven 2 104 L ((0, y2) :: (0, y1) :: (2, 1) :: S1) M 107 L S1 M0 := by
  have hd : decode (ry_c YX1_findGiven) 104 = .ok (.invokevirtual 650, 3) := (tdX1_findGiven 104).resolve_right (by decide +kernel) ▸ (by decide +kernel : rh_dk dtX1_findGiven 104 = .ok (.invokevirtual 650, 3))
  exact fun _ _ K => eA.cv (jX1_findGiven_650 1 (by decide)) (rh_obl hw 1 (by decide +kernel)) (by decide) hd rfl hw1 rfl E K
theorem jX1_candidate_583 {w : rhW} : ∀ ci ∈ ([0] : List Nat), rh_cvr w YX1_candidate YX1_laidWord 583 2 ci := rh_one (rh_cvr.of rfl (Or.inl q2192) kX1_laidWord)
theorem vX1_candidate_3 {w : rhW} (hw : rh_hs w) {L : rhL} {S1 : List rhA} {M M0 : rhM} {r : Int} {y1 y2 : Int} (E : eC w YX1_laidWord 4 [(2, 0), (0, y1), (0, y2)] M r M0) (hw1 : rh_wd S1 ≤ 8) : eS w YX1_candidate 5 3 L ((0, y2) :: (0, y1) :: (2, 0) :: S1) M 6 L ((0, r) :: S1) M0 := by
  have hd : decode (ry_c YX1_candidate) 3 = .ok (.invokevirtual 583, 3) := (tdX1_candidate 3).resolve_right (by decide +kernel) ▸ (by decide +kernel : rh_dk dtX1_candidate 3 = .ok (.invokevirtual 583, 3))
  exact fun _ _ K => eA.cv (jX1_candidate_583 0 (by decide)) (rh_obl hw 0 (by decide +kernel)) (by decide) hd rfl hw1 rfl E K
theorem jX1_candidate_586 {w : rhW} : ∀ ci ∈ ([13] : List Nat), rh_cvr w YX1_candidate YX16_prepare 586 2 ci := rh_one (rh_cvr.of rfl (Or.inl q2196) kX16_prepare)
theorem vX1_candidate_27 {w : rhW} (hw : rh_hs w) {L : rhL} {S1 : List rhA} {M M0 : rhM} {r : Int} {y1 y2 : Int} (E : eC w YX16_prepare 2 [(2, 25), (2, y1), (0, y2)] M r M0) (hw1 : rh_wd S1 ≤ 8) : eS w YX1_candidate 5 27 L ((0, y2) :: (2, y1) :: (2, 25) :: S1) M 30 L S1 M0 := by
  have hd : decode (ry_c YX1_candidate) 27 = .ok (.invokevirtual 586, 3) := (tdX1_candidate 27).resolve_right (by decide +kernel) ▸ (by decide +kernel : rh_dk dtX1_candidate 27 = .ok (.invokevirtual 586, 3))
  exact fun _ _ K => eA.cv (jX1_candidate_586 13 (by decide)) (rh_obl hw 25 (by decide +kernel)) (by decide) hd rfl hw1 rfl E K
theorem jX1_candidate_624 {w : rhW} : ∀ ci ∈ ([13] : List Nat), rh_cvr w YX1_candidate YX16_hasPart 624 2 ci := rh_one (rh_cvr.of rfl (Or.inl q2234) kX16_hasPart)
theorem vX1_candidate_37 {w : rhW} (hw : rh_hs w) {L : rhL} {S1 : List rhA} {M M0 : rhM} {r : Int} {y1 y2 : Int} (E : eC w YX16_hasPart 2 [(2, 25), (0, y1), (0, y2)] M r M0) (hw1 : rh_wd S1 ≤ 8) : eS w YX1_candidate 5 37 L ((0, y2) :: (0, y1) :: (2, 25) :: S1) M 40 L ((0, r) :: S1) M0 := by
  have hd : decode (ry_c YX1_candidate) 37 = .ok (.invokevirtual 624, 3) := (tdX1_candidate 37).resolve_right (by decide +kernel) ▸ (by decide +kernel : rh_dk dtX1_candidate 37 = .ok (.invokevirtual 624, 3))
  exact fun _ _ K => eA.cv (jX1_candidate_624 13 (by decide)) (rh_obl hw 25 (by decide +kernel)) (by decide) hd rfl hw1 rfl E K
theorem jX1_candidate_627 {w : rhW} : ∀ ci ∈ ([13] : List Nat), rh_cvr w YX1_candidate YX16_describe 627 0 ci := rh_one (rh_cvr.of rfl (Or.inl q2242) kX16_describe)
theorem vX1_candidate_85 {w : rhW} (hw : rh_hs w) {L : rhL} {S1 : List rhA} {M M0 : rhM} {r : Int} (E : eC w YX16_describe 4 [(2, 25)] M r M0) (hw1 : rh_wd S1 ≤ 8) : eS w YX1_candidate 5 85 L ((2, 25) :: S1) M 88 L S1 M0 := by
  have hd : decode (ry_c YX1_candidate) 85 = .ok (.invokevirtual 627, 3) := (tdX1_candidate 85).resolve_right (by decide +kernel) ▸ (by decide +kernel : rh_dk dtX1_candidate 85 = .ok (.invokevirtual 627, 3))
  exact fun _ _ K => eA.cv (jX1_candidate_627 13 (by decide)) (rh_obl hw 25 (by decide +kernel)) (by decide) hd rfl hw1 rfl E K
theorem q2315 : (Jvm.Cond.methodLink "ReadingHouse" (699 : Nat) ({ cls := "ReadingHouse$Forms", name := "choose", desc := "(I[I)V" } : Jvm.MethodName)) ∈ lw_all := lw_g (lw_at lw_m9 142 rfl) rfl
theorem jX1_candidate_699 {w : rhW} : ∀ ci ∈ ([14] : List Nat), rh_cvr w YX1_candidate YX17_choose 699 2 ci := rh_one (rh_cvr.of rfl (Or.inl q2315) kX17_choose)
theorem vX1_candidate_101 {w : rhW} (hw : rh_hs w) {L : rhL} {S1 : List rhA} {M M0 : rhM} {r : Int} {y1 y2 : Int} (E : eC w YX17_choose 1 [(2, 41), (0, y1), (2, y2)] M r M0) (hw1 : rh_wd S1 ≤ 8) : eS w YX1_candidate 5 101 L ((2, y2) :: (0, y1) :: (2, 41) :: S1) M 104 L S1 M0 := by
  have hd : decode (ry_c YX1_candidate) 101 = .ok (.invokevirtual 699, 3) := (tdX1_candidate 101).resolve_right (by decide +kernel) ▸ (by decide +kernel : rh_dk dtX1_candidate 101 = .ok (.invokevirtual 699, 3))
  exact fun _ _ K => eA.cv (jX1_candidate_699 14 (by decide)) (rh_obl hw 41 (by decide +kernel)) (by decide) hd rfl hw1 rfl E K
theorem q2336 : (Jvm.Cond.methodLink "ReadingHouse" (712 : Nat) ({ cls := "ReadingHouse$Forms", name := "hasFace", desc := "(I)Z" } : Jvm.MethodName)) ∈ lw_all := lw_g (lw_at lw_m9 163 rfl) rfl
theorem jX1_tree_712 {w : rhW} : ∀ ci ∈ ([14] : List Nat), rh_cvr w YX1_tree YX17_hasFace 712 1 ci := rh_one (rh_cvr.of rfl (Or.inl q2336) kX17_hasFace)
theorem vX1_tree_17 {w : rhW} (hw : rh_hs w) {L : rhL} {S1 : List rhA} {M M0 : rhM} {r : Int} {y1 : Int} (E : eC w YX17_hasFace 0 [(2, 41), (0, y1)] M r M0) (hw1 : rh_wd S1 ≤ 8) : eS w YX1_tree 4 17 L ((0, y1) :: (2, 41) :: S1) M 20 L ((0, r) :: S1) M0 := by
  have hd : decode (ry_c YX1_tree) 17 = .ok (.invokevirtual 712, 3) := (tdX1_tree 17).resolve_right (by decide +kernel) ▸ (by decide +kernel : rh_dk dtX1_tree 17 = .ok (.invokevirtual 712, 3))
  exact fun _ _ K => eA.cv (jX1_tree_712 14 (by decide)) (rh_obl hw 41 (by decide +kernel)) (by decide) hd rfl hw1 rfl E K
theorem q2340 : (Jvm.Cond.methodLink "ReadingHouse" (715 : Nat) ({ cls := "ReadingHouse$Forms", name := "grow", desc := "(I)I" } : Jvm.MethodName)) ∈ lw_all := lw_g (lw_at lw_m9 167 rfl) rfl
theorem jX1_tree_715 {w : rhW} : ∀ ci ∈ ([14] : List Nat), rh_cvr w YX1_tree YX17_grow 715 1 ci := rh_one (rh_cvr.of rfl (Or.inl q2340) kX17_grow)
theorem vX1_tree_28 {w : rhW} (hw : rh_hs w) {L : rhL} {S1 : List rhA} {M M0 : rhM} {r : Int} {y1 : Int} (E : eC w YX17_grow 3 [(2, 41), (0, y1)] M r M0) (hw1 : rh_wd S1 ≤ 8) : eS w YX1_tree 4 28 L ((0, y1) :: (2, 41) :: S1) M 31 L ((0, r) :: S1) M0 := by
  have hd : decode (ry_c YX1_tree) 28 = .ok (.invokevirtual 715, 3) := (tdX1_tree 28).resolve_right (by decide +kernel) ▸ (by decide +kernel : rh_dk dtX1_tree 28 = .ok (.invokevirtual 715, 3))
  exact fun _ _ K => eA.cv (jX1_tree_715 14 (by decide)) (rh_obl hw 41 (by decide +kernel)) (by decide) hd rfl hw1 rfl E K
theorem q2361 : (Jvm.Cond.methodLink "ReadingHouse" (723 : Nat) ({ cls := "ReadingHouse$Forms", name := "nodeAt", desc := "(III)I" } : Jvm.MethodName)) ∈ lw_all := lw_g (lw_at lw_m9 188 rfl) rfl
theorem jX1_node_723 {w : rhW} : ∀ ci ∈ ([14] : List Nat), rh_cvr w YX1_node YX17_nodeAt 723 3 ci := rh_one (rh_cvr.of rfl (Or.inl q2361) kX17_nodeAt)
theorem vX1_node_65 {w : rhW} (hw : rh_hs w) {L : rhL} {S1 : List rhA} {M M0 : rhM} {r : Int} {y1 y2 y3 : Int} (E : eC w YX17_nodeAt 0 [(2, 41), (0, y1), (0, y2), (0, y3)] M r M0) (hw1 : rh_wd S1 ≤ 8) : eS w YX1_node 2 65 L ((0, y3) :: (0, y2) :: (0, y1) :: (2, 41) :: S1) M 68 L ((0, r) :: S1) M0 := by
  have hd : decode (ry_c YX1_node) 65 = .ok (.invokevirtual 723, 3) := (tdX1_node 65).resolve_right (by decide +kernel) ▸ (by decide +kernel : rh_dk dtX1_node 65 = .ok (.invokevirtual 723, 3))
  exact fun _ _ K => eA.cv (jX1_node_723 14 (by decide)) (rh_obl hw 41 (by decide +kernel)) (by decide) hd rfl hw1 rfl E K
theorem q2423 : (Jvm.Cond.methodLink "ReadingHouse" (744 : Nat) ({ cls := "ReadingHouse$Row", name := "get", desc := "(II)I" } : Jvm.MethodName)) ∈ lw_all := lw_g (lw_at lw_m10 10 rfl) rfl
theorem jX1_listed_744 {w : rhW} : ∀ ci ∈ ([16] : List Nat), rh_cvr w YX1_listed YX19_get 744 2 ci := rh_one (rh_cvr.of rfl (Or.inl q2423) kX19_get)
theorem vX1_listed_60 {w : rhW} {L : rhL} {S1 : List rhA} {M M0 : rhM} {r y0 p : Int} {y1 y2 : Int} (hb : rh_bl w 4 y0 p) (E : eC w YX19_get 0 [(2, y0), (0, y1), (0, y2)] M r M0) (hw1 : rh_wd S1 ≤ 8) : eS w YX1_listed 2 60 L ((0, y2) :: (0, y1) :: (2, y0) :: S1) M 63 L ((0, r) :: S1) M0 := by
  have hd : decode (ry_c YX1_listed) 60 = .ok (.invokevirtual 744, 3) := (tdX1_listed 60).resolve_right (by decide +kernel) ▸ (by decide +kernel : rh_dk dtX1_listed 60 = .ok (.invokevirtual 744, 3))
  obtain ⟨ci, hci, hob⟩ := rh_obk (cis := [16]) (by decide +kernel) hb
  exact fun _ _ K => eA.cv (jX1_listed_744 ci hci) hob (by decide) hd rfl hw1 rfl E K
theorem q2428 : (Jvm.Cond.methodLink "ReadingHouse" (746 : Nat) ({ cls := "ReadingHouse$Output", name := "end", desc := "()I" } : Jvm.MethodName)) ∈ lw_all := lw_g (lw_at lw_m10 15 rfl) rfl
theorem jX1_listed_746 {w : rhW} : ∀ ci ∈ ([3] : List Nat), rh_cvr w YX1_listed YX4_end 746 0 ci := rh_one (rh_cvr.of rfl (Or.inl q2428) kX4_end)
theorem vX1_listed_76 {w : rhW} (hw : rh_hs w) {L : rhL} {S1 : List rhA} {M M0 : rhM} {r : Int} (E : eC w YX4_end 1 [(2, 4)] M r M0) (hw1 : rh_wd S1 ≤ 8) : eS w YX1_listed 2 76 L ((2, 4) :: S1) M 79 L ((0, r) :: S1) M0 := by
  have hd : decode (ry_c YX1_listed) 76 = .ok (.invokevirtual 746, 3) := (tdX1_listed 76).resolve_right (by decide +kernel) ▸ (by decide +kernel : rh_dk dtX1_listed 76 = .ok (.invokevirtual 746, 3))
  exact fun _ _ K => eA.cv (jX1_listed_746 3 (by decide)) (rh_obl hw 4 (by decide +kernel)) (by decide) hd rfl hw1 rfl E K
theorem q2441 : (Jvm.Cond.methodLink "ReadingHouse" (751 : Nat) ({ cls := "ReadingHouse$Row", name := "set", desc := "(I[BII)V" } : Jvm.MethodName)) ∈ lw_all := lw_g (lw_at lw_m10 28 rfl) rfl
theorem jX1_takeAsked_751 {w : rhW} : ∀ ci ∈ ([16] : List Nat), rh_cvr w YX1_takeAsked YX19_set 751 4 ci := rh_one (rh_cvr.of rfl (Or.inl q2441) kX19_set)
theorem vX1_takeAsked_41 {w : rhW} {L : rhL} {S1 : List rhA} {M M0 : rhM} {r y0 p : Int} {y1 y2 y3 y4 : Int} (hb : rh_bl w 4 y0 p) (E : eC w YX19_set 1 [(2, y0), (0, y1), (2, y2), (0, y3), (0, y4)] M r M0) (hw1 : rh_wd S1 ≤ 8) : eS w YX1_takeAsked 2 41 L ((0, y4) :: (0, y3) :: (2, y2) :: (0, y1) :: (2, y0) :: S1) M 44 L S1 M0 := by
  have hd : decode (ry_c YX1_takeAsked) 41 = .ok (.invokevirtual 751, 3) := (tdX1_takeAsked 41).resolve_right (by decide +kernel) ▸ (by decide +kernel : rh_dk dtX1_takeAsked 41 = .ok (.invokevirtual 751, 3))
  obtain ⟨ci, hci, hob⟩ := rh_obk (cis := [16]) (by decide +kernel) hb
  exact fun _ _ K => eA.cv (jX1_takeAsked_751 ci hci) hob (by decide) hd rfl hw1 rfl E K
theorem q2437 : (Jvm.Cond.methodLink "ReadingHouse" (754 : Nat) ({ cls := "ReadingHouse", name := "takeAsked", desc := "()Z" } : Jvm.MethodName)) ∈ lw_all := lw_g (lw_at lw_m10 24 rfl) rfl
theorem jX1_known_754 {w : rhW} : ∀ ci ∈ ([0] : List Nat), rh_cvr w YX1_known YX1_takeAsked 754 0 ci := rh_one (rh_cvr.of rfl (Or.inl q2437) kX1_takeAsked)
theorem vX1_known_1 {w : rhW} (hw : rh_hs w) {L : rhL} {S1 : List rhA} {M M0 : rhM} {r : Int} (E : eC w YX1_takeAsked 2 [(2, 0)] M r M0) (hw1 : rh_wd S1 ≤ 8) : eS w YX1_known 3 1 L ((2, 0) :: S1) M 4 L ((0, r) :: S1) M0 := by
  have hd : decode (ry_c YX1_known) 1 = .ok (.invokevirtual 754, 3) := (tdX1_known 1).resolve_right (by decide +kernel) ▸ (by decide +kernel : rh_dk dtX1_known 1 = .ok (.invokevirtual 754, 3))
  exact fun _ _ K => eA.cv (jX1_known_754 0 (by decide)) (rh_obl hw 0 (by decide +kernel)) (by decide) hd rfl hw1 rfl E K
theorem q2442 : (Jvm.Cond.methodLink "ReadingHouse" (758 : Nat) ({ cls := "ReadingHouse$Words", name := "find", desc := "(LReadingHouse$Row;I)I" } : Jvm.MethodName)) ∈ lw_all := lw_g (lw_at lw_m10 29 rfl) rfl
theorem jX1_known_758 {w : rhW} : ∀ ci ∈ ([15] : List Nat), rh_cvr w YX1_known YX18_find 758 2 ci := rh_one (rh_cvr.of rfl (Or.inl q2442) kX18_find)
theorem vX1_known_19 {w : rhW} (hw : rh_hs w) {L : rhL} {S1 : List rhA} {M M0 : rhM} {r : Int} {y1 y2 : Int} (E : eC w YX18_find 2 [(2, 63), (2, y1), (0, y2)] M r M0) (hw1 : rh_wd S1 ≤ 8) : eS w YX1_known 3 19 L ((0, y2) :: (2, y1) :: (2, 63) :: S1) M 22 L ((0, r) :: S1) M0 := by
  have hd : decode (ry_c YX1_known) 19 = .ok (.invokevirtual 758, 3) := (tdX1_known 19).resolve_right (by decide +kernel) ▸ (by decide +kernel : rh_dk dtX1_known 19 = .ok (.invokevirtual 758, 3))
  exact fun _ _ K => eA.cv (jX1_known_758 15 (by decide)) (rh_obl hw 63 (by decide +kernel)) (by decide) hd rfl hw1 rfl E K
theorem q2398 : (Jvm.Cond.methodLink "ReadingHouse" (730 : Nat) ({ cls := "ReadingHouse$Words", name := "build", desc := "()V" } : Jvm.MethodName)) ∈ lw_all := lw_g (lw_at lw_m9 225 rfl) rfl
theorem jX1_machine_730 {w : rhW} : ∀ ci ∈ ([15] : List Nat), rh_cvr w YX1_machine YX18_build 730 0 ci := rh_one (rh_cvr.of rfl (Or.inl q2398) kX18_build)
theorem vX1_machine_17 {w : rhW} (hw : rh_hs w) {L : rhL} {S1 : List rhA} {M M0 : rhM} {r : Int} (E : eC w YX18_build 2 [(2, 63)] M r M0) (hw1 : rh_wd S1 ≤ 8) : eS w YX1_machine 3 17 L ((2, 63) :: S1) M 20 L S1 M0 := by
  have hd : decode (ry_c YX1_machine) 17 = .ok (.invokevirtual 730, 3) := (tdX1_machine 17).resolve_right (by decide +kernel) ▸ (by decide +kernel : rh_dk dtX1_machine 17 = .ok (.invokevirtual 730, 3))
  exact fun _ _ K => eA.cv (jX1_machine_730 15 (by decide)) (rh_obl hw 63 (by decide +kernel)) (by decide) hd rfl hw1 rfl E K
theorem jX1_near_754 {w : rhW} : ∀ ci ∈ ([0] : List Nat), rh_cvr w YX1_near YX1_takeAsked 754 0 ci := rh_one (rh_cvr.of rfl (Or.inl q2437) kX1_takeAsked)
theorem vX1_near_16 {w : rhW} (hw : rh_hs w) {L : rhL} {S1 : List rhA} {M M0 : rhM} {r : Int} (E : eC w YX1_takeAsked 2 [(2, 0)] M r M0) (hw1 : rh_wd S1 ≤ 8) : eS w YX1_near 3 16 L ((2, 0) :: S1) M 19 L ((0, r) :: S1) M0 := by
  have hd : decode (ry_c YX1_near) 16 = .ok (.invokevirtual 754, 3) := (tdX1_near 16).resolve_right (by decide +kernel) ▸ (by decide +kernel : rh_dk dtX1_near 16 = .ok (.invokevirtual 754, 3))
  exact fun _ _ K => eA.cv (jX1_near_754 0 (by decide)) (rh_obl hw 0 (by decide +kernel)) (by decide) hd rfl hw1 rfl E K
theorem q2451 : (Jvm.Cond.methodLink "ReadingHouse" (767 : Nat) ({ cls := "ReadingHouse$Words", name := "findNear", desc := "(I)I" } : Jvm.MethodName)) ∈ lw_all := lw_g (lw_at lw_m10 38 rfl) rfl
theorem jX1_near_767 {w : rhW} : ∀ ci ∈ ([15] : List Nat), rh_cvr w YX1_near YX18_findNear 767 1 ci := rh_one (rh_cvr.of rfl (Or.inl q2451) kX18_findNear)
theorem vX1_near_27 {w : rhW} (hw : rh_hs w) {L : rhL} {S1 : List rhA} {M M0 : rhM} {r : Int} {y1 : Int} (E : eC w YX18_findNear 2 [(2, 63), (0, y1)] M r M0) (hw1 : rh_wd S1 ≤ 8) : eS w YX1_near 3 27 L ((0, y1) :: (2, 63) :: S1) M 30 L ((0, r) :: S1) M0 := by
  have hd : decode (ry_c YX1_near) 27 = .ok (.invokevirtual 767, 3) := (tdX1_near 27).resolve_right (by decide +kernel) ▸ (by decide +kernel : rh_dk dtX1_near 27 = .ok (.invokevirtual 767, 3))
  exact fun _ _ K => eA.cv (jX1_near_767 15 (by decide)) (rh_obl hw 63 (by decide +kernel)) (by decide) hd rfl hw1 rfl E K
theorem q2485 : (Jvm.Cond.methodLink "ReadingHouse" (779 : Nat) ({ cls := "ReadingHouse$Words", name := "price", desc := "(II)I" } : Jvm.MethodName)) ∈ lw_all := lw_g (lw_at lw_m10 72 rfl) rfl
theorem jX1_price_779 {w : rhW} : ∀ ci ∈ ([15] : List Nat), rh_cvr w YX1_price YX18_price 779 2 ci := rh_one (rh_cvr.of rfl (Or.inl q2485) kX18_price)
theorem vX1_price_28 {w : rhW} (hw : rh_hs w) {L : rhL} {S1 : List rhA} {M M0 : rhM} {r : Int} {y1 y2 : Int} (E : eC w YX18_price 1 [(2, 63), (0, y1), (0, y2)] M r M0) (hw1 : rh_wd S1 ≤ 8) : eS w YX1_price 2 28 L ((0, y2) :: (0, y1) :: (2, 63) :: S1) M 31 L ((0, r) :: S1) M0 := by
  have hd : decode (ry_c YX1_price) 28 = .ok (.invokevirtual 779, 3) := (tdX1_price 28).resolve_right (by decide +kernel) ▸ (by decide +kernel : rh_dk dtX1_price 28 = .ok (.invokevirtual 779, 3))
  exact fun _ _ K => eA.cv (jX1_price_779 15 (by decide)) (rh_obl hw 63 (by decide +kernel)) (by decide) hd rfl hw1 rfl E K
theorem jX1_read_712 {w : rhW} : ∀ ci ∈ ([14] : List Nat), rh_cvr w YX1_read YX17_hasFace 712 1 ci := rh_one (rh_cvr.of rfl (Or.inl q2336) kX17_hasFace)
theorem vX1_read_58 {w : rhW} (hw : rh_hs w) {L : rhL} {S1 : List rhA} {M M0 : rhM} {r : Int} {y1 : Int} (E : eC w YX17_hasFace 0 [(2, 41), (0, y1)] M r M0) (hw1 : rh_wd S1 ≤ 8) : eS w YX1_read 7 58 L ((0, y1) :: (2, 41) :: S1) M 61 L ((0, r) :: S1) M0 := by
  have hd : decode (ry_c YX1_read) 58 = .ok (.invokevirtual 712, 3) := (tdX1_read 58).resolve_right (by decide +kernel) ▸ (by decide +kernel : rh_dk dtX1_read 58 = .ok (.invokevirtual 712, 3))
  exact fun _ _ K => eA.cv (jX1_read_712 14 (by decide)) (rh_obl hw 41 (by decide +kernel)) (by decide) hd rfl hw1 rfl E K
theorem q2494 : (Jvm.Cond.methodLink "ReadingHouse" (782 : Nat) ({ cls := "ReadingHouse$Reader", name := "read", desc := "(LReadingHouse$Page;ILReadingHouse$Reading;)V" } : Jvm.MethodName)) ∈ lw_all := lw_g (lw_at lw_m10 81 rfl) rfl
theorem jX1_read_782 {w : rhW} : ∀ ci ∈ ([17] : List Nat), rh_cvr w YX1_read YX20_read 782 3 ci := rh_one (rh_cvr.of rfl (Or.inl q2494) kX20_read)
theorem vX1_read_84 {w : rhW} (hw : rh_hs w) {L : rhL} {S1 : List rhA} {M M0 : rhM} {r : Int} {y1 y2 y3 : Int} (E : eC w YX20_read 6 [(2, 81), (2, y1), (0, y2), (2, y3)] M r M0) (hw1 : rh_wd S1 ≤ 8) : eS w YX1_read 7 84 L ((2, y3) :: (0, y2) :: (2, y1) :: (2, 81) :: S1) M 87 L S1 M0 := by
  have hd : decode (ry_c YX1_read) 84 = .ok (.invokevirtual 782, 3) := (tdX1_read 84).resolve_right (by decide +kernel) ▸ (by decide +kernel : rh_dk dtX1_read 84 = .ok (.invokevirtual 782, 3))
  exact fun _ _ K => eA.cv (jX1_read_782 17 (by decide)) (rh_obl hw 81 (by decide +kernel)) (by decide) hd rfl hw1 rfl E K
theorem q2565 : (Jvm.Cond.methodLink "ReadingHouse" (794 : Nat) ({ cls := "ReadingHouse$Reading", name := "margin", desc := "(I)I" } : Jvm.MethodName)) ∈ lw_all := lw_g (lw_at lw_m10 152 rfl) rfl
theorem jX1_chosen_794 {w : rhW} : ∀ ci ∈ ([28] : List Nat), rh_cvr w YX1_chosen YX31_margin 794 1 ci := rh_one (rh_cvr.of rfl (Or.inl q2565) kX31_margin)
theorem vX1_chosen_97 {w : rhW} {L : rhL} {S1 : List rhA} {M M0 : rhM} {r y0 p : Int} {y1 : Int} (hb : rh_bl w 2 y0 p) (E : eC w YX31_margin 1 [(2, y0), (0, y1)] M r M0) (hw1 : rh_wd S1 ≤ 8) : eS w YX1_chosen 3 97 L ((0, y1) :: (2, y0) :: S1) M 100 L ((0, r) :: S1) M0 := by
  have hd : decode (ry_c YX1_chosen) 97 = .ok (.invokevirtual 794, 3) := (tdX1_chosen 97).resolve_right (by decide +kernel) ▸ (by decide +kernel : rh_dk dtX1_chosen 97 = .ok (.invokevirtual 794, 3))
  obtain ⟨ci, hci, hob⟩ := rh_obk (cis := [28]) (by decide +kernel) hb
  exact fun _ _ K => eA.cv (jX1_chosen_794 ci hci) hob (by decide) hd rfl hw1 rfl E K
theorem jX1_sign_744 {w : rhW} : ∀ ci ∈ ([16] : List Nat), rh_cvr w YX1_sign YX19_get 744 2 ci := rh_one (rh_cvr.of rfl (Or.inl q2423) kX19_get)
theorem vX1_sign_79 {w : rhW} {L : rhL} {S1 : List rhA} {M M0 : rhM} {r y0 p : Int} {y1 y2 : Int} (hb : rh_bl w 4 y0 p) (E : eC w YX19_get 0 [(2, y0), (0, y1), (0, y2)] M r M0) (hw1 : rh_wd S1 ≤ 8) : eS w YX1_sign 3 79 L ((0, y2) :: (0, y1) :: (2, y0) :: S1) M 82 L ((0, r) :: S1) M0 := by
  have hd : decode (ry_c YX1_sign) 79 = .ok (.invokevirtual 744, 3) := (tdX1_sign 79).resolve_right (by decide +kernel) ▸ (by decide +kernel : rh_dk dtX1_sign 79 = .ok (.invokevirtual 744, 3))
  obtain ⟨ci, hci, hob⟩ := rh_obk (cis := [16]) (by decide +kernel) hb
  exact fun _ _ K => eA.cv (jX1_sign_744 ci hci) hob (by decide) hd rfl hw1 rfl E K
theorem q2591 : (Jvm.Cond.methodLink "ReadingHouse" (863 : Nat) ({ cls := "ReadingHouse", name := "write", desc := "(LReadingHouse$Reading;Z)V" } : Jvm.MethodName)) ∈ lw_all := lw_g (lw_at lw_m10 178 rfl) rfl
theorem jX1_text_863 {w : rhW} : ∀ ci ∈ ([0] : List Nat), rh_cvr w YX1_text YX1_write 863 2 ci := rh_one (rh_cvr.of rfl (Or.inl q2591) kX1_write)
theorem vX1_text_41 {w : rhW} (hw : rh_hs w) {L : rhL} {S1 : List rhA} {M M0 : rhM} {r : Int} {y1 y2 : Int} (E : eC w YX1_write 7 [(2, 0), (2, y1), (0, y2)] M r M0) (hw1 : rh_wd S1 ≤ 8) : eS w YX1_text 8 41 L ((0, y2) :: (2, y1) :: (2, 0) :: S1) M 44 L S1 M0 := by
  have hd : decode (ry_c YX1_text) 41 = .ok (.invokevirtual 863, 3) := (tdX1_text 41).resolve_right (by decide +kernel) ▸ (by decide +kernel : rh_dk dtX1_text 41 = .ok (.invokevirtual 863, 3))
  exact fun _ _ K => eA.cv (jX1_text_863 0 (by decide)) (rh_obl hw 0 (by decide +kernel)) (by decide) hd rfl hw1 rfl E K
theorem jX1_text_746 {w : rhW} : ∀ ci ∈ ([3] : List Nat), rh_cvr w YX1_text YX4_end 746 0 ci := rh_one (rh_cvr.of rfl (Or.inl q2428) kX4_end)
theorem vX1_text_48 {w : rhW} (hw : rh_hs w) {L : rhL} {S1 : List rhA} {M M0 : rhM} {r : Int} (E : eC w YX4_end 1 [(2, 4)] M r M0) (hw1 : rh_wd S1 ≤ 8) : eS w YX1_text 8 48 L ((2, 4) :: S1) M 51 L ((0, r) :: S1) M0 := by
  have hd : decode (ry_c YX1_text) 48 = .ok (.invokevirtual 746, 3) := (tdX1_text 48).resolve_right (by decide +kernel) ▸ (by decide +kernel : rh_dk dtX1_text 48 = .ok (.invokevirtual 746, 3))
  exact fun _ _ K => eA.cv (jX1_text_746 3 (by decide)) (rh_obl hw 4 (by decide +kernel)) (by decide) hd rfl hw1 rfl E K
theorem jX1_findKnown_650 {w : rhW} : ∀ ci ∈ ([1] : List Nat), rh_cvr w YX1_findKnown YX2_must 650 2 ci := rh_one (rh_cvr.of rfl (Or.inl q2290) kX2_must)
theorem vX1_findKnown_77 {w : rhW} (hw : rh_hs w) {L : rhL} {S1 : List rhA} {M M0 : rhM} {r : Int} {y1 y2 : Int} (E : eC w YX2_must 1 [(2, 1), (0, y1), (0, y2)] M r M0) (hw1 : rh_wd S1 ≤ 8) : eS w YX1_findKnown 2 77 L ((0, y2) :: (0, y1) :: (2, 1) :: S1) M 80 L S1 M0 := by
  have hd : decode (ry_c YX1_findKnown) 77 = .ok (.invokevirtual 650, 3) := (tdX1_findKnown 77).resolve_right (by decide +kernel) ▸ (by decide +kernel : rh_dk dtX1_findKnown 77 = .ok (.invokevirtual 650, 3))
  exact fun _ _ K => eA.cv (jX1_findKnown_650 1 (by decide)) (rh_obl hw 1 (by decide +kernel)) (by decide) hd rfl hw1 rfl E K
theorem vX1_findKnown_131 {w : rhW} (hw : rh_hs w) {L : rhL} {S1 : List rhA} {M M0 : rhM} {r : Int} {y1 y2 : Int} (E : eC w YX2_must 1 [(2, 1), (0, y1), (0, y2)] M r M0) (hw1 : rh_wd S1 ≤ 8) : eS w YX1_findKnown 2 131 L ((0, y2) :: (0, y1) :: (2, 1) :: S1) M 134 L S1 M0 := by
  have hd : decode (ry_c YX1_findKnown) 131 = .ok (.invokevirtual 650, 3) := (tdX1_findKnown 131).resolve_right (by decide +kernel) ▸ (by decide +kernel : rh_dk dtX1_findKnown 131 = .ok (.invokevirtual 650, 3))
  exact fun _ _ K => eA.cv (jX1_findKnown_650 1 (by decide)) (rh_obl hw 1 (by decide +kernel)) (by decide) hd rfl hw1 rfl E K
theorem jX1_answer_754 {w : rhW} : ∀ ci ∈ ([0] : List Nat), rh_cvr w YX1_answer YX1_takeAsked 754 0 ci := rh_one (rh_cvr.of rfl (Or.inl q2437) kX1_takeAsked)
theorem vX1_answer_28 {w : rhW} (hw : rh_hs w) {L : rhL} {S1 : List rhA} {M M0 : rhM} {r : Int} (E : eC w YX1_takeAsked 2 [(2, 0)] M r M0) (hw1 : rh_wd S1 ≤ 8) : eS w YX1_answer 3 28 L ((2, 0) :: S1) M 31 L ((0, r) :: S1) M0 := by
  have hd : decode (ry_c YX1_answer) 28 = .ok (.invokevirtual 754, 3) := (tdX1_answer 28).resolve_right (by decide +kernel) ▸ (by decide +kernel : rh_dk dtX1_answer 28 = .ok (.invokevirtual 754, 3))
  exact fun _ _ K => eA.cv (jX1_answer_754 0 (by decide)) (rh_obl hw 0 (by decide +kernel)) (by decide) hd rfl hw1 rfl E K
theorem jX1_answer_744 {w : rhW} : ∀ ci ∈ ([16] : List Nat), rh_cvr w YX1_answer YX19_get 744 2 ci := rh_one (rh_cvr.of rfl (Or.inl q2423) kX19_get)
theorem vX1_answer_91 {w : rhW} {L : rhL} {S1 : List rhA} {M M0 : rhM} {r y0 p : Int} {y1 y2 : Int} (hb : rh_bl w 4 y0 p) (E : eC w YX19_get 0 [(2, y0), (0, y1), (0, y2)] M r M0) (hw1 : rh_wd S1 ≤ 8) : eS w YX1_answer 3 91 L ((0, y2) :: (0, y1) :: (2, y0) :: S1) M 94 L ((0, r) :: S1) M0 := by
  have hd : decode (ry_c YX1_answer) 91 = .ok (.invokevirtual 744, 3) := (tdX1_answer 91).resolve_right (by decide +kernel) ▸ (by decide +kernel : rh_dk dtX1_answer 91 = .ok (.invokevirtual 744, 3))
  obtain ⟨ci, hci, hob⟩ := rh_obk (cis := [16]) (by decide +kernel) hb
  exact fun _ _ K => eA.cv (jX1_answer_744 ci hci) hob (by decide) hd rfl hw1 rfl E K
theorem q2716 : (Jvm.Cond.methodLink "ReadingHouse" (898 : Nat) ({ cls := "ReadingHouse$Reading", name := "answer", desc := "(IILReadingHouse$Row;)I" } : Jvm.MethodName)) ∈ lw_all := lw_g (lw_at lw_m11 63 rfl) rfl
theorem jX1_answer_898 {w : rhW} : ∀ ci ∈ ([28] : List Nat), rh_cvr w YX1_answer YX31_answer 898 3 ci := rh_one (rh_cvr.of rfl (Or.inl q2716) kX31_answer)
theorem vX1_answer_163 {w : rhW} {L : rhL} {S1 : List rhA} {M M0 : rhM} {r y0 p : Int} {y1 y2 y3 : Int} (hb : rh_bl w 2 y0 p) (E : eC w YX31_answer 2 [(2, y0), (0, y1), (0, y2), (2, y3)] M r M0) (hw1 : rh_wd S1 ≤ 8) : eS w YX1_answer 3 163 L ((2, y3) :: (0, y2) :: (0, y1) :: (2, y0) :: S1) M 166 L ((0, r) :: S1) M0 := by
  have hd : decode (ry_c YX1_answer) 163 = .ok (.invokevirtual 898, 3) := (tdX1_answer 163).resolve_right (by decide +kernel) ▸ (by decide +kernel : rh_dk dtX1_answer 163 = .ok (.invokevirtual 898, 3))
  obtain ⟨ci, hci, hob⟩ := rh_obk (cis := [28]) (by decide +kernel) hb
  exact fun _ _ K => eA.cv (jX1_answer_898 ci hci) hob (by decide) hd rfl hw1 rfl E K
theorem q2726 : (Jvm.Cond.methodLink "ReadingHouse" (901 : Nat) ({ cls := "ReadingHouse$Reading", name := "question", desc := "(I)I" } : Jvm.MethodName)) ∈ lw_all := lw_g (lw_at lw_m11 73 rfl) rfl
theorem jX1_question_901 {w : rhW} : ∀ ci ∈ ([28] : List Nat), rh_cvr w YX1_question YX31_question 901 1 ci := rh_one (rh_cvr.of rfl (Or.inl q2726) kX31_question)
theorem vX1_question_32 {w : rhW} {L : rhL} {S1 : List rhA} {M M0 : rhM} {r y0 p : Int} {y1 : Int} (hb : rh_bl w 2 y0 p) (E : eC w YX31_question 2 [(2, y0), (0, y1)] M r M0) (hw1 : rh_wd S1 ≤ 8) : eS w YX1_question 3 32 L ((0, y1) :: (2, y0) :: S1) M 35 L ((0, r) :: S1) M0 := by
  have hd : decode (ry_c YX1_question) 32 = .ok (.invokevirtual 901, 3) := (tdX1_question 32).resolve_right (by decide +kernel) ▸ (by decide +kernel : rh_dk dtX1_question 32 = .ok (.invokevirtual 901, 3))
  obtain ⟨ci, hci, hob⟩ := rh_obk (cis := [28]) (by decide +kernel) hb
  exact fun _ _ K => eA.cv (jX1_question_901 ci hci) hob (by decide) hd rfl hw1 rfl E K
theorem jX1_lookOf_586 {w : rhW} : ∀ ci ∈ ([13] : List Nat), rh_cvr w YX1_lookOf YX16_prepare 586 2 ci := rh_one (rh_cvr.of rfl (Or.inl q2196) kX16_prepare)
theorem vX1_lookOf_11 {w : rhW} (hw : rh_hs w) {L : rhL} {S1 : List rhA} {M M0 : rhM} {r : Int} {y1 y2 : Int} (E : eC w YX16_prepare 2 [(2, 25), (2, y1), (0, y2)] M r M0) (hw1 : rh_wd S1 ≤ 8) : eS w YX1_lookOf 4 11 L ((0, y2) :: (2, y1) :: (2, 25) :: S1) M 14 L S1 M0 := by
  have hd : decode (ry_c YX1_lookOf) 11 = .ok (.invokevirtual 586, 3) := (tdX1_lookOf 11).resolve_right (by decide +kernel) ▸ (by decide +kernel : rh_dk dtX1_lookOf 11 = .ok (.invokevirtual 586, 3))
  exact fun _ _ K => eA.cv (jX1_lookOf_586 13 (by decide)) (rh_obl hw 25 (by decide +kernel)) (by decide) hd rfl hw1 rfl E K
theorem q2296 : (Jvm.Cond.methodLink "ReadingHouse" (669 : Nat) ({ cls := "ReadingHouse$Cuts", name := "hasColumns", desc := "(II)Z" } : Jvm.MethodName)) ∈ lw_all := lw_g (lw_at lw_m9 123 rfl) rfl
theorem jX1_lookOf_669 {w : rhW} : ∀ ci ∈ ([13] : List Nat), rh_cvr w YX1_lookOf YX16_hasColumns 669 2 ci := rh_one (rh_cvr.of rfl (Or.inl q2296) kX16_hasColumns)
theorem vX1_lookOf_30 {w : rhW} (hw : rh_hs w) {L : rhL} {S1 : List rhA} {M M0 : rhM} {r : Int} {y1 y2 : Int} (E : eC w YX16_hasColumns 1 [(2, 25), (0, y1), (0, y2)] M r M0) (hw1 : rh_wd S1 ≤ 8) : eS w YX1_lookOf 4 30 L ((0, y2) :: (0, y1) :: (2, 25) :: S1) M 33 L ((0, r) :: S1) M0 := by
  have hd : decode (ry_c YX1_lookOf) 30 = .ok (.invokevirtual 669, 3) := (tdX1_lookOf 30).resolve_right (by decide +kernel) ▸ (by decide +kernel : rh_dk dtX1_lookOf 30 = .ok (.invokevirtual 669, 3))
  exact fun _ _ K => eA.cv (jX1_lookOf_669 13 (by decide)) (rh_obl hw 25 (by decide +kernel)) (by decide) hd rfl hw1 rfl E K
theorem q2739 : (Jvm.Cond.methodLink "ReadingHouse" (904 : Nat) ({ cls := "ReadingHouse$Cuts", name := "measure", desc := "(II)V" } : Jvm.MethodName)) ∈ lw_all := lw_g (lw_at lw_m11 86 rfl) rfl
theorem jX1_lookOf_904 {w : rhW} : ∀ ci ∈ ([13] : List Nat), rh_cvr w YX1_lookOf YX16_measure 904 2 ci := rh_one (rh_cvr.of rfl (Or.inl q2739) kX16_measure)
theorem vX1_lookOf_42 {w : rhW} (hw : rh_hs w) {L : rhL} {S1 : List rhA} {M M0 : rhM} {r : Int} {y1 y2 : Int} (E : eC w YX16_measure 3 [(2, 25), (0, y1), (0, y2)] M r M0) (hw1 : rh_wd S1 ≤ 8) : eS w YX1_lookOf 4 42 L ((0, y2) :: (0, y1) :: (2, 25) :: S1) M 45 L S1 M0 := by
  have hd : decode (ry_c YX1_lookOf) 42 = .ok (.invokevirtual 904, 3) := (tdX1_lookOf 42).resolve_right (by decide +kernel) ▸ (by decide +kernel : rh_dk dtX1_lookOf 42 = .ok (.invokevirtual 904, 3))
  exact fun _ _ K => eA.cv (jX1_lookOf_904 13 (by decide)) (rh_obl hw 25 (by decide +kernel)) (by decide) hd rfl hw1 rfl E K
theorem jX1_look_583 {w : rhW} : ∀ ci ∈ ([0] : List Nat), rh_cvr w YX1_look YX1_laidWord 583 2 ci := rh_one (rh_cvr.of rfl (Or.inl q2192) kX1_laidWord)
theorem vX1_look_3 {w : rhW} (hw : rh_hs w) {L : rhL} {S1 : List rhA} {M M0 : rhM} {r : Int} {y1 y2 : Int} (E : eC w YX1_laidWord 4 [(2, 0), (0, y1), (0, y2)] M r M0) (hw1 : rh_wd S1 ≤ 8) : eS w YX1_look 5 3 L ((0, y2) :: (0, y1) :: (2, 0) :: S1) M 6 L ((0, r) :: S1) M0 := by
  have hd : decode (ry_c YX1_look) 3 = .ok (.invokevirtual 583, 3) := (tdX1_look 3).resolve_right (by decide +kernel) ▸ (by decide +kernel : rh_dk dtX1_look 3 = .ok (.invokevirtual 583, 3))
  exact fun _ _ K => eA.cv (jX1_look_583 0 (by decide)) (rh_obl hw 0 (by decide +kernel)) (by decide) hd rfl hw1 rfl E K
theorem q2735 : (Jvm.Cond.methodLink "ReadingHouse" (910 : Nat) ({ cls := "ReadingHouse", name := "lookOf", desc := "(LReadingHouse$Page;I)J" } : Jvm.MethodName)) ∈ lw_all := lw_g (lw_at lw_m11 82 rfl) rfl
theorem jX1_look_910 {w : rhW} : ∀ ci ∈ ([0] : List Nat), rh_cvr w YX1_look YX1_lookOf 910 2 ci := rh_one (rh_cvr.of rfl (Or.inl q2735) kX1_lookOf)
theorem vX1_look_17 {w : rhW} (hw : rh_hs w) {L : rhL} {S1 : List rhA} {M M0 : rhM} {r : Int} {y1 y2 : Int} (E : eC w YX1_lookOf 4 [(2, 0), (2, y1), (0, y2)] M r M0) (hw1 : rh_wd S1 ≤ 8) : eS w YX1_look 5 17 L ((0, y2) :: (2, y1) :: (2, 0) :: S1) M 20 L ((1, r) :: S1) M0 := by
  have hd : decode (ry_c YX1_look) 17 = .ok (.invokevirtual 910, 3) := (tdX1_look 17).resolve_right (by decide +kernel) ▸ (by decide +kernel : rh_dk dtX1_look 17 = .ok (.invokevirtual 910, 3))
  exact fun _ _ K => eA.cv (jX1_look_910 0 (by decide)) (rh_obl hw 0 (by decide +kernel)) (by decide) hd rfl hw1 rfl E K
theorem jX1_groups_910 {w : rhW} : ∀ ci ∈ ([0] : List Nat), rh_cvr w YX1_groups YX1_lookOf 910 2 ci := rh_one (rh_cvr.of rfl (Or.inl q2735) kX1_lookOf)
theorem vX1_groups_79 {w : rhW} (hw : rh_hs w) {L : rhL} {S1 : List rhA} {M M0 : rhM} {r : Int} {y1 y2 : Int} (E : eC w YX1_lookOf 4 [(2, 0), (2, y1), (0, y2)] M r M0) (hw1 : rh_wd S1 ≤ 8) : eS w YX1_groups 5 79 L ((0, y2) :: (2, y1) :: (2, 0) :: S1) M 82 L ((1, r) :: S1) M0 := by
  have hd : decode (ry_c YX1_groups) 79 = .ok (.invokevirtual 910, 3) := (tdX1_groups 79).resolve_right (by decide +kernel) ▸ (by decide +kernel : rh_dk dtX1_groups 79 = .ok (.invokevirtual 910, 3))
  exact fun _ _ K => eA.cv (jX1_groups_910 0 (by decide)) (rh_obl hw 0 (by decide +kernel)) (by decide) hd rfl hw1 rfl E K
abbrev cJ10_bitCount : ByteArray := prog_38_method_50_code
def yJ10_bitCount : MethodName := ⟨"java/lang/Long", "bitCount", "(J)I"⟩
abbrev YJ10_bitCount : rhY := (yJ10_bitCount, cJ10_bitCount, 2, (some .int))
def dtJ10_bitCount : rhDt := [[(0, .lload_n 0, 1), (1, .lload_n 0, 1), (2, .iconst 1, 1), (3, .lushr, 1), (4, .ldc2_w 314, 3), (7, .land, 1), (8, .lsub, 1), (9, .lstore_n 0, 1), (10, .lload_n 0, 1), (11, .ldc2_w 316, 3), (14, .land, 1), (15, .lload_n 0, 1), (16, .iconst 2, 1), (17, .lushr, 1), (18, .ldc2_w 316, 3), (21, .land, 1), (22, .ladd, 1), (23, .lstore_n 0, 1), (24, .lload_n 0, 1), (25, .lload_n 0, 1), (26, .iconst 4, 1), (27, .lushr, 1), (28, .ladd, 1), (29, .ldc2_w 318, 3), (32, .land, 1), (33, .lstore_n 0, 1), (34, .lload_n 0, 1), (35, .lload_n 0, 1), (36, .bipush 8, 2), (38, .lushr, 1), (39, .ladd, 1), (40, .lstore_n 0, 1), (41, .lload_n 0, 1), (42, .lload_n 0, 1), (43, .bipush 16, 2), (45, .lushr, 1), (46, .ladd, 1), (47, .lstore_n 0, 1), (48, .lload_n 0, 1), (49, .lload_n 0, 1), (50, .bipush 32, 2), (52, .lushr, 1), (53, .ladd, 1), (54, .lstore_n 0, 1), (55, .lload_n 0, 1), (56, .l2i, 1), (57, .bipush 127, 2), (59, .iand, 1), (60, .ireturn, 1)]]
theorem tdJ10_bitCount : rh_dok cJ10_bitCount dtJ10_bitCount := rh_dtc_ok (by decide +kernel)
theorem q297 : (Jvm.Cond.initialized "java/lang/Long") ∈ lw_all := lw_g (lw_at lw_m1 44 rfl) rfl
theorem q2750 : (Jvm.Cond.static ({ cls := "java/lang/Long", name := "bitCount", desc := "(J)I" } : Jvm.MethodName)) ∈ lw_all := lw_g (lw_at lw_m11 97 rfl) rfl
theorem q2751 : (Jvm.Cond.code ({ cls := "java/lang/Long", name := "bitCount", desc := "(J)I" } : Jvm.MethodName) prog_38_method_50_code (2 : Nat) (Option.some Jvm.ClassFile.FieldType.int)) ∈ lw_all := lw_g (lw_at lw_m11 98 rfl) rfl
theorem kJ10_bitCount : rh_kS YJ10_bitCount 1 := ⟨q2750, q297, q2751, by decide +kernel, by decide, rfl⟩
theorem q2749 : (Jvm.Cond.methodLink "ReadingHouse" (916 : Nat) ({ cls := "java/lang/Long", name := "bitCount", desc := "(J)I" } : Jvm.MethodName)) ∈ lw_all := lw_g (lw_at lw_m11 96 rfl) rfl
theorem jX1_groups_916 {w : rhW} : rh_csr w YX1_groups YJ10_bitCount 916 1 := rh_csr.of (Or.inl q2749) kJ10_bitCount
theorem vX1_groups_117 {w : rhW} {L : rhL} {S1 : List rhA} {M M0 : rhM} {r : Int} {y1 : Int} (E : eC w YJ10_bitCount 0 [(1, y1)] M r M0) (hw1 : rh_wd S1 ≤ 8) : eS w YX1_groups 5 117 L ((1, y1) :: S1) M 120 L ((0, r) :: S1) M0 := by
  have hd : decode (ry_c YX1_groups) 117 = .ok (.invokestatic 916, 3) := (tdX1_groups 117).resolve_right (by decide +kernel) ▸ (by decide +kernel : rh_dk dtX1_groups 117 = .ok (.invokestatic 916, 3))
  exact fun _ _ K => eA.cs (jX1_groups_916) (by decide) hd rfl hw1 rfl E K
theorem q2759 : (Jvm.Cond.methodLink "ReadingHouse" (922 : Nat) ({ cls := "ReadingHouse$Archive", name := "keep", desc := "(LReadingHouse$Reading;)I" } : Jvm.MethodName)) ∈ lw_all := lw_g (lw_at lw_m11 106 rfl) rfl
theorem jX1_keep_922 {w : rhW} : ∀ ci ∈ ([18] : List Nat), rh_cvr w YX1_keep YX21_keep 922 1 ci := rh_one (rh_cvr.of rfl (Or.inl q2759) kX21_keep)
theorem vX1_keep_40 {w : rhW} (hw : rh_hs w) {L : rhL} {S1 : List rhA} {M M0 : rhM} {r : Int} {y1 : Int} (E : eC w YX21_keep 3 [(2, 98), (2, y1)] M r M0) (hw1 : rh_wd S1 ≤ 8) : eS w YX1_keep 4 40 L ((2, y1) :: (2, 98) :: S1) M 43 L ((0, r) :: S1) M0 := by
  have hd : decode (ry_c YX1_keep) 40 = .ok (.invokevirtual 922, 3) := (tdX1_keep 40).resolve_right (by decide +kernel) ▸ (by decide +kernel : rh_dk dtX1_keep 40 = .ok (.invokevirtual 922, 3))
  exact fun _ _ K => eA.cv (jX1_keep_922 18 (by decide)) (rh_obl hw 98 (by decide +kernel)) (by decide) hd rfl hw1 rfl E K
theorem q2775 : (Jvm.Cond.methodLink "ReadingHouse" (926 : Nat) ({ cls := "ReadingHouse$Archive", name := "placeOf", desc := "(I)I" } : Jvm.MethodName)) ∈ lw_all := lw_g (lw_at lw_m11 122 rfl) rfl
theorem jX1_drop_926 {w : rhW} : ∀ ci ∈ ([18] : List Nat), rh_cvr w YX1_drop YX21_placeOf 926 1 ci := rh_one (rh_cvr.of rfl (Or.inl q2775) kX21_placeOf)
theorem vX1_drop_5 {w : rhW} (hw : rh_hs w) {L : rhL} {S1 : List rhA} {M M0 : rhM} {r : Int} {y1 : Int} (E : eC w YX21_placeOf 0 [(2, 98), (0, y1)] M r M0) (hw1 : rh_wd S1 ≤ 8) : eS w YX1_drop 1 5 L ((0, y1) :: (2, 98) :: S1) M 8 L ((0, r) :: S1) M0 := by
  have hd : decode (ry_c YX1_drop) 5 = .ok (.invokevirtual 926, 3) := (tdX1_drop 5).resolve_right (by decide +kernel) ▸ (by decide +kernel : rh_dk dtX1_drop 5 = .ok (.invokevirtual 926, 3))
  exact fun _ _ K => eA.cv (jX1_drop_926 18 (by decide)) (rh_obl hw 98 (by decide +kernel)) (by decide) hd rfl hw1 rfl E K
theorem q2779 : (Jvm.Cond.methodLink "ReadingHouse" (927 : Nat) ({ cls := "ReadingHouse$Archive", name := "drop", desc := "(I)V" } : Jvm.MethodName)) ∈ lw_all := lw_g (lw_at lw_m11 126 rfl) rfl
theorem jX1_drop_927 {w : rhW} : ∀ ci ∈ ([18] : List Nat), rh_cvr w YX1_drop YX21_drop 927 1 ci := rh_one (rh_cvr.of rfl (Or.inl q2779) kX21_drop)
theorem vX1_drop_22 {w : rhW} (hw : rh_hs w) {L : rhL} {S1 : List rhA} {M M0 : rhM} {r : Int} {y1 : Int} (E : eC w YX21_drop 0 [(2, 98), (0, y1)] M r M0) (hw1 : rh_wd S1 ≤ 8) : eS w YX1_drop 1 22 L ((0, y1) :: (2, 98) :: S1) M 25 L S1 M0 := by
  have hd : decode (ry_c YX1_drop) 22 = .ok (.invokevirtual 927, 3) := (tdX1_drop 22).resolve_right (by decide +kernel) ▸ (by decide +kernel : rh_dk dtX1_drop 22 = .ok (.invokevirtual 927, 3))
  exact fun _ _ K => eA.cv (jX1_drop_927 18 (by decide)) (rh_obl hw 98 (by decide +kernel)) (by decide) hd rfl hw1 rfl E K
theorem q2787 : (Jvm.Cond.methodLink "ReadingHouse" (930 : Nat) ({ cls := "ReadingHouse$Archive", name := "ask", desc := "(LReadingHouse$Tape;)Z" } : Jvm.MethodName)) ∈ lw_all := lw_g (lw_at lw_m11 134 rfl) rfl
theorem jX1_find_930 {w : rhW} : ∀ ci ∈ ([18] : List Nat), rh_cvr w YX1_find YX21_ask 930 1 ci := rh_one (rh_cvr.of rfl (Or.inl q2787) kX21_ask)
theorem vX1_find_23 {w : rhW} (hw : rh_hs w) {L : rhL} {S1 : List rhA} {M M0 : rhM} {r : Int} {y1 : Int} (E : eC w YX21_ask 2 [(2, 98), (2, y1)] M r M0) (hw1 : rh_wd S1 ≤ 8) : eS w YX1_find 6 23 L ((2, y1) :: (2, 98) :: S1) M 26 L ((0, r) :: S1) M0 := by
  have hd : decode (ry_c YX1_find) 23 = .ok (.invokevirtual 930, 3) := (tdX1_find 23).resolve_right (by decide +kernel) ▸ (by decide +kernel : rh_dk dtX1_find 23 = .ok (.invokevirtual 930, 3))
  exact fun _ _ K => eA.cv (jX1_find_930 18 (by decide)) (rh_obl hw 98 (by decide +kernel)) (by decide) hd rfl hw1 rfl E K
theorem q2794 : (Jvm.Cond.methodLink "ReadingHouse" (934 : Nat) ({ cls := "ReadingHouse$Archive", name := "find", desc := "(I)I" } : Jvm.MethodName)) ∈ lw_all := lw_g (lw_at lw_m11 141 rfl) rfl
theorem jX1_find_934 {w : rhW} : ∀ ci ∈ ([18] : List Nat), rh_cvr w YX1_find YX21_find 934 1 ci := rh_one (rh_cvr.of rfl (Or.inl q2794) kX21_find)
theorem vX1_find_44 {w : rhW} (hw : rh_hs w) {L : rhL} {S1 : List rhA} {M M0 : rhM} {r : Int} {y1 : Int} (E : eC w YX21_find 5 [(2, 98), (0, y1)] M r M0) (hw1 : rh_wd S1 ≤ 8) : eS w YX1_find 6 44 L ((0, y1) :: (2, 98) :: S1) M 47 L ((0, r) :: S1) M0 := by
  have hd : decode (ry_c YX1_find) 44 = .ok (.invokevirtual 934, 3) := (tdX1_find 44).resolve_right (by decide +kernel) ▸ (by decide +kernel : rh_dk dtX1_find 44 = .ok (.invokevirtual 934, 3))
  exact fun _ _ K => eA.cv (jX1_find_934 18 (by decide)) (rh_obl hw 98 (by decide +kernel)) (by decide) hd rfl hw1 rfl E K
theorem q2831 : (Jvm.Cond.methodLink "ReadingHouse" (950 : Nat) ({ cls := "ReadingHouse$Forms", name := "formOf", desc := "(II)I" } : Jvm.MethodName)) ∈ lw_all := lw_g (lw_at lw_m11 178 rfl) rfl
theorem jX1_print_950 {w : rhW} : ∀ ci ∈ ([14] : List Nat), rh_cvr w YX1_print YX17_formOf 950 2 ci := rh_one (rh_cvr.of rfl (Or.inl q2831) kX17_formOf)
theorem vX1_print_124 {w : rhW} (hw : rh_hs w) {L : rhL} {S1 : List rhA} {M M0 : rhM} {r : Int} {y1 y2 : Int} (E : eC w YX17_formOf 0 [(2, 41), (0, y1), (0, y2)] M r M0) (hw1 : rh_wd S1 ≤ 8) : eS w YX1_print 3 124 L ((0, y2) :: (0, y1) :: (2, 41) :: S1) M 127 L ((0, r) :: S1) M0 := by
  have hd : decode (ry_c YX1_print) 124 = .ok (.invokevirtual 950, 3) := (tdX1_print 124).resolve_right (by decide +kernel) ▸ (by decide +kernel : rh_dk dtX1_print 124 = .ok (.invokevirtual 950, 3))
  exact fun _ _ K => eA.cv (jX1_print_950 14 (by decide)) (rh_obl hw 41 (by decide +kernel)) (by decide) hd rfl hw1 rfl E K
theorem q2835 : (Jvm.Cond.methodLink "ReadingHouse" (953 : Nat) ({ cls := "ReadingHouse$Press", name := "print", desc := "(LReadingHouse$Tape;ILReadingHouse$Forms;II)I" } : Jvm.MethodName)) ∈ lw_all := lw_g (lw_at lw_m11 182 rfl) rfl
theorem jX1_print_953 {w : rhW} : ∀ ci ∈ ([20] : List Nat), rh_cvr w YX1_print YX23_print 953 5 ci := rh_one (rh_cvr.of rfl (Or.inl q2835) kX23_print)
theorem vX1_print_171 {w : rhW} (hw : rh_hs w) {L : rhL} {S1 : List rhA} {M M0 : rhM} {r : Int} {y1 y2 y3 y4 y5 : Int} (E : eC w YX23_print 2 [(2, 202), (2, y1), (0, y2), (2, y3), (0, y4), (0, y5)] M r M0) (hw1 : rh_wd S1 ≤ 8) : eS w YX1_print 3 171 L ((0, y5) :: (0, y4) :: (2, y3) :: (0, y2) :: (2, y1) :: (2, 202) :: S1) M 174 L ((0, r) :: S1) M0 := by
  have hd : decode (ry_c YX1_print) 171 = .ok (.invokevirtual 953, 3) := (tdX1_print 171).resolve_right (by decide +kernel) ▸ (by decide +kernel : rh_dk dtX1_print 171 = .ok (.invokevirtual 953, 3))
  exact fun _ _ K => eA.cv (jX1_print_953 20 (by decide)) (rh_obl hw 202 (by decide +kernel)) (by decide) hd rfl hw1 rfl E K
theorem q2856 : (Jvm.Cond.methodLink "ReadingHouse" (957 : Nat) ({ cls := "ReadingHouse$Press", name := "wear", desc := "(II)V" } : Jvm.MethodName)) ∈ lw_all := lw_g (lw_at lw_m11 203 rfl) rfl
theorem jX1_print_957 {w : rhW} : ∀ ci ∈ ([20] : List Nat), rh_cvr w YX1_print YX23_wear 957 2 ci := rh_one (rh_cvr.of rfl (Or.inl q2856) kX23_wear)
theorem vX1_print_191 {w : rhW} (hw : rh_hs w) {L : rhL} {S1 : List rhA} {M M0 : rhM} {r : Int} {y1 y2 : Int} (E : eC w YX23_wear 1 [(2, 202), (0, y1), (0, y2)] M r M0) (hw1 : rh_wd S1 ≤ 8) : eS w YX1_print 3 191 L ((0, y2) :: (0, y1) :: (2, 202) :: S1) M 194 L S1 M0 := by
  have hd : decode (ry_c YX1_print) 191 = .ok (.invokevirtual 957, 3) := (tdX1_print 191).resolve_right (by decide +kernel) ▸ (by decide +kernel : rh_dk dtX1_print 191 = .ok (.invokevirtual 957, 3))
  exact fun _ _ K => eA.cv (jX1_print_957 20 (by decide)) (rh_obl hw 202 (by decide +kernel)) (by decide) hd rfl hw1 rfl E K
theorem jX1_print_319 {w : rhW} : ∀ ci ∈ ([26] : List Nat), rh_cvr w YX1_print YX29_lay 319 1 ci := rh_one (rh_cvr.of rfl (Or.inl q1737) kX29_lay)
theorem vX1_print_204 {w : rhW} {L : rhL} {S1 : List rhA} {M M0 : rhM} {r y0 p : Int} {y1 : Int} (hb : rh_bl w 0 y0 p) (E : eC w YX29_lay 2 [(2, y0), (2, y1)] M r M0) (hw1 : rh_wd S1 ≤ 8) : eS w YX1_print 3 204 L ((2, y1) :: (2, y0) :: S1) M 207 L S1 M0 := by
  have hd : decode (ry_c YX1_print) 204 = .ok (.invokevirtual 319, 3) := (tdX1_print 204).resolve_right (by decide +kernel) ▸ (by decide +kernel : rh_dk dtX1_print 204 = .ok (.invokevirtual 319, 3))
  obtain ⟨ci, hci, hob⟩ := rh_obk (cis := [26]) (by decide +kernel) hb
  exact fun _ _ K => eA.cv (jX1_print_319 ci hci) hob (by decide) hd rfl hw1 rfl E K
theorem q2863 : (Jvm.Cond.methodLink "ReadingHouse" (960 : Nat) ({ cls := "ReadingHouse$Press", name := "tell", desc := "(LReadingHouse$Page;)V" } : Jvm.MethodName)) ∈ lw_all := lw_g (lw_at lw_m11 210 rfl) rfl
theorem jX1_print_960 {w : rhW} : ∀ ci ∈ ([20] : List Nat), rh_cvr w YX1_print YX23_tell 960 1 ci := rh_one (rh_cvr.of rfl (Or.inl q2863) kX23_tell)
theorem vX1_print_217 {w : rhW} (hw : rh_hs w) {L : rhL} {S1 : List rhA} {M M0 : rhM} {r : Int} {y1 : Int} (E : eC w YX23_tell 1 [(2, 202), (2, y1)] M r M0) (hw1 : rh_wd S1 ≤ 8) : eS w YX1_print 3 217 L ((2, y1) :: (2, 202) :: S1) M 220 L S1 M0 := by
  have hd : decode (ry_c YX1_print) 217 = .ok (.invokevirtual 960, 3) := (tdX1_print 217).resolve_right (by decide +kernel) ▸ (by decide +kernel : rh_dk dtX1_print 217 = .ok (.invokevirtual 960, 3))
  exact fun _ _ K => eA.cv (jX1_print_960 20 (by decide)) (rh_obl hw 202 (by decide +kernel)) (by decide) hd rfl hw1 rfl E K
theorem q2881 : (Jvm.Cond.methodLink "ReadingHouse" (976 : Nat) ({ cls := "ReadingHouse$Tape", name := "next", desc := "()I" } : Jvm.MethodName)) ∈ lw_all := lw_g (lw_at lw_m11 228 rfl) rfl
theorem jX1_findDigits_976 {w : rhW} : ∀ ci ∈ ([1] : List Nat), rh_cvr w YX1_findDigits YX2_next 976 0 ci := rh_one (rh_cvr.of rfl (Or.inl q2881) kX2_next)
theorem vX1_findDigits_30 {w : rhW} (hw : rh_hs w) {L : rhL} {S1 : List rhA} {M M0 : rhM} {r : Int} (E : eC w YX2_next 1 [(2, 1)] M r M0) (hw1 : rh_wd S1 ≤ 8) : eS w YX1_findDigits 2 30 L ((2, 1) :: S1) M 33 L ((0, r) :: S1) M0 := by
  have hd : decode (ry_c YX1_findDigits) 30 = .ok (.invokevirtual 976, 3) := (tdX1_findDigits 30).resolve_right (by decide +kernel) ▸ (by decide +kernel : rh_dk dtX1_findDigits 30 = .ok (.invokevirtual 976, 3))
  exact fun _ _ K => eA.cv (jX1_findDigits_976 1 (by decide)) (rh_obl hw 1 (by decide +kernel)) (by decide) hd rfl hw1 rfl E K
theorem jX1_findDigits_650 {w : rhW} : ∀ ci ∈ ([1] : List Nat), rh_cvr w YX1_findDigits YX2_must 650 2 ci := rh_one (rh_cvr.of rfl (Or.inl q2290) kX2_must)
theorem vX1_findDigits_64 {w : rhW} (hw : rh_hs w) {L : rhL} {S1 : List rhA} {M M0 : rhM} {r : Int} {y1 y2 : Int} (E : eC w YX2_must 1 [(2, 1), (0, y1), (0, y2)] M r M0) (hw1 : rh_wd S1 ≤ 8) : eS w YX1_findDigits 2 64 L ((0, y2) :: (0, y1) :: (2, 1) :: S1) M 67 L S1 M0 := by
  have hd : decode (ry_c YX1_findDigits) 64 = .ok (.invokevirtual 650, 3) := (tdX1_findDigits 64).resolve_right (by decide +kernel) ▸ (by decide +kernel : rh_dk dtX1_findDigits 64 = .ok (.invokevirtual 650, 3))
  exact fun _ _ K => eA.cv (jX1_findDigits_650 1 (by decide)) (rh_obl hw 1 (by decide +kernel)) (by decide) hd rfl hw1 rfl E K
theorem vX1_findDigits_100 {w : rhW} (hw : rh_hs w) {L : rhL} {S1 : List rhA} {M M0 : rhM} {r : Int} {y1 y2 : Int} (E : eC w YX2_must 1 [(2, 1), (0, y1), (0, y2)] M r M0) (hw1 : rh_wd S1 ≤ 8) : eS w YX1_findDigits 2 100 L ((0, y2) :: (0, y1) :: (2, 1) :: S1) M 103 L S1 M0 := by
  have hd : decode (ry_c YX1_findDigits) 100 = .ok (.invokevirtual 650, 3) := (tdX1_findDigits 100).resolve_right (by decide +kernel) ▸ (by decide +kernel : rh_dk dtX1_findDigits 100 = .ok (.invokevirtual 650, 3))
  exact fun _ _ K => eA.cv (jX1_findDigits_650 1 (by decide)) (rh_obl hw 1 (by decide +kernel)) (by decide) hd rfl hw1 rfl E K
theorem q2884 : (Jvm.Cond.methodLink "ReadingHouse" (983 : Nat) ({ cls := "ReadingHouse$Bars", name := "isChecked", desc := "([II)Z" } : Jvm.MethodName)) ∈ lw_all := lw_g (lw_at lw_m11 231 rfl) rfl
theorem jX1_findDigits_983 {w : rhW} : rh_csr w YX1_findDigits YX25_isChecked 983 2 := rh_csr.of (Or.inl q2884) kX25_isChecked
theorem vX1_findDigits_112 {w : rhW} {L : rhL} {S1 : List rhA} {M M0 : rhM} {r : Int} {y1 y2 : Int} (E : eC w YX25_isChecked 0 [(2, y1), (0, y2)] M r M0) (hw1 : rh_wd S1 ≤ 8) : eS w YX1_findDigits 2 112 L ((0, y2) :: (2, y1) :: S1) M 115 L ((0, r) :: S1) M0 := by
  have hd : decode (ry_c YX1_findDigits) 112 = .ok (.invokestatic 983, 3) := (tdX1_findDigits 112).resolve_right (by decide +kernel) ▸ (by decide +kernel : rh_dk dtX1_findDigits 112 = .ok (.invokestatic 983, 3))
  exact fun _ _ K => eA.cs (jX1_findDigits_983) (by decide) hd rfl hw1 rfl E K
theorem vX1_findDigits_118 {w : rhW} (hw : rh_hs w) {L : rhL} {S1 : List rhA} {M M0 : rhM} {r : Int} {y1 y2 : Int} (E : eC w YX2_must 1 [(2, 1), (0, y1), (0, y2)] M r M0) (hw1 : rh_wd S1 ≤ 8) : eS w YX1_findDigits 2 118 L ((0, y2) :: (0, y1) :: (2, 1) :: S1) M 121 L S1 M0 := by
  have hd : decode (ry_c YX1_findDigits) 118 = .ok (.invokevirtual 650, 3) := (tdX1_findDigits 118).resolve_right (by decide +kernel) ▸ (by decide +kernel : rh_dk dtX1_findDigits 118 = .ok (.invokevirtual 650, 3))
  exact fun _ _ K => eA.cv (jX1_findDigits_650 1 (by decide)) (rh_obl hw 1 (by decide +kernel)) (by decide) hd rfl hw1 rfl E K
theorem q2896 : (Jvm.Cond.methodLink "ReadingHouse" (993 : Nat) ({ cls := "ReadingHouse$Bars", name := "find", desc := "(LReadingHouse$Page;I)I" } : Jvm.MethodName)) ∈ lw_all := lw_g (lw_at lw_m12 3 rfl) rfl
theorem jX1_barsAt_993 {w : rhW} : ∀ ci ∈ ([22] : List Nat), rh_cvr w YX1_barsAt YX25_find 993 2 ci := rh_one (rh_cvr.of rfl (Or.inl q2896) kX25_find)
theorem vX1_barsAt_46 {w : rhW} (hw : rh_hs w) {L : rhL} {S1 : List rhA} {M M0 : rhM} {r : Int} {y1 y2 : Int} (E : eC w YX25_find 3 [(2, 210), (2, y1), (0, y2)] M r M0) (hw1 : rh_wd S1 ≤ 8) : eS w YX1_barsAt 4 46 L ((0, y2) :: (2, y1) :: (2, 210) :: S1) M 49 L ((0, r) :: S1) M0 := by
  have hd : decode (ry_c YX1_barsAt) 46 = .ok (.invokevirtual 993, 3) := (tdX1_barsAt 46).resolve_right (by decide +kernel) ▸ (by decide +kernel : rh_dk dtX1_barsAt 46 = .ok (.invokevirtual 993, 3))
  exact fun _ _ K => eA.cv (jX1_barsAt_993 22 (by decide)) (rh_obl hw 210 (by decide +kernel)) (by decide) hd rfl hw1 rfl E K
theorem jX1_barsAt_746 {w : rhW} : ∀ ci ∈ ([3] : List Nat), rh_cvr w YX1_barsAt YX4_end 746 0 ci := rh_one (rh_cvr.of rfl (Or.inl q2428) kX4_end)
theorem vX1_barsAt_101 {w : rhW} (hw : rh_hs w) {L : rhL} {S1 : List rhA} {M M0 : rhM} {r : Int} (E : eC w YX4_end 1 [(2, 4)] M r M0) (hw1 : rh_wd S1 ≤ 8) : eS w YX1_barsAt 4 101 L ((2, 4) :: S1) M 104 L ((0, r) :: S1) M0 := by
  have hd : decode (ry_c YX1_barsAt) 101 = .ok (.invokevirtual 746, 3) := (tdX1_barsAt 101).resolve_right (by decide +kernel) ▸ (by decide +kernel : rh_dk dtX1_barsAt 101 = .ok (.invokevirtual 746, 3))
  exact fun _ _ K => eA.cv (jX1_barsAt_746 3 (by decide)) (rh_obl hw 4 (by decide +kernel)) (by decide) hd rfl hw1 rfl E K
theorem q2924 : (Jvm.Cond.methodLink "ReadingHouse" (998 : Nat) ({ cls := "ReadingHouse$Ruled", name := "find", desc := "(LReadingHouse$Page;I)I" } : Jvm.MethodName)) ∈ lw_all := lw_g (lw_at lw_m12 31 rfl) rfl
theorem jX1_ruled_998 {w : rhW} : ∀ ci ∈ ([21] : List Nat), rh_cvr w YX1_ruled YX24_find 998 2 ci := rh_one (rh_cvr.of rfl (Or.inl q2924) kX24_find)
theorem vX1_ruled_38 {w : rhW} (hw : rh_hs w) {L : rhL} {S1 : List rhA} {M M0 : rhM} {r : Int} {y1 y2 : Int} (E : eC w YX24_find 5 [(2, 205), (2, y1), (0, y2)] M r M0) (hw1 : rh_wd S1 ≤ 8) : eS w YX1_ruled 6 38 L ((0, y2) :: (2, y1) :: (2, 205) :: S1) M 41 L ((0, r) :: S1) M0 := by
  have hd : decode (ry_c YX1_ruled) 38 = .ok (.invokevirtual 998, 3) := (tdX1_ruled 38).resolve_right (by decide +kernel) ▸ (by decide +kernel : rh_dk dtX1_ruled 38 = .ok (.invokevirtual 998, 3))
  exact fun _ _ K => eA.cv (jX1_ruled_998 21 (by decide)) (rh_obl hw 205 (by decide +kernel)) (by decide) hd rfl hw1 rfl E K
theorem q2965 : (Jvm.Cond.methodLink "ReadingHouse" (999 : Nat) ({ cls := "ReadingHouse$Ruled", name := "tell", desc := "(III)I" } : Jvm.MethodName)) ∈ lw_all := lw_g (lw_at lw_m12 72 rfl) rfl
theorem jX1_table_999 {w : rhW} : ∀ ci ∈ ([21] : List Nat), rh_cvr w YX1_table YX24_tell 999 3 ci := rh_one (rh_cvr.of rfl (Or.inl q2965) kX24_tell)
theorem vX1_table_19 {w : rhW} (hw : rh_hs w) {L : rhL} {S1 : List rhA} {M M0 : rhM} {r : Int} {y1 y2 y3 : Int} (E : eC w YX24_tell 2 [(2, 205), (0, y1), (0, y2), (0, y3)] M r M0) (hw1 : rh_wd S1 ≤ 8) : eS w YX1_table 3 19 L ((0, y3) :: (0, y2) :: (0, y1) :: (2, 205) :: S1) M 22 L ((0, r) :: S1) M0 := by
  have hd : decode (ry_c YX1_table) 19 = .ok (.invokevirtual 999, 3) := (tdX1_table 19).resolve_right (by decide +kernel) ▸ (by decide +kernel : rh_dk dtX1_table 19 = .ok (.invokevirtual 999, 3))
  exact fun _ _ K => eA.cv (jX1_table_999 21 (by decide)) (rh_obl hw 205 (by decide +kernel)) (by decide) hd rfl hw1 rfl E K
theorem jX1_ink_335 {w : rhW} : ∀ ci ∈ ([26] : List Nat), rh_cvr w YX1_ink YX5_hasBox 335 4 ci := rh_one (rh_cvr.ofU rfl q1774 uX5_hasBox_X29_X29)
theorem vX1_ink_32 {w : rhW} {L : rhL} {S1 : List rhA} {M M0 : rhM} {r y0 p : Int} {y1 y2 y3 y4 : Int} (hb : rh_bl w 0 y0 p) (E : eC w YX5_hasBox 1 [(2, y0), (0, y1), (0, y2), (0, y3), (0, y4)] M r M0) (hw1 : rh_wd S1 ≤ 8) : eS w YX1_ink 3 32 L ((0, y4) :: (0, y3) :: (0, y2) :: (0, y1) :: (2, y0) :: S1) M 35 L ((0, r) :: S1) M0 := by
  have hd : decode (ry_c YX1_ink) 32 = .ok (.invokevirtual 335, 3) := (tdX1_ink 32).resolve_right (by decide +kernel) ▸ (by decide +kernel : rh_dk dtX1_ink 32 = .ok (.invokevirtual 335, 3))
  obtain ⟨ci, hci, hob⟩ := rh_obk (cis := [26]) (by decide +kernel) hb
  exact fun _ _ K => eA.cv (jX1_ink_335 ci hci) hob (by decide) hd rfl hw1 rfl E K
theorem q2974 : (Jvm.Cond.methodLink "ReadingHouse" (1001 : Nat) ({ cls := "ReadingHouse", name := "isBeside", desc := "(LReadingHouse$Sheet;II)Z" } : Jvm.MethodName)) ∈ lw_all := lw_g (lw_at lw_m12 81 rfl) rfl
theorem jX1_ink_1001 {w : rhW} : rh_csr w YX1_ink YX1_isBeside 1001 3 := rh_csr.of (Or.inl q2974) kX1_isBeside
theorem vX1_ink_119 {w : rhW} {L : rhL} {S1 : List rhA} {M M0 : rhM} {r : Int} {y1 y2 y3 : Int} (E : eC w YX1_isBeside 2 [(2, y1), (0, y2), (0, y3)] M r M0) (hw1 : rh_wd S1 ≤ 8) : eS w YX1_ink 3 119 L ((0, y3) :: (0, y2) :: (2, y1) :: S1) M 122 L ((0, r) :: S1) M0 := by
  have hd : decode (ry_c YX1_ink) 119 = .ok (.invokestatic 1001, 3) := (tdX1_ink 119).resolve_right (by decide +kernel) ▸ (by decide +kernel : rh_dk dtX1_ink 119 = .ok (.invokestatic 1001, 3))
  exact fun _ _ K => eA.cs (jX1_ink_1001) (by decide) hd rfl hw1 rfl E K
theorem jX1_findSigns_976 {w : rhW} : ∀ ci ∈ ([1] : List Nat), rh_cvr w YX1_findSigns YX2_next 976 0 ci := rh_one (rh_cvr.of rfl (Or.inl q2881) kX2_next)
theorem vX1_findSigns_56 {w : rhW} (hw : rh_hs w) {L : rhL} {S1 : List rhA} {M M0 : rhM} {r : Int} (E : eC w YX2_next 1 [(2, 1)] M r M0) (hw1 : rh_wd S1 ≤ 8) : eS w YX1_findSigns 2 56 L ((2, 1) :: S1) M 59 L ((0, r) :: S1) M0 := by
  have hd : decode (ry_c YX1_findSigns) 56 = .ok (.invokevirtual 976, 3) := (tdX1_findSigns 56).resolve_right (by decide +kernel) ▸ (by decide +kernel : rh_dk dtX1_findSigns 56 = .ok (.invokevirtual 976, 3))
  exact fun _ _ K => eA.cv (jX1_findSigns_976 1 (by decide)) (rh_obl hw 1 (by decide +kernel)) (by decide) hd rfl hw1 rfl E K
theorem jX1_findSigns_650 {w : rhW} : ∀ ci ∈ ([1] : List Nat), rh_cvr w YX1_findSigns YX2_must 650 2 ci := rh_one (rh_cvr.of rfl (Or.inl q2290) kX2_must)
theorem vX1_findSigns_78 {w : rhW} (hw : rh_hs w) {L : rhL} {S1 : List rhA} {M M0 : rhM} {r : Int} {y1 y2 : Int} (E : eC w YX2_must 1 [(2, 1), (0, y1), (0, y2)] M r M0) (hw1 : rh_wd S1 ≤ 8) : eS w YX1_findSigns 2 78 L ((0, y2) :: (0, y1) :: (2, 1) :: S1) M 81 L S1 M0 := by
  have hd : decode (ry_c YX1_findSigns) 78 = .ok (.invokevirtual 650, 3) := (tdX1_findSigns 78).resolve_right (by decide +kernel) ▸ (by decide +kernel : rh_dk dtX1_findSigns 78 = .ok (.invokevirtual 650, 3))
  exact fun _ _ K => eA.cv (jX1_findSigns_650 1 (by decide)) (rh_obl hw 1 (by decide +kernel)) (by decide) hd rfl hw1 rfl E K
theorem jX1_writeSigns_746 {w : rhW} : ∀ ci ∈ ([3] : List Nat), rh_cvr w YX1_writeSigns YX4_end 746 0 ci := rh_one (rh_cvr.of rfl (Or.inl q2428) kX4_end)
theorem vX1_writeSigns_46 {w : rhW} (hw : rh_hs w) {L : rhL} {S1 : List rhA} {M M0 : rhM} {r : Int} (E : eC w YX4_end 1 [(2, 4)] M r M0) (hw1 : rh_wd S1 ≤ 8) : eS w YX1_writeSigns 2 46 L ((2, 4) :: S1) M 49 L ((0, r) :: S1) M0 := by
  have hd : decode (ry_c YX1_writeSigns) 46 = .ok (.invokevirtual 746, 3) := (tdX1_writeSigns 46).resolve_right (by decide +kernel) ▸ (by decide +kernel : rh_dk dtX1_writeSigns 46 = .ok (.invokevirtual 746, 3))
  exact fun _ _ K => eA.cv (jX1_writeSigns_746 3 (by decide)) (rh_obl hw 4 (by decide +kernel)) (by decide) hd rfl hw1 rfl E K
theorem q3122 : (Jvm.Cond.methodLink "ReadingHouse" (1020 : Nat) ({ cls := "ReadingHouse$FieldRules", name := "apply", desc := "(LReadingHouse$Reading;)I" } : Jvm.MethodName)) ∈ lw_all := lw_g (lw_at lw_m12 229 rfl) rfl
theorem jX1_apply_1020 {w : rhW} : ∀ ci ∈ ([24] : List Nat), rh_cvr w YX1_apply YX27_apply 1020 1 ci := rh_one (rh_cvr.of rfl (Or.inl q3122) kX27_apply)
theorem vX1_apply_38 {w : rhW} (hw : rh_hs w) {L : rhL} {S1 : List rhA} {M M0 : rhM} {r : Int} {y1 : Int} (E : eC w YX27_apply 4 [(2, 221), (2, y1)] M r M0) (hw1 : rh_wd S1 ≤ 8) : eS w YX1_apply 5 38 L ((2, y1) :: (2, 221) :: S1) M 41 L ((0, r) :: S1) M0 := by
  have hd : decode (ry_c YX1_apply) 38 = .ok (.invokevirtual 1020, 3) := (tdX1_apply 38).resolve_right (by decide +kernel) ▸ (by decide +kernel : rh_dk dtX1_apply 38 = .ok (.invokevirtual 1020, 3))
  exact fun _ _ K => eA.cv (jX1_apply_1020 24 (by decide)) (rh_obl hw 221 (by decide +kernel)) (by decide) hd rfl hw1 rfl E K
theorem q3159 : (Jvm.Cond.methodLink "ReadingHouse" (1035 : Nat) ({ cls := "ReadingHouse", name := "savePage", desc := "(LReadingHouse$Page;)I" } : Jvm.MethodName)) ∈ lw_all := lw_g (lw_at lw_m13 26 rfl) rfl
theorem jX1_save_1035 {w : rhW} : ∀ ci ∈ ([0] : List Nat), rh_cvr w YX1_save YX1_savePage 1035 1 ci := rh_one (rh_cvr.of rfl (Or.inl q3159) kX1_savePage)
theorem vX1_save_67 {w : rhW} (hw : rh_hs w) {L : rhL} {S1 : List rhA} {M M0 : rhM} {r : Int} {y1 : Int} (E : eC w YX1_savePage 3 [(2, 0), (2, y1)] M r M0) (hw1 : rh_wd S1 ≤ 8) : eS w YX1_save 9 67 L ((2, y1) :: (2, 0) :: S1) M 70 L ((0, r) :: S1) M0 := by
  have hd : decode (ry_c YX1_save) 67 = .ok (.invokevirtual 1035, 3) := (tdX1_save 67).resolve_right (by decide +kernel) ▸ (by decide +kernel : rh_dk dtX1_save 67 = .ok (.invokevirtual 1035, 3))
  exact fun _ _ K => eA.cv (jX1_save_1035 0 (by decide)) (rh_obl hw 0 (by decide +kernel)) (by decide) hd rfl hw1 rfl E K
theorem q3190 : (Jvm.Cond.methodLink "ReadingHouse" (1039 : Nat) ({ cls := "ReadingHouse", name := "saveReading", desc := "(LReadingHouse$Reading;)I" } : Jvm.MethodName)) ∈ lw_all := lw_g (lw_at lw_m13 57 rfl) rfl
theorem jX1_save_1039 {w : rhW} : ∀ ci ∈ ([0] : List Nat), rh_cvr w YX1_save YX1_saveReading 1039 1 ci := rh_one (rh_cvr.of rfl (Or.inl q3190) kX1_saveReading)
theorem vX1_save_85 {w : rhW} (hw : rh_hs w) {L : rhL} {S1 : List rhA} {M M0 : rhM} {r : Int} {y1 : Int} (E : eC w YX1_saveReading 8 [(2, 0), (2, y1)] M r M0) (hw1 : rh_wd S1 ≤ 8) : eS w YX1_save 9 85 L ((2, y1) :: (2, 0) :: S1) M 88 L ((0, r) :: S1) M0 := by
  have hd : decode (ry_c YX1_save) 85 = .ok (.invokevirtual 1039, 3) := (tdX1_save 85).resolve_right (by decide +kernel) ▸ (by decide +kernel : rh_dk dtX1_save 85 = .ok (.invokevirtual 1039, 3))
  exact fun _ _ K => eA.cv (jX1_save_1039 0 (by decide)) (rh_obl hw 0 (by decide +kernel)) (by decide) hd rfl hw1 rfl E K
theorem q3194 : (Jvm.Cond.methodLink "ReadingHouse" (1042 : Nat) ({ cls := "ReadingHouse", name := "saveFace", desc := "(I)I" } : Jvm.MethodName)) ∈ lw_all := lw_g (lw_at lw_m13 61 rfl) rfl
theorem jX1_save_1042 {w : rhW} : ∀ ci ∈ ([0] : List Nat), rh_cvr w YX1_save YX1_saveFace 1042 1 ci := rh_one (rh_cvr.of rfl (Or.inl q3194) kX1_saveFace)
theorem vX1_save_93 {w : rhW} (hw : rh_hs w) {L : rhL} {S1 : List rhA} {M M0 : rhM} {r : Int} {y1 : Int} (E : eC w YX1_saveFace 3 [(2, 0), (0, y1)] M r M0) (hw1 : rh_wd S1 ≤ 8) : eS w YX1_save 9 93 L ((0, y1) :: (2, 0) :: S1) M 96 L ((0, r) :: S1) M0 := by
  have hd : decode (ry_c YX1_save) 93 = .ok (.invokevirtual 1042, 3) := (tdX1_save 93).resolve_right (by decide +kernel) ▸ (by decide +kernel : rh_dk dtX1_save 93 = .ok (.invokevirtual 1042, 3))
  exact fun _ _ K => eA.cv (jX1_save_1042 0 (by decide)) (rh_obl hw 0 (by decide +kernel)) (by decide) hd rfl hw1 rfl E K
theorem q3168 : (Jvm.Cond.methodLink "ReadingHouse" (1048 : Nat) ({ cls := "ReadingHouse$Store", name := "begin", desc := "(II)V" } : Jvm.MethodName)) ∈ lw_all := lw_g (lw_at lw_m13 35 rfl) rfl
theorem jX1_savePage_1048 {w : rhW} : ∀ ci ∈ ([25] : List Nat), rh_cvr w YX1_savePage YX28_begin 1048 2 ci := rh_one (rh_cvr.of rfl (Or.inl q3168) kX28_begin)
theorem vX1_savePage_27 {w : rhW} (hw : rh_hs w) {L : rhL} {S1 : List rhA} {M M0 : rhM} {r : Int} {y1 y2 : Int} (E : eC w YX28_begin 1 [(2, 233), (0, y1), (0, y2)] M r M0) (hw1 : rh_wd S1 ≤ 8) : eS w YX1_savePage 3 27 L ((0, y2) :: (0, y1) :: (2, 233) :: S1) M 30 L S1 M0 := by
  have hd : decode (ry_c YX1_savePage) 27 = .ok (.invokevirtual 1048, 3) := (tdX1_savePage 27).resolve_right (by decide +kernel) ▸ (by decide +kernel : rh_dk dtX1_savePage 27 = .ok (.invokevirtual 1048, 3))
  exact fun _ _ K => eA.cv (jX1_savePage_1048 25 (by decide)) (rh_obl hw 233 (by decide +kernel)) (by decide) hd rfl hw1 rfl E K
theorem q3172 : (Jvm.Cond.methodLink "ReadingHouse" (1049 : Nat) ({ cls := "ReadingHouse$Store", name := "add", desc := "(I)V" } : Jvm.MethodName)) ∈ lw_all := lw_g (lw_at lw_m13 39 rfl) rfl
theorem jX1_savePage_1049 {w : rhW} : ∀ ci ∈ ([25] : List Nat), rh_cvr w YX1_savePage YX28_add 1049 1 ci := rh_one (rh_cvr.of rfl (Or.inl q3172) kX28_add)
theorem vX1_savePage_38 {w : rhW} (hw : rh_hs w) {L : rhL} {S1 : List rhA} {M M0 : rhM} {r : Int} {y1 : Int} (E : eC w YX28_add 0 [(2, 233), (0, y1)] M r M0) (hw1 : rh_wd S1 ≤ 8) : eS w YX1_savePage 3 38 L ((0, y1) :: (2, 233) :: S1) M 41 L S1 M0 := by
  have hd : decode (ry_c YX1_savePage) 38 = .ok (.invokevirtual 1049, 3) := (tdX1_savePage 38).resolve_right (by decide +kernel) ▸ (by decide +kernel : rh_dk dtX1_savePage 38 = .ok (.invokevirtual 1049, 3))
  exact fun _ _ K => eA.cv (jX1_savePage_1049 25 (by decide)) (rh_obl hw 233 (by decide +kernel)) (by decide) hd rfl hw1 rfl E K
theorem vX1_savePage_49 {w : rhW} (hw : rh_hs w) {L : rhL} {S1 : List rhA} {M M0 : rhM} {r : Int} {y1 : Int} (E : eC w YX28_add 0 [(2, 233), (0, y1)] M r M0) (hw1 : rh_wd S1 ≤ 8) : eS w YX1_savePage 3 49 L ((0, y1) :: (2, 233) :: S1) M 52 L S1 M0 := by
  have hd : decode (ry_c YX1_savePage) 49 = .ok (.invokevirtual 1049, 3) := (tdX1_savePage 49).resolve_right (by decide +kernel) ▸ (by decide +kernel : rh_dk dtX1_savePage 49 = .ok (.invokevirtual 1049, 3))
  exact fun _ _ K => eA.cv (jX1_savePage_1049 25 (by decide)) (rh_obl hw 233 (by decide +kernel)) (by decide) hd rfl hw1 rfl E K
theorem vX1_savePage_72 {w : rhW} (hw : rh_hs w) {L : rhL} {S1 : List rhA} {M M0 : rhM} {r : Int} {y1 : Int} (E : eC w YX28_add 0 [(2, 233), (0, y1)] M r M0) (hw1 : rh_wd S1 ≤ 8) : eS w YX1_savePage 3 72 L ((0, y1) :: (2, 233) :: S1) M 75 L S1 M0 := by
  have hd : decode (ry_c YX1_savePage) 72 = .ok (.invokevirtual 1049, 3) := (tdX1_savePage 72).resolve_right (by decide +kernel) ▸ (by decide +kernel : rh_dk dtX1_savePage 72 = .ok (.invokevirtual 1049, 3))
  exact fun _ _ K => eA.cv (jX1_savePage_1049 25 (by decide)) (rh_obl hw 233 (by decide +kernel)) (by decide) hd rfl hw1 rfl E K
theorem q3176 : (Jvm.Cond.methodLink "ReadingHouse" (1051 : Nat) ({ cls := "ReadingHouse$Store", name := "end", desc := "()I" } : Jvm.MethodName)) ∈ lw_all := lw_g (lw_at lw_m13 43 rfl) rfl
theorem jX1_savePage_1051 {w : rhW} : ∀ ci ∈ ([25] : List Nat), rh_cvr w YX1_savePage YX28_end 1051 0 ci := rh_one (rh_cvr.of rfl (Or.inl q3176) kX28_end)
theorem vX1_savePage_85 {w : rhW} (hw : rh_hs w) {L : rhL} {S1 : List rhA} {M M0 : rhM} {r : Int} (E : eC w YX28_end 2 [(2, 233)] M r M0) (hw1 : rh_wd S1 ≤ 8) : eS w YX1_savePage 3 85 L ((2, 233) :: S1) M 88 L ((0, r) :: S1) M0 := by
  have hd : decode (ry_c YX1_savePage) 85 = .ok (.invokevirtual 1051, 3) := (tdX1_savePage 85).resolve_right (by decide +kernel) ▸ (by decide +kernel : rh_dk dtX1_savePage 85 = .ok (.invokevirtual 1051, 3))
  exact fun _ _ K => eA.cv (jX1_savePage_1051 25 (by decide)) (rh_obl hw 233 (by decide +kernel)) (by decide) hd rfl hw1 rfl E K
theorem jX1_saveReading_863 {w : rhW} : ∀ ci ∈ ([0] : List Nat), rh_cvr w YX1_saveReading YX1_write 863 2 ci := rh_one (rh_cvr.of rfl (Or.inl q2591) kX1_write)
theorem vX1_saveReading_3 {w : rhW} (hw : rh_hs w) {L : rhL} {S1 : List rhA} {M M0 : rhM} {r : Int} {y1 y2 : Int} (E : eC w YX1_write 7 [(2, 0), (2, y1), (0, y2)] M r M0) (hw1 : rh_wd S1 ≤ 8) : eS w YX1_saveReading 8 3 L ((0, y2) :: (2, y1) :: (2, 0) :: S1) M 6 L S1 M0 := by
  have hd : decode (ry_c YX1_saveReading) 3 = .ok (.invokevirtual 863, 3) := (tdX1_saveReading 3).resolve_right (by decide +kernel) ▸ (by decide +kernel : rh_dk dtX1_saveReading 3 = .ok (.invokevirtual 863, 3))
  exact fun _ _ K => eA.cv (jX1_saveReading_863 0 (by decide)) (rh_obl hw 0 (by decide +kernel)) (by decide) hd rfl hw1 rfl E K
theorem jX1_saveReading_1048 {w : rhW} : ∀ ci ∈ ([25] : List Nat), rh_cvr w YX1_saveReading YX28_begin 1048 2 ci := rh_one (rh_cvr.of rfl (Or.inl q3168) kX28_begin)
theorem vX1_saveReading_41 {w : rhW} (hw : rh_hs w) {L : rhL} {S1 : List rhA} {M M0 : rhM} {r : Int} {y1 y2 : Int} (E : eC w YX28_begin 1 [(2, 233), (0, y1), (0, y2)] M r M0) (hw1 : rh_wd S1 ≤ 8) : eS w YX1_saveReading 8 41 L ((0, y2) :: (0, y1) :: (2, 233) :: S1) M 44 L S1 M0 := by
  have hd : decode (ry_c YX1_saveReading) 41 = .ok (.invokevirtual 1048, 3) := (tdX1_saveReading 41).resolve_right (by decide +kernel) ▸ (by decide +kernel : rh_dk dtX1_saveReading 41 = .ok (.invokevirtual 1048, 3))
  exact fun _ _ K => eA.cv (jX1_saveReading_1048 25 (by decide)) (rh_obl hw 233 (by decide +kernel)) (by decide) hd rfl hw1 rfl E K
theorem jX1_saveReading_1049 {w : rhW} : ∀ ci ∈ ([25] : List Nat), rh_cvr w YX1_saveReading YX28_add 1049 1 ci := rh_one (rh_cvr.of rfl (Or.inl q3172) kX28_add)
theorem vX1_saveReading_64 {w : rhW} (hw : rh_hs w) {L : rhL} {S1 : List rhA} {M M0 : rhM} {r : Int} {y1 : Int} (E : eC w YX28_add 0 [(2, 233), (0, y1)] M r M0) (hw1 : rh_wd S1 ≤ 8) : eS w YX1_saveReading 8 64 L ((0, y1) :: (2, 233) :: S1) M 67 L S1 M0 := by
  have hd : decode (ry_c YX1_saveReading) 64 = .ok (.invokevirtual 1049, 3) := (tdX1_saveReading 64).resolve_right (by decide +kernel) ▸ (by decide +kernel : rh_dk dtX1_saveReading 64 = .ok (.invokevirtual 1049, 3))
  exact fun _ _ K => eA.cv (jX1_saveReading_1049 25 (by decide)) (rh_obl hw 233 (by decide +kernel)) (by decide) hd rfl hw1 rfl E K
theorem jX1_saveReading_1051 {w : rhW} : ∀ ci ∈ ([25] : List Nat), rh_cvr w YX1_saveReading YX28_end 1051 0 ci := rh_one (rh_cvr.of rfl (Or.inl q3176) kX28_end)
theorem vX1_saveReading_77 {w : rhW} (hw : rh_hs w) {L : rhL} {S1 : List rhA} {M M0 : rhM} {r : Int} (E : eC w YX28_end 2 [(2, 233)] M r M0) (hw1 : rh_wd S1 ≤ 8) : eS w YX1_saveReading 8 77 L ((2, 233) :: S1) M 80 L ((0, r) :: S1) M0 := by
  have hd : decode (ry_c YX1_saveReading) 77 = .ok (.invokevirtual 1051, 3) := (tdX1_saveReading 77).resolve_right (by decide +kernel) ▸ (by decide +kernel : rh_dk dtX1_saveReading 77 = .ok (.invokevirtual 1051, 3))
  exact fun _ _ K => eA.cv (jX1_saveReading_1051 25 (by decide)) (rh_obl hw 233 (by decide +kernel)) (by decide) hd rfl hw1 rfl E K
theorem jX1_saveFace_1048 {w : rhW} : ∀ ci ∈ ([25] : List Nat), rh_cvr w YX1_saveFace YX28_begin 1048 2 ci := rh_one (rh_cvr.of rfl (Or.inl q3168) kX28_begin)
theorem vX1_saveFace_70 {w : rhW} (hw : rh_hs w) {L : rhL} {S1 : List rhA} {M M0 : rhM} {r : Int} {y1 y2 : Int} (E : eC w YX28_begin 1 [(2, 233), (0, y1), (0, y2)] M r M0) (hw1 : rh_wd S1 ≤ 8) : eS w YX1_saveFace 3 70 L ((0, y2) :: (0, y1) :: (2, 233) :: S1) M 73 L S1 M0 := by
  have hd : decode (ry_c YX1_saveFace) 70 = .ok (.invokevirtual 1048, 3) := (tdX1_saveFace 70).resolve_right (by decide +kernel) ▸ (by decide +kernel : rh_dk dtX1_saveFace 70 = .ok (.invokevirtual 1048, 3))
  exact fun _ _ K => eA.cv (jX1_saveFace_1048 25 (by decide)) (rh_obl hw 233 (by decide +kernel)) (by decide) hd rfl hw1 rfl E K
theorem jX1_saveFace_1049 {w : rhW} : ∀ ci ∈ ([25] : List Nat), rh_cvr w YX1_saveFace YX28_add 1049 1 ci := rh_one (rh_cvr.of rfl (Or.inl q3172) kX28_add)
theorem vX1_saveFace_112 {w : rhW} (hw : rh_hs w) {L : rhL} {S1 : List rhA} {M M0 : rhM} {r : Int} {y1 : Int} (E : eC w YX28_add 0 [(2, 233), (0, y1)] M r M0) (hw1 : rh_wd S1 ≤ 8) : eS w YX1_saveFace 3 112 L ((0, y1) :: (2, 233) :: S1) M 115 L S1 M0 := by
  have hd : decode (ry_c YX1_saveFace) 112 = .ok (.invokevirtual 1049, 3) := (tdX1_saveFace 112).resolve_right (by decide +kernel) ▸ (by decide +kernel : rh_dk dtX1_saveFace 112 = .ok (.invokevirtual 1049, 3))
  exact fun _ _ K => eA.cv (jX1_saveFace_1049 25 (by decide)) (rh_obl hw 233 (by decide +kernel)) (by decide) hd rfl hw1 rfl E K
theorem vX1_saveFace_144 {w : rhW} (hw : rh_hs w) {L : rhL} {S1 : List rhA} {M M0 : rhM} {r : Int} {y1 : Int} (E : eC w YX28_add 0 [(2, 233), (0, y1)] M r M0) (hw1 : rh_wd S1 ≤ 8) : eS w YX1_saveFace 3 144 L ((0, y1) :: (2, 233) :: S1) M 147 L S1 M0 := by
  have hd : decode (ry_c YX1_saveFace) 144 = .ok (.invokevirtual 1049, 3) := (tdX1_saveFace 144).resolve_right (by decide +kernel) ▸ (by decide +kernel : rh_dk dtX1_saveFace 144 = .ok (.invokevirtual 1049, 3))
  exact fun _ _ K => eA.cv (jX1_saveFace_1049 25 (by decide)) (rh_obl hw 233 (by decide +kernel)) (by decide) hd rfl hw1 rfl E K
theorem jX1_saveFace_1051 {w : rhW} : ∀ ci ∈ ([25] : List Nat), rh_cvr w YX1_saveFace YX28_end 1051 0 ci := rh_one (rh_cvr.of rfl (Or.inl q3176) kX28_end)
theorem vX1_saveFace_163 {w : rhW} (hw : rh_hs w) {L : rhL} {S1 : List rhA} {M M0 : rhM} {r : Int} (E : eC w YX28_end 2 [(2, 233)] M r M0) (hw1 : rh_wd S1 ≤ 8) : eS w YX1_saveFace 3 163 L ((2, 233) :: S1) M 166 L ((0, r) :: S1) M0 := by
  have hd : decode (ry_c YX1_saveFace) 163 = .ok (.invokevirtual 1051, 3) := (tdX1_saveFace 163).resolve_right (by decide +kernel) ▸ (by decide +kernel : rh_dk dtX1_saveFace 163 = .ok (.invokevirtual 1051, 3))
  exact fun _ _ K => eA.cv (jX1_saveFace_1051 25 (by decide)) (rh_obl hw 233 (by decide +kernel)) (by decide) hd rfl hw1 rfl E K
theorem q3215 : (Jvm.Cond.methodLink "ReadingHouse" (1064 : Nat) ({ cls := "ReadingHouse$Store", name := "isRight", desc := "(I)Z" } : Jvm.MethodName)) ∈ lw_all := lw_g (lw_at lw_m13 82 rfl) rfl
theorem jX1_row_1064 {w : rhW} : ∀ ci ∈ ([25] : List Nat), rh_cvr w YX1_row YX28_isRight 1064 1 ci := rh_one (rh_cvr.of rfl (Or.inl q3215) kX28_isRight)
theorem vX1_row_64 {w : rhW} (hw : rh_hs w) {L : rhL} {S1 : List rhA} {M M0 : rhM} {r : Int} {y1 : Int} (E : eC w YX28_isRight 2 [(2, 233), (0, y1)] M r M0) (hw1 : rh_wd S1 ≤ 8) : eS w YX1_row 3 64 L ((0, y1) :: (2, 233) :: S1) M 67 L ((0, r) :: S1) M0 := by
  have hd : decode (ry_c YX1_row) 64 = .ok (.invokevirtual 1064, 3) := (tdX1_row 64).resolve_right (by decide +kernel) ▸ (by decide +kernel : rh_dk dtX1_row 64 = .ok (.invokevirtual 1064, 3))
  exact fun _ _ K => eA.cv (jX1_row_1064 25 (by decide)) (rh_obl hw 233 (by decide +kernel)) (by decide) hd rfl hw1 rfl E K
theorem q3228 : (Jvm.Cond.methodLink "ReadingHouse" (1069 : Nat) ({ cls := "ReadingHouse$Store", name := "spoil", desc := "(III)I" } : Jvm.MethodName)) ∈ lw_all := lw_g (lw_at lw_m13 95 rfl) rfl
theorem jX1_spoil_1069 {w : rhW} : ∀ ci ∈ ([25] : List Nat), rh_cvr w YX1_spoil YX28_spoil 1069 3 ci := rh_one (rh_cvr.of rfl (Or.inl q3228) kX28_spoil)
theorem vX1_spoil_42 {w : rhW} (hw : rh_hs w) {L : rhL} {S1 : List rhA} {M M0 : rhM} {r : Int} {y1 y2 y3 : Int} (E : eC w YX28_spoil 1 [(2, 233), (0, y1), (0, y2), (0, y3)] M r M0) (hw1 : rh_wd S1 ≤ 8) : eS w YX1_spoil 2 42 L ((0, y3) :: (0, y2) :: (0, y1) :: (2, 233) :: S1) M 45 L ((0, r) :: S1) M0 := by
  have hd : decode (ry_c YX1_spoil) 42 = .ok (.invokevirtual 1069, 3) := (tdX1_spoil 42).resolve_right (by decide +kernel) ▸ (by decide +kernel : rh_dk dtX1_spoil 42 = .ok (.invokevirtual 1069, 3))
  exact fun _ _ K => eA.cv (jX1_spoil_1069 25 (by decide)) (rh_obl hw 233 (by decide +kernel)) (by decide) hd rfl hw1 rfl E K
theorem jX1_load_1064 {w : rhW} : ∀ ci ∈ ([25] : List Nat), rh_cvr w YX1_load YX28_isRight 1064 1 ci := rh_one (rh_cvr.of rfl (Or.inl q3215) kX28_isRight)
theorem vX1_load_76 {w : rhW} (hw : rh_hs w) {L : rhL} {S1 : List rhA} {M M0 : rhM} {r : Int} {y1 : Int} (E : eC w YX28_isRight 2 [(2, 233), (0, y1)] M r M0) (hw1 : rh_wd S1 ≤ 8) : eS w YX1_load 3 76 L ((0, y1) :: (2, 233) :: S1) M 79 L ((0, r) :: S1) M0 := by
  have hd : decode (ry_c YX1_load) 76 = .ok (.invokevirtual 1064, 3) := (tdX1_load 76).resolve_right (by decide +kernel) ▸ (by decide +kernel : rh_dk dtX1_load 76 = .ok (.invokevirtual 1064, 3))
  exact fun _ _ K => eA.cv (jX1_load_1064 25 (by decide)) (rh_obl hw 233 (by decide +kernel)) (by decide) hd rfl hw1 rfl E K
theorem jX1_load_319 {w : rhW} : ∀ ci ∈ ([26] : List Nat), rh_cvr w YX1_load YX29_lay 319 1 ci := rh_one (rh_cvr.of rfl (Or.inl q1737) kX29_lay)
theorem vX1_load_172 {w : rhW} {L : rhL} {S1 : List rhA} {M M0 : rhM} {r y0 p : Int} {y1 : Int} (hb : rh_bl w 0 y0 p) (E : eC w YX29_lay 2 [(2, y0), (2, y1)] M r M0) (hw1 : rh_wd S1 ≤ 8) : eS w YX1_load 3 172 L ((2, y1) :: (2, y0) :: S1) M 175 L S1 M0 := by
  have hd : decode (ry_c YX1_load) 172 = .ok (.invokevirtual 319, 3) := (tdX1_load 172).resolve_right (by decide +kernel) ▸ (by decide +kernel : rh_dk dtX1_load 172 = .ok (.invokevirtual 319, 3))
  obtain ⟨ci, hci, hob⟩ := rh_obk (cis := [26]) (by decide +kernel) hb
  exact fun _ _ K => eA.cv (jX1_load_319 ci hci) hob (by decide) hd rfl hw1 rfl E K
theorem q3240 : (Jvm.Cond.methodLink "ReadingHouse" (1072 : Nat) ({ cls := "ReadingHouse$Store", name := "crash", desc := "(I)I" } : Jvm.MethodName)) ∈ lw_all := lw_g (lw_at lw_m13 107 rfl) rfl
theorem jX1_crash_1072 {w : rhW} : ∀ ci ∈ ([25] : List Nat), rh_cvr w YX1_crash YX28_crash 1072 1 ci := rh_one (rh_cvr.of rfl (Or.inl q3240) kX28_crash)
theorem vX1_crash_14 {w : rhW} (hw : rh_hs w) {L : rhL} {S1 : List rhA} {M M0 : rhM} {r : Int} {y1 : Int} (E : eC w YX28_crash 1 [(2, 233), (0, y1)] M r M0) (hw1 : rh_wd S1 ≤ 8) : eS w YX1_crash 2 14 L ((0, y1) :: (2, 233) :: S1) M 17 L ((0, r) :: S1) M0 := by
  have hd : decode (ry_c YX1_crash) 14 = .ok (.invokevirtual 1072, 3) := (tdX1_crash 14).resolve_right (by decide +kernel) ▸ (by decide +kernel : rh_dk dtX1_crash 14 = .ok (.invokevirtual 1072, 3))
  exact fun _ _ K => eA.cv (jX1_crash_1072 25 (by decide)) (rh_obl hw 233 (by decide +kernel)) (by decide) hd rfl hw1 rfl E K
theorem q2763 : (Jvm.Cond.methodLink "ReadingHouse$Archive" (44 : Nat) ({ cls := "ReadingHouse$Document", name := "take", desc := "(LReadingHouse$Reading;I)V" } : Jvm.MethodName)) ∈ lw_all := lw_g (lw_at lw_m11 110 rfl) rfl
theorem jX21_keep_44 {w : rhW} : ∀ ci ∈ ([19] : List Nat), rh_cvr w YX21_keep YX22_take 44 2 ci := rh_one (rh_cvr.of rfl (Or.inl q2763) kX22_take)
theorem vX21_keep_14 {w : rhW} {L : rhL} {S1 : List rhA} {M M0 : rhM} {r y0 p : Int} {y1 y2 : Int} (hb : rh_bl w 3 y0 p) (E : eC w YX22_take 2 [(2, y0), (2, y1), (0, y2)] M r M0) (hw1 : rh_wd S1 ≤ 8) : eS w YX21_keep 3 14 L ((0, y2) :: (2, y1) :: (2, y0) :: S1) M 17 L S1 M0 := by
  have hd : decode (ry_c YX21_keep) 14 = .ok (.invokevirtual 44, 3) := (tdX21_keep 14).resolve_right (by decide +kernel) ▸ (by decide +kernel : rh_dk dtX21_keep 14 = .ok (.invokevirtual 44, 3))
  obtain ⟨ci, hci, hob⟩ := rh_obk (cis := [19]) (by decide +kernel) hb
  exact fun _ _ K => eA.cv (jX21_keep_44 ci hci) hob (by decide) hd rfl hw1 rfl E K
theorem q2793 : (Jvm.Cond.methodLink "ReadingHouse$Archive" (68 : Nat) ({ cls := "ReadingHouse$Row", name := "set", desc := "(I[BII)V" } : Jvm.MethodName)) ∈ lw_all := lw_g (lw_at lw_m11 140 rfl) rfl
theorem jX21_ask_68 {w : rhW} : ∀ ci ∈ ([16] : List Nat), rh_cvr w YX21_ask YX19_set 68 4 ci := rh_one (rh_cvr.of rfl (Or.inl q2793) kX19_set)
theorem vX21_ask_132 {w : rhW} {L : rhL} {S1 : List rhA} {M M0 : rhM} {r y0 p : Int} {y1 y2 y3 y4 : Int} (hb : rh_bl w 4 y0 p) (E : eC w YX19_set 1 [(2, y0), (0, y1), (2, y2), (0, y3), (0, y4)] M r M0) (hw1 : rh_wd S1 ≤ 8) : eS w YX21_ask 2 132 L ((0, y4) :: (0, y3) :: (2, y2) :: (0, y1) :: (2, y0) :: S1) M 135 L S1 M0 := by
  have hd : decode (ry_c YX21_ask) 132 = .ok (.invokevirtual 68, 3) := (tdX21_ask 132).resolve_right (by decide +kernel) ▸ (by decide +kernel : rh_dk dtX21_ask 132 = .ok (.invokevirtual 68, 3))
  obtain ⟨ci, hci, hob⟩ := rh_obk (cis := [16]) (by decide +kernel) hb
  exact fun _ _ K => eA.cv (jX21_ask_68 ci hci) hob (by decide) hd rfl hw1 rfl E K
theorem q2798 : (Jvm.Cond.methodLink "ReadingHouse$Archive" (75 : Nat) ({ cls := "ReadingHouse$Archive", name := "look", desc := "(LReadingHouse$Document;I)V" } : Jvm.MethodName)) ∈ lw_all := lw_g (lw_at lw_m11 145 rfl) rfl
theorem jX21_find_75 {w : rhW} : ∀ ci ∈ ([18] : List Nat), rh_cvr w YX21_find YX21_look 75 2 ci := rh_one (rh_cvr.of rfl (Or.inl q2798) kX21_look)
theorem vX21_find_23 {w : rhW} (hw : rh_hs w) {L : rhL} {S1 : List rhA} {M M0 : rhM} {r : Int} {y1 y2 : Int} (E : eC w YX21_look 4 [(2, 98), (2, y1), (0, y2)] M r M0) (hw1 : rh_wd S1 ≤ 8) : eS w YX21_find 5 23 L ((0, y2) :: (2, y1) :: (2, 98) :: S1) M 26 L S1 M0 := by
  have hd : decode (ry_c YX21_find) 23 = .ok (.invokevirtual 75, 3) := (tdX21_find 23).resolve_right (by decide +kernel) ▸ (by decide +kernel : rh_dk dtX21_find 23 = .ok (.invokevirtual 75, 3))
  exact fun _ _ K => eA.cv (jX21_find_75 18 (by decide)) (rh_obl hw 98 (by decide +kernel)) (by decide) hd rfl hw1 rfl E K
theorem q2802 : (Jvm.Cond.methodLink "ReadingHouse$Archive" (79 : Nat) ({ cls := "ReadingHouse$Document", name := "best", desc := "(LReadingHouse$Row;IZ)I" } : Jvm.MethodName)) ∈ lw_all := lw_g (lw_at lw_m11 149 rfl) rfl
theorem jX21_look_79 {w : rhW} : ∀ ci ∈ ([19] : List Nat), rh_cvr w YX21_look YX22_best 79 3 ci := rh_one (rh_cvr.of rfl (Or.inl q2802) kX22_best)
theorem vX21_look_47 {w : rhW} {L : rhL} {S1 : List rhA} {M M0 : rhM} {r y0 p : Int} {y1 y2 y3 : Int} (hb : rh_bl w 3 y0 p) (E : eC w YX22_best 3 [(2, y0), (2, y1), (0, y2), (0, y3)] M r M0) (hw1 : rh_wd S1 ≤ 8) : eS w YX21_look 4 47 L ((0, y3) :: (0, y2) :: (2, y1) :: (2, y0) :: S1) M 50 L ((0, r) :: S1) M0 := by
  have hd : decode (ry_c YX21_look) 47 = .ok (.invokevirtual 79, 3) := (tdX21_look 47).resolve_right (by decide +kernel) ▸ (by decide +kernel : rh_dk dtX21_look 47 = .ok (.invokevirtual 79, 3))
  obtain ⟨ci, hci, hob⟩ := rh_obk (cis := [19]) (by decide +kernel) hb
  exact fun _ _ K => eA.cv (jX21_look_79 ci hci) hob (by decide) hd rfl hw1 rfl E K
theorem q2814 : (Jvm.Cond.methodLink "ReadingHouse$Archive" (83 : Nat) ({ cls := "ReadingHouse$Document", name := "row", desc := "(LReadingHouse$Row;I)I" } : Jvm.MethodName)) ∈ lw_all := lw_g (lw_at lw_m11 161 rfl) rfl
theorem jX21_look_83 {w : rhW} : ∀ ci ∈ ([19] : List Nat), rh_cvr w YX21_look YX22_row 83 2 ci := rh_one (rh_cvr.of rfl (Or.inl q2814) kX22_row)
theorem vX21_look_133 {w : rhW} {L : rhL} {S1 : List rhA} {M M0 : rhM} {r y0 p : Int} {y1 y2 : Int} (hb : rh_bl w 3 y0 p) (E : eC w YX22_row 3 [(2, y0), (2, y1), (0, y2)] M r M0) (hw1 : rh_wd S1 ≤ 8) : eS w YX21_look 4 133 L ((0, y2) :: (2, y1) :: (2, y0) :: S1) M 136 L ((0, r) :: S1) M0 := by
  have hd : decode (ry_c YX21_look) 133 = .ok (.invokevirtual 83, 3) := (tdX21_look 133).resolve_right (by decide +kernel) ▸ (by decide +kernel : rh_dk dtX21_look 133 = .ok (.invokevirtual 83, 3))
  obtain ⟨ci, hci, hob⟩ := rh_obk (cis := [19]) (by decide +kernel) hb
  exact fun _ _ K => eA.cv (jX21_look_83 ci hci) hob (by decide) hd rfl hw1 rfl E K
theorem q2818 : (Jvm.Cond.methodLink "ReadingHouse$Archive" (87 : Nat) ({ cls := "ReadingHouse$Archive", name := "insert", desc := "(III)V" } : Jvm.MethodName)) ∈ lw_all := lw_g (lw_at lw_m11 165 rfl) rfl
theorem jX21_look_87 {w : rhW} : ∀ ci ∈ ([18] : List Nat), rh_cvr w YX21_look YX21_insert 87 3 ci := rh_one (rh_cvr.of rfl (Or.inl q2818) kX21_insert)
theorem vX21_look_162 {w : rhW} (hw : rh_hs w) {L : rhL} {S1 : List rhA} {M M0 : rhM} {r : Int} {y1 y2 y3 : Int} (E : eC w YX21_insert 0 [(2, 98), (0, y1), (0, y2), (0, y3)] M r M0) (hw1 : rh_wd S1 ≤ 8) : eS w YX21_look 4 162 L ((0, y3) :: (0, y2) :: (0, y1) :: (2, 98) :: S1) M 165 L S1 M0 := by
  have hd : decode (ry_c YX21_look) 162 = .ok (.invokevirtual 87, 3) := (tdX21_look 162).resolve_right (by decide +kernel) ▸ (by decide +kernel : rh_dk dtX21_look 162 = .ok (.invokevirtual 87, 3))
  exact fun _ _ K => eA.cv (jX21_look_87 18 (by decide)) (rh_obl hw 98 (by decide +kernel)) (by decide) hd rfl hw1 rfl E K
theorem q2914 : (Jvm.Cond.methodLink "ReadingHouse$Bars" (31 : Nat) ({ cls := "ReadingHouse$Bars", name := "digitAt", desc := "(II)I" } : Jvm.MethodName)) ∈ lw_all := lw_g (lw_at lw_m12 21 rfl) rfl
theorem jX25_isCode_31 {w : rhW} : ∀ ci ∈ ([22] : List Nat), rh_cvr w YX25_isCode YX25_digitAt 31 2 ci := rh_one (rh_cvr.of rfl (Or.inl q2914) kX25_digitAt)
theorem vX25_isCode_143 {w : rhW} (hw : rh_hs w) {L : rhL} {S1 : List rhA} {M M0 : rhM} {r : Int} {y1 y2 : Int} (E : eC w YX25_digitAt 0 [(2, 210), (0, y1), (0, y2)] M r M0) (hw1 : rh_wd S1 ≤ 8) : eS w YX25_isCode 1 143 L ((0, y2) :: (0, y1) :: (2, 210) :: S1) M 146 L ((0, r) :: S1) M0 := by
  have hd : decode (ry_c YX25_isCode) 143 = .ok (.invokevirtual 31, 3) := (tdX25_isCode 143).resolve_right (by decide +kernel) ▸ (by decide +kernel : rh_dk dtX25_isCode 143 = .ok (.invokevirtual 31, 3))
  exact fun _ _ K => eA.cv (jX25_isCode_31 22 (by decide)) (rh_obl hw 210 (by decide +kernel)) (by decide) hd rfl hw1 rfl E K
theorem q2918 : (Jvm.Cond.methodLink "ReadingHouse$Bars" (34 : Nat) ({ cls := "ReadingHouse$Bars", name := "isChecked", desc := "([II)Z" } : Jvm.MethodName)) ∈ lw_all := lw_g (lw_at lw_m12 25 rfl) rfl
theorem jX25_isCode_34 {w : rhW} : rh_csr w YX25_isCode YX25_isChecked 34 2 := rh_csr.of (Or.inl q2918) kX25_isChecked
theorem vX25_isCode_228 {w : rhW} {L : rhL} {S1 : List rhA} {M M0 : rhM} {r : Int} {y1 y2 : Int} (E : eC w YX25_isChecked 0 [(2, y1), (0, y2)] M r M0) (hw1 : rh_wd S1 ≤ 8) : eS w YX25_isCode 1 228 L ((0, y2) :: (2, y1) :: S1) M 231 L ((0, r) :: S1) M0 := by
  have hd : decode (ry_c YX25_isCode) 228 = .ok (.invokestatic 34, 3) := (tdX25_isCode 228).resolve_right (by decide +kernel) ▸ (by decide +kernel : rh_dk dtX25_isCode 228 = .ok (.invokestatic 34, 3))
  exact fun _ _ K => eA.cs (jX25_isCode_34) (by decide) hd rfl hw1 rfl E K
theorem q2909 : (Jvm.Cond.methodLink "ReadingHouse$Bars" (38 : Nat) ({ cls := "ReadingHouse$Bars", name := "isCode", desc := "(II)Z" } : Jvm.MethodName)) ∈ lw_all := lw_g (lw_at lw_m12 16 rfl) rfl
theorem jX25_read_38 {w : rhW} : ∀ ci ∈ ([22] : List Nat), rh_cvr w YX25_read YX25_isCode 38 2 ci := rh_one (rh_cvr.of rfl (Or.inl q2909) kX25_isCode)
theorem vX25_read_21 {w : rhW} (hw : rh_hs w) {L : rhL} {S1 : List rhA} {M M0 : rhM} {r : Int} {y1 y2 : Int} (E : eC w YX25_isCode 1 [(2, 210), (0, y1), (0, y2)] M r M0) (hw1 : rh_wd S1 ≤ 8) : eS w YX25_read 2 21 L ((0, y2) :: (0, y1) :: (2, 210) :: S1) M 24 L ((0, r) :: S1) M0 := by
  have hd : decode (ry_c YX25_read) 21 = .ok (.invokevirtual 38, 3) := (tdX25_read 21).resolve_right (by decide +kernel) ▸ (by decide +kernel : rh_dk dtX25_read 21 = .ok (.invokevirtual 38, 3))
  exact fun _ _ K => eA.cv (jX25_read_38 22 (by decide)) (rh_obl hw 210 (by decide +kernel)) (by decide) hd rfl hw1 rfl E K
theorem q2900 : (Jvm.Cond.methodLink "ReadingHouse$Bars" (50 : Nat) ({ cls := "ReadingHouse$Bars", name := "findRuns", desc := "(LReadingHouse$Page;IZ)V" } : Jvm.MethodName)) ∈ lw_all := lw_g (lw_at lw_m12 7 rfl) rfl
theorem jX25_find_50 {w : rhW} : ∀ ci ∈ ([22] : List Nat), rh_cvr w YX25_find YX25_findRuns 50 3 ci := rh_one (rh_cvr.of rfl (Or.inl q2900) kX25_findRuns)
theorem vX25_find_4 {w : rhW} (hw : rh_hs w) {L : rhL} {S1 : List rhA} {M M0 : rhM} {r : Int} {y1 y2 y3 : Int} (E : eC w YX25_findRuns 2 [(2, 210), (2, y1), (0, y2), (0, y3)] M r M0) (hw1 : rh_wd S1 ≤ 8) : eS w YX25_find 3 4 L ((0, y3) :: (0, y2) :: (2, y1) :: (2, 210) :: S1) M 7 L S1 M0 := by
  have hd : decode (ry_c YX25_find) 4 = .ok (.invokevirtual 50, 3) := (tdX25_find 4).resolve_right (by decide +kernel) ▸ (by decide +kernel : rh_dk dtX25_find 4 = .ok (.invokevirtual 50, 3))
  exact fun _ _ K => eA.cv (jX25_find_50 22 (by decide)) (rh_obl hw 210 (by decide +kernel)) (by decide) hd rfl hw1 rfl E K
theorem q2905 : (Jvm.Cond.methodLink "ReadingHouse$Bars" (54 : Nat) ({ cls := "ReadingHouse$Bars", name := "read", desc := "()I" } : Jvm.MethodName)) ∈ lw_all := lw_g (lw_at lw_m12 12 rfl) rfl
theorem jX25_find_54 {w : rhW} : ∀ ci ∈ ([22] : List Nat), rh_cvr w YX25_find YX25_read 54 0 ci := rh_one (rh_cvr.of rfl (Or.inl q2905) kX25_read)
theorem vX25_find_8 {w : rhW} (hw : rh_hs w) {L : rhL} {S1 : List rhA} {M M0 : rhM} {r : Int} (E : eC w YX25_read 2 [(2, 210)] M r M0) (hw1 : rh_wd S1 ≤ 8) : eS w YX25_find 3 8 L ((2, 210) :: S1) M 11 L ((0, r) :: S1) M0 := by
  have hd : decode (ry_c YX25_find) 8 = .ok (.invokevirtual 54, 3) := (tdX25_find 8).resolve_right (by decide +kernel) ▸ (by decide +kernel : rh_dk dtX25_find 8 = .ok (.invokevirtual 54, 3))
  exact fun _ _ K => eA.cv (jX25_find_54 22 (by decide)) (rh_obl hw 210 (by decide +kernel)) (by decide) hd rfl hw1 rfl E K
theorem vX25_find_21 {w : rhW} (hw : rh_hs w) {L : rhL} {S1 : List rhA} {M M0 : rhM} {r : Int} {y1 y2 y3 : Int} (E : eC w YX25_findRuns 2 [(2, 210), (2, y1), (0, y2), (0, y3)] M r M0) (hw1 : rh_wd S1 ≤ 8) : eS w YX25_find 3 21 L ((0, y3) :: (0, y2) :: (2, y1) :: (2, 210) :: S1) M 24 L S1 M0 := by
  have hd : decode (ry_c YX25_find) 21 = .ok (.invokevirtual 50, 3) := (tdX25_find 21).resolve_right (by decide +kernel) ▸ (by decide +kernel : rh_dk dtX25_find 21 = .ok (.invokevirtual 50, 3))
  exact fun _ _ K => eA.cv (jX25_find_50 22 (by decide)) (rh_obl hw 210 (by decide +kernel)) (by decide) hd rfl hw1 rfl E K
theorem vX25_find_25 {w : rhW} (hw : rh_hs w) {L : rhL} {S1 : List rhA} {M M0 : rhM} {r : Int} (E : eC w YX25_read 2 [(2, 210)] M r M0) (hw1 : rh_wd S1 ≤ 8) : eS w YX25_find 3 25 L ((2, 210) :: S1) M 28 L ((0, r) :: S1) M0 := by
  have hd : decode (ry_c YX25_find) 25 = .ok (.invokevirtual 54, 3) := (tdX25_find 25).resolve_right (by decide +kernel) ▸ (by decide +kernel : rh_dk dtX25_find 25 = .ok (.invokevirtual 54, 3))
  exact fun _ _ K => eA.cv (jX25_find_54 22 (by decide)) (rh_obl hw 210 (by decide +kernel)) (by decide) hd rfl hw1 rfl E K
theorem q1646 : (Jvm.Cond.methodLink "ReadingHouse$BitForm" (9 : Nat) ({ cls := "ReadingHouse$BitForm", name := "readSize", desc := "(LReadingHouse$Sheet;)V" } : Jvm.MethodName)) ∈ lw_all := lw_g (lw_at lw_m6 193 rfl) rfl
theorem q1647 : (Jvm.Cond.sameMethod "ReadingHouse$BitForm" "ReadingHouse$PictureForm" "readSize" "(LReadingHouse$Sheet;)V") ∈ lw_all := lw_g (lw_at lw_m6 194 rfl) rfl
theorem q1649 : (Jvm.Cond.selects "ReadingHouse$BitForm" ({ cls := "ReadingHouse$BitForm", name := "readSize", desc := "(LReadingHouse$Sheet;)V" } : Jvm.MethodName) ({ cls := "ReadingHouse$PictureForm", name := "readSize", desc := "(LReadingHouse$Sheet;)V" } : Jvm.MethodName)) ∈ lw_all := lw_g (lw_at lw_m6 196 rfl) rfl
theorem uX12_readSize_X14_X14 : rh_kU YX12_readSize "ReadingHouse$BitForm" ⟨"ReadingHouse$BitForm", "readSize", "(LReadingHouse$Sheet;)V"⟩ 1 := ⟨q1647, q1649, q1650, q267, q1651, by decide +kernel, by decide, rfl⟩
theorem jX14_read_9 {w : rhW} : ∀ ci ∈ ([11] : List Nat), rh_cvr w YX14_read YX12_readSize 9 1 ci := rh_one (rh_cvr.ofU rfl q1646 uX12_readSize_X14_X14)
theorem vX14_read_2 {w : rhW} (hw : rh_hs w) {L : rhL} {S1 : List rhA} {M M0 : rhM} {r : Int} {y1 : Int} (E : eC w YX12_readSize 2 [(2, 23), (2, y1)] M r M0) (hw1 : rh_wd S1 ≤ 8) : eS w YX14_read 3 2 L ((2, y1) :: (2, 23) :: S1) M 5 L S1 M0 := by
  have hd : decode (ry_c YX14_read) 2 = .ok (.invokevirtual 9, 3) := (tdX14_read 2).resolve_right (by decide +kernel) ▸ (by decide +kernel : rh_dk dtX14_read 2 = .ok (.invokevirtual 9, 3))
  exact fun _ _ K => eA.cv (jX14_read_9 11 (by decide)) (rh_obl hw 23 (by decide +kernel)) (by decide) hd rfl hw1 rfl E K
theorem q1677 : (Jvm.Cond.methodLink "ReadingHouse$BitForm" (33 : Nat) ({ cls := "ReadingHouse$Tape", name := "next", desc := "()I" } : Jvm.MethodName)) ∈ lw_all := lw_g (lw_at lw_m6 224 rfl) rfl
theorem jX14_read_33 {w : rhW} : ∀ ci ∈ ([1] : List Nat), rh_cvr w YX14_read YX2_next 33 0 ci := rh_one (rh_cvr.of rfl (Or.inl q1677) kX2_next)
theorem vX14_read_38 {w : rhW} (hw : rh_hs w) {L : rhL} {S1 : List rhA} {M M0 : rhM} {r : Int} (E : eC w YX2_next 1 [(2, 1)] M r M0) (hw1 : rh_wd S1 ≤ 8) : eS w YX14_read 3 38 L ((2, 1) :: S1) M 41 L ((0, r) :: S1) M0 := by
  have hd : decode (ry_c YX14_read) 38 = .ok (.invokevirtual 33, 3) := (tdX14_read 38).resolve_right (by decide +kernel) ▸ (by decide +kernel : rh_dk dtX14_read 38 = .ok (.invokevirtual 33, 3))
  exact fun _ _ K => eA.cv (jX14_read_33 1 (by decide)) (rh_obl hw 1 (by decide +kernel)) (by decide) hd rfl hw1 rfl E K
theorem q1684 : (Jvm.Cond.methodLink "ReadingHouse$BitForm" (41 : Nat) ({ cls := "ReadingHouse$Tape", name := "must", desc := "(ZI)V" } : Jvm.MethodName)) ∈ lw_all := lw_g (lw_at lw_m6 231 rfl) rfl
theorem jX14_read_41 {w : rhW} : ∀ ci ∈ ([1] : List Nat), rh_cvr w YX14_read YX2_must 41 2 ci := rh_one (rh_cvr.of rfl (Or.inl q1684) kX2_must)
theorem vX14_read_125 {w : rhW} (hw : rh_hs w) {L : rhL} {S1 : List rhA} {M M0 : rhM} {r : Int} {y1 y2 : Int} (E : eC w YX2_must 1 [(2, 1), (0, y1), (0, y2)] M r M0) (hw1 : rh_wd S1 ≤ 8) : eS w YX14_read 3 125 L ((0, y2) :: (0, y1) :: (2, 1) :: S1) M 128 L S1 M0 := by
  have hd : decode (ry_c YX14_read) 125 = .ok (.invokevirtual 41, 3) := (tdX14_read 125).resolve_right (by decide +kernel) ▸ (by decide +kernel : rh_dk dtX14_read 125 = .ok (.invokevirtual 41, 3))
  exact fun _ _ K => eA.cv (jX14_read_41 1 (by decide)) (rh_obl hw 1 (by decide +kernel)) (by decide) hd rfl hw1 rfl E K
theorem q1685 : (Jvm.Cond.methodLink "ReadingHouse$BitForm" (45 : Nat) ({ cls := "ReadingHouse$Tape", name := "mustBeOver", desc := "()V" } : Jvm.MethodName)) ∈ lw_all := lw_g (lw_at lw_m6 232 rfl) rfl
theorem jX14_read_45 {w : rhW} : ∀ ci ∈ ([1] : List Nat), rh_cvr w YX14_read YX2_mustBeOver 45 0 ci := rh_one (rh_cvr.of rfl (Or.inl q1685) kX2_mustBeOver)
theorem vX14_read_150 {w : rhW} (hw : rh_hs w) {L : rhL} {S1 : List rhA} {M M0 : rhM} {r : Int} (E : eC w YX2_mustBeOver 2 [(2, 1)] M r M0) (hw1 : rh_wd S1 ≤ 8) : eS w YX14_read 3 150 L ((2, 1) :: S1) M 153 L S1 M0 := by
  have hd : decode (ry_c YX14_read) 150 = .ok (.invokevirtual 45, 3) := (tdX14_read 150).resolve_right (by decide +kernel) ▸ (by decide +kernel : rh_dk dtX14_read 150 = .ok (.invokevirtual 45, 3))
  exact fun _ _ K => eA.cv (jX14_read_45 1 (by decide)) (rh_obl hw 1 (by decide +kernel)) (by decide) hd rfl hw1 rfl E K
theorem q2201 : (Jvm.Cond.methodLink "ReadingHouse$Cuts" (78 : Nat) ({ cls := "ReadingHouse$Cuts", name := "isInk", desc := "(II)Z" } : Jvm.MethodName)) ∈ lw_all := lw_g (lw_at lw_m9 28 rfl) rfl
theorem jX16_prepare_78 {w : rhW} : ∀ ci ∈ ([13] : List Nat), rh_cvr w YX16_prepare YX16_isInk 78 2 ci := rh_one (rh_cvr.of rfl (Or.inl q2201) kX16_isInk)
theorem vX16_prepare_122 {w : rhW} (hw : rh_hs w) {L : rhL} {S1 : List rhA} {M M0 : rhM} {r : Int} {y1 y2 : Int} (E : eC w YX16_isInk 0 [(2, 25), (0, y1), (0, y2)] M r M0) (hw1 : rh_wd S1 ≤ 8) : eS w YX16_prepare 2 122 L ((0, y2) :: (0, y1) :: (2, 25) :: S1) M 125 L ((0, r) :: S1) M0 := by
  have hd : decode (ry_c YX16_prepare) 122 = .ok (.invokevirtual 78, 3) := (tdX16_prepare 122).resolve_right (by decide +kernel) ▸ (by decide +kernel : rh_dk dtX16_prepare 122 = .ok (.invokevirtual 78, 3))
  exact fun _ _ K => eA.cv (jX16_prepare_78 13 (by decide)) (rh_obl hw 25 (by decide +kernel)) (by decide) hd rfl hw1 rfl E K
theorem q2205 : (Jvm.Cond.methodLink "ReadingHouse$Cuts" (82 : Nat) ({ cls := "ReadingHouse$Cuts", name := "findRuns", desc := "(II)V" } : Jvm.MethodName)) ∈ lw_all := lw_g (lw_at lw_m9 32 rfl) rfl
theorem jX16_prepare_82 {w : rhW} : ∀ ci ∈ ([13] : List Nat), rh_cvr w YX16_prepare YX16_findRuns 82 2 ci := rh_one (rh_cvr.of rfl (Or.inl q2205) kX16_findRuns)
theorem vX16_prepare_160 {w : rhW} (hw : rh_hs w) {L : rhL} {S1 : List rhA} {M M0 : rhM} {r : Int} {y1 y2 : Int} (E : eC w YX16_findRuns 0 [(2, 25), (0, y1), (0, y2)] M r M0) (hw1 : rh_wd S1 ≤ 8) : eS w YX16_prepare 2 160 L ((0, y2) :: (0, y1) :: (2, 25) :: S1) M 163 L S1 M0 := by
  have hd : decode (ry_c YX16_prepare) 160 = .ok (.invokevirtual 82, 3) := (tdX16_prepare 160).resolve_right (by decide +kernel) ▸ (by decide +kernel : rh_dk dtX16_prepare 160 = .ok (.invokevirtual 82, 3))
  exact fun _ _ K => eA.cv (jX16_prepare_82 13 (by decide)) (rh_obl hw 25 (by decide +kernel)) (by decide) hd rfl hw1 rfl E K
theorem q2209 : (Jvm.Cond.methodLink "ReadingHouse$Cuts" (86 : Nat) ({ cls := "ReadingHouse$Cuts", name := "findPlaces", desc := "()V" } : Jvm.MethodName)) ∈ lw_all := lw_g (lw_at lw_m9 36 rfl) rfl
theorem jX16_prepare_86 {w : rhW} : ∀ ci ∈ ([13] : List Nat), rh_cvr w YX16_prepare YX16_findPlaces 86 0 ci := rh_one (rh_cvr.of rfl (Or.inl q2209) kX16_findPlaces)
theorem vX16_prepare_164 {w : rhW} (hw : rh_hs w) {L : rhL} {S1 : List rhA} {M M0 : rhM} {r : Int} (E : eC w YX16_findPlaces 1 [(2, 25)] M r M0) (hw1 : rh_wd S1 ≤ 8) : eS w YX16_prepare 2 164 L ((2, 25) :: S1) M 167 L S1 M0 := by
  have hd : decode (ry_c YX16_prepare) 164 = .ok (.invokevirtual 86, 3) := (tdX16_prepare 164).resolve_right (by decide +kernel) ▸ (by decide +kernel : rh_dk dtX16_prepare 164 = .ok (.invokevirtual 86, 3))
  exact fun _ _ K => eA.cv (jX16_prepare_86 13 (by decide)) (rh_obl hw 25 (by decide +kernel)) (by decide) hd rfl hw1 rfl E K
theorem q2217 : (Jvm.Cond.methodLink "ReadingHouse$Cuts" (105 : Nat) ({ cls := "ReadingHouse$Cuts", name := "isInner", desc := "(II)Z" } : Jvm.MethodName)) ∈ lw_all := lw_g (lw_at lw_m9 44 rfl) rfl
theorem jX16_findPlaces_105 {w : rhW} : ∀ ci ∈ ([13] : List Nat), rh_cvr w YX16_findPlaces YX16_isInner 105 2 ci := rh_one (rh_cvr.of rfl (Or.inl q2217) kX16_isInner)
theorem vX16_findPlaces_69 {w : rhW} (hw : rh_hs w) {L : rhL} {S1 : List rhA} {M M0 : rhM} {r : Int} {y1 y2 : Int} (E : eC w YX16_isInner 0 [(2, 25), (0, y1), (0, y2)] M r M0) (hw1 : rh_wd S1 ≤ 8) : eS w YX16_findPlaces 1 69 L ((0, y2) :: (0, y1) :: (2, 25) :: S1) M 72 L ((0, r) :: S1) M0 := by
  have hd : decode (ry_c YX16_findPlaces) 69 = .ok (.invokevirtual 105, 3) := (tdX16_findPlaces 69).resolve_right (by decide +kernel) ▸ (by decide +kernel : rh_dk dtX16_findPlaces 69 = .ok (.invokevirtual 105, 3))
  exact fun _ _ K => eA.cv (jX16_findPlaces_105 13 (by decide)) (rh_obl hw 25 (by decide +kernel)) (by decide) hd rfl hw1 rfl E K
theorem q2238 : (Jvm.Cond.methodLink "ReadingHouse$Cuts" (111 : Nat) ({ cls := "ReadingHouse$Cuts", name := "hasColumns", desc := "(II)Z" } : Jvm.MethodName)) ∈ lw_all := lw_g (lw_at lw_m9 65 rfl) rfl
theorem jX16_hasPart_111 {w : rhW} : ∀ ci ∈ ([13] : List Nat), rh_cvr w YX16_hasPart YX16_hasColumns 111 2 ci := rh_one (rh_cvr.of rfl (Or.inl q2238) kX16_hasColumns)
theorem vX16_hasPart_45 {w : rhW} (hw : rh_hs w) {L : rhL} {S1 : List rhA} {M M0 : rhM} {r : Int} {y1 y2 : Int} (E : eC w YX16_hasColumns 1 [(2, 25), (0, y1), (0, y2)] M r M0) (hw1 : rh_wd S1 ≤ 8) : eS w YX16_hasPart 2 45 L ((0, y2) :: (0, y1) :: (2, 25) :: S1) M 48 L ((0, r) :: S1) M0 := by
  have hd : decode (ry_c YX16_hasPart) 45 = .ok (.invokevirtual 111, 3) := (tdX16_hasPart 45).resolve_right (by decide +kernel) ▸ (by decide +kernel : rh_dk dtX16_hasPart 45 = .ok (.invokevirtual 111, 3))
  exact fun _ _ K => eA.cv (jX16_hasPart_111 13 (by decide)) (rh_obl hw 25 (by decide +kernel)) (by decide) hd rfl hw1 rfl E K
theorem jX16_hasColumns_78 {w : rhW} : ∀ ci ∈ ([13] : List Nat), rh_cvr w YX16_hasColumns YX16_isInk 78 2 ci := rh_one (rh_cvr.of rfl (Or.inl q2201) kX16_isInk)
theorem vX16_hasColumns_70 {w : rhW} (hw : rh_hs w) {L : rhL} {S1 : List rhA} {M M0 : rhM} {r : Int} {y1 y2 : Int} (E : eC w YX16_isInk 0 [(2, 25), (0, y1), (0, y2)] M r M0) (hw1 : rh_wd S1 ≤ 8) : eS w YX16_hasColumns 1 70 L ((0, y2) :: (0, y1) :: (2, 25) :: S1) M 73 L ((0, r) :: S1) M0 := by
  have hd : decode (ry_c YX16_hasColumns) 70 = .ok (.invokevirtual 78, 3) := (tdX16_hasColumns 70).resolve_right (by decide +kernel) ▸ (by decide +kernel : rh_dk dtX16_hasColumns 70 = .ok (.invokevirtual 78, 3))
  exact fun _ _ K => eA.cv (jX16_hasColumns_78 13 (by decide)) (rh_obl hw 25 (by decide +kernel)) (by decide) hd rfl hw1 rfl E K
theorem jX16_measure_78 {w : rhW} : ∀ ci ∈ ([13] : List Nat), rh_cvr w YX16_measure YX16_isInk 78 2 ci := rh_one (rh_cvr.of rfl (Or.inl q2201) kX16_isInk)
theorem vX16_measure_80 {w : rhW} (hw : rh_hs w) {L : rhL} {S1 : List rhA} {M M0 : rhM} {r : Int} {y1 y2 : Int} (E : eC w YX16_isInk 0 [(2, 25), (0, y1), (0, y2)] M r M0) (hw1 : rh_wd S1 ≤ 8) : eS w YX16_measure 3 80 L ((0, y2) :: (0, y1) :: (2, 25) :: S1) M 83 L ((0, r) :: S1) M0 := by
  have hd : decode (ry_c YX16_measure) 80 = .ok (.invokevirtual 78, 3) := (tdX16_measure 80).resolve_right (by decide +kernel) ▸ (by decide +kernel : rh_dk dtX16_measure 80 = .ok (.invokevirtual 78, 3))
  exact fun _ _ K => eA.cv (jX16_measure_78 13 (by decide)) (rh_obl hw 25 (by decide +kernel)) (by decide) hd rfl hw1 rfl E K
theorem q2250 : (Jvm.Cond.methodLink "ReadingHouse$Cuts" (135 : Nat) ({ cls := "ReadingHouse$Cuts", name := "measure", desc := "(IIIIII)V" } : Jvm.MethodName)) ∈ lw_all := lw_g (lw_at lw_m9 77 rfl) rfl
theorem jX16_measure_135 {w : rhW} : ∀ ci ∈ ([13] : List Nat), rh_cvr w YX16_measure YX16_measure_2 135 6 ci := rh_one (rh_cvr.of rfl (Or.inl q2250) kX16_measure_2)
theorem vX16_measure_96 {w : rhW} (hw : rh_hs w) {L : rhL} {S1 : List rhA} {M M0 : rhM} {r : Int} {y1 y2 y3 y4 y5 y6 : Int} (E : eC w YX16_measure_2 2 [(2, 25), (0, y1), (0, y2), (0, y3), (0, y4), (0, y5), (0, y6)] M r M0) (hw1 : rh_wd S1 ≤ 8) : eS w YX16_measure 3 96 L ((0, y6) :: (0, y5) :: (0, y4) :: (0, y3) :: (0, y2) :: (0, y1) :: (2, 25) :: S1) M 99 L S1 M0 := by
  have hd : decode (ry_c YX16_measure) 96 = .ok (.invokevirtual 135, 3) := (tdX16_measure 96).resolve_right (by decide +kernel) ▸ (by decide +kernel : rh_dk dtX16_measure 96 = .ok (.invokevirtual 135, 3))
  exact fun _ _ K => eA.cv (jX16_measure_135 13 (by decide)) (rh_obl hw 25 (by decide +kernel)) (by decide) hd rfl hw1 rfl E K
theorem q2246 : (Jvm.Cond.methodLink "ReadingHouse$Cuts" (143 : Nat) ({ cls := "ReadingHouse$Cuts", name := "measure", desc := "(II)V" } : Jvm.MethodName)) ∈ lw_all := lw_g (lw_at lw_m9 73 rfl) rfl
theorem jX16_describe_143 {w : rhW} : ∀ ci ∈ ([13] : List Nat), rh_cvr w YX16_describe YX16_measure 143 2 ci := rh_one (rh_cvr.of rfl (Or.inl q2246) kX16_measure)
theorem vX16_describe_23 {w : rhW} (hw : rh_hs w) {L : rhL} {S1 : List rhA} {M M0 : rhM} {r : Int} {y1 y2 : Int} (E : eC w YX16_measure 3 [(2, 25), (0, y1), (0, y2)] M r M0) (hw1 : rh_wd S1 ≤ 8) : eS w YX16_describe 4 23 L ((0, y2) :: (0, y1) :: (2, 25) :: S1) M 26 L S1 M0 := by
  have hd : decode (ry_c YX16_describe) 23 = .ok (.invokevirtual 143, 3) := (tdX16_describe 23).resolve_right (by decide +kernel) ▸ (by decide +kernel : rh_dk dtX16_describe 23 = .ok (.invokevirtual 143, 3))
  exact fun _ _ K => eA.cv (jX16_describe_143 13 (by decide)) (rh_obl hw 25 (by decide +kernel)) (by decide) hd rfl hw1 rfl E K
theorem q2769 : (Jvm.Cond.methodLink "ReadingHouse$Document" (45 : Nat) ({ cls := "ReadingHouse$Row", name := "copy", desc := "(ILReadingHouse$Row;I)V" } : Jvm.MethodName)) ∈ lw_all := lw_g (lw_at lw_m11 116 rfl) rfl
theorem jX22_take_45 {w : rhW} : ∀ ci ∈ ([16] : List Nat), rh_cvr w YX22_take YX19_copy 45 3 ci := rh_one (rh_cvr.of rfl (Or.inl q2769) kX19_copy)
theorem vX22_take_38 {w : rhW} {L : rhL} {S1 : List rhA} {M M0 : rhM} {r y0 p : Int} {y1 y2 y3 : Int} (hb : rh_bl w 4 y0 p) (E : eC w YX19_copy 1 [(2, y0), (0, y1), (2, y2), (0, y3)] M r M0) (hw1 : rh_wd S1 ≤ 8) : eS w YX22_take 2 38 L ((0, y3) :: (2, y2) :: (0, y1) :: (2, y0) :: S1) M 41 L S1 M0 := by
  have hd : decode (ry_c YX22_take) 38 = .ok (.invokevirtual 45, 3) := (tdX22_take 38).resolve_right (by decide +kernel) ▸ (by decide +kernel : rh_dk dtX22_take 38 = .ok (.invokevirtual 45, 3))
  obtain ⟨ci, hci, hob⟩ := rh_obk (cis := [16]) (by decide +kernel) hb
  exact fun _ _ K => eA.cv (jX22_take_45 ci hci) hob (by decide) hd rfl hw1 rfl E K
theorem q2770 : (Jvm.Cond.methodLink "ReadingHouse$Document" (49 : Nat) ({ cls := "ReadingHouse$Reading", name := "margin", desc := "(I)I" } : Jvm.MethodName)) ∈ lw_all := lw_g (lw_at lw_m11 117 rfl) rfl
theorem jX22_take_49 {w : rhW} : ∀ ci ∈ ([28] : List Nat), rh_cvr w YX22_take YX31_margin 49 1 ci := rh_one (rh_cvr.of rfl (Or.inl q2770) kX31_margin)
theorem vX22_take_43 {w : rhW} {L : rhL} {S1 : List rhA} {M M0 : rhM} {r y0 p : Int} {y1 : Int} (hb : rh_bl w 2 y0 p) (E : eC w YX31_margin 1 [(2, y0), (0, y1)] M r M0) (hw1 : rh_wd S1 ≤ 8) : eS w YX22_take 2 43 L ((0, y1) :: (2, y0) :: S1) M 46 L ((0, r) :: S1) M0 := by
  have hd : decode (ry_c YX22_take) 43 = .ok (.invokevirtual 49, 3) := (tdX22_take 43).resolve_right (by decide +kernel) ▸ (by decide +kernel : rh_dk dtX22_take 43 = .ok (.invokevirtual 49, 3))
  obtain ⟨ci, hci, hob⟩ := rh_obk (cis := [28]) (by decide +kernel) hb
  exact fun _ _ K => eA.cv (jX22_take_49 ci hci) hob (by decide) hd rfl hw1 rfl E K
theorem vX22_take_79 {w : rhW} {L : rhL} {S1 : List rhA} {M M0 : rhM} {r y0 p : Int} {y1 y2 y3 : Int} (hb : rh_bl w 4 y0 p) (E : eC w YX19_copy 1 [(2, y0), (0, y1), (2, y2), (0, y3)] M r M0) (hw1 : rh_wd S1 ≤ 8) : eS w YX22_take 2 79 L ((0, y3) :: (2, y2) :: (0, y1) :: (2, y0) :: S1) M 82 L S1 M0 := by
  have hd : decode (ry_c YX22_take) 79 = .ok (.invokevirtual 45, 3) := (tdX22_take 79).resolve_right (by decide +kernel) ▸ (by decide +kernel : rh_dk dtX22_take 79 = .ok (.invokevirtual 45, 3))
  obtain ⟨ci, hci, hob⟩ := rh_obk (cis := [16]) (by decide +kernel) hb
  exact fun _ _ K => eA.cv (jX22_take_45 ci hci) hob (by decide) hd rfl hw1 rfl E K
theorem q2813 : (Jvm.Cond.methodLink "ReadingHouse$Document" (57 : Nat) ({ cls := "ReadingHouse$Row", name := "get", desc := "(II)I" } : Jvm.MethodName)) ∈ lw_all := lw_g (lw_at lw_m11 160 rfl) rfl
theorem jX22_fits_57 {w : rhW} : ∀ ci ∈ ([16] : List Nat), rh_cvr w YX22_fits YX19_get 57 2 ci := rh_one (rh_cvr.of rfl (Or.inl q2813) kX19_get)
theorem vX22_fits_69 {w : rhW} {L : rhL} {S1 : List rhA} {M M0 : rhM} {r y0 p : Int} {y1 y2 : Int} (hb : rh_bl w 4 y0 p) (E : eC w YX19_get 0 [(2, y0), (0, y1), (0, y2)] M r M0) (hw1 : rh_wd S1 ≤ 8) : eS w YX22_fits 1 69 L ((0, y2) :: (0, y1) :: (2, y0) :: S1) M 72 L ((0, r) :: S1) M0 := by
  have hd : decode (ry_c YX22_fits) 69 = .ok (.invokevirtual 57, 3) := (tdX22_fits 69).resolve_right (by decide +kernel) ▸ (by decide +kernel : rh_dk dtX22_fits 69 = .ok (.invokevirtual 57, 3))
  obtain ⟨ci, hci, hob⟩ := rh_obk (cis := [16]) (by decide +kernel) hb
  exact fun _ _ K => eA.cv (jX22_fits_57 ci hci) hob (by decide) hd rfl hw1 rfl E K
theorem vX22_fits_76 {w : rhW} {L : rhL} {S1 : List rhA} {M M0 : rhM} {r y0 p : Int} {y1 y2 : Int} (hb : rh_bl w 4 y0 p) (E : eC w YX19_get 0 [(2, y0), (0, y1), (0, y2)] M r M0) (hw1 : rh_wd S1 ≤ 8) : eS w YX22_fits 1 76 L ((0, y2) :: (0, y1) :: (2, y0) :: S1) M 79 L ((0, r) :: S1) M0 := by
  have hd : decode (ry_c YX22_fits) 76 = .ok (.invokevirtual 57, 3) := (tdX22_fits 76).resolve_right (by decide +kernel) ▸ (by decide +kernel : rh_dk dtX22_fits 76 = .ok (.invokevirtual 57, 3))
  obtain ⟨ci, hci, hob⟩ := rh_obk (cis := [16]) (by decide +kernel) hb
  exact fun _ _ K => eA.cv (jX22_fits_57 ci hci) hob (by decide) hd rfl hw1 rfl E K
theorem q2810 : (Jvm.Cond.methodLink "ReadingHouse$Document" (61 : Nat) ({ cls := "ReadingHouse$Document", name := "fits", desc := "(LReadingHouse$Row;ILReadingHouse$Row;IZ)Z" } : Jvm.MethodName)) ∈ lw_all := lw_g (lw_at lw_m11 157 rfl) rfl
theorem jX22_price_61 {w : rhW} : rh_csr w YX22_price YX22_fits 61 5 := rh_csr.of (Or.inl q2810) kX22_fits
theorem vX22_price_9 {w : rhW} {L : rhL} {S1 : List rhA} {M M0 : rhM} {r : Int} {y1 y2 y3 y4 y5 : Int} (E : eC w YX22_fits 1 [(2, y1), (0, y2), (2, y3), (0, y4), (0, y5)] M r M0) (hw1 : rh_wd S1 ≤ 8) : eS w YX22_price 2 9 L ((0, y5) :: (0, y4) :: (2, y3) :: (0, y2) :: (2, y1) :: S1) M 12 L ((0, r) :: S1) M0 := by
  have hd : decode (ry_c YX22_price) 9 = .ok (.invokestatic 61, 3) := (tdX22_price 9).resolve_right (by decide +kernel) ▸ (by decide +kernel : rh_dk dtX22_price 9 = .ok (.invokestatic 61, 3))
  exact fun _ _ K => eA.cs (jX22_price_61) (by decide) hd rfl hw1 rfl E K
theorem vX22_price_38 {w : rhW} {L : rhL} {S1 : List rhA} {M M0 : rhM} {r : Int} {y1 y2 y3 y4 y5 : Int} (E : eC w YX22_fits 1 [(2, y1), (0, y2), (2, y3), (0, y4), (0, y5)] M r M0) (hw1 : rh_wd S1 ≤ 8) : eS w YX22_price 2 38 L ((0, y5) :: (0, y4) :: (2, y3) :: (0, y2) :: (2, y1) :: S1) M 41 L ((0, r) :: S1) M0 := by
  have hd : decode (ry_c YX22_price) 38 = .ok (.invokestatic 61, 3) := (tdX22_price 38).resolve_right (by decide +kernel) ▸ (by decide +kernel : rh_dk dtX22_price 38 = .ok (.invokestatic 61, 3))
  exact fun _ _ K => eA.cs (jX22_price_61) (by decide) hd rfl hw1 rfl E K
theorem q2806 : (Jvm.Cond.methodLink "ReadingHouse$Document" (65 : Nat) ({ cls := "ReadingHouse$Document", name := "price", desc := "(ILReadingHouse$Row;IZ)I" } : Jvm.MethodName)) ∈ lw_all := lw_g (lw_at lw_m11 153 rfl) rfl
theorem jX22_best_65 {w : rhW} : ∀ ci ∈ ([19] : List Nat), rh_cvr w YX22_best YX22_price 65 4 ci := rh_one (rh_cvr.of rfl (Or.inl q2806) kX22_price)
theorem vX22_best_21 {w : rhW} {L : rhL} {S1 : List rhA} {M M0 : rhM} {r y0 p : Int} {y1 y2 y3 y4 : Int} (hb : rh_bl w 3 y0 p) (E : eC w YX22_price 2 [(2, y0), (0, y1), (2, y2), (0, y3), (0, y4)] M r M0) (hw1 : rh_wd S1 ≤ 8) : eS w YX22_best 3 21 L ((0, y4) :: (0, y3) :: (2, y2) :: (0, y1) :: (2, y0) :: S1) M 24 L ((0, r) :: S1) M0 := by
  have hd : decode (ry_c YX22_best) 21 = .ok (.invokevirtual 65, 3) := (tdX22_best 21).resolve_right (by decide +kernel) ▸ (by decide +kernel : rh_dk dtX22_best 21 = .ok (.invokevirtual 65, 3))
  obtain ⟨ci, hci, hob⟩ := rh_obk (cis := [19]) (by decide +kernel) hb
  exact fun _ _ K => eA.cv (jX22_best_65 ci hci) hob (by decide) hd rfl hw1 rfl E K
theorem jX22_row_65 {w : rhW} : ∀ ci ∈ ([19] : List Nat), rh_cvr w YX22_row YX22_price 65 4 ci := rh_one (rh_cvr.of rfl (Or.inl q2806) kX22_price)
theorem vX22_row_44 {w : rhW} {L : rhL} {S1 : List rhA} {M M0 : rhM} {r y0 p : Int} {y1 y2 y3 y4 : Int} (hb : rh_bl w 3 y0 p) (E : eC w YX22_price 2 [(2, y0), (0, y1), (2, y2), (0, y3), (0, y4)] M r M0) (hw1 : rh_wd S1 ≤ 8) : eS w YX22_row 3 44 L ((0, y4) :: (0, y3) :: (2, y2) :: (0, y1) :: (2, y0) :: S1) M 47 L ((0, r) :: S1) M0 := by
  have hd : decode (ry_c YX22_row) 44 = .ok (.invokevirtual 65, 3) := (tdX22_row 44).resolve_right (by decide +kernel) ▸ (by decide +kernel : rh_dk dtX22_row 44 = .ok (.invokevirtual 65, 3))
  obtain ⟨ci, hci, hob⟩ := rh_obk (cis := [19]) (by decide +kernel) hb
  exact fun _ _ K => eA.cv (jX22_row_65 ci hci) hob (by decide) hd rfl hw1 rfl E K
theorem q3039 : (Jvm.Cond.methodLink "ReadingHouse$FieldRules" (67 : Nat) ({ cls := "ReadingHouse$Tape", name := "must", desc := "(ZI)V" } : Jvm.MethodName)) ∈ lw_all := lw_g (lw_at lw_m12 146 rfl) rfl
theorem jX27_name_67 {w : rhW} : ∀ ci ∈ ([1] : List Nat), rh_cvr w YX27_name YX2_must 67 2 ci := rh_one (rh_cvr.of rfl (Or.inl q3039) kX2_must)
theorem vX27_name_42 {w : rhW} (hw : rh_hs w) {L : rhL} {S1 : List rhA} {M M0 : rhM} {r : Int} {y1 y2 : Int} (E : eC w YX2_must 1 [(2, 1), (0, y1), (0, y2)] M r M0) (hw1 : rh_wd S1 ≤ 8) : eS w YX27_name 2 42 L ((0, y2) :: (0, y1) :: (2, 1) :: S1) M 45 L S1 M0 := by
  have hd : decode (ry_c YX27_name) 42 = .ok (.invokevirtual 67, 3) := (tdX27_name 42).resolve_right (by decide +kernel) ▸ (by decide +kernel : rh_dk dtX27_name 42 = .ok (.invokevirtual 67, 3))
  exact fun _ _ K => eA.cv (jX27_name_67 1 (by decide)) (rh_obl hw 1 (by decide +kernel)) (by decide) hd rfl hw1 rfl E K
theorem q3047 : (Jvm.Cond.methodLink "ReadingHouse$FieldRules" (71 : Nat) ({ cls := "ReadingHouse$Tape", name := "next", desc := "()I" } : Jvm.MethodName)) ∈ lw_all := lw_g (lw_at lw_m12 154 rfl) rfl
theorem jX27_name_71 {w : rhW} : ∀ ci ∈ ([1] : List Nat), rh_cvr w YX27_name YX2_next 71 0 ci := rh_one (rh_cvr.of rfl (Or.inl q3047) kX2_next)
theorem vX27_name_57 {w : rhW} (hw : rh_hs w) {L : rhL} {S1 : List rhA} {M M0 : rhM} {r : Int} (E : eC w YX2_next 1 [(2, 1)] M r M0) (hw1 : rh_wd S1 ≤ 8) : eS w YX27_name 2 57 L ((2, 1) :: S1) M 60 L ((0, r) :: S1) M0 := by
  have hd : decode (ry_c YX27_name) 57 = .ok (.invokevirtual 71, 3) := (tdX27_name 57).resolve_right (by decide +kernel) ▸ (by decide +kernel : rh_dk dtX27_name 57 = .ok (.invokevirtual 71, 3))
  exact fun _ _ K => eA.cv (jX27_name_71 1 (by decide)) (rh_obl hw 1 (by decide +kernel)) (by decide) hd rfl hw1 rfl E K
theorem vX27_name_83 {w : rhW} (hw : rh_hs w) {L : rhL} {S1 : List rhA} {M M0 : rhM} {r : Int} {y1 y2 : Int} (E : eC w YX2_must 1 [(2, 1), (0, y1), (0, y2)] M r M0) (hw1 : rh_wd S1 ≤ 8) : eS w YX27_name 2 83 L ((0, y2) :: (0, y1) :: (2, 1) :: S1) M 86 L S1 M0 := by
  have hd : decode (ry_c YX27_name) 83 = .ok (.invokevirtual 67, 3) := (tdX27_name 83).resolve_right (by decide +kernel) ▸ (by decide +kernel : rh_dk dtX27_name 83 = .ok (.invokevirtual 67, 3))
  exact fun _ _ K => eA.cv (jX27_name_67 1 (by decide)) (rh_obl hw 1 (by decide +kernel)) (by decide) hd rfl hw1 rfl E K
theorem vX27_name_192 {w : rhW} (hw : rh_hs w) {L : rhL} {S1 : List rhA} {M M0 : rhM} {r : Int} {y1 y2 : Int} (E : eC w YX2_must 1 [(2, 1), (0, y1), (0, y2)] M r M0) (hw1 : rh_wd S1 ≤ 8) : eS w YX27_name 2 192 L ((0, y2) :: (0, y1) :: (2, 1) :: S1) M 195 L S1 M0 := by
  have hd : decode (ry_c YX27_name) 192 = .ok (.invokevirtual 67, 3) := (tdX27_name 192).resolve_right (by decide +kernel) ▸ (by decide +kernel : rh_dk dtX27_name 192 = .ok (.invokevirtual 67, 3))
  exact fun _ _ K => eA.cv (jX27_name_67 1 (by decide)) (rh_obl hw 1 (by decide +kernel)) (by decide) hd rfl hw1 rfl E K
theorem jX27_pattern_67 {w : rhW} : ∀ ci ∈ ([1] : List Nat), rh_cvr w YX27_pattern YX2_must 67 2 ci := rh_one (rh_cvr.of rfl (Or.inl q3039) kX2_must)
theorem vX27_pattern_37 {w : rhW} (hw : rh_hs w) {L : rhL} {S1 : List rhA} {M M0 : rhM} {r : Int} {y1 y2 : Int} (E : eC w YX2_must 1 [(2, 1), (0, y1), (0, y2)] M r M0) (hw1 : rh_wd S1 ≤ 8) : eS w YX27_pattern 2 37 L ((0, y2) :: (0, y1) :: (2, 1) :: S1) M 40 L S1 M0 := by
  have hd : decode (ry_c YX27_pattern) 37 = .ok (.invokevirtual 67, 3) := (tdX27_pattern 37).resolve_right (by decide +kernel) ▸ (by decide +kernel : rh_dk dtX27_pattern 37 = .ok (.invokevirtual 67, 3))
  exact fun _ _ K => eA.cv (jX27_pattern_67 1 (by decide)) (rh_obl hw 1 (by decide +kernel)) (by decide) hd rfl hw1 rfl E K
theorem jX27_pattern_71 {w : rhW} : ∀ ci ∈ ([1] : List Nat), rh_cvr w YX27_pattern YX2_next 71 0 ci := rh_one (rh_cvr.of rfl (Or.inl q3047) kX2_next)
theorem vX27_pattern_54 {w : rhW} (hw : rh_hs w) {L : rhL} {S1 : List rhA} {M M0 : rhM} {r : Int} (E : eC w YX2_next 1 [(2, 1)] M r M0) (hw1 : rh_wd S1 ≤ 8) : eS w YX27_pattern 2 54 L ((2, 1) :: S1) M 57 L ((0, r) :: S1) M0 := by
  have hd : decode (ry_c YX27_pattern) 54 = .ok (.invokevirtual 71, 3) := (tdX27_pattern 54).resolve_right (by decide +kernel) ▸ (by decide +kernel : rh_dk dtX27_pattern 54 = .ok (.invokevirtual 71, 3))
  exact fun _ _ K => eA.cv (jX27_pattern_71 1 (by decide)) (rh_obl hw 1 (by decide +kernel)) (by decide) hd rfl hw1 rfl E K
theorem vX27_pattern_79 {w : rhW} (hw : rh_hs w) {L : rhL} {S1 : List rhA} {M M0 : rhM} {r : Int} {y1 y2 : Int} (E : eC w YX2_must 1 [(2, 1), (0, y1), (0, y2)] M r M0) (hw1 : rh_wd S1 ≤ 8) : eS w YX27_pattern 2 79 L ((0, y2) :: (0, y1) :: (2, 1) :: S1) M 82 L S1 M0 := by
  have hd : decode (ry_c YX27_pattern) 79 = .ok (.invokevirtual 67, 3) := (tdX27_pattern 79).resolve_right (by decide +kernel) ▸ (by decide +kernel : rh_dk dtX27_pattern 79 = .ok (.invokevirtual 67, 3))
  exact fun _ _ K => eA.cv (jX27_pattern_67 1 (by decide)) (rh_obl hw 1 (by decide +kernel)) (by decide) hd rfl hw1 rfl E K
theorem vX27_pattern_83 {w : rhW} (hw : rh_hs w) {L : rhL} {S1 : List rhA} {M M0 : rhM} {r : Int} (E : eC w YX2_next 1 [(2, 1)] M r M0) (hw1 : rh_wd S1 ≤ 8) : eS w YX27_pattern 2 83 L ((2, 1) :: S1) M 86 L ((0, r) :: S1) M0 := by
  have hd : decode (ry_c YX27_pattern) 83 = .ok (.invokevirtual 71, 3) := (tdX27_pattern 83).resolve_right (by decide +kernel) ▸ (by decide +kernel : rh_dk dtX27_pattern 83 = .ok (.invokevirtual 71, 3))
  exact fun _ _ K => eA.cv (jX27_pattern_71 1 (by decide)) (rh_obl hw 1 (by decide +kernel)) (by decide) hd rfl hw1 rfl E K
theorem q3132 : (Jvm.Cond.methodLink "ReadingHouse$FieldRules" (140 : Nat) ({ cls := "ReadingHouse$Row", name := "get", desc := "(II)I" } : Jvm.MethodName)) ∈ lw_all := lw_g (lw_at lw_m12 239 rfl) rfl
theorem jX27_matches_140 {w : rhW} : ∀ ci ∈ ([16] : List Nat), rh_cvr w YX27_matches YX19_get 140 2 ci := rh_one (rh_cvr.of rfl (Or.inl q3132) kX19_get)
theorem vX27_matches_72 {w : rhW} {L : rhL} {S1 : List rhA} {M M0 : rhM} {r y0 p : Int} {y1 y2 : Int} (hb : rh_bl w 4 y0 p) (E : eC w YX19_get 0 [(2, y0), (0, y1), (0, y2)] M r M0) (hw1 : rh_wd S1 ≤ 8) : eS w YX27_matches 3 72 L ((0, y2) :: (0, y1) :: (2, y0) :: S1) M 75 L ((0, r) :: S1) M0 := by
  have hd : decode (ry_c YX27_matches) 72 = .ok (.invokevirtual 140, 3) := (tdX27_matches 72).resolve_right (by decide +kernel) ▸ (by decide +kernel : rh_dk dtX27_matches 72 = .ok (.invokevirtual 140, 3))
  obtain ⟨ci, hci, hob⟩ := rh_obk (cis := [16]) (by decide +kernel) hb
  exact fun _ _ K => eA.cv (jX27_matches_140 ci hci) hob (by decide) hd rfl hw1 rfl E K
theorem vX27_matches_154 {w : rhW} {L : rhL} {S1 : List rhA} {M M0 : rhM} {r y0 p : Int} {y1 y2 : Int} (hb : rh_bl w 4 y0 p) (E : eC w YX19_get 0 [(2, y0), (0, y1), (0, y2)] M r M0) (hw1 : rh_wd S1 ≤ 8) : eS w YX27_matches 3 154 L ((0, y2) :: (0, y1) :: (2, y0) :: S1) M 157 L ((0, r) :: S1) M0 := by
  have hd : decode (ry_c YX27_matches) 154 = .ok (.invokevirtual 140, 3) := (tdX27_matches 154).resolve_right (by decide +kernel) ▸ (by decide +kernel : rh_dk dtX27_matches 154 = .ok (.invokevirtual 140, 3))
  obtain ⟨ci, hci, hob⟩ := rh_obk (cis := [16]) (by decide +kernel) hb
  exact fun _ _ K => eA.cv (jX27_matches_140 ci hci) hob (by decide) hd rfl hw1 rfl E K
theorem vX27_matches_161 {w : rhW} {L : rhL} {S1 : List rhA} {M M0 : rhM} {r y0 p : Int} {y1 y2 : Int} (hb : rh_bl w 4 y0 p) (E : eC w YX19_get 0 [(2, y0), (0, y1), (0, y2)] M r M0) (hw1 : rh_wd S1 ≤ 8) : eS w YX27_matches 3 161 L ((0, y2) :: (0, y1) :: (2, y0) :: S1) M 164 L ((0, r) :: S1) M0 := by
  have hd : decode (ry_c YX27_matches) 161 = .ok (.invokevirtual 140, 3) := (tdX27_matches 161).resolve_right (by decide +kernel) ▸ (by decide +kernel : rh_dk dtX27_matches 161 = .ok (.invokevirtual 140, 3))
  obtain ⟨ci, hci, hob⟩ := rh_obk (cis := [16]) (by decide +kernel) hb
  exact fun _ _ K => eA.cv (jX27_matches_140 ci hci) hob (by decide) hd rfl hw1 rfl E K
theorem jX27_isNumber_140 {w : rhW} : ∀ ci ∈ ([16] : List Nat), rh_cvr w YX27_isNumber YX19_get 140 2 ci := rh_one (rh_cvr.of rfl (Or.inl q3132) kX19_get)
theorem vX27_isNumber_10 {w : rhW} {L : rhL} {S1 : List rhA} {M M0 : rhM} {r y0 p : Int} {y1 y2 : Int} (hb : rh_bl w 4 y0 p) (E : eC w YX19_get 0 [(2, y0), (0, y1), (0, y2)] M r M0) (hw1 : rh_wd S1 ≤ 8) : eS w YX27_isNumber 2 10 L ((0, y2) :: (0, y1) :: (2, y0) :: S1) M 13 L ((0, r) :: S1) M0 := by
  have hd : decode (ry_c YX27_isNumber) 10 = .ok (.invokevirtual 140, 3) := (tdX27_isNumber 10).resolve_right (by decide +kernel) ▸ (by decide +kernel : rh_dk dtX27_isNumber 10 = .ok (.invokevirtual 140, 3))
  obtain ⟨ci, hci, hob⟩ := rh_obk (cis := [16]) (by decide +kernel) hb
  exact fun _ _ K => eA.cv (jX27_isNumber_140 ci hci) hob (by decide) hd rfl hw1 rfl E K
theorem vX27_isNumber_21 {w : rhW} {L : rhL} {S1 : List rhA} {M M0 : rhM} {r y0 p : Int} {y1 y2 : Int} (hb : rh_bl w 4 y0 p) (E : eC w YX19_get 0 [(2, y0), (0, y1), (0, y2)] M r M0) (hw1 : rh_wd S1 ≤ 8) : eS w YX27_isNumber 2 21 L ((0, y2) :: (0, y1) :: (2, y0) :: S1) M 24 L ((0, r) :: S1) M0 := by
  have hd : decode (ry_c YX27_isNumber) 21 = .ok (.invokevirtual 140, 3) := (tdX27_isNumber 21).resolve_right (by decide +kernel) ▸ (by decide +kernel : rh_dk dtX27_isNumber 21 = .ok (.invokevirtual 140, 3))
  obtain ⟨ci, hci, hob⟩ := rh_obk (cis := [16]) (by decide +kernel) hb
  exact fun _ _ K => eA.cv (jX27_isNumber_140 ci hci) hob (by decide) hd rfl hw1 rfl E K
theorem vX27_isNumber_63 {w : rhW} {L : rhL} {S1 : List rhA} {M M0 : rhM} {r y0 p : Int} {y1 y2 : Int} (hb : rh_bl w 4 y0 p) (E : eC w YX19_get 0 [(2, y0), (0, y1), (0, y2)] M r M0) (hw1 : rh_wd S1 ≤ 8) : eS w YX27_isNumber 2 63 L ((0, y2) :: (0, y1) :: (2, y0) :: S1) M 66 L ((0, r) :: S1) M0 := by
  have hd : decode (ry_c YX27_isNumber) 63 = .ok (.invokevirtual 140, 3) := (tdX27_isNumber 63).resolve_right (by decide +kernel) ▸ (by decide +kernel : rh_dk dtX27_isNumber 63 = .ok (.invokevirtual 140, 3))
  obtain ⟨ci, hci, hob⟩ := rh_obk (cis := [16]) (by decide +kernel) hb
  exact fun _ _ K => eA.cv (jX27_isNumber_140 ci hci) hob (by decide) hd rfl hw1 rfl E K
theorem vX27_isNumber_81 {w : rhW} {L : rhL} {S1 : List rhA} {M M0 : rhM} {r y0 p : Int} {y1 y2 : Int} (hb : rh_bl w 4 y0 p) (E : eC w YX19_get 0 [(2, y0), (0, y1), (0, y2)] M r M0) (hw1 : rh_wd S1 ≤ 8) : eS w YX27_isNumber 2 81 L ((0, y2) :: (0, y1) :: (2, y0) :: S1) M 84 L ((0, r) :: S1) M0 := by
  have hd : decode (ry_c YX27_isNumber) 81 = .ok (.invokevirtual 140, 3) := (tdX27_isNumber 81).resolve_right (by decide +kernel) ▸ (by decide +kernel : rh_dk dtX27_isNumber 81 = .ok (.invokevirtual 140, 3))
  obtain ⟨ci, hci, hob⟩ := rh_obk (cis := [16]) (by decide +kernel) hb
  exact fun _ _ K => eA.cv (jX27_isNumber_140 ci hci) hob (by decide) hd rfl hw1 rfl E K
theorem vX27_isNumber_118 {w : rhW} {L : rhL} {S1 : List rhA} {M M0 : rhM} {r y0 p : Int} {y1 y2 : Int} (hb : rh_bl w 4 y0 p) (E : eC w YX19_get 0 [(2, y0), (0, y1), (0, y2)] M r M0) (hw1 : rh_wd S1 ≤ 8) : eS w YX27_isNumber 2 118 L ((0, y2) :: (0, y1) :: (2, y0) :: S1) M 121 L ((0, r) :: S1) M0 := by
  have hd : decode (ry_c YX27_isNumber) 118 = .ok (.invokevirtual 140, 3) := (tdX27_isNumber 118).resolve_right (by decide +kernel) ▸ (by decide +kernel : rh_dk dtX27_isNumber 118 = .ok (.invokevirtual 140, 3))
  obtain ⟨ci, hci, hob⟩ := rh_obk (cis := [16]) (by decide +kernel) hb
  exact fun _ _ K => eA.cv (jX27_isNumber_140 ci hci) hob (by decide) hd rfl hw1 rfl E K
theorem vX27_isNumber_130 {w : rhW} {L : rhL} {S1 : List rhA} {M M0 : rhM} {r y0 p : Int} {y1 y2 : Int} (hb : rh_bl w 4 y0 p) (E : eC w YX19_get 0 [(2, y0), (0, y1), (0, y2)] M r M0) (hw1 : rh_wd S1 ≤ 8) : eS w YX27_isNumber 2 130 L ((0, y2) :: (0, y1) :: (2, y0) :: S1) M 133 L ((0, r) :: S1) M0 := by
  have hd : decode (ry_c YX27_isNumber) 130 = .ok (.invokevirtual 140, 3) := (tdX27_isNumber 130).resolve_right (by decide +kernel) ▸ (by decide +kernel : rh_dk dtX27_isNumber 130 = .ok (.invokevirtual 140, 3))
  obtain ⟨ci, hci, hob⟩ := rh_obk (cis := [16]) (by decide +kernel) hb
  exact fun _ _ K => eA.cv (jX27_isNumber_140 ci hci) hob (by decide) hd rfl hw1 rfl E K
theorem vX27_isNumber_157 {w : rhW} {L : rhL} {S1 : List rhA} {M M0 : rhM} {r y0 p : Int} {y1 y2 : Int} (hb : rh_bl w 4 y0 p) (E : eC w YX19_get 0 [(2, y0), (0, y1), (0, y2)] M r M0) (hw1 : rh_wd S1 ≤ 8) : eS w YX27_isNumber 2 157 L ((0, y2) :: (0, y1) :: (2, y0) :: S1) M 160 L ((0, r) :: S1) M0 := by
  have hd : decode (ry_c YX27_isNumber) 157 = .ok (.invokevirtual 140, 3) := (tdX27_isNumber 157).resolve_right (by decide +kernel) ▸ (by decide +kernel : rh_dk dtX27_isNumber 157 = .ok (.invokevirtual 140, 3))
  obtain ⟨ci, hci, hob⟩ := rh_obk (cis := [16]) (by decide +kernel) hb
  exact fun _ _ K => eA.cv (jX27_isNumber_140 ci hci) hob (by decide) hd rfl hw1 rfl E K
theorem vX27_isNumber_175 {w : rhW} {L : rhL} {S1 : List rhA} {M M0 : rhM} {r y0 p : Int} {y1 y2 : Int} (hb : rh_bl w 4 y0 p) (E : eC w YX19_get 0 [(2, y0), (0, y1), (0, y2)] M r M0) (hw1 : rh_wd S1 ≤ 8) : eS w YX27_isNumber 2 175 L ((0, y2) :: (0, y1) :: (2, y0) :: S1) M 178 L ((0, r) :: S1) M0 := by
  have hd : decode (ry_c YX27_isNumber) 175 = .ok (.invokevirtual 140, 3) := (tdX27_isNumber 175).resolve_right (by decide +kernel) ▸ (by decide +kernel : rh_dk dtX27_isNumber 175 = .ok (.invokevirtual 140, 3))
  obtain ⟨ci, hci, hob⟩ := rh_obk (cis := [16]) (by decide +kernel) hb
  exact fun _ _ K => eA.cv (jX27_isNumber_140 ci hci) hob (by decide) hd rfl hw1 rfl E K
theorem vX27_isNumber_227 {w : rhW} {L : rhL} {S1 : List rhA} {M M0 : rhM} {r y0 p : Int} {y1 y2 : Int} (hb : rh_bl w 4 y0 p) (E : eC w YX19_get 0 [(2, y0), (0, y1), (0, y2)] M r M0) (hw1 : rh_wd S1 ≤ 8) : eS w YX27_isNumber 2 227 L ((0, y2) :: (0, y1) :: (2, y0) :: S1) M 230 L ((0, r) :: S1) M0 := by
  have hd : decode (ry_c YX27_isNumber) 227 = .ok (.invokevirtual 140, 3) := (tdX27_isNumber 227).resolve_right (by decide +kernel) ▸ (by decide +kernel : rh_dk dtX27_isNumber 227 = .ok (.invokevirtual 140, 3))
  obtain ⟨ci, hci, hob⟩ := rh_obk (cis := [16]) (by decide +kernel) hb
  exact fun _ _ K => eA.cv (jX27_isNumber_140 ci hci) hob (by decide) hd rfl hw1 rfl E K
theorem q3128 : (Jvm.Cond.methodLink "ReadingHouse$FieldRules" (176 : Nat) ({ cls := "ReadingHouse$FieldRules", name := "matches", desc := "(ILReadingHouse$Row;I)Z" } : Jvm.MethodName)) ∈ lw_all := lw_g (lw_at lw_m12 235 rfl) rfl
theorem jX27_apply_176 {w : rhW} : ∀ ci ∈ ([24] : List Nat), rh_cvr w YX27_apply YX27_matches 176 3 ci := rh_one (rh_cvr.of rfl (Or.inl q3128) kX27_matches)
theorem vX27_apply_63 {w : rhW} (hw : rh_hs w) {L : rhL} {S1 : List rhA} {M M0 : rhM} {r : Int} {y1 y2 y3 : Int} (E : eC w YX27_matches 3 [(2, 221), (0, y1), (2, y2), (0, y3)] M r M0) (hw1 : rh_wd S1 ≤ 8) : eS w YX27_apply 4 63 L ((0, y3) :: (2, y2) :: (0, y1) :: (2, 221) :: S1) M 66 L ((0, r) :: S1) M0 := by
  have hd : decode (ry_c YX27_apply) 63 = .ok (.invokevirtual 176, 3) := (tdX27_apply 63).resolve_right (by decide +kernel) ▸ (by decide +kernel : rh_dk dtX27_apply 63 = .ok (.invokevirtual 176, 3))
  exact fun _ _ K => eA.cv (jX27_apply_176 24 (by decide)) (rh_obl hw 221 (by decide +kernel)) (by decide) hd rfl hw1 rfl E K
theorem q3141 : (Jvm.Cond.methodLink "ReadingHouse$FieldRules" (180 : Nat) ({ cls := "ReadingHouse$FieldRules", name := "target", desc := "(LReadingHouse$Reading;II)I" } : Jvm.MethodName)) ∈ lw_all := lw_g (lw_at lw_m13 8 rfl) rfl
theorem jX27_apply_180 {w : rhW} : rh_csr w YX27_apply YX27_target 180 3 := rh_csr.of (Or.inl q3141) kX27_target
theorem vX27_apply_78 {w : rhW} {L : rhL} {S1 : List rhA} {M M0 : rhM} {r : Int} {y1 y2 y3 : Int} (E : eC w YX27_target 1 [(2, y1), (0, y2), (0, y3)] M r M0) (hw1 : rh_wd S1 ≤ 8) : eS w YX27_apply 4 78 L ((0, y3) :: (0, y2) :: (2, y1) :: S1) M 81 L ((0, r) :: S1) M0 := by
  have hd : decode (ry_c YX27_apply) 78 = .ok (.invokestatic 180, 3) := (tdX27_apply 78).resolve_right (by decide +kernel) ▸ (by decide +kernel : rh_dk dtX27_apply 78 = .ok (.invokestatic 180, 3))
  exact fun _ _ K => eA.cs (jX27_apply_180) (by decide) hd rfl hw1 rfl E K
theorem q3147 : (Jvm.Cond.methodLink "ReadingHouse$FieldRules" (184 : Nat) ({ cls := "ReadingHouse$FieldRules", name := "isNumber", desc := "(LReadingHouse$Row;I)Z" } : Jvm.MethodName)) ∈ lw_all := lw_g (lw_at lw_m13 14 rfl) rfl
theorem jX27_apply_184 {w : rhW} : ∀ ci ∈ ([24] : List Nat), rh_cvr w YX27_apply YX27_isNumber 184 2 ci := rh_one (rh_cvr.of rfl (Or.inl q3147) kX27_isNumber)
theorem vX27_apply_117 {w : rhW} (hw : rh_hs w) {L : rhL} {S1 : List rhA} {M M0 : rhM} {r : Int} {y1 y2 : Int} (E : eC w YX27_isNumber 2 [(2, 221), (2, y1), (0, y2)] M r M0) (hw1 : rh_wd S1 ≤ 8) : eS w YX27_apply 4 117 L ((0, y2) :: (2, y1) :: (2, 221) :: S1) M 120 L ((0, r) :: S1) M0 := by
  have hd : decode (ry_c YX27_apply) 117 = .ok (.invokevirtual 184, 3) := (tdX27_apply 117).resolve_right (by decide +kernel) ▸ (by decide +kernel : rh_dk dtX27_apply 117 = .ok (.invokevirtual 184, 3))
  exact fun _ _ K => eA.cv (jX27_apply_184 24 (by decide)) (rh_obl hw 221 (by decide +kernel)) (by decide) hd rfl hw1 rfl E K
theorem q2275 : (Jvm.Cond.methodLink "ReadingHouse$Forms" (100 : Nat) ({ cls := "ReadingHouse$Cuts", name := "describe", desc := "()V" } : Jvm.MethodName)) ∈ lw_all := lw_g (lw_at lw_m9 102 rfl) rfl
theorem jX17_learn_100 {w : rhW} : ∀ ci ∈ ([13] : List Nat), rh_cvr w YX17_learn YX16_describe 100 0 ci := rh_one (rh_cvr.of rfl (Or.inl q2275) kX16_describe)
theorem vX17_learn_1 {w : rhW} (hw : rh_hs w) {L : rhL} {S1 : List rhA} {M M0 : rhM} {r : Int} (E : eC w YX16_describe 4 [(2, 25)] M r M0) (hw1 : rh_wd S1 ≤ 8) : eS w YX17_learn 5 1 L ((2, 25) :: S1) M 4 L S1 M0 := by
  have hd : decode (ry_c YX17_learn) 1 = .ok (.invokevirtual 100, 3) := (tdX17_learn 1).resolve_right (by decide +kernel) ▸ (by decide +kernel : rh_dk dtX17_learn 1 = .ok (.invokevirtual 100, 3))
  exact fun _ _ K => eA.cv (jX17_learn_100 13 (by decide)) (rh_obl hw 25 (by decide +kernel)) (by decide) hd rfl hw1 rfl E K
theorem q715 : (Jvm.Cond.methodLink "ReadingHouse$Forms" (78 : Nat) ({ cls := "ReadingHouse$Forms", name := "begin", desc := "(IIIII)I" } : Jvm.MethodName)) ∈ lw_all := lw_g (lw_at lw_m2 222 rfl) rfl
theorem jX17_learn_78 {w : rhW} : ∀ ci ∈ ([14] : List Nat), rh_cvr w YX17_learn YX17_begin 78 5 ci := rh_one (rh_cvr.of rfl (Or.inl q715) kX17_begin)
theorem vX17_learn_29 {w : rhW} (hw : rh_hs w) {L : rhL} {S1 : List rhA} {M M0 : rhM} {r : Int} {y1 y2 y3 y4 y5 : Int} (E : eC w YX17_begin 0 [(2, 41), (0, y1), (0, y2), (0, y3), (0, y4), (0, y5)] M r M0) (hw1 : rh_wd S1 ≤ 8) : eS w YX17_learn 5 29 L ((0, y5) :: (0, y4) :: (0, y3) :: (0, y2) :: (0, y1) :: (2, 41) :: S1) M 32 L ((0, r) :: S1) M0 := by
  have hd : decode (ry_c YX17_learn) 29 = .ok (.invokevirtual 78, 3) := (tdX17_learn 29).resolve_right (by decide +kernel) ▸ (by decide +kernel : rh_dk dtX17_learn 29 = .ok (.invokevirtual 78, 3))
  exact fun _ _ K => eA.cv (jX17_learn_78 14 (by decide)) (rh_obl hw 41 (by decide +kernel)) (by decide) hd rfl hw1 rfl E K
theorem q2280 : (Jvm.Cond.methodLink "ReadingHouse$Forms" (118 : Nat) ({ cls := "ReadingHouse$Cuts", name := "isInk", desc := "(II)Z" } : Jvm.MethodName)) ∈ lw_all := lw_g (lw_at lw_m9 107 rfl) rfl
theorem jX17_learn_118 {w : rhW} : ∀ ci ∈ ([13] : List Nat), rh_cvr w YX17_learn YX16_isInk 118 2 ci := rh_one (rh_cvr.of rfl (Or.inl q2280) kX16_isInk)
theorem vX17_learn_93 {w : rhW} (hw : rh_hs w) {L : rhL} {S1 : List rhA} {M M0 : rhM} {r : Int} {y1 y2 : Int} (E : eC w YX16_isInk 0 [(2, 25), (0, y1), (0, y2)] M r M0) (hw1 : rh_wd S1 ≤ 8) : eS w YX17_learn 5 93 L ((0, y2) :: (0, y1) :: (2, 25) :: S1) M 96 L ((0, r) :: S1) M0 := by
  have hd : decode (ry_c YX17_learn) 93 = .ok (.invokevirtual 118, 3) := (tdX17_learn 93).resolve_right (by decide +kernel) ▸ (by decide +kernel : rh_dk dtX17_learn 93 = .ok (.invokevirtual 118, 3))
  exact fun _ _ K => eA.cv (jX17_learn_118 13 (by decide)) (rh_obl hw 25 (by decide +kernel)) (by decide) hd rfl hw1 rfl E K
theorem q2281 : (Jvm.Cond.methodLink "ReadingHouse$Forms" (123 : Nat) ({ cls := "java/lang/System", name := "arraycopy", desc := "(Ljava/lang/Object;ILjava/lang/Object;II)V" } : Jvm.MethodName)) ∈ lw_all := lw_g (lw_at lw_m9 108 rfl) rfl
theorem vX17_learn_137 {w : rhW} {L : rhL} {S1 : List rhA} {M : rhM} {n0 n1 t2 t4 t5 tt : Nat} {ty : FieldType} {r sp r1 dp m : Int} (hty : rh_it ty = true) (hrk : refKind ty = false) (hT : rh_tl[tt]? = some ty) (ha : rh_ar w r ty n0) (hb : rh_ar w r1 ty n1) (h2 : rh_ik t2 = true) (h4 : rh_ik t4 = true) (h5 : rh_ik t5 = true) (hs : 0 ≤ sp) (hdp : 0 ≤ dp) (hm : 0 ≤ m) (hn0 : sp + m ≤ n0) (hn1 : dp + m ≤ n1) (hn0' : n0 ≤ 2147483647) (hn1' : n1 ≤ 2147483647) (hw1 : rh_wd S1 ≤ 8) : eS w YX17_learn 5 137 L ((t5, m) :: (t4, dp) :: (2, r1) :: (t2, sp) :: (2, r) :: S1) M 140 L S1 (rh_cpy M r sp r1 dp m) :=
  fun _ _ K n => by
    have hd : decode (ry_c YX17_learn) 137 = .ok (.invokestatic 123, 3) := (tdX17_learn 137).resolve_right (by decide +kernel) ▸ (by decide +kernel : rh_dk dtX17_learn 137 = .ok (.invokestatic 123, 3))
    exact rh_copy (n := n + 4) q2281 q312 q311 q292 hd hty hrk hT ha hb h2 h4 h5 hs hdp hm hn0 hn1 hn0' hn1' hw1 (K n)
theorem q2319 : (Jvm.Cond.methodLink "ReadingHouse$Forms" (135 : Nat) ({ cls := "ReadingHouse$Forms", name := "distance", desc := "(I[I)I" } : Jvm.MethodName)) ∈ lw_all := lw_g (lw_at lw_m9 146 rfl) rfl
theorem jX17_choose_135 {w : rhW} : ∀ ci ∈ ([14] : List Nat), rh_cvr w YX17_choose YX17_distance 135 2 ci := rh_one (rh_cvr.of rfl (Or.inl q2319) kX17_distance)
theorem vX17_choose_55 {w : rhW} (hw : rh_hs w) {L : rhL} {S1 : List rhA} {M M0 : rhM} {r : Int} {y1 y2 : Int} (E : eC w YX17_distance 0 [(2, 41), (0, y1), (2, y2)] M r M0) (hw1 : rh_wd S1 ≤ 8) : eS w YX17_choose 1 55 L ((2, y2) :: (0, y1) :: (2, 41) :: S1) M 58 L ((0, r) :: S1) M0 := by
  have hd : decode (ry_c YX17_choose) 55 = .ok (.invokevirtual 135, 3) := (tdX17_choose 55).resolve_right (by decide +kernel) ▸ (by decide +kernel : rh_dk dtX17_choose 55 = .ok (.invokevirtual 135, 3))
  exact fun _ _ K => eA.cv (jX17_choose_135 14 (by decide)) (rh_obl hw 41 (by decide +kernel)) (by decide) hd rfl hw1 rfl E K
theorem q2323 : (Jvm.Cond.methodLink "ReadingHouse$Forms" (139 : Nat) ({ cls := "ReadingHouse$Forms", name := "toldBy", desc := "(I[I)I" } : Jvm.MethodName)) ∈ lw_all := lw_g (lw_at lw_m9 150 rfl) rfl
theorem jX17_choose_139 {w : rhW} : ∀ ci ∈ ([14] : List Nat), rh_cvr w YX17_choose YX17_toldBy 139 2 ci := rh_one (rh_cvr.of rfl (Or.inl q2323) kX17_toldBy)
theorem vX17_choose_118 {w : rhW} (hw : rh_hs w) {L : rhL} {S1 : List rhA} {M M0 : rhM} {r : Int} {y1 y2 : Int} (E : eC w YX17_toldBy 0 [(2, 41), (0, y1), (2, y2)] M r M0) (hw1 : rh_wd S1 ≤ 8) : eS w YX17_choose 1 118 L ((2, y2) :: (0, y1) :: (2, 41) :: S1) M 121 L ((0, r) :: S1) M0 := by
  have hd : decode (ry_c YX17_choose) 118 = .ok (.invokevirtual 139, 3) := (tdX17_choose 118).resolve_right (by decide +kernel) ▸ (by decide +kernel : rh_dk dtX17_choose 118 = .ok (.invokevirtual 139, 3))
  exact fun _ _ K => eA.cv (jX17_choose_139 14 (by decide)) (rh_obl hw 41 (by decide +kernel)) (by decide) hd rfl hw1 rfl E K
theorem q2328 : (Jvm.Cond.methodLink "ReadingHouse$Forms" (148 : Nat) ({ cls := "ReadingHouse$Forms", name := "insert", desc := "(II)V" } : Jvm.MethodName)) ∈ lw_all := lw_g (lw_at lw_m9 155 rfl) rfl
theorem jX17_choose_148 {w : rhW} : ∀ ci ∈ ([14] : List Nat), rh_cvr w YX17_choose YX17_insert 148 2 ci := rh_one (rh_cvr.of rfl (Or.inl q2328) kX17_insert)
theorem vX17_choose_190 {w : rhW} (hw : rh_hs w) {L : rhL} {S1 : List rhA} {M M0 : rhM} {r : Int} {y1 y2 : Int} (E : eC w YX17_insert 0 [(2, 41), (0, y1), (0, y2)] M r M0) (hw1 : rh_wd S1 ≤ 8) : eS w YX17_choose 1 190 L ((0, y2) :: (0, y1) :: (2, 41) :: S1) M 193 L S1 M0 := by
  have hd : decode (ry_c YX17_choose) 190 = .ok (.invokevirtual 148, 3) := (tdX17_choose 190).resolve_right (by decide +kernel) ▸ (by decide +kernel : rh_dk dtX17_choose 190 = .ok (.invokevirtual 148, 3))
  exact fun _ _ K => eA.cv (jX17_choose_148 14 (by decide)) (rh_obl hw 41 (by decide +kernel)) (by decide) hd rfl hw1 rfl E K
theorem q2344 : (Jvm.Cond.methodLink "ReadingHouse$Forms" (152 : Nat) ({ cls := "ReadingHouse$Forms", name := "look", desc := "(II)V" } : Jvm.MethodName)) ∈ lw_all := lw_g (lw_at lw_m9 171 rfl) rfl
theorem jX17_grow_152 {w : rhW} : ∀ ci ∈ ([14] : List Nat), rh_cvr w YX17_grow YX17_look 152 2 ci := rh_one (rh_cvr.of rfl (Or.inl q2344) kX17_look)
theorem vX17_grow_59 {w : rhW} (hw : rh_hs w) {L : rhL} {S1 : List rhA} {M M0 : rhM} {r : Int} {y1 y2 : Int} (E : eC w YX17_look 2 [(2, 41), (0, y1), (0, y2)] M r M0) (hw1 : rh_wd S1 ≤ 8) : eS w YX17_grow 3 59 L ((0, y2) :: (0, y1) :: (2, 41) :: S1) M 62 L S1 M0 := by
  have hd : decode (ry_c YX17_grow) 59 = .ok (.invokevirtual 152, 3) := (tdX17_grow 59).resolve_right (by decide +kernel) ▸ (by decide +kernel : rh_dk dtX17_grow 59 = .ok (.invokevirtual 152, 3))
  exact fun _ _ K => eA.cv (jX17_grow_152 14 (by decide)) (rh_obl hw 41 (by decide +kernel)) (by decide) hd rfl hw1 rfl E K
theorem q2348 : (Jvm.Cond.methodLink "ReadingHouse$Forms" (155 : Nat) ({ cls := "ReadingHouse$Forms", name := "part", desc := "(IIJI)V" } : Jvm.MethodName)) ∈ lw_all := lw_g (lw_at lw_m9 175 rfl) rfl
theorem jX17_look_155 {w : rhW} : ∀ ci ∈ ([14] : List Nat), rh_cvr w YX17_look YX17_part 155 4 ci := rh_one (rh_cvr.of rfl (Or.inl q2348) kX17_part)
theorem vX17_look_214 {w : rhW} (hw : rh_hs w) {L : rhL} {S1 : List rhA} {M M0 : rhM} {r : Int} {y1 y2 y3 y4 : Int} (E : eC w YX17_part 1 [(2, 41), (0, y1), (0, y2), (1, y3), (0, y4)] M r M0) (hw1 : rh_wd S1 ≤ 8) : eS w YX17_look 2 214 L ((0, y4) :: (1, y3) :: (0, y2) :: (0, y1) :: (2, 41) :: S1) M 217 L S1 M0 := by
  have hd : decode (ry_c YX17_look) 214 = .ok (.invokevirtual 155, 3) := (tdX17_look 214).resolve_right (by decide +kernel) ▸ (by decide +kernel : rh_dk dtX17_look 214 = .ok (.invokevirtual 155, 3))
  exact fun _ _ K => eA.cv (jX17_look_155 14 (by decide)) (rh_obl hw 41 (by decide +kernel)) (by decide) hd rfl hw1 rfl E K
theorem q2352 : (Jvm.Cond.methodLink "ReadingHouse$Forms" (159 : Nat) ({ cls := "ReadingHouse$Forms", name := "countLow", desc := "(III)I" } : Jvm.MethodName)) ∈ lw_all := lw_g (lw_at lw_m9 179 rfl) rfl
theorem jX17_part_159 {w : rhW} : ∀ ci ∈ ([14] : List Nat), rh_cvr w YX17_part YX17_countLow 159 3 ci := rh_one (rh_cvr.of rfl (Or.inl q2352) kX17_countLow)
theorem vX17_part_68 {w : rhW} (hw : rh_hs w) {L : rhL} {S1 : List rhA} {M M0 : rhM} {r : Int} {y1 y2 y3 : Int} (E : eC w YX17_countLow 0 [(2, 41), (0, y1), (0, y2), (0, y3)] M r M0) (hw1 : rh_wd S1 ≤ 8) : eS w YX17_part 1 68 L ((0, y3) :: (0, y2) :: (0, y1) :: (2, 41) :: S1) M 71 L ((0, r) :: S1) M0 := by
  have hd : decode (ry_c YX17_part) 68 = .ok (.invokevirtual 159, 3) := (tdX17_part 68).resolve_right (by decide +kernel) ▸ (by decide +kernel : rh_dk dtX17_part 68 = .ok (.invokevirtual 159, 3))
  exact fun _ _ K => eA.cv (jX17_part_159 14 (by decide)) (rh_obl hw 41 (by decide +kernel)) (by decide) hd rfl hw1 rfl E K
theorem q2084 : (Jvm.Cond.methodLink "ReadingHouse$Layout" (98 : Nat) ({ cls := "ReadingHouse$Layout", name := "smear", desc := "(LReadingHouse$Page;IILReadingHouse$Sheet;)V" } : Jvm.MethodName)) ∈ lw_all := lw_g (lw_at lw_m8 151 rfl) rfl
theorem jX30_make_98 {w : rhW} : rh_csr w YX30_make YX30_smear 98 4 := rh_csr.of (Or.inl q2084) kX30_smear
theorem vX30_make_10 {w : rhW} {L : rhL} {S1 : List rhA} {M M0 : rhM} {r : Int} {y1 y2 y3 y4 : Int} (E : eC w YX30_smear 2 [(2, y1), (0, y2), (0, y3), (2, y4)] M r M0) (hw1 : rh_wd S1 ≤ 8) : eS w YX30_make 6 10 L ((2, y4) :: (0, y3) :: (0, y2) :: (2, y1) :: S1) M 13 L S1 M0 := by
  have hd : decode (ry_c YX30_make) 10 = .ok (.invokestatic 98, 3) := (tdX30_make 10).resolve_right (by decide +kernel) ▸ (by decide +kernel : rh_dk dtX30_make 10 = .ok (.invokestatic 98, 3))
  exact fun _ _ K => eA.cs (jX30_make_98) (by decide) hd rfl hw1 rfl E K
theorem q2094 : (Jvm.Cond.methodLink "ReadingHouse$Layout" (102 : Nat) ({ cls := "ReadingHouse$Parts", name := "find", desc := "(LReadingHouse$Sheet;ZI)V" } : Jvm.MethodName)) ∈ lw_all := lw_g (lw_at lw_m8 161 rfl) rfl
theorem jX30_make_102 {w : rhW} : ∀ ci ∈ ([5] : List Nat), rh_cvr w YX30_make YX6_find 102 3 ci := rh_one (rh_cvr.of rfl (Or.inl q2094) kX6_find)
theorem vX30_make_20 {w : rhW} (hw : rh_hs w) {L : rhL} {S1 : List rhA} {M M0 : rhM} {r : Int} {y1 y2 y3 : Int} (E : eC w YX6_find 2 [(2, 10), (2, y1), (0, y2), (0, y3)] M r M0) (hw1 : rh_wd S1 ≤ 8) : eS w YX30_make 6 20 L ((0, y3) :: (0, y2) :: (2, y1) :: (2, 10) :: S1) M 23 L S1 M0 := by
  have hd : decode (ry_c YX30_make) 20 = .ok (.invokevirtual 102, 3) := (tdX30_make 20).resolve_right (by decide +kernel) ▸ (by decide +kernel : rh_dk dtX30_make 20 = .ok (.invokevirtual 102, 3))
  exact fun _ _ K => eA.cv (jX30_make_102 5 (by decide)) (rh_obl hw 10 (by decide +kernel)) (by decide) hd rfl hw1 rfl E K
theorem q2095 : (Jvm.Cond.methodLink "ReadingHouse$Layout" (108 : Nat) ({ cls := "ReadingHouse$Layout", name := "findBlocks", desc := "(LReadingHouse$Page;LReadingHouse$Parts;)V" } : Jvm.MethodName)) ∈ lw_all := lw_g (lw_at lw_m8 162 rfl) rfl
theorem jX30_make_108 {w : rhW} : ∀ ci ∈ ([27] : List Nat), rh_cvr w YX30_make YX30_findBlocks 108 2 ci := rh_one (rh_cvr.of rfl (Or.inl q2095) kX30_findBlocks)
theorem vX30_make_27 {w : rhW} {L : rhL} {S1 : List rhA} {M M0 : rhM} {r y0 p : Int} {y1 y2 : Int} (hb : rh_bl w 1 y0 p) (E : eC w YX30_findBlocks 1 [(2, y0), (2, y1), (2, y2)] M r M0) (hw1 : rh_wd S1 ≤ 8) : eS w YX30_make 6 27 L ((2, y2) :: (2, y1) :: (2, y0) :: S1) M 30 L S1 M0 := by
  have hd : decode (ry_c YX30_make) 27 = .ok (.invokevirtual 108, 3) := (tdX30_make 27).resolve_right (by decide +kernel) ▸ (by decide +kernel : rh_dk dtX30_make 27 = .ok (.invokevirtual 108, 3))
  obtain ⟨ci, hci, hob⟩ := rh_obk (cis := [27]) (by decide +kernel) hb
  exact fun _ _ K => eA.cv (jX30_make_108 ci hci) hob (by decide) hd rfl hw1 rfl E K
theorem q2101 : (Jvm.Cond.methodLink "ReadingHouse$Layout" (112 : Nat) ({ cls := "ReadingHouse$Layout", name := "putInOrder", desc := "()V" } : Jvm.MethodName)) ∈ lw_all := lw_g (lw_at lw_m8 168 rfl) rfl
theorem jX30_make_112 {w : rhW} : ∀ ci ∈ ([27] : List Nat), rh_cvr w YX30_make YX30_putInOrder 112 0 ci := rh_one (rh_cvr.of rfl (Or.inl q2101) kX30_putInOrder)
theorem vX30_make_31 {w : rhW} {L : rhL} {S1 : List rhA} {M M0 : rhM} {r y0 p : Int} (hb : rh_bl w 1 y0 p) (E : eC w YX30_putInOrder 5 [(2, y0)] M r M0) (hw1 : rh_wd S1 ≤ 8) : eS w YX30_make 6 31 L ((2, y0) :: S1) M 34 L S1 M0 := by
  have hd : decode (ry_c YX30_make) 31 = .ok (.invokevirtual 112, 3) := (tdX30_make 31).resolve_right (by decide +kernel) ▸ (by decide +kernel : rh_dk dtX30_make 31 = .ok (.invokevirtual 112, 3))
  obtain ⟨ci, hci, hob⟩ := rh_obk (cis := [27]) (by decide +kernel) hb
  exact fun _ _ K => eA.cv (jX30_make_112 ci hci) hob (by decide) hd rfl hw1 rfl E K
theorem q2129 : (Jvm.Cond.methodLink "ReadingHouse$Layout" (136 : Nat) ({ cls := "ReadingHouse$Layout", name := "findLines", desc := "(LReadingHouse$Page;I)V" } : Jvm.MethodName)) ∈ lw_all := lw_g (lw_at lw_m8 196 rfl) rfl
theorem jX30_make_136 {w : rhW} : ∀ ci ∈ ([27] : List Nat), rh_cvr w YX30_make YX30_findLines 136 2 ci := rh_one (rh_cvr.of rfl (Or.inl q2129) kX30_findLines)
theorem vX30_make_135 {w : rhW} {L : rhL} {S1 : List rhA} {M M0 : rhM} {r y0 p : Int} {y1 y2 : Int} (hb : rh_bl w 1 y0 p) (E : eC w YX30_findLines 3 [(2, y0), (2, y1), (0, y2)] M r M0) (hw1 : rh_wd S1 ≤ 8) : eS w YX30_make 6 135 L ((0, y2) :: (2, y1) :: (2, y0) :: S1) M 138 L S1 M0 := by
  have hd : decode (ry_c YX30_make) 135 = .ok (.invokevirtual 136, 3) := (tdX30_make 135).resolve_right (by decide +kernel) ▸ (by decide +kernel : rh_dk dtX30_make 135 = .ok (.invokevirtual 136, 3))
  obtain ⟨ci, hci, hob⟩ := rh_obk (cis := [27]) (by decide +kernel) hb
  exact fun _ _ K => eA.cv (jX30_make_136 ci hci) hob (by decide) hd rfl hw1 rfl E K
theorem q2155 : (Jvm.Cond.methodLink "ReadingHouse$Layout" (140 : Nat) ({ cls := "ReadingHouse$Layout", name := "findWords", desc := "(LReadingHouse$Page;I)V" } : Jvm.MethodName)) ∈ lw_all := lw_g (lw_at lw_m8 222 rfl) rfl
theorem jX30_make_140 {w : rhW} : ∀ ci ∈ ([27] : List Nat), rh_cvr w YX30_make YX30_findWords 140 2 ci := rh_one (rh_cvr.of rfl (Or.inl q2155) kX30_findWords)
theorem vX30_make_160 {w : rhW} {L : rhL} {S1 : List rhA} {M M0 : rhM} {r y0 p : Int} {y1 y2 : Int} (hb : rh_bl w 1 y0 p) (E : eC w YX30_findWords 2 [(2, y0), (2, y1), (0, y2)] M r M0) (hw1 : rh_wd S1 ≤ 8) : eS w YX30_make 6 160 L ((0, y2) :: (2, y1) :: (2, y0) :: S1) M 163 L S1 M0 := by
  have hd : decode (ry_c YX30_make) 160 = .ok (.invokevirtual 140, 3) := (tdX30_make 160).resolve_right (by decide +kernel) ▸ (by decide +kernel : rh_dk dtX30_make 160 = .ok (.invokevirtual 140, 3))
  obtain ⟨ci, hci, hob⟩ := rh_obk (cis := [27]) (by decide +kernel) hb
  exact fun _ _ K => eA.cv (jX30_make_140 ci hci) hob (by decide) hd rfl hw1 rfl E K
theorem q2090 : (Jvm.Cond.methodLink "ReadingHouse$Layout" (167 : Nat) ({ cls := "ReadingHouse$Layout", name := "fillAlong", desc := "(LReadingHouse$Sheet;IIII)V" } : Jvm.MethodName)) ∈ lw_all := lw_g (lw_at lw_m8 157 rfl) rfl
theorem jX30_smear_167 {w : rhW} : rh_csr w YX30_smear YX30_fillAlong 167 5 := rh_csr.of (Or.inl q2090) kX30_fillAlong
theorem vX30_smear_80 {w : rhW} {L : rhL} {S1 : List rhA} {M M0 : rhM} {r : Int} {y1 y2 y3 y4 y5 : Int} (E : eC w YX30_fillAlong 1 [(2, y1), (0, y2), (0, y3), (0, y4), (0, y5)] M r M0) (hw1 : rh_wd S1 ≤ 8) : eS w YX30_smear 2 80 L ((0, y5) :: (0, y4) :: (0, y3) :: (0, y2) :: (2, y1) :: S1) M 83 L S1 M0 := by
  have hd : decode (ry_c YX30_smear) 80 = .ok (.invokestatic 167, 3) := (tdX30_smear 80).resolve_right (by decide +kernel) ▸ (by decide +kernel : rh_dk dtX30_smear 80 = .ok (.invokestatic 167, 3))
  exact fun _ _ K => eA.cs (jX30_smear_167) (by decide) hd rfl hw1 rfl E K
theorem vX30_smear_113 {w : rhW} {L : rhL} {S1 : List rhA} {M M0 : rhM} {r : Int} {y1 y2 y3 y4 y5 : Int} (E : eC w YX30_fillAlong 1 [(2, y1), (0, y2), (0, y3), (0, y4), (0, y5)] M r M0) (hw1 : rh_wd S1 ≤ 8) : eS w YX30_smear 2 113 L ((0, y5) :: (0, y4) :: (0, y3) :: (0, y2) :: (2, y1) :: S1) M 116 L S1 M0 := by
  have hd : decode (ry_c YX30_smear) 113 = .ok (.invokestatic 167, 3) := (tdX30_smear 113).resolve_right (by decide +kernel) ▸ (by decide +kernel : rh_dk dtX30_smear 113 = .ok (.invokestatic 167, 3))
  exact fun _ _ K => eA.cs (jX30_smear_167) (by decide) hd rfl hw1 rfl E K
theorem q2121 : (Jvm.Cond.methodLink "ReadingHouse$Layout" (192 : Nat) ({ cls := "ReadingHouse$Layout", name := "isBetween", desc := "(III)Z" } : Jvm.MethodName)) ∈ lw_all := lw_g (lw_at lw_m8 188 rfl) rfl
theorem jX30_goesBefore_192 {w : rhW} : ∀ ci ∈ ([27] : List Nat), rh_cvr w YX30_goesBefore YX30_isBetween 192 3 ci := rh_one (rh_cvr.of rfl (Or.inl q2121) kX30_isBetween)
theorem vX30_goesBefore_102 {w : rhW} {L : rhL} {S1 : List rhA} {M M0 : rhM} {r y0 p : Int} {y1 y2 y3 : Int} (hb : rh_bl w 1 y0 p) (E : eC w YX30_isBetween 1 [(2, y0), (0, y1), (0, y2), (0, y3)] M r M0) (hw1 : rh_wd S1 ≤ 8) : eS w YX30_goesBefore 2 102 L ((0, y3) :: (0, y2) :: (0, y1) :: (2, y0) :: S1) M 105 L ((0, r) :: S1) M0 := by
  have hd : decode (ry_c YX30_goesBefore) 102 = .ok (.invokevirtual 192, 3) := (tdX30_goesBefore 102).resolve_right (by decide +kernel) ▸ (by decide +kernel : rh_dk dtX30_goesBefore 102 = .ok (.invokevirtual 192, 3))
  obtain ⟨ci, hci, hob⟩ := rh_obk (cis := [27]) (by decide +kernel) hb
  exact fun _ _ K => eA.cv (jX30_goesBefore_192 ci hci) hob (by decide) hd rfl hw1 rfl E K
theorem q2113 : (Jvm.Cond.methodLink "ReadingHouse$Layout" (196 : Nat) ({ cls := "ReadingHouse$Layout", name := "goesBefore", desc := "(II)Z" } : Jvm.MethodName)) ∈ lw_all := lw_g (lw_at lw_m8 180 rfl) rfl
theorem jX30_isFree_196 {w : rhW} : ∀ ci ∈ ([27] : List Nat), rh_cvr w YX30_isFree YX30_goesBefore 196 2 ci := rh_one (rh_cvr.of rfl (Or.inl q2113) kX30_goesBefore)
theorem vX30_isFree_27 {w : rhW} {L : rhL} {S1 : List rhA} {M M0 : rhM} {r y0 p : Int} {y1 y2 : Int} (hb : rh_bl w 1 y0 p) (E : eC w YX30_goesBefore 2 [(2, y0), (0, y1), (0, y2)] M r M0) (hw1 : rh_wd S1 ≤ 8) : eS w YX30_isFree 3 27 L ((0, y2) :: (0, y1) :: (2, y0) :: S1) M 30 L ((0, r) :: S1) M0 := by
  have hd : decode (ry_c YX30_isFree) 27 = .ok (.invokevirtual 196, 3) := (tdX30_isFree 27).resolve_right (by decide +kernel) ▸ (by decide +kernel : rh_dk dtX30_isFree 27 = .ok (.invokevirtual 196, 3))
  obtain ⟨ci, hci, hob⟩ := rh_obk (cis := [27]) (by decide +kernel) hb
  exact fun _ _ K => eA.cv (jX30_isFree_196 ci hci) hob (by decide) hd rfl hw1 rfl E K
theorem q2109 : (Jvm.Cond.methodLink "ReadingHouse$Layout" (199 : Nat) ({ cls := "ReadingHouse$Layout", name := "isFree", desc := "(I)Z" } : Jvm.MethodName)) ∈ lw_all := lw_g (lw_at lw_m8 176 rfl) rfl
theorem jX30_nextBlock_199 {w : rhW} : ∀ ci ∈ ([27] : List Nat), rh_cvr w YX30_nextBlock YX30_isFree 199 1 ci := rh_one (rh_cvr.of rfl (Or.inl q2109) kX30_isFree)
theorem vX30_nextBlock_27 {w : rhW} {L : rhL} {S1 : List rhA} {M M0 : rhM} {r y0 p : Int} {y1 : Int} (hb : rh_bl w 1 y0 p) (E : eC w YX30_isFree 3 [(2, y0), (0, y1)] M r M0) (hw1 : rh_wd S1 ≤ 8) : eS w YX30_nextBlock 4 27 L ((0, y1) :: (2, y0) :: S1) M 30 L ((0, r) :: S1) M0 := by
  have hd : decode (ry_c YX30_nextBlock) 27 = .ok (.invokevirtual 199, 3) := (tdX30_nextBlock 27).resolve_right (by decide +kernel) ▸ (by decide +kernel : rh_dk dtX30_nextBlock 27 = .ok (.invokevirtual 199, 3))
  obtain ⟨ci, hci, hob⟩ := rh_obk (cis := [27]) (by decide +kernel) hb
  exact fun _ _ K => eA.cv (jX30_nextBlock_199 ci hci) hob (by decide) hd rfl hw1 rfl E K
theorem q2105 : (Jvm.Cond.methodLink "ReadingHouse$Layout" (202 : Nat) ({ cls := "ReadingHouse$Layout", name := "nextBlock", desc := "(Z)I" } : Jvm.MethodName)) ∈ lw_all := lw_g (lw_at lw_m8 172 rfl) rfl
theorem jX30_putInOrder_202 {w : rhW} : ∀ ci ∈ ([27] : List Nat), rh_cvr w YX30_putInOrder YX30_nextBlock 202 1 ci := rh_one (rh_cvr.of rfl (Or.inl q2105) kX30_nextBlock)
theorem vX30_putInOrder_35 {w : rhW} {L : rhL} {S1 : List rhA} {M M0 : rhM} {r y0 p : Int} {y1 : Int} (hb : rh_bl w 1 y0 p) (E : eC w YX30_nextBlock 4 [(2, y0), (0, y1)] M r M0) (hw1 : rh_wd S1 ≤ 8) : eS w YX30_putInOrder 5 35 L ((0, y1) :: (2, y0) :: S1) M 38 L ((0, r) :: S1) M0 := by
  have hd : decode (ry_c YX30_putInOrder) 35 = .ok (.invokevirtual 202, 3) := (tdX30_putInOrder 35).resolve_right (by decide +kernel) ▸ (by decide +kernel : rh_dk dtX30_putInOrder 35 = .ok (.invokevirtual 202, 3))
  obtain ⟨ci, hci, hob⟩ := rh_obk (cis := [27]) (by decide +kernel) hb
  exact fun _ _ K => eA.cv (jX30_putInOrder_202 ci hci) hob (by decide) hd rfl hw1 rfl E K
theorem vX30_putInOrder_46 {w : rhW} {L : rhL} {S1 : List rhA} {M M0 : rhM} {r y0 p : Int} {y1 : Int} (hb : rh_bl w 1 y0 p) (E : eC w YX30_nextBlock 4 [(2, y0), (0, y1)] M r M0) (hw1 : rh_wd S1 ≤ 8) : eS w YX30_putInOrder 5 46 L ((0, y1) :: (2, y0) :: S1) M 49 L ((0, r) :: S1) M0 := by
  have hd : decode (ry_c YX30_putInOrder) 46 = .ok (.invokevirtual 202, 3) := (tdX30_putInOrder 46).resolve_right (by decide +kernel) ▸ (by decide +kernel : rh_dk dtX30_putInOrder 46 = .ok (.invokevirtual 202, 3))
  obtain ⟨ci, hci, hob⟩ := rh_obk (cis := [27]) (by decide +kernel) hb
  exact fun _ _ K => eA.cv (jX30_putInOrder_202 ci hci) hob (by decide) hd rfl hw1 rfl E K
theorem q2137 : (Jvm.Cond.methodLink "ReadingHouse$Layout" (212 : Nat) ({ cls := "ReadingHouse$Layout", name := "areNear", desc := "(LReadingHouse$Page;II)Z" } : Jvm.MethodName)) ∈ lw_all := lw_g (lw_at lw_m8 204 rfl) rfl
theorem jX30_group_212 {w : rhW} : rh_csr w YX30_group YX30_areNear 212 3 := rh_csr.of (Or.inl q2137) kX30_areNear
theorem vX30_group_102 {w : rhW} {L : rhL} {S1 : List rhA} {M M0 : rhM} {r : Int} {y1 y2 y3 : Int} (E : eC w YX30_areNear 1 [(2, y1), (0, y2), (0, y3)] M r M0) (hw1 : rh_wd S1 ≤ 8) : eS w YX30_group 2 102 L ((0, y3) :: (0, y2) :: (2, y1) :: S1) M 105 L ((0, r) :: S1) M0 := by
  have hd : decode (ry_c YX30_group) 102 = .ok (.invokestatic 212, 3) := (tdX30_group 102).resolve_right (by decide +kernel) ▸ (by decide +kernel : rh_dk dtX30_group 102 = .ok (.invokestatic 212, 3))
  exact fun _ _ K => eA.cs (jX30_group_212) (by decide) hd rfl hw1 rfl E K
theorem q2133 : (Jvm.Cond.methodLink "ReadingHouse$Layout" (219 : Nat) ({ cls := "ReadingHouse$Layout", name := "group", desc := "(LReadingHouse$Page;I)V" } : Jvm.MethodName)) ∈ lw_all := lw_g (lw_at lw_m8 200 rfl) rfl
theorem jX30_findLines_219 {w : rhW} : ∀ ci ∈ ([27] : List Nat), rh_cvr w YX30_findLines YX30_group 219 2 ci := rh_one (rh_cvr.of rfl (Or.inl q2133) kX30_group)
theorem vX30_findLines_3 {w : rhW} {L : rhL} {S1 : List rhA} {M M0 : rhM} {r y0 p : Int} {y1 y2 : Int} (hb : rh_bl w 1 y0 p) (E : eC w YX30_group 2 [(2, y0), (2, y1), (0, y2)] M r M0) (hw1 : rh_wd S1 ≤ 8) : eS w YX30_findLines 3 3 L ((0, y2) :: (2, y1) :: (2, y0) :: S1) M 6 L S1 M0 := by
  have hd : decode (ry_c YX30_findLines) 3 = .ok (.invokevirtual 219, 3) := (tdX30_findLines 3).resolve_right (by decide +kernel) ▸ (by decide +kernel : rh_dk dtX30_findLines 3 = .ok (.invokevirtual 219, 3))
  obtain ⟨ci, hci, hob⟩ := rh_obk (cis := [27]) (by decide +kernel) hb
  exact fun _ _ K => eA.cv (jX30_findLines_219 ci hci) hob (by decide) hd rfl hw1 rfl E K
theorem q2140 : (Jvm.Cond.methodLink "ReadingHouse$Layout" (222 : Nat) ({ cls := "ReadingHouse$Layout", name := "nextGroup", desc := "(LReadingHouse$Page;)I" } : Jvm.MethodName)) ∈ lw_all := lw_g (lw_at lw_m8 207 rfl) rfl
theorem jX30_findLines_222 {w : rhW} : ∀ ci ∈ ([27] : List Nat), rh_cvr w YX30_findLines YX30_nextGroup 222 1 ci := rh_one (rh_cvr.of rfl (Or.inl q2140) kX30_nextGroup)
theorem vX30_findLines_8 {w : rhW} {L : rhL} {S1 : List rhA} {M M0 : rhM} {r y0 p : Int} {y1 : Int} (hb : rh_bl w 1 y0 p) (E : eC w YX30_nextGroup 2 [(2, y0), (2, y1)] M r M0) (hw1 : rh_wd S1 ≤ 8) : eS w YX30_findLines 3 8 L ((2, y1) :: (2, y0) :: S1) M 11 L ((0, r) :: S1) M0 := by
  have hd : decode (ry_c YX30_findLines) 8 = .ok (.invokevirtual 222, 3) := (tdX30_findLines 8).resolve_right (by decide +kernel) ▸ (by decide +kernel : rh_dk dtX30_findLines 8 = .ok (.invokevirtual 222, 3))
  obtain ⟨ci, hci, hob⟩ := rh_obk (cis := [27]) (by decide +kernel) hb
  exact fun _ _ K => eA.cv (jX30_findLines_222 ci hci) hob (by decide) hd rfl hw1 rfl E K
theorem q2144 : (Jvm.Cond.methodLink "ReadingHouse$Layout" (226 : Nat) ({ cls := "ReadingHouse$Layout", name := "topOf", desc := "(LReadingHouse$Page;I)I" } : Jvm.MethodName)) ∈ lw_all := lw_g (lw_at lw_m8 211 rfl) rfl
theorem jX30_findLines_226 {w : rhW} : ∀ ci ∈ ([27] : List Nat), rh_cvr w YX30_findLines YX30_topOf 226 2 ci := rh_one (rh_cvr.of rfl (Or.inl q2144) kX30_topOf)
theorem vX30_findLines_47 {w : rhW} {L : rhL} {S1 : List rhA} {M M0 : rhM} {r y0 p : Int} {y1 y2 : Int} (hb : rh_bl w 1 y0 p) (E : eC w YX30_topOf 1 [(2, y0), (2, y1), (0, y2)] M r M0) (hw1 : rh_wd S1 ≤ 8) : eS w YX30_findLines 3 47 L ((0, y2) :: (2, y1) :: (2, y0) :: S1) M 50 L ((0, r) :: S1) M0 := by
  have hd : decode (ry_c YX30_findLines) 47 = .ok (.invokevirtual 226, 3) := (tdX30_findLines 47).resolve_right (by decide +kernel) ▸ (by decide +kernel : rh_dk dtX30_findLines 47 = .ok (.invokevirtual 226, 3))
  obtain ⟨ci, hci, hob⟩ := rh_obk (cis := [27]) (by decide +kernel) hb
  exact fun _ _ K => eA.cv (jX30_findLines_226 ci hci) hob (by decide) hd rfl hw1 rfl E K
theorem q2148 : (Jvm.Cond.methodLink "ReadingHouse$Layout" (230 : Nat) ({ cls := "ReadingHouse$Layout", name := "leftOf", desc := "(LReadingHouse$Page;I)I" } : Jvm.MethodName)) ∈ lw_all := lw_g (lw_at lw_m8 215 rfl) rfl
theorem jX30_findLines_230 {w : rhW} : ∀ ci ∈ ([27] : List Nat), rh_cvr w YX30_findLines YX30_leftOf 230 2 ci := rh_one (rh_cvr.of rfl (Or.inl q2148) kX30_leftOf)
theorem vX30_findLines_62 {w : rhW} {L : rhL} {S1 : List rhA} {M M0 : rhM} {r y0 p : Int} {y1 y2 : Int} (hb : rh_bl w 1 y0 p) (E : eC w YX30_leftOf 1 [(2, y0), (2, y1), (0, y2)] M r M0) (hw1 : rh_wd S1 ≤ 8) : eS w YX30_findLines 3 62 L ((0, y2) :: (2, y1) :: (2, y0) :: S1) M 65 L ((0, r) :: S1) M0 := by
  have hd : decode (ry_c YX30_findLines) 62 = .ok (.invokevirtual 230, 3) := (tdX30_findLines 62).resolve_right (by decide +kernel) ▸ (by decide +kernel : rh_dk dtX30_findLines 62 = .ok (.invokevirtual 230, 3))
  obtain ⟨ci, hci, hob⟩ := rh_obk (cis := [27]) (by decide +kernel) hb
  exact fun _ _ K => eA.cv (jX30_findLines_230 ci hci) hob (by decide) hd rfl hw1 rfl E K
theorem q2152 : (Jvm.Cond.methodLink "ReadingHouse$Layout" (233 : Nat) ({ cls := "ReadingHouse$Layout", name := "isLeftOf", desc := "(LReadingHouse$Page;II)Z" } : Jvm.MethodName)) ∈ lw_all := lw_g (lw_at lw_m8 219 rfl) rfl
theorem jX30_findLines_233 {w : rhW} : rh_csr w YX30_findLines YX30_isLeftOf 233 3 := rh_csr.of (Or.inl q2152) kX30_isLeftOf
theorem vX30_findLines_168 {w : rhW} {L : rhL} {S1 : List rhA} {M M0 : rhM} {r : Int} {y1 y2 y3 : Int} (E : eC w YX30_isLeftOf 0 [(2, y1), (0, y2), (0, y3)] M r M0) (hw1 : rh_wd S1 ≤ 8) : eS w YX30_findLines 3 168 L ((0, y3) :: (0, y2) :: (2, y1) :: S1) M 171 L ((0, r) :: S1) M0 := by
  have hd : decode (ry_c YX30_findLines) 168 = .ok (.invokestatic 233, 3) := (tdX30_findLines 168).resolve_right (by decide +kernel) ▸ (by decide +kernel : rh_dk dtX30_findLines 168 = .ok (.invokestatic 233, 3))
  exact fun _ _ K => eA.cs (jX30_findLines_233) (by decide) hd rfl hw1 rfl E K
theorem vX30_findLines_291 {w : rhW} {L : rhL} {S1 : List rhA} {M M0 : rhM} {r y0 p : Int} {y1 : Int} (hb : rh_bl w 1 y0 p) (E : eC w YX30_nextGroup 2 [(2, y0), (2, y1)] M r M0) (hw1 : rh_wd S1 ≤ 8) : eS w YX30_findLines 3 291 L ((2, y1) :: (2, y0) :: S1) M 294 L ((0, r) :: S1) M0 := by
  have hd : decode (ry_c YX30_findLines) 291 = .ok (.invokevirtual 222, 3) := (tdX30_findLines 291).resolve_right (by decide +kernel) ▸ (by decide +kernel : rh_dk dtX30_findLines 291 = .ok (.invokevirtual 222, 3))
  obtain ⟨ci, hci, hob⟩ := rh_obk (cis := [27]) (by decide +kernel) hb
  exact fun _ _ K => eA.cv (jX30_findLines_222 ci hci) hob (by decide) hd rfl hw1 rfl E K
theorem jX30_nextGroup_226 {w : rhW} : ∀ ci ∈ ([27] : List Nat), rh_cvr w YX30_nextGroup YX30_topOf 226 2 ci := rh_one (rh_cvr.of rfl (Or.inl q2144) kX30_topOf)
theorem vX30_nextGroup_35 {w : rhW} {L : rhL} {S1 : List rhA} {M M0 : rhM} {r y0 p : Int} {y1 y2 : Int} (hb : rh_bl w 1 y0 p) (E : eC w YX30_topOf 1 [(2, y0), (2, y1), (0, y2)] M r M0) (hw1 : rh_wd S1 ≤ 8) : eS w YX30_nextGroup 2 35 L ((0, y2) :: (2, y1) :: (2, y0) :: S1) M 38 L ((0, r) :: S1) M0 := by
  have hd : decode (ry_c YX30_nextGroup) 35 = .ok (.invokevirtual 226, 3) := (tdX30_nextGroup 35).resolve_right (by decide +kernel) ▸ (by decide +kernel : rh_dk dtX30_nextGroup 35 = .ok (.invokevirtual 226, 3))
  obtain ⟨ci, hci, hob⟩ := rh_obk (cis := [27]) (by decide +kernel) hb
  exact fun _ _ K => eA.cv (jX30_nextGroup_226 ci hci) hob (by decide) hd rfl hw1 rfl E K
theorem jX30_nextGroup_230 {w : rhW} : ∀ ci ∈ ([27] : List Nat), rh_cvr w YX30_nextGroup YX30_leftOf 230 2 ci := rh_one (rh_cvr.of rfl (Or.inl q2148) kX30_leftOf)
theorem vX30_nextGroup_44 {w : rhW} {L : rhL} {S1 : List rhA} {M M0 : rhM} {r y0 p : Int} {y1 y2 : Int} (hb : rh_bl w 1 y0 p) (E : eC w YX30_leftOf 1 [(2, y0), (2, y1), (0, y2)] M r M0) (hw1 : rh_wd S1 ≤ 8) : eS w YX30_nextGroup 2 44 L ((0, y2) :: (2, y1) :: (2, y0) :: S1) M 47 L ((0, r) :: S1) M0 := by
  have hd : decode (ry_c YX30_nextGroup) 44 = .ok (.invokevirtual 230, 3) := (tdX30_nextGroup 44).resolve_right (by decide +kernel) ▸ (by decide +kernel : rh_dk dtX30_nextGroup 44 = .ok (.invokevirtual 230, 3))
  obtain ⟨ci, hci, hob⟩ := rh_obk (cis := [27]) (by decide +kernel) hb
  exact fun _ _ K => eA.cv (jX30_nextGroup_230 ci hci) hob (by decide) hd rfl hw1 rfl E K
theorem q2159 : (Jvm.Cond.methodLink "ReadingHouse$Layout" (241 : Nat) ({ cls := "ReadingHouse$Layout", name := "partedAbove", desc := "(I)I" } : Jvm.MethodName)) ∈ lw_all := lw_g (lw_at lw_m8 226 rfl) rfl
theorem jX30_findWords_241 {w : rhW} : ∀ ci ∈ ([27] : List Nat), rh_cvr w YX30_findWords YX30_partedAbove 241 1 ci := rh_one (rh_cvr.of rfl (Or.inl q2159) kX30_partedAbove)
theorem vX30_findWords_101 {w : rhW} {L : rhL} {S1 : List rhA} {M M0 : rhM} {r y0 p : Int} {y1 : Int} (hb : rh_bl w 1 y0 p) (E : eC w YX30_partedAbove 0 [(2, y0), (0, y1)] M r M0) (hw1 : rh_wd S1 ≤ 8) : eS w YX30_findWords 2 101 L ((0, y1) :: (2, y0) :: S1) M 104 L ((0, r) :: S1) M0 := by
  have hd : decode (ry_c YX30_findWords) 101 = .ok (.invokevirtual 241, 3) := (tdX30_findWords 101).resolve_right (by decide +kernel) ▸ (by decide +kernel : rh_dk dtX30_findWords 101 = .ok (.invokevirtual 241, 3))
  obtain ⟨ci, hci, hob⟩ := rh_obk (cis := [27]) (by decide +kernel) hb
  exact fun _ _ K => eA.cv (jX30_findWords_241 ci hci) hob (by decide) hd rfl hw1 rfl E K
theorem q2168 : (Jvm.Cond.methodLink "ReadingHouse$Layout" (246 : Nat) ({ cls := "ReadingHouse$Layout", name := "addWord", desc := "(LReadingHouse$Page;III)V" } : Jvm.MethodName)) ∈ lw_all := lw_g (lw_at lw_m8 235 rfl) rfl
theorem jX30_findWords_246 {w : rhW} : ∀ ci ∈ ([27] : List Nat), rh_cvr w YX30_findWords YX30_addWord 246 4 ci := rh_one (rh_cvr.of rfl (Or.inl q2168) kX30_addWord)
theorem vX30_findWords_203 {w : rhW} {L : rhL} {S1 : List rhA} {M M0 : rhM} {r y0 p : Int} {y1 y2 y3 y4 : Int} (hb : rh_bl w 1 y0 p) (E : eC w YX30_addWord 1 [(2, y0), (2, y1), (0, y2), (0, y3), (0, y4)] M r M0) (hw1 : rh_wd S1 ≤ 8) : eS w YX30_findWords 2 203 L ((0, y4) :: (0, y3) :: (0, y2) :: (2, y1) :: (2, y0) :: S1) M 206 L S1 M0 := by
  have hd : decode (ry_c YX30_findWords) 203 = .ok (.invokevirtual 246, 3) := (tdX30_findWords 203).resolve_right (by decide +kernel) ▸ (by decide +kernel : rh_dk dtX30_findWords 203 = .ok (.invokevirtual 246, 3))
  obtain ⟨ci, hci, hob⟩ := rh_obk (cis := [27]) (by decide +kernel) hb
  exact fun _ _ K => eA.cv (jX30_findWords_246 ci hci) hob (by decide) hd rfl hw1 rfl E K
theorem q1866 : (Jvm.Cond.methodLink "ReadingHouse$LevelRule" (15 : Nat) ({ cls := "ReadingHouse$LevelRule", name := "levelOf", desc := "(LReadingHouse$Sheet;)I" } : Jvm.MethodName)) ∈ lw_all := lw_g (lw_at lw_m7 173 rfl) rfl
theorem jX9_begin_15 {w : rhW} : ∀ ci ∈ ([7] : List Nat), rh_cvr w YX9_begin YX9_levelOf 15 1 ci := rh_one (rh_cvr.of rfl (Or.inl q1866) kX9_levelOf)
theorem vX9_begin_3 {w : rhW} (hw : rh_hs w) {L : rhL} {S1 : List rhA} {M M0 : rhM} {r : Int} {y1 : Int} (E : eC w YX9_levelOf 1 [(2, 16), (2, y1)] M r M0) (hw1 : rh_wd S1 ≤ 8) : eS w YX9_begin 2 3 L ((2, y1) :: (2, 16) :: S1) M 6 L ((0, r) :: S1) M0 := by
  have hd : decode (ry_c YX9_begin) 3 = .ok (.invokevirtual 15, 3) := (tdX9_begin 3).resolve_right (by decide +kernel) ▸ (by decide +kernel : rh_dk dtX9_begin 3 = .ok (.invokevirtual 15, 3))
  exact fun _ _ K => eA.cv (jX9_begin_15 7 (by decide)) (rh_obl hw 16 (by decide +kernel)) (by decide) hd rfl hw1 rfl E K
theorem q1835 : (Jvm.Cond.methodLink "ReadingHouse$LevelRule" (37 : Nat) ({ cls := "ReadingHouse$LevelRule", name := "isGreater", desc := "(JJJJ)Z" } : Jvm.MethodName)) ∈ lw_all := lw_g (lw_at lw_m7 142 rfl) rfl
theorem jX9_levelOf_37 {w : rhW} : rh_csr w YX9_levelOf YX9_isGreater 37 4 := rh_csr.of (Or.inl q1835) kX9_isGreater
theorem vX9_levelOf_188 {w : rhW} {L : rhL} {S1 : List rhA} {M M0 : rhM} {r : Int} {y1 y2 y3 y4 : Int} (E : eC w YX9_isGreater 0 [(1, y1), (1, y2), (1, y3), (1, y4)] M r M0) (hw1 : rh_wd S1 ≤ 8) : eS w YX9_levelOf 1 188 L ((1, y4) :: (1, y3) :: (1, y2) :: (1, y1) :: S1) M 191 L ((0, r) :: S1) M0 := by
  have hd : decode (ry_c YX9_levelOf) 188 = .ok (.invokestatic 37, 3) := (tdX9_levelOf 188).resolve_right (by decide +kernel) ▸ (by decide +kernel : rh_dk dtX9_levelOf 188 = .ok (.invokestatic 37, 3))
  exact fun _ _ K => eA.cs (jX9_levelOf_37) (by decide) hd rfl hw1 rfl E K
theorem q3009 : (Jvm.Cond.methodLink "ReadingHouse$Mender" (47 : Nat) ({ cls := "ReadingHouse$Mender", name := "clear", desc := "(III)V" } : Jvm.MethodName)) ∈ lw_all := lw_g (lw_at lw_m12 116 rfl) rfl
theorem jX26_isSolved_47 {w : rhW} : ∀ ci ∈ ([23] : List Nat), rh_cvr w YX26_isSolved YX26_clear 47 3 ci := rh_one (rh_cvr.of rfl (Or.inl q3009) kX26_clear)
theorem vX26_isSolved_198 {w : rhW} (hw : rh_hs w) {L : rhL} {S1 : List rhA} {M M0 : rhM} {r : Int} {y1 y2 y3 : Int} (E : eC w YX26_clear 1 [(2, 213), (0, y1), (0, y2), (0, y3)] M r M0) (hw1 : rh_wd S1 ≤ 8) : eS w YX26_isSolved 2 198 L ((0, y3) :: (0, y2) :: (0, y1) :: (2, 213) :: S1) M 201 L S1 M0 := by
  have hd : decode (ry_c YX26_isSolved) 198 = .ok (.invokevirtual 47, 3) := (tdX26_isSolved 198).resolve_right (by decide +kernel) ▸ (by decide +kernel : rh_dk dtX26_isSolved 198 = .ok (.invokevirtual 47, 3))
  exact fun _ _ K => eA.cv (jX26_isSolved_47 23 (by decide)) (rh_obl hw 213 (by decide +kernel)) (by decide) hd rfl hw1 rfl E K
theorem q3005 : (Jvm.Cond.methodLink "ReadingHouse$Mender" (54 : Nat) ({ cls := "ReadingHouse$Mender", name := "isSolved", desc := "(I)Z" } : Jvm.MethodName)) ∈ lw_all := lw_g (lw_at lw_m12 112 rfl) rfl
theorem jX26_isMended_54 {w : rhW} : ∀ ci ∈ ([23] : List Nat), rh_cvr w YX26_isMended YX26_isSolved 54 1 ci := rh_one (rh_cvr.of rfl (Or.inl q3005) kX26_isSolved)
theorem vX26_isMended_6 {w : rhW} (hw : rh_hs w) {L : rhL} {S1 : List rhA} {M M0 : rhM} {r : Int} {y1 : Int} (E : eC w YX26_isSolved 2 [(2, 213), (0, y1)] M r M0) (hw1 : rh_wd S1 ≤ 8) : eS w YX26_isMended 4 6 L ((0, y1) :: (2, 213) :: S1) M 9 L ((0, r) :: S1) M0 := by
  have hd : decode (ry_c YX26_isMended) 6 = .ok (.invokevirtual 54, 3) := (tdX26_isMended 6).resolve_right (by decide +kernel) ▸ (by decide +kernel : rh_dk dtX26_isMended 6 = .ok (.invokevirtual 54, 3))
  exact fun _ _ K => eA.cv (jX26_isMended_54 23 (by decide)) (rh_obl hw 213 (by decide +kernel)) (by decide) hd rfl hw1 rfl E K
theorem q2989 : (Jvm.Cond.methodLink "ReadingHouse$Mender" (65 : Nat) ({ cls := "ReadingHouse$Mender", name := "sumUp", desc := "(I)V" } : Jvm.MethodName)) ∈ lw_all := lw_g (lw_at lw_m12 96 rfl) rfl
theorem jX26_mend_65 {w : rhW} : ∀ ci ∈ ([23] : List Nat), rh_cvr w YX26_mend YX26_sumUp 65 1 ci := rh_one (rh_cvr.of rfl (Or.inl q2989) kX26_sumUp)
theorem vX26_mend_51 {w : rhW} (hw : rh_hs w) {L : rhL} {S1 : List rhA} {M M0 : rhM} {r : Int} {y1 : Int} (E : eC w YX26_sumUp 1 [(2, 213), (0, y1)] M r M0) (hw1 : rh_wd S1 ≤ 8) : eS w YX26_mend 5 51 L ((0, y1) :: (2, 213) :: S1) M 54 L S1 M0 := by
  have hd : decode (ry_c YX26_mend) 51 = .ok (.invokevirtual 65, 3) := (tdX26_mend 51).resolve_right (by decide +kernel) ▸ (by decide +kernel : rh_dk dtX26_mend 51 = .ok (.invokevirtual 65, 3))
  exact fun _ _ K => eA.cv (jX26_mend_65 23 (by decide)) (rh_obl hw 213 (by decide +kernel)) (by decide) hd rfl hw1 rfl E K
theorem q3001 : (Jvm.Cond.methodLink "ReadingHouse$Mender" (58 : Nat) ({ cls := "ReadingHouse$Mender", name := "isMended", desc := "(III)Z" } : Jvm.MethodName)) ∈ lw_all := lw_g (lw_at lw_m12 108 rfl) rfl
theorem jX26_mend_58 {w : rhW} : ∀ ci ∈ ([23] : List Nat), rh_cvr w YX26_mend YX26_isMended 58 3 ci := rh_one (rh_cvr.of rfl (Or.inl q3001) kX26_isMended)
theorem vX26_mend_80 {w : rhW} (hw : rh_hs w) {L : rhL} {S1 : List rhA} {M M0 : rhM} {r : Int} {y1 y2 y3 : Int} (E : eC w YX26_isMended 4 [(2, 213), (0, y1), (0, y2), (0, y3)] M r M0) (hw1 : rh_wd S1 ≤ 8) : eS w YX26_mend 5 80 L ((0, y3) :: (0, y2) :: (0, y1) :: (2, 213) :: S1) M 83 L ((0, r) :: S1) M0 := by
  have hd : decode (ry_c YX26_mend) 80 = .ok (.invokevirtual 58, 3) := (tdX26_mend 80).resolve_right (by decide +kernel) ▸ (by decide +kernel : rh_dk dtX26_mend 80 = .ok (.invokevirtual 58, 3))
  exact fun _ _ K => eA.cv (jX26_mend_58 23 (by decide)) (rh_obl hw 213 (by decide +kernel)) (by decide) hd rfl hw1 rfl E K
theorem q2432 : (Jvm.Cond.methodLink "ReadingHouse$Output" (39 : Nat) ({ cls := "java/lang/System", name := "arraycopy", desc := "(Ljava/lang/Object;ILjava/lang/Object;II)V" } : Jvm.MethodName)) ∈ lw_all := lw_g (lw_at lw_m10 19 rfl) rfl
theorem vX4_end_27 {w : rhW} {L : rhL} {S1 : List rhA} {M : rhM} {n0 n1 t2 t4 t5 tt : Nat} {ty : FieldType} {r sp r1 dp m : Int} (hty : rh_it ty = true) (hrk : refKind ty = false) (hT : rh_tl[tt]? = some ty) (ha : rh_ar w r ty n0) (hb : rh_ar w r1 ty n1) (h2 : rh_ik t2 = true) (h4 : rh_ik t4 = true) (h5 : rh_ik t5 = true) (hs : 0 ≤ sp) (hdp : 0 ≤ dp) (hm : 0 ≤ m) (hn0 : sp + m ≤ n0) (hn1 : dp + m ≤ n1) (hn0' : n0 ≤ 2147483647) (hn1' : n1 ≤ 2147483647) (hw1 : rh_wd S1 ≤ 8) : eS w YX4_end 1 27 L ((t5, m) :: (t4, dp) :: (2, r1) :: (t2, sp) :: (2, r) :: S1) M 30 L S1 (rh_cpy M r sp r1 dp m) :=
  fun _ _ K n => by
    have hd : decode (ry_c YX4_end) 27 = .ok (.invokestatic 39, 3) := (tdX4_end 27).resolve_right (by decide +kernel) ▸ (by decide +kernel : rh_dk dtX4_end 27 = .ok (.invokestatic 39, 3))
    exact rh_copy (n := n + 0) q2432 q312 q311 q292 hd hty hrk hT ha hb h2 h4 h5 hs hdp hm hn0 hn1 hn0' hn1' hw1 (K n)
theorem q1741 : (Jvm.Cond.methodLink "ReadingHouse$Page" (57 : Nat) ({ cls := "ReadingHouse$Page", name := "take", desc := "(LReadingHouse$Sheet;)V" } : Jvm.MethodName)) ∈ lw_all := lw_g (lw_at lw_m7 48 rfl) rfl
theorem q1742 : (Jvm.Cond.sameMethod "ReadingHouse$Page" "ReadingHouse$Sheet" "take" "(LReadingHouse$Sheet;)V") ∈ lw_all := lw_g (lw_at lw_m7 49 rfl) rfl
theorem q1744 : (Jvm.Cond.selects "ReadingHouse$Page" ({ cls := "ReadingHouse$Page", name := "take", desc := "(LReadingHouse$Sheet;)V" } : Jvm.MethodName) ({ cls := "ReadingHouse$Sheet", name := "take", desc := "(LReadingHouse$Sheet;)V" } : Jvm.MethodName)) ∈ lw_all := lw_g (lw_at lw_m7 51 rfl) rfl
theorem uX5_take_X29_X29 : rh_kU YX5_take "ReadingHouse$Page" ⟨"ReadingHouse$Page", "take", "(LReadingHouse$Sheet;)V"⟩ 1 := ⟨q1742, q1744, q1745, q260, q1746, by decide +kernel, by decide, rfl⟩
theorem jX29_lay_57 {w : rhW} : ∀ ci ∈ ([26] : List Nat), rh_cvr w YX29_lay YX5_take 57 1 ci := rh_one (rh_cvr.ofU rfl q1741 uX5_take_X29_X29)
theorem vX29_lay_2 {w : rhW} {L : rhL} {S1 : List rhA} {M M0 : rhM} {r y0 p : Int} {y1 : Int} (hb : rh_bl w 0 y0 p) (E : eC w YX5_take 1 [(2, y0), (2, y1)] M r M0) (hw1 : rh_wd S1 ≤ 8) : eS w YX29_lay 2 2 L ((2, y1) :: (2, y0) :: S1) M 5 L S1 M0 := by
  have hd : decode (ry_c YX29_lay) 2 = .ok (.invokevirtual 57, 3) := (tdX29_lay 2).resolve_right (by decide +kernel) ▸ (by decide +kernel : rh_dk dtX29_lay 2 = .ok (.invokevirtual 57, 3))
  obtain ⟨ci, hci, hob⟩ := rh_obk (cis := [26]) (by decide +kernel) hb
  exact fun _ _ K => eA.cv (jX29_lay_57 ci hci) hob (by decide) hd rfl hw1 rfl E K
theorem q2020 : (Jvm.Cond.methodLink "ReadingHouse$Page" (65 : Nat) ({ cls := "ReadingHouse$Parts", name := "find", desc := "(LReadingHouse$Sheet;ZI)V" } : Jvm.MethodName)) ∈ lw_all := lw_g (lw_at lw_m8 87 rfl) rfl
theorem jX29_search_65 {w : rhW} : ∀ ci ∈ ([5] : List Nat), rh_cvr w YX29_search YX6_find 65 3 ci := rh_one (rh_cvr.of rfl (Or.inl q2020) kX6_find)
theorem vX29_search_18 {w : rhW} (hw : rh_hs w) {L : rhL} {S1 : List rhA} {M M0 : rhM} {r : Int} {y1 y2 y3 : Int} (E : eC w YX6_find 2 [(2, 10), (2, y1), (0, y2), (0, y3)] M r M0) (hw1 : rh_wd S1 ≤ 8) : eS w YX29_search 3 18 L ((0, y3) :: (0, y2) :: (2, y1) :: (2, 10) :: S1) M 21 L S1 M0 := by
  have hd : decode (ry_c YX29_search) 18 = .ok (.invokevirtual 65, 3) := (tdX29_search 18).resolve_right (by decide +kernel) ▸ (by decide +kernel : rh_dk dtX29_search 18 = .ok (.invokevirtual 65, 3))
  exact fun _ _ K => eA.cv (jX29_search_65 5 (by decide)) (rh_obl hw 10 (by decide +kernel)) (by decide) hd rfl hw1 rfl E K
theorem q2023 : (Jvm.Cond.methodLink "ReadingHouse$Page" (91 : Nat) ({ cls := "ReadingHouse$Page", name := "widen", desc := "(II)V" } : Jvm.MethodName)) ∈ lw_all := lw_g (lw_at lw_m8 90 rfl) rfl
theorem jX29_search_91 {w : rhW} : ∀ ci ∈ ([26] : List Nat), rh_cvr w YX29_search YX29_widen 91 2 ci := rh_one (rh_cvr.of rfl (Or.inl q2023) kX29_widen)
theorem vX29_search_119 {w : rhW} {L : rhL} {S1 : List rhA} {M M0 : rhM} {r y0 p : Int} {y1 y2 : Int} (hb : rh_bl w 0 y0 p) (E : eC w YX29_widen 1 [(2, y0), (0, y1), (0, y2)] M r M0) (hw1 : rh_wd S1 ≤ 8) : eS w YX29_search 3 119 L ((0, y2) :: (0, y1) :: (2, y0) :: S1) M 122 L S1 M0 := by
  have hd : decode (ry_c YX29_search) 119 = .ok (.invokevirtual 91, 3) := (tdX29_search 119).resolve_right (by decide +kernel) ▸ (by decide +kernel : rh_dk dtX29_search 119 = .ok (.invokevirtual 91, 3))
  obtain ⟨ci, hci, hob⟩ := rh_obk (cis := [26]) (by decide +kernel) hb
  exact fun _ _ K => eA.cv (jX29_search_91 ci hci) hob (by decide) hd rfl hw1 rfl E K
theorem q1925 : (Jvm.Cond.methodLink "ReadingHouse$Parts" (39 : Nat) ({ cls := "ReadingHouse$Parts", name := "flood", desc := "(LReadingHouse$Sheet;ZII)V" } : Jvm.MethodName)) ∈ lw_all := lw_g (lw_at lw_m7 232 rfl) rfl
theorem jX6_find_39 {w : rhW} : ∀ ci ∈ ([5] : List Nat), rh_cvr w YX6_find YX6_flood 39 4 ci := rh_one (rh_cvr.of rfl (Or.inl q1925) kX6_flood)
theorem vX6_find_70 {w : rhW} (hw : rh_hs w) {L : rhL} {S1 : List rhA} {M M0 : rhM} {r : Int} {y1 y2 y3 y4 : Int} (E : eC w YX6_flood 1 [(2, 10), (2, y1), (0, y2), (0, y3), (0, y4)] M r M0) (hw1 : rh_wd S1 ≤ 8) : eS w YX6_find 2 70 L ((0, y4) :: (0, y3) :: (0, y2) :: (2, y1) :: (2, 10) :: S1) M 73 L S1 M0 := by
  have hd : decode (ry_c YX6_find) 70 = .ok (.invokevirtual 39, 3) := (tdX6_find 70).resolve_right (by decide +kernel) ▸ (by decide +kernel : rh_dk dtX6_find 70 = .ok (.invokevirtual 39, 3))
  exact fun _ _ K => eA.cv (jX6_find_39 5 (by decide)) (rh_obl hw 10 (by decide +kernel)) (by decide) hd rfl hw1 rfl E K
theorem q2839 : (Jvm.Cond.methodLink "ReadingHouse$Press" (22 : Nat) ({ cls := "ReadingHouse$Sheet", name := "fill", desc := "(I)V" } : Jvm.MethodName)) ∈ lw_all := lw_g (lw_at lw_m11 186 rfl) rfl
theorem jX23_print_22 {w : rhW} : ∀ ci ∈ ([4, 26] : List Nat), rh_cvr w YX23_print YX5_fill 22 1 ci := rh_two (rh_cvr.of rfl (Or.inl q2839) kX5_fill) (rh_cvr.ofU rfl q2839 uX5_fill_X29_X5)
theorem vX23_print_7 {w : rhW} {L : rhL} {S1 : List rhA} {M M0 : rhM} {r y0 p : Int} {y1 : Int} (hb : rh_bl w 5 y0 p) (E : eC w YX5_fill 1 [(2, y0), (0, y1)] M r M0) (hw1 : rh_wd S1 ≤ 8) : eS w YX23_print 2 7 L ((0, y1) :: (2, y0) :: S1) M 10 L S1 M0 := by
  have hd : decode (ry_c YX23_print) 7 = .ok (.invokevirtual 22, 3) := (tdX23_print 7).resolve_right (by decide +kernel) ▸ (by decide +kernel : rh_dk dtX23_print 7 = .ok (.invokevirtual 22, 3))
  obtain ⟨ci, hci, hob⟩ := rh_obk (cis := [4, 26]) (by decide +kernel) hb
  exact fun _ _ K => eA.cv (jX23_print_22 ci hci) hob (by decide) hd rfl hw1 rfl E K
theorem q2840 : (Jvm.Cond.methodLink "ReadingHouse$Press" (32 : Nat) ({ cls := "ReadingHouse$Forms", name := "height", desc := "(I)I" } : Jvm.MethodName)) ∈ lw_all := lw_g (lw_at lw_m11 187 rfl) rfl
theorem jX23_print_32 {w : rhW} : ∀ ci ∈ ([14] : List Nat), rh_cvr w YX23_print YX17_height 32 1 ci := rh_one (rh_cvr.of rfl (Or.inl q2840) kX17_height)
theorem vX23_print_18 {w : rhW} (hw : rh_hs w) {L : rhL} {S1 : List rhA} {M M0 : rhM} {r : Int} {y1 : Int} (E : eC w YX17_height 1 [(2, 41), (0, y1)] M r M0) (hw1 : rh_wd S1 ≤ 8) : eS w YX23_print 2 18 L ((0, y1) :: (2, 41) :: S1) M 21 L ((0, r) :: S1) M0 := by
  have hd : decode (ry_c YX23_print) 18 = .ok (.invokevirtual 32, 3) := (tdX23_print 18).resolve_right (by decide +kernel) ▸ (by decide +kernel : rh_dk dtX23_print 18 = .ok (.invokevirtual 32, 3))
  exact fun _ _ K => eA.cv (jX23_print_32 14 (by decide)) (rh_obl hw 41 (by decide +kernel)) (by decide) hd rfl hw1 rfl E K
theorem q2845 : (Jvm.Cond.methodLink "ReadingHouse$Press" (44 : Nat) ({ cls := "ReadingHouse$Forms", name := "formOf", desc := "(II)I" } : Jvm.MethodName)) ∈ lw_all := lw_g (lw_at lw_m11 192 rfl) rfl
theorem jX23_print_44 {w : rhW} : ∀ ci ∈ ([14] : List Nat), rh_cvr w YX23_print YX17_formOf 44 2 ci := rh_one (rh_cvr.of rfl (Or.inl q2845) kX17_formOf)
theorem vX23_print_82 {w : rhW} (hw : rh_hs w) {L : rhL} {S1 : List rhA} {M M0 : rhM} {r : Int} {y1 y2 : Int} (E : eC w YX17_formOf 0 [(2, 41), (0, y1), (0, y2)] M r M0) (hw1 : rh_wd S1 ≤ 8) : eS w YX23_print 2 82 L ((0, y2) :: (0, y1) :: (2, 41) :: S1) M 85 L ((0, r) :: S1) M0 := by
  have hd : decode (ry_c YX23_print) 82 = .ok (.invokevirtual 44, 3) := (tdX23_print 82).resolve_right (by decide +kernel) ▸ (by decide +kernel : rh_dk dtX23_print 82 = .ok (.invokevirtual 44, 3))
  exact fun _ _ K => eA.cv (jX23_print_44 14 (by decide)) (rh_obl hw 41 (by decide +kernel)) (by decide) hd rfl hw1 rfl E K
theorem q2846 : (Jvm.Cond.methodLink "ReadingHouse$Press" (64 : Nat) ({ cls := "ReadingHouse$Press", name := "draw", desc := "(LReadingHouse$Forms;IIII)V" } : Jvm.MethodName)) ∈ lw_all := lw_g (lw_at lw_m11 193 rfl) rfl
theorem jX23_print_64 {w : rhW} : ∀ ci ∈ ([20] : List Nat), rh_cvr w YX23_print YX23_draw 64 5 ci := rh_one (rh_cvr.of rfl (Or.inl q2846) kX23_draw)
theorem vX23_print_279 {w : rhW} (hw : rh_hs w) {L : rhL} {S1 : List rhA} {M M0 : rhM} {r : Int} {y1 y2 y3 y4 y5 : Int} (E : eC w YX23_draw 1 [(2, 202), (2, y1), (0, y2), (0, y3), (0, y4), (0, y5)] M r M0) (hw1 : rh_wd S1 ≤ 8) : eS w YX23_print 2 279 L ((0, y5) :: (0, y4) :: (0, y3) :: (0, y2) :: (2, y1) :: (2, 202) :: S1) M 282 L S1 M0 := by
  have hd : decode (ry_c YX23_print) 279 = .ok (.invokevirtual 64, 3) := (tdX23_print 279).resolve_right (by decide +kernel) ▸ (by decide +kernel : rh_dk dtX23_print 279 = .ok (.invokevirtual 64, 3))
  exact fun _ _ K => eA.cv (jX23_print_64 20 (by decide)) (rh_obl hw 202 (by decide +kernel)) (by decide) hd rfl hw1 rfl E K
theorem q2852 : (Jvm.Cond.methodLink "ReadingHouse$Press" (68 : Nat) ({ cls := "ReadingHouse$Press", name := "note", desc := "(IIIII)V" } : Jvm.MethodName)) ∈ lw_all := lw_g (lw_at lw_m11 199 rfl) rfl
theorem jX23_print_68 {w : rhW} : ∀ ci ∈ ([20] : List Nat), rh_cvr w YX23_print YX23_note 68 5 ci := rh_one (rh_cvr.of rfl (Or.inl q2852) kX23_note)
theorem vX23_print_296 {w : rhW} (hw : rh_hs w) {L : rhL} {S1 : List rhA} {M M0 : rhM} {r : Int} {y1 y2 y3 y4 y5 : Int} (E : eC w YX23_note 0 [(2, 202), (0, y1), (0, y2), (0, y3), (0, y4), (0, y5)] M r M0) (hw1 : rh_wd S1 ≤ 8) : eS w YX23_print 2 296 L ((0, y5) :: (0, y4) :: (0, y3) :: (0, y2) :: (0, y1) :: (2, 202) :: S1) M 299 L S1 M0 := by
  have hd : decode (ry_c YX23_print) 296 = .ok (.invokevirtual 68, 3) := (tdX23_print 296).resolve_right (by decide +kernel) ▸ (by decide +kernel : rh_dk dtX23_print 296 = .ok (.invokevirtual 68, 3))
  exact fun _ _ K => eA.cv (jX23_print_68 20 (by decide)) (rh_obl hw 202 (by decide +kernel)) (by decide) hd rfl hw1 rfl E K
theorem q2867 : (Jvm.Cond.methodLink "ReadingHouse$Press" (97 : Nat) ({ cls := "java/lang/System", name := "arraycopy", desc := "(Ljava/lang/Object;ILjava/lang/Object;II)V" } : Jvm.MethodName)) ∈ lw_all := lw_g (lw_at lw_m11 214 rfl) rfl
theorem vX23_tell_22 {w : rhW} {L : rhL} {S1 : List rhA} {M : rhM} {n0 n1 t2 t4 t5 tt : Nat} {ty : FieldType} {r sp r1 dp m : Int} (hty : rh_it ty = true) (hrk : refKind ty = false) (hT : rh_tl[tt]? = some ty) (ha : rh_ar w r ty n0) (hb : rh_ar w r1 ty n1) (h2 : rh_ik t2 = true) (h4 : rh_ik t4 = true) (h5 : rh_ik t5 = true) (hs : 0 ≤ sp) (hdp : 0 ≤ dp) (hm : 0 ≤ m) (hn0 : sp + m ≤ n0) (hn1 : dp + m ≤ n1) (hn0' : n0 ≤ 2147483647) (hn1' : n1 ≤ 2147483647) (hw1 : rh_wd S1 ≤ 8) : eS w YX23_tell 1 22 L ((t5, m) :: (t4, dp) :: (2, r1) :: (t2, sp) :: (2, r) :: S1) M 25 L S1 (rh_cpy M r sp r1 dp m) :=
  fun _ _ K n => by
    have hd : decode (ry_c YX23_tell) 22 = .ok (.invokestatic 97, 3) := (tdX23_tell 22).resolve_right (by decide +kernel) ▸ (by decide +kernel : rh_dk dtX23_tell 22 = .ok (.invokestatic 97, 3))
    exact rh_copy (n := n + 0) q2867 q312 q311 q292 hd hty hrk hT ha hb h2 h4 h5 hs hdp hm hn0 hn1 hn0' hn1' hw1 (K n)
theorem vX23_tell_41 {w : rhW} {L : rhL} {S1 : List rhA} {M : rhM} {n0 n1 t2 t4 t5 tt : Nat} {ty : FieldType} {r sp r1 dp m : Int} (hty : rh_it ty = true) (hrk : refKind ty = false) (hT : rh_tl[tt]? = some ty) (ha : rh_ar w r ty n0) (hb : rh_ar w r1 ty n1) (h2 : rh_ik t2 = true) (h4 : rh_ik t4 = true) (h5 : rh_ik t5 = true) (hs : 0 ≤ sp) (hdp : 0 ≤ dp) (hm : 0 ≤ m) (hn0 : sp + m ≤ n0) (hn1 : dp + m ≤ n1) (hn0' : n0 ≤ 2147483647) (hn1' : n1 ≤ 2147483647) (hw1 : rh_wd S1 ≤ 8) : eS w YX23_tell 1 41 L ((t5, m) :: (t4, dp) :: (2, r1) :: (t2, sp) :: (2, r) :: S1) M 44 L S1 (rh_cpy M r sp r1 dp m) :=
  fun _ _ K n => by
    have hd : decode (ry_c YX23_tell) 41 = .ok (.invokestatic 97, 3) := (tdX23_tell 41).resolve_right (by decide +kernel) ▸ (by decide +kernel : rh_dk dtX23_tell 41 = .ok (.invokestatic 97, 3))
    exact rh_copy (n := n + 0) q2867 q312 q311 q292 hd hty hrk hT ha hb h2 h4 h5 hs hdp hm hn0 hn1 hn0' hn1' hw1 (K n)
theorem q1870 : (Jvm.Cond.methodLink "ReadingHouse$RangeRule" (23 : Nat) ({ cls := "ReadingHouse$LevelRule", name := "begin", desc := "(LReadingHouse$Sheet;)V" } : Jvm.MethodName)) ∈ lw_all := lw_g (lw_at lw_m7 177 rfl) rfl
theorem jX11_begin_23 {w : rhW} : ∀ ci ∈ ([7] : List Nat), rh_cvr w YX11_begin YX9_begin 23 1 ci := rh_one (rh_cvr.of rfl (Or.inl q1870) kX9_begin)
theorem vX11_begin_5 {w : rhW} (hw : rh_hs w) {L : rhL} {S1 : List rhA} {M M0 : rhM} {r : Int} {y1 : Int} (E : eC w YX9_begin 2 [(2, 16), (2, y1)] M r M0) (hw1 : rh_wd S1 ≤ 8) : eS w YX11_begin 3 5 L ((2, y1) :: (2, 16) :: S1) M 8 L S1 M0 := by
  have hd : decode (ry_c YX11_begin) 5 = .ok (.invokevirtual 23, 3) := (tdX11_begin 5).resolve_right (by decide +kernel) ▸ (by decide +kernel : rh_dk dtX11_begin 5 = .ok (.invokevirtual 23, 3))
  exact fun _ _ K => eA.cv (jX11_begin_23 7 (by decide)) (rh_obl hw 16 (by decide +kernel)) (by decide) hd rfl hw1 rfl E K
theorem q1883 : (Jvm.Cond.methodLink "ReadingHouse$RangeRule" (29 : Nat) ({ cls := "ReadingHouse$RangeRule", name := "firstOf", desc := "(I)I" } : Jvm.MethodName)) ∈ lw_all := lw_g (lw_at lw_m7 190 rfl) rfl
theorem q1884 : (Jvm.Cond.sameMethod "ReadingHouse$RangeRule" "ReadingHouse$BlackRule" "firstOf" "(I)I") ∈ lw_all := lw_g (lw_at lw_m7 191 rfl) rfl
theorem q1886 : (Jvm.Cond.selects "ReadingHouse$RangeRule" ({ cls := "ReadingHouse$RangeRule", name := "firstOf", desc := "(I)I" } : Jvm.MethodName) ({ cls := "ReadingHouse$BlackRule", name := "firstOf", desc := "(I)I" } : Jvm.MethodName)) ∈ lw_all := lw_g (lw_at lw_m7 193 rfl) rfl
theorem uX8_firstOf_X11_X11 : rh_kU YX8_firstOf "ReadingHouse$RangeRule" ⟨"ReadingHouse$RangeRule", "firstOf", "(I)I"⟩ 1 := ⟨q1884, q1886, q1887, q263, q1888, by decide +kernel, by decide, rfl⟩
theorem jX11_isBlack_29 {w : rhW} : ∀ ci ∈ ([9] : List Nat), rh_cvr w YX11_isBlack YX8_firstOf 29 1 ci := rh_one (rh_cvr.ofU rfl q1883 uX8_firstOf_X11_X11)
theorem vX11_isBlack_10 {w : rhW} (hw : rh_hs w) {L : rhL} {S1 : List rhA} {M M0 : rhM} {r : Int} {y1 : Int} (E : eC w YX8_firstOf 1 [(2, 20), (0, y1)] M r M0) (hw1 : rh_wd S1 ≤ 8) : eS w YX11_isBlack 2 10 L ((0, y1) :: (2, 20) :: S1) M 13 L ((0, r) :: S1) M0 := by
  have hd : decode (ry_c YX11_isBlack) 10 = .ok (.invokevirtual 29, 3) := (tdX11_isBlack 10).resolve_right (by decide +kernel) ▸ (by decide +kernel : rh_dk dtX11_isBlack 10 = .ok (.invokevirtual 29, 3))
  exact fun _ _ K => eA.cv (jX11_isBlack_29 9 (by decide)) (rh_obl hw 20 (by decide +kernel)) (by decide) hd rfl hw1 rfl E K
theorem q1890 : (Jvm.Cond.methodLink "ReadingHouse$RangeRule" (39 : Nat) ({ cls := "ReadingHouse$RangeRule", name := "lastOf", desc := "(II)I" } : Jvm.MethodName)) ∈ lw_all := lw_g (lw_at lw_m7 197 rfl) rfl
theorem q1891 : (Jvm.Cond.sameMethod "ReadingHouse$RangeRule" "ReadingHouse$BlackRule" "lastOf" "(II)I") ∈ lw_all := lw_g (lw_at lw_m7 198 rfl) rfl
theorem q1893 : (Jvm.Cond.selects "ReadingHouse$RangeRule" ({ cls := "ReadingHouse$RangeRule", name := "lastOf", desc := "(II)I" } : Jvm.MethodName) ({ cls := "ReadingHouse$BlackRule", name := "lastOf", desc := "(II)I" } : Jvm.MethodName)) ∈ lw_all := lw_g (lw_at lw_m7 200 rfl) rfl
theorem uX8_lastOf_X11_X11 : rh_kU YX8_lastOf "ReadingHouse$RangeRule" ⟨"ReadingHouse$RangeRule", "lastOf", "(II)I"⟩ 2 := ⟨q1891, q1893, q1894, q263, q1895, by decide +kernel, by decide, rfl⟩
theorem jX11_isBlack_39 {w : rhW} : ∀ ci ∈ ([9] : List Nat), rh_cvr w YX11_isBlack YX8_lastOf 39 2 ci := rh_one (rh_cvr.ofU rfl q1890 uX8_lastOf_X11_X11)
theorem vX11_isBlack_23 {w : rhW} (hw : rh_hs w) {L : rhL} {S1 : List rhA} {M M0 : rhM} {r : Int} {y1 y2 : Int} (E : eC w YX8_lastOf 1 [(2, 20), (0, y1), (0, y2)] M r M0) (hw1 : rh_wd S1 ≤ 8) : eS w YX11_isBlack 2 23 L ((0, y2) :: (0, y1) :: (2, 20) :: S1) M 26 L ((0, r) :: S1) M0 := by
  have hd : decode (ry_c YX11_isBlack) 23 = .ok (.invokevirtual 39, 3) := (tdX11_isBlack 23).resolve_right (by decide +kernel) ▸ (by decide +kernel : rh_dk dtX11_isBlack 23 = .ok (.invokevirtual 39, 3))
  exact fun _ _ K => eA.cv (jX11_isBlack_39 9 (by decide)) (rh_obl hw 20 (by decide +kernel)) (by decide) hd rfl hw1 rfl E K
theorem vX11_isBlack_31 {w : rhW} (hw : rh_hs w) {L : rhL} {S1 : List rhA} {M M0 : rhM} {r : Int} {y1 : Int} (E : eC w YX8_firstOf 1 [(2, 20), (0, y1)] M r M0) (hw1 : rh_wd S1 ≤ 8) : eS w YX11_isBlack 2 31 L ((0, y1) :: (2, 20) :: S1) M 34 L ((0, r) :: S1) M0 := by
  have hd : decode (ry_c YX11_isBlack) 31 = .ok (.invokevirtual 29, 3) := (tdX11_isBlack 31).resolve_right (by decide +kernel) ▸ (by decide +kernel : rh_dk dtX11_isBlack 31 = .ok (.invokevirtual 29, 3))
  exact fun _ _ K => eA.cv (jX11_isBlack_29 9 (by decide)) (rh_obl hw 20 (by decide +kernel)) (by decide) hd rfl hw1 rfl E K
theorem vX11_isBlack_44 {w : rhW} (hw : rh_hs w) {L : rhL} {S1 : List rhA} {M M0 : rhM} {r : Int} {y1 y2 : Int} (E : eC w YX8_lastOf 1 [(2, 20), (0, y1), (0, y2)] M r M0) (hw1 : rh_wd S1 ≤ 8) : eS w YX11_isBlack 2 44 L ((0, y2) :: (0, y1) :: (2, 20) :: S1) M 47 L ((0, r) :: S1) M0 := by
  have hd : decode (ry_c YX11_isBlack) 44 = .ok (.invokevirtual 39, 3) := (tdX11_isBlack 44).resolve_right (by decide +kernel) ▸ (by decide +kernel : rh_dk dtX11_isBlack 44 = .ok (.invokevirtual 39, 3))
  exact fun _ _ K => eA.cv (jX11_isBlack_39 9 (by decide)) (rh_obl hw 20 (by decide +kernel)) (by decide) hd rfl hw1 rfl E K
theorem q2498 : (Jvm.Cond.methodLink "ReadingHouse$Reader" (119 : Nat) ({ cls := "ReadingHouse$Cuts", name := "prepare", desc := "(LReadingHouse$Page;I)V" } : Jvm.MethodName)) ∈ lw_all := lw_g (lw_at lw_m10 85 rfl) rfl
theorem jX20_read_119 {w : rhW} : ∀ ci ∈ ([13] : List Nat), rh_cvr w YX20_read YX16_prepare 119 2 ci := rh_one (rh_cvr.of rfl (Or.inl q2498) kX16_prepare)
theorem vX20_read_209 {w : rhW} (hw : rh_hs w) {L : rhL} {S1 : List rhA} {M M0 : rhM} {r : Int} {y1 y2 : Int} (E : eC w YX16_prepare 2 [(2, 25), (2, y1), (0, y2)] M r M0) (hw1 : rh_wd S1 ≤ 8) : eS w YX20_read 6 209 L ((0, y2) :: (2, y1) :: (2, 25) :: S1) M 212 L S1 M0 := by
  have hd : decode (ry_c YX20_read) 209 = .ok (.invokevirtual 119, 3) := (tdX20_read 209).resolve_right (by decide +kernel) ▸ (by decide +kernel : rh_dk dtX20_read 209 = .ok (.invokevirtual 119, 3))
  exact fun _ _ K => eA.cv (jX20_read_119 13 (by decide)) (rh_obl hw 25 (by decide +kernel)) (by decide) hd rfl hw1 rfl E K
theorem q2499 : (Jvm.Cond.methodLink "ReadingHouse$Reader" (131 : Nat) ({ cls := "ReadingHouse$Reader", name := "findParts", desc := "(I)V" } : Jvm.MethodName)) ∈ lw_all := lw_g (lw_at lw_m10 86 rfl) rfl
theorem jX20_read_131 {w : rhW} : ∀ ci ∈ ([17] : List Nat), rh_cvr w YX20_read YX20_findParts 131 1 ci := rh_one (rh_cvr.of rfl (Or.inl q2499) kX20_findParts)
theorem vX20_read_230 {w : rhW} (hw : rh_hs w) {L : rhL} {S1 : List rhA} {M M0 : rhM} {r : Int} {y1 : Int} (E : eC w YX20_findParts 5 [(2, 81), (0, y1)] M r M0) (hw1 : rh_wd S1 ≤ 8) : eS w YX20_read 6 230 L ((0, y1) :: (2, 81) :: S1) M 233 L S1 M0 := by
  have hd : decode (ry_c YX20_read) 230 = .ok (.invokevirtual 131, 3) := (tdX20_read 230).resolve_right (by decide +kernel) ▸ (by decide +kernel : rh_dk dtX20_read 230 = .ok (.invokevirtual 131, 3))
  exact fun _ _ K => eA.cv (jX20_read_131 17 (by decide)) (rh_obl hw 81 (by decide +kernel)) (by decide) hd rfl hw1 rfl E K
theorem q2506 : (Jvm.Cond.methodLink "ReadingHouse$Reader" (134 : Nat) ({ cls := "ReadingHouse$Reader", name := "findTexts", desc := "()V" } : Jvm.MethodName)) ∈ lw_all := lw_g (lw_at lw_m10 93 rfl) rfl
theorem jX20_read_134 {w : rhW} : ∀ ci ∈ ([17] : List Nat), rh_cvr w YX20_read YX20_findTexts 134 0 ci := rh_one (rh_cvr.of rfl (Or.inl q2506) kX20_findTexts)
theorem vX20_read_234 {w : rhW} (hw : rh_hs w) {L : rhL} {S1 : List rhA} {M M0 : rhM} {r : Int} (E : eC w YX20_findTexts 5 [(2, 81)] M r M0) (hw1 : rh_wd S1 ≤ 8) : eS w YX20_read 6 234 L ((2, 81) :: S1) M 237 L S1 M0 := by
  have hd : decode (ry_c YX20_read) 234 = .ok (.invokevirtual 134, 3) := (tdX20_read 234).resolve_right (by decide +kernel) ▸ (by decide +kernel : rh_dk dtX20_read 234 = .ok (.invokevirtual 134, 3))
  exact fun _ _ K => eA.cv (jX20_read_134 17 (by decide)) (rh_obl hw 81 (by decide +kernel)) (by decide) hd rfl hw1 rfl E K
theorem q2535 : (Jvm.Cond.methodLink "ReadingHouse$Reader" (137 : Nat) ({ cls := "ReadingHouse$Reader", name := "choose", desc := "()V" } : Jvm.MethodName)) ∈ lw_all := lw_g (lw_at lw_m10 122 rfl) rfl
theorem jX20_read_137 {w : rhW} : ∀ ci ∈ ([17] : List Nat), rh_cvr w YX20_read YX20_choose 137 0 ci := rh_one (rh_cvr.of rfl (Or.inl q2535) kX20_choose)
theorem vX20_read_238 {w : rhW} (hw : rh_hs w) {L : rhL} {S1 : List rhA} {M M0 : rhM} {r : Int} (E : eC w YX20_choose 4 [(2, 81)] M r M0) (hw1 : rh_wd S1 ≤ 8) : eS w YX20_read 6 238 L ((2, 81) :: S1) M 241 L S1 M0 := by
  have hd : decode (ry_c YX20_read) 238 = .ok (.invokevirtual 137, 3) := (tdX20_read 238).resolve_right (by decide +kernel) ▸ (by decide +kernel : rh_dk dtX20_read 238 = .ok (.invokevirtual 137, 3))
  exact fun _ _ K => eA.cv (jX20_read_137 17 (by decide)) (rh_obl hw 81 (by decide +kernel)) (by decide) hd rfl hw1 rfl E K
theorem q2548 : (Jvm.Cond.methodLink "ReadingHouse$Reader" (140 : Nat) ({ cls := "ReadingHouse$Reader", name := "tell", desc := "(ILReadingHouse$Reading;)V" } : Jvm.MethodName)) ∈ lw_all := lw_g (lw_at lw_m10 135 rfl) rfl
theorem jX20_read_140 {w : rhW} : ∀ ci ∈ ([17] : List Nat), rh_cvr w YX20_read YX20_tell 140 2 ci := rh_one (rh_cvr.of rfl (Or.inl q2548) kX20_tell)
theorem vX20_read_245 {w : rhW} (hw : rh_hs w) {L : rhL} {S1 : List rhA} {M M0 : rhM} {r : Int} {y1 y2 : Int} (E : eC w YX20_tell 2 [(2, 81), (0, y1), (2, y2)] M r M0) (hw1 : rh_wd S1 ≤ 8) : eS w YX20_read 6 245 L ((2, y2) :: (0, y1) :: (2, 81) :: S1) M 248 L S1 M0 := by
  have hd : decode (ry_c YX20_read) 245 = .ok (.invokevirtual 140, 3) := (tdX20_read 245).resolve_right (by decide +kernel) ▸ (by decide +kernel : rh_dk dtX20_read 245 = .ok (.invokevirtual 140, 3))
  exact fun _ _ K => eA.cv (jX20_read_140 17 (by decide)) (rh_obl hw 81 (by decide +kernel)) (by decide) hd rfl hw1 rfl E K
theorem q2503 : (Jvm.Cond.methodLink "ReadingHouse$Reader" (144 : Nat) ({ cls := "ReadingHouse$Cuts", name := "hasPart", desc := "(II)Z" } : Jvm.MethodName)) ∈ lw_all := lw_g (lw_at lw_m10 90 rfl) rfl
theorem jX20_findParts_144 {w : rhW} : ∀ ci ∈ ([13] : List Nat), rh_cvr w YX20_findParts YX16_hasPart 144 2 ci := rh_one (rh_cvr.of rfl (Or.inl q2503) kX16_hasPart)
theorem vX20_findParts_43 {w : rhW} (hw : rh_hs w) {L : rhL} {S1 : List rhA} {M M0 : rhM} {r : Int} {y1 y2 : Int} (E : eC w YX16_hasPart 2 [(2, 25), (0, y1), (0, y2)] M r M0) (hw1 : rh_wd S1 ≤ 8) : eS w YX20_findParts 5 43 L ((0, y2) :: (0, y1) :: (2, 25) :: S1) M 46 L ((0, r) :: S1) M0 := by
  have hd : decode (ry_c YX20_findParts) 43 = .ok (.invokevirtual 144, 3) := (tdX20_findParts 43).resolve_right (by decide +kernel) ▸ (by decide +kernel : rh_dk dtX20_findParts 43 = .ok (.invokevirtual 144, 3))
  exact fun _ _ K => eA.cv (jX20_findParts_144 13 (by decide)) (rh_obl hw 25 (by decide +kernel)) (by decide) hd rfl hw1 rfl E K
theorem q2504 : (Jvm.Cond.methodLink "ReadingHouse$Reader" (148 : Nat) ({ cls := "ReadingHouse$Cuts", name := "describe", desc := "()V" } : Jvm.MethodName)) ∈ lw_all := lw_g (lw_at lw_m10 91 rfl) rfl
theorem jX20_findParts_148 {w : rhW} : ∀ ci ∈ ([13] : List Nat), rh_cvr w YX20_findParts YX16_describe 148 0 ci := rh_one (rh_cvr.of rfl (Or.inl q2504) kX16_describe)
theorem vX20_findParts_61 {w : rhW} (hw : rh_hs w) {L : rhL} {S1 : List rhA} {M M0 : rhM} {r : Int} (E : eC w YX16_describe 4 [(2, 25)] M r M0) (hw1 : rh_wd S1 ≤ 8) : eS w YX20_findParts 5 61 L ((2, 25) :: S1) M 64 L S1 M0 := by
  have hd : decode (ry_c YX20_findParts) 61 = .ok (.invokevirtual 148, 3) := (tdX20_findParts 61).resolve_right (by decide +kernel) ▸ (by decide +kernel : rh_dk dtX20_findParts 61 = .ok (.invokevirtual 148, 3))
  exact fun _ _ K => eA.cv (jX20_findParts_148 13 (by decide)) (rh_obl hw 25 (by decide +kernel)) (by decide) hd rfl hw1 rfl E K
theorem q2505 : (Jvm.Cond.methodLink "ReadingHouse$Reader" (154 : Nat) ({ cls := "ReadingHouse$Forms", name := "choose", desc := "(I[I)V" } : Jvm.MethodName)) ∈ lw_all := lw_g (lw_at lw_m10 92 rfl) rfl
theorem jX20_findParts_154 {w : rhW} : ∀ ci ∈ ([14] : List Nat), rh_cvr w YX20_findParts YX17_choose 154 2 ci := rh_one (rh_cvr.of rfl (Or.inl q2505) kX17_choose)
theorem vX20_findParts_76 {w : rhW} (hw : rh_hs w) {L : rhL} {S1 : List rhA} {M M0 : rhM} {r : Int} {y1 y2 : Int} (E : eC w YX17_choose 1 [(2, 41), (0, y1), (2, y2)] M r M0) (hw1 : rh_wd S1 ≤ 8) : eS w YX20_findParts 5 76 L ((2, y2) :: (0, y1) :: (2, 41) :: S1) M 79 L S1 M0 := by
  have hd : decode (ry_c YX20_findParts) 76 = .ok (.invokevirtual 154, 3) := (tdX20_findParts 76).resolve_right (by decide +kernel) ▸ (by decide +kernel : rh_dk dtX20_findParts 76 = .ok (.invokevirtual 154, 3))
  exact fun _ _ K => eA.cv (jX20_findParts_154 14 (by decide)) (rh_obl hw 41 (by decide +kernel)) (by decide) hd rfl hw1 rfl E K
theorem q2510 : (Jvm.Cond.methodLink "ReadingHouse$Reader" (171 : Nat) ({ cls := "ReadingHouse$Reader", name := "goOn", desc := "(III)V" } : Jvm.MethodName)) ∈ lw_all := lw_g (lw_at lw_m10 97 rfl) rfl
theorem jX20_findTexts_171 {w : rhW} : ∀ ci ∈ ([17] : List Nat), rh_cvr w YX20_findTexts YX20_goOn 171 3 ci := rh_one (rh_cvr.of rfl (Or.inl q2510) kX20_goOn)
theorem vX20_findTexts_110 {w : rhW} (hw : rh_hs w) {L : rhL} {S1 : List rhA} {M M0 : rhM} {r : Int} {y1 y2 y3 : Int} (E : eC w YX20_goOn 4 [(2, 81), (0, y1), (0, y2), (0, y3)] M r M0) (hw1 : rh_wd S1 ≤ 8) : eS w YX20_findTexts 5 110 L ((0, y3) :: (0, y2) :: (0, y1) :: (2, 81) :: S1) M 113 L S1 M0 := by
  have hd : decode (ry_c YX20_findTexts) 110 = .ok (.invokevirtual 171, 3) := (tdX20_findTexts 110).resolve_right (by decide +kernel) ▸ (by decide +kernel : rh_dk dtX20_findTexts 110 = .ok (.invokevirtual 171, 3))
  exact fun _ _ K => eA.cv (jX20_findTexts_171 17 (by decide)) (rh_obl hw 81 (by decide +kernel)) (by decide) hd rfl hw1 rfl E K
theorem q2514 : (Jvm.Cond.methodLink "ReadingHouse$Reader" (175 : Nat) ({ cls := "ReadingHouse$Row", name := "get", desc := "(II)I" } : Jvm.MethodName)) ∈ lw_all := lw_g (lw_at lw_m10 101 rfl) rfl
theorem jX20_goOn_175 {w : rhW} : ∀ ci ∈ ([16] : List Nat), rh_cvr w YX20_goOn YX19_get 175 2 ci := rh_one (rh_cvr.of rfl (Or.inl q2514) kX19_get)
theorem vX20_goOn_16 {w : rhW} {L : rhL} {S1 : List rhA} {M M0 : rhM} {r y0 p : Int} {y1 y2 : Int} (hb : rh_bl w 4 y0 p) (E : eC w YX19_get 0 [(2, y0), (0, y1), (0, y2)] M r M0) (hw1 : rh_wd S1 ≤ 8) : eS w YX20_goOn 4 16 L ((0, y2) :: (0, y1) :: (2, y0) :: S1) M 19 L ((0, r) :: S1) M0 := by
  have hd : decode (ry_c YX20_goOn) 16 = .ok (.invokevirtual 175, 3) := (tdX20_goOn 16).resolve_right (by decide +kernel) ▸ (by decide +kernel : rh_dk dtX20_goOn 16 = .ok (.invokevirtual 175, 3))
  obtain ⟨ci, hci, hob⟩ := rh_obk (cis := [16]) (by decide +kernel) hb
  exact fun _ _ K => eA.cv (jX20_goOn_175 ci hci) hob (by decide) hd rfl hw1 rfl E K
theorem q2515 : (Jvm.Cond.methodLink "ReadingHouse$Reader" (179 : Nat) ({ cls := "ReadingHouse$Row", name := "copy", desc := "(ILReadingHouse$Row;I)V" } : Jvm.MethodName)) ∈ lw_all := lw_g (lw_at lw_m10 102 rfl) rfl
theorem jX20_goOn_179 {w : rhW} : ∀ ci ∈ ([16] : List Nat), rh_cvr w YX20_goOn YX19_copy 179 3 ci := rh_one (rh_cvr.of rfl (Or.inl q2515) kX19_copy)
theorem vX20_goOn_105 {w : rhW} {L : rhL} {S1 : List rhA} {M M0 : rhM} {r y0 p : Int} {y1 y2 y3 : Int} (hb : rh_bl w 4 y0 p) (E : eC w YX19_copy 1 [(2, y0), (0, y1), (2, y2), (0, y3)] M r M0) (hw1 : rh_wd S1 ≤ 8) : eS w YX20_goOn 4 105 L ((0, y3) :: (2, y2) :: (0, y1) :: (2, y0) :: S1) M 108 L S1 M0 := by
  have hd : decode (ry_c YX20_goOn) 105 = .ok (.invokevirtual 179, 3) := (tdX20_goOn 105).resolve_right (by decide +kernel) ▸ (by decide +kernel : rh_dk dtX20_goOn 105 = .ok (.invokevirtual 179, 3))
  obtain ⟨ci, hci, hob⟩ := rh_obk (cis := [16]) (by decide +kernel) hb
  exact fun _ _ K => eA.cv (jX20_goOn_179 ci hci) hob (by decide) hd rfl hw1 rfl E K
theorem vX20_goOn_120 {w : rhW} {L : rhL} {S1 : List rhA} {M M0 : rhM} {r y0 p : Int} {y1 y2 y3 : Int} (hb : rh_bl w 4 y0 p) (E : eC w YX19_copy 1 [(2, y0), (0, y1), (2, y2), (0, y3)] M r M0) (hw1 : rh_wd S1 ≤ 8) : eS w YX20_goOn 4 120 L ((0, y3) :: (2, y2) :: (0, y1) :: (2, y0) :: S1) M 123 L S1 M0 := by
  have hd : decode (ry_c YX20_goOn) 120 = .ok (.invokevirtual 179, 3) := (tdX20_goOn 120).resolve_right (by decide +kernel) ▸ (by decide +kernel : rh_dk dtX20_goOn 120 = .ok (.invokevirtual 179, 3))
  obtain ⟨ci, hci, hob⟩ := rh_obk (cis := [16]) (by decide +kernel) hb
  exact fun _ _ K => eA.cv (jX20_goOn_179 ci hci) hob (by decide) hd rfl hw1 rfl E K
theorem q2521 : (Jvm.Cond.methodLink "ReadingHouse$Reader" (191 : Nat) ({ cls := "ReadingHouse$Words", name := "price", desc := "(II)I" } : Jvm.MethodName)) ∈ lw_all := lw_g (lw_at lw_m10 108 rfl) rfl
theorem jX20_goOn_191 {w : rhW} : ∀ ci ∈ ([15] : List Nat), rh_cvr w YX20_goOn YX18_price 191 2 ci := rh_one (rh_cvr.of rfl (Or.inl q2521) kX18_price)
theorem vX20_goOn_233 {w : rhW} (hw : rh_hs w) {L : rhL} {S1 : List rhA} {M M0 : rhM} {r : Int} {y1 y2 : Int} (E : eC w YX18_price 1 [(2, 63), (0, y1), (0, y2)] M r M0) (hw1 : rh_wd S1 ≤ 8) : eS w YX20_goOn 4 233 L ((0, y2) :: (0, y1) :: (2, 63) :: S1) M 236 L ((0, r) :: S1) M0 := by
  have hd : decode (ry_c YX20_goOn) 233 = .ok (.invokevirtual 191, 3) := (tdX20_goOn 233).resolve_right (by decide +kernel) ▸ (by decide +kernel : rh_dk dtX20_goOn 233 = .ok (.invokevirtual 191, 3))
  exact fun _ _ K => eA.cv (jX20_goOn_191 15 (by decide)) (rh_obl hw 63 (by decide +kernel)) (by decide) hd rfl hw1 rfl E K
theorem q2522 : (Jvm.Cond.methodLink "ReadingHouse$Reader" (196 : Nat) ({ cls := "ReadingHouse$Reader", name := "insert", desc := "(III)V" } : Jvm.MethodName)) ∈ lw_all := lw_g (lw_at lw_m10 109 rfl) rfl
theorem jX20_goOn_196 {w : rhW} : ∀ ci ∈ ([17] : List Nat), rh_cvr w YX20_goOn YX20_insert 196 3 ci := rh_one (rh_cvr.of rfl (Or.inl q2522) kX20_insert)
theorem vX20_goOn_238 {w : rhW} (hw : rh_hs w) {L : rhL} {S1 : List rhA} {M M0 : rhM} {r : Int} {y1 y2 y3 : Int} (E : eC w YX20_insert 3 [(2, 81), (0, y1), (0, y2), (0, y3)] M r M0) (hw1 : rh_wd S1 ≤ 8) : eS w YX20_goOn 4 238 L ((0, y3) :: (0, y2) :: (0, y1) :: (2, 81) :: S1) M 241 L S1 M0 := by
  have hd : decode (ry_c YX20_goOn) 238 = .ok (.invokevirtual 196, 3) := (tdX20_goOn 238).resolve_right (by decide +kernel) ▸ (by decide +kernel : rh_dk dtX20_goOn 238 = .ok (.invokevirtual 196, 3))
  exact fun _ _ K => eA.cv (jX20_goOn_196 17 (by decide)) (rh_obl hw 81 (by decide +kernel)) (by decide) hd rfl hw1 rfl E K
theorem q2526 : (Jvm.Cond.methodLink "ReadingHouse$Reader" (199 : Nat) ({ cls := "ReadingHouse$Row", name := "order", desc := "(LReadingHouse$Row;ILReadingHouse$Row;I)I" } : Jvm.MethodName)) ∈ lw_all := lw_g (lw_at lw_m10 113 rfl) rfl
theorem jX20_isBetter_199 {w : rhW} : rh_csr w YX20_isBetter YX19_order 199 4 := rh_csr.of (Or.inl q2526) kX19_order
theorem vX20_isBetter_40 {w : rhW} {L : rhL} {S1 : List rhA} {M M0 : rhM} {r : Int} {y1 y2 y3 y4 : Int} (E : eC w YX19_order 1 [(2, y1), (0, y2), (2, y3), (0, y4)] M r M0) (hw1 : rh_wd S1 ≤ 8) : eS w YX20_isBetter 2 40 L ((0, y4) :: (2, y3) :: (0, y2) :: (2, y1) :: S1) M 43 L ((0, r) :: S1) M0 := by
  have hd : decode (ry_c YX20_isBetter) 40 = .ok (.invokestatic 199, 3) := (tdX20_isBetter 40).resolve_right (by decide +kernel) ▸ (by decide +kernel : rh_dk dtX20_isBetter 40 = .ok (.invokestatic 199, 3))
  exact fun _ _ K => eA.cs (jX20_isBetter_199) (by decide) hd rfl hw1 rfl E K
theorem jX20_insert_175 {w : rhW} : ∀ ci ∈ ([16] : List Nat), rh_cvr w YX20_insert YX19_get 175 2 ci := rh_one (rh_cvr.of rfl (Or.inl q2514) kX19_get)
theorem vX20_insert_8 {w : rhW} {L : rhL} {S1 : List rhA} {M M0 : rhM} {r y0 p : Int} {y1 y2 : Int} (hb : rh_bl w 4 y0 p) (E : eC w YX19_get 0 [(2, y0), (0, y1), (0, y2)] M r M0) (hw1 : rh_wd S1 ≤ 8) : eS w YX20_insert 3 8 L ((0, y2) :: (0, y1) :: (2, y0) :: S1) M 11 L ((0, r) :: S1) M0 := by
  have hd : decode (ry_c YX20_insert) 8 = .ok (.invokevirtual 175, 3) := (tdX20_insert 8).resolve_right (by decide +kernel) ▸ (by decide +kernel : rh_dk dtX20_insert 8 = .ok (.invokevirtual 175, 3))
  obtain ⟨ci, hci, hob⟩ := rh_obk (cis := [16]) (by decide +kernel) hb
  exact fun _ _ K => eA.cv (jX20_insert_175 ci hci) hob (by decide) hd rfl hw1 rfl E K
theorem jX20_insert_199 {w : rhW} : rh_csr w YX20_insert YX19_order 199 4 := rh_csr.of (Or.inl q2526) kX19_order
theorem vX20_insert_55 {w : rhW} {L : rhL} {S1 : List rhA} {M M0 : rhM} {r : Int} {y1 y2 y3 y4 : Int} (E : eC w YX19_order 1 [(2, y1), (0, y2), (2, y3), (0, y4)] M r M0) (hw1 : rh_wd S1 ≤ 8) : eS w YX20_insert 3 55 L ((0, y4) :: (2, y3) :: (0, y2) :: (2, y1) :: S1) M 58 L ((0, r) :: S1) M0 := by
  have hd : decode (ry_c YX20_insert) 55 = .ok (.invokestatic 199, 3) := (tdX20_insert 55).resolve_right (by decide +kernel) ▸ (by decide +kernel : rh_dk dtX20_insert 55 = .ok (.invokestatic 199, 3))
  exact fun _ _ K => eA.cs (jX20_insert_199) (by decide) hd rfl hw1 rfl E K
theorem vX20_insert_96 {w : rhW} {L : rhL} {S1 : List rhA} {M M0 : rhM} {r : Int} {y1 y2 y3 y4 : Int} (E : eC w YX19_order 1 [(2, y1), (0, y2), (2, y3), (0, y4)] M r M0) (hw1 : rh_wd S1 ≤ 8) : eS w YX20_insert 3 96 L ((0, y4) :: (2, y3) :: (0, y2) :: (2, y1) :: S1) M 99 L ((0, r) :: S1) M0 := by
  have hd : decode (ry_c YX20_insert) 96 = .ok (.invokestatic 199, 3) := (tdX20_insert 96).resolve_right (by decide +kernel) ▸ (by decide +kernel : rh_dk dtX20_insert 96 = .ok (.invokestatic 199, 3))
  exact fun _ _ K => eA.cs (jX20_insert_199) (by decide) hd rfl hw1 rfl E K
theorem q2527 : (Jvm.Cond.methodLink "ReadingHouse$Reader" (203 : Nat) ({ cls := "ReadingHouse$Reader", name := "put", desc := "(II)V" } : Jvm.MethodName)) ∈ lw_all := lw_g (lw_at lw_m10 114 rfl) rfl
theorem jX20_insert_203 {w : rhW} : ∀ ci ∈ ([17] : List Nat), rh_cvr w YX20_insert YX20_put 203 2 ci := rh_one (rh_cvr.of rfl (Or.inl q2527) kX20_put)
theorem vX20_insert_106 {w : rhW} (hw : rh_hs w) {L : rhL} {S1 : List rhA} {M M0 : rhM} {r : Int} {y1 y2 : Int} (E : eC w YX20_put 2 [(2, 81), (0, y1), (0, y2)] M r M0) (hw1 : rh_wd S1 ≤ 8) : eS w YX20_insert 3 106 L ((0, y2) :: (0, y1) :: (2, 81) :: S1) M 109 L S1 M0 := by
  have hd : decode (ry_c YX20_insert) 106 = .ok (.invokevirtual 203, 3) := (tdX20_insert 106).resolve_right (by decide +kernel) ▸ (by decide +kernel : rh_dk dtX20_insert 106 = .ok (.invokevirtual 203, 3))
  exact fun _ _ K => eA.cv (jX20_insert_203 17 (by decide)) (rh_obl hw 81 (by decide +kernel)) (by decide) hd rfl hw1 rfl E K
theorem vX20_insert_117 {w : rhW} {L : rhL} {S1 : List rhA} {M M0 : rhM} {r y0 p : Int} {y1 y2 : Int} (hb : rh_bl w 4 y0 p) (E : eC w YX19_get 0 [(2, y0), (0, y1), (0, y2)] M r M0) (hw1 : rh_wd S1 ≤ 8) : eS w YX20_insert 3 117 L ((0, y2) :: (0, y1) :: (2, y0) :: S1) M 120 L ((0, r) :: S1) M0 := by
  have hd : decode (ry_c YX20_insert) 117 = .ok (.invokevirtual 175, 3) := (tdX20_insert 117).resolve_right (by decide +kernel) ▸ (by decide +kernel : rh_dk dtX20_insert 117 = .ok (.invokevirtual 175, 3))
  obtain ⟨ci, hci, hob⟩ := rh_obk (cis := [16]) (by decide +kernel) hb
  exact fun _ _ K => eA.cv (jX20_insert_175 ci hci) hob (by decide) hd rfl hw1 rfl E K
theorem vX20_insert_180 {w : rhW} {L : rhL} {S1 : List rhA} {M M0 : rhM} {r : Int} {y1 y2 y3 y4 : Int} (E : eC w YX19_order 1 [(2, y1), (0, y2), (2, y3), (0, y4)] M r M0) (hw1 : rh_wd S1 ≤ 8) : eS w YX20_insert 3 180 L ((0, y4) :: (2, y3) :: (0, y2) :: (2, y1) :: S1) M 183 L ((0, r) :: S1) M0 := by
  have hd : decode (ry_c YX20_insert) 180 = .ok (.invokestatic 199, 3) := (tdX20_insert 180).resolve_right (by decide +kernel) ▸ (by decide +kernel : rh_dk dtX20_insert 180 = .ok (.invokestatic 199, 3))
  exact fun _ _ K => eA.cs (jX20_insert_199) (by decide) hd rfl hw1 rfl E K
theorem vX20_insert_232 {w : rhW} (hw : rh_hs w) {L : rhL} {S1 : List rhA} {M M0 : rhM} {r : Int} {y1 y2 : Int} (E : eC w YX20_put 2 [(2, 81), (0, y1), (0, y2)] M r M0) (hw1 : rh_wd S1 ≤ 8) : eS w YX20_insert 3 232 L ((0, y2) :: (0, y1) :: (2, 81) :: S1) M 235 L S1 M0 := by
  have hd : decode (ry_c YX20_insert) 232 = .ok (.invokevirtual 203, 3) := (tdX20_insert 232).resolve_right (by decide +kernel) ▸ (by decide +kernel : rh_dk dtX20_insert 232 = .ok (.invokevirtual 203, 3))
  exact fun _ _ K => eA.cv (jX20_insert_203 17 (by decide)) (rh_obl hw 81 (by decide +kernel)) (by decide) hd rfl hw1 rfl E K
theorem q2531 : (Jvm.Cond.methodLink "ReadingHouse$Reader" (207 : Nat) ({ cls := "ReadingHouse$Reader", name := "isBetter", desc := "(II)Z" } : Jvm.MethodName)) ∈ lw_all := lw_g (lw_at lw_m10 118 rfl) rfl
theorem jX20_insert_207 {w : rhW} : ∀ ci ∈ ([17] : List Nat), rh_cvr w YX20_insert YX20_isBetter 207 2 ci := rh_one (rh_cvr.of rfl (Or.inl q2531) kX20_isBetter)
theorem vX20_insert_252 {w : rhW} (hw : rh_hs w) {L : rhL} {S1 : List rhA} {M M0 : rhM} {r : Int} {y1 y2 : Int} (E : eC w YX20_isBetter 2 [(2, 81), (0, y1), (0, y2)] M r M0) (hw1 : rh_wd S1 ≤ 8) : eS w YX20_insert 3 252 L ((0, y2) :: (0, y1) :: (2, 81) :: S1) M 255 L ((0, r) :: S1) M0 := by
  have hd : decode (ry_c YX20_insert) 252 = .ok (.invokevirtual 207, 3) := (tdX20_insert 252).resolve_right (by decide +kernel) ▸ (by decide +kernel : rh_dk dtX20_insert 252 = .ok (.invokevirtual 207, 3))
  exact fun _ _ K => eA.cv (jX20_insert_207 17 (by decide)) (rh_obl hw 81 (by decide +kernel)) (by decide) hd rfl hw1 rfl E K
theorem vX20_insert_262 {w : rhW} (hw : rh_hs w) {L : rhL} {S1 : List rhA} {M M0 : rhM} {r : Int} {y1 y2 : Int} (E : eC w YX20_put 2 [(2, 81), (0, y1), (0, y2)] M r M0) (hw1 : rh_wd S1 ≤ 8) : eS w YX20_insert 3 262 L ((0, y2) :: (0, y1) :: (2, 81) :: S1) M 265 L S1 M0 := by
  have hd : decode (ry_c YX20_insert) 262 = .ok (.invokevirtual 203, 3) := (tdX20_insert 262).resolve_right (by decide +kernel) ▸ (by decide +kernel : rh_dk dtX20_insert 262 = .ok (.invokevirtual 203, 3))
  exact fun _ _ K => eA.cv (jX20_insert_203 17 (by decide)) (rh_obl hw 81 (by decide +kernel)) (by decide) hd rfl hw1 rfl E K
theorem jX20_put_179 {w : rhW} : ∀ ci ∈ ([16] : List Nat), rh_cvr w YX20_put YX19_copy 179 3 ci := rh_one (rh_cvr.of rfl (Or.inl q2515) kX19_copy)
theorem vX20_put_19 {w : rhW} {L : rhL} {S1 : List rhA} {M M0 : rhM} {r y0 p : Int} {y1 y2 y3 : Int} (hb : rh_bl w 4 y0 p) (E : eC w YX19_copy 1 [(2, y0), (0, y1), (2, y2), (0, y3)] M r M0) (hw1 : rh_wd S1 ≤ 8) : eS w YX20_put 2 19 L ((0, y3) :: (2, y2) :: (0, y1) :: (2, y0) :: S1) M 22 L S1 M0 := by
  have hd : decode (ry_c YX20_put) 19 = .ok (.invokevirtual 179, 3) := (tdX20_put 19).resolve_right (by decide +kernel) ▸ (by decide +kernel : rh_dk dtX20_put 19 = .ok (.invokevirtual 179, 3))
  obtain ⟨ci, hci, hob⟩ := rh_obk (cis := [16]) (by decide +kernel) hb
  exact fun _ _ K => eA.cv (jX20_put_179 ci hci) hob (by decide) hd rfl hw1 rfl E K
theorem vX20_put_34 {w : rhW} {L : rhL} {S1 : List rhA} {M M0 : rhM} {r y0 p : Int} {y1 y2 y3 : Int} (hb : rh_bl w 4 y0 p) (E : eC w YX19_copy 1 [(2, y0), (0, y1), (2, y2), (0, y3)] M r M0) (hw1 : rh_wd S1 ≤ 8) : eS w YX20_put 2 34 L ((0, y3) :: (2, y2) :: (0, y1) :: (2, y0) :: S1) M 37 L S1 M0 := by
  have hd : decode (ry_c YX20_put) 34 = .ok (.invokevirtual 179, 3) := (tdX20_put 34).resolve_right (by decide +kernel) ▸ (by decide +kernel : rh_dk dtX20_put 34 = .ok (.invokevirtual 179, 3))
  obtain ⟨ci, hci, hob⟩ := rh_obk (cis := [16]) (by decide +kernel) hb
  exact fun _ _ K => eA.cv (jX20_put_179 ci hci) hob (by decide) hd rfl hw1 rfl E K
theorem jX20_isBefore_199 {w : rhW} : rh_csr w YX20_isBefore YX19_order 199 4 := rh_csr.of (Or.inl q2526) kX19_order
theorem vX20_isBefore_43 {w : rhW} {L : rhL} {S1 : List rhA} {M M0 : rhM} {r : Int} {y1 y2 y3 y4 : Int} (E : eC w YX19_order 1 [(2, y1), (0, y2), (2, y3), (0, y4)] M r M0) (hw1 : rh_wd S1 ≤ 8) : eS w YX20_isBefore 2 43 L ((0, y4) :: (2, y3) :: (0, y2) :: (2, y1) :: S1) M 46 L ((0, r) :: S1) M0 := by
  have hd : decode (ry_c YX20_isBefore) 43 = .ok (.invokestatic 199, 3) := (tdX20_isBefore 43).resolve_right (by decide +kernel) ▸ (by decide +kernel : rh_dk dtX20_isBefore 43 = .ok (.invokestatic 199, 3))
  exact fun _ _ K => eA.cs (jX20_isBefore_199) (by decide) hd rfl hw1 rfl E K
theorem jX20_choose_175 {w : rhW} : ∀ ci ∈ ([16] : List Nat), rh_cvr w YX20_choose YX19_get 175 2 ci := rh_one (rh_cvr.of rfl (Or.inl q2514) kX19_get)
theorem vX20_choose_64 {w : rhW} {L : rhL} {S1 : List rhA} {M M0 : rhM} {r y0 p : Int} {y1 y2 : Int} (hb : rh_bl w 4 y0 p) (E : eC w YX19_get 0 [(2, y0), (0, y1), (0, y2)] M r M0) (hw1 : rh_wd S1 ≤ 8) : eS w YX20_choose 4 64 L ((0, y2) :: (0, y1) :: (2, y0) :: S1) M 67 L ((0, r) :: S1) M0 := by
  have hd : decode (ry_c YX20_choose) 64 = .ok (.invokevirtual 175, 3) := (tdX20_choose 64).resolve_right (by decide +kernel) ▸ (by decide +kernel : rh_dk dtX20_choose 64 = .ok (.invokevirtual 175, 3))
  obtain ⟨ci, hci, hob⟩ := rh_obk (cis := [16]) (by decide +kernel) hb
  exact fun _ _ K => eA.cv (jX20_choose_175 ci hci) hob (by decide) hd rfl hw1 rfl E K
theorem jX20_choose_191 {w : rhW} : ∀ ci ∈ ([15] : List Nat), rh_cvr w YX20_choose YX18_price 191 2 ci := rh_one (rh_cvr.of rfl (Or.inl q2521) kX18_price)
theorem vX20_choose_68 {w : rhW} (hw : rh_hs w) {L : rhL} {S1 : List rhA} {M M0 : rhM} {r : Int} {y1 y2 : Int} (E : eC w YX18_price 1 [(2, 63), (0, y1), (0, y2)] M r M0) (hw1 : rh_wd S1 ≤ 8) : eS w YX20_choose 4 68 L ((0, y2) :: (0, y1) :: (2, 63) :: S1) M 71 L ((0, r) :: S1) M0 := by
  have hd : decode (ry_c YX20_choose) 68 = .ok (.invokevirtual 191, 3) := (tdX20_choose 68).resolve_right (by decide +kernel) ▸ (by decide +kernel : rh_dk dtX20_choose 68 = .ok (.invokevirtual 191, 3))
  exact fun _ _ K => eA.cv (jX20_choose_191 15 (by decide)) (rh_obl hw 63 (by decide +kernel)) (by decide) hd rfl hw1 rfl E K
theorem q2539 : (Jvm.Cond.methodLink "ReadingHouse$Reader" (210 : Nat) ({ cls := "ReadingHouse$Reader", name := "place", desc := "(II)V" } : Jvm.MethodName)) ∈ lw_all := lw_g (lw_at lw_m10 126 rfl) rfl
theorem jX20_choose_210 {w : rhW} : ∀ ci ∈ ([17] : List Nat), rh_cvr w YX20_choose YX20_place 210 2 ci := rh_one (rh_cvr.of rfl (Or.inl q2539) kX20_place)
theorem vX20_choose_72 {w : rhW} (hw : rh_hs w) {L : rhL} {S1 : List rhA} {M M0 : rhM} {r : Int} {y1 y2 : Int} (E : eC w YX20_place 3 [(2, 81), (0, y1), (0, y2)] M r M0) (hw1 : rh_wd S1 ≤ 8) : eS w YX20_choose 4 72 L ((0, y2) :: (0, y1) :: (2, 81) :: S1) M 75 L S1 M0 := by
  have hd : decode (ry_c YX20_choose) 72 = .ok (.invokevirtual 210, 3) := (tdX20_choose 72).resolve_right (by decide +kernel) ▸ (by decide +kernel : rh_dk dtX20_choose 72 = .ok (.invokevirtual 210, 3))
  exact fun _ _ K => eA.cv (jX20_choose_210 17 (by decide)) (rh_obl hw 81 (by decide +kernel)) (by decide) hd rfl hw1 rfl E K
theorem q2547 : (Jvm.Cond.methodLink "ReadingHouse$Reader" (216 : Nat) ({ cls := "ReadingHouse$Words", name := "find", desc := "(LReadingHouse$Row;I)I" } : Jvm.MethodName)) ∈ lw_all := lw_g (lw_at lw_m10 134 rfl) rfl
theorem jX20_choose_216 {w : rhW} : ∀ ci ∈ ([15] : List Nat), rh_cvr w YX20_choose YX18_find 216 2 ci := rh_one (rh_cvr.of rfl (Or.inl q2547) kX18_find)
theorem vX20_choose_129 {w : rhW} (hw : rh_hs w) {L : rhL} {S1 : List rhA} {M M0 : rhM} {r : Int} {y1 y2 : Int} (E : eC w YX18_find 2 [(2, 63), (2, y1), (0, y2)] M r M0) (hw1 : rh_wd S1 ≤ 8) : eS w YX20_choose 4 129 L ((0, y2) :: (2, y1) :: (2, 63) :: S1) M 132 L ((0, r) :: S1) M0 := by
  have hd : decode (ry_c YX20_choose) 129 = .ok (.invokevirtual 216, 3) := (tdX20_choose 129).resolve_right (by decide +kernel) ▸ (by decide +kernel : rh_dk dtX20_choose 129 = .ok (.invokevirtual 216, 3))
  exact fun _ _ K => eA.cv (jX20_choose_216 15 (by decide)) (rh_obl hw 63 (by decide +kernel)) (by decide) hd rfl hw1 rfl E K
theorem q2543 : (Jvm.Cond.methodLink "ReadingHouse$Reader" (220 : Nat) ({ cls := "ReadingHouse$Reader", name := "isBefore", desc := "(III)Z" } : Jvm.MethodName)) ∈ lw_all := lw_g (lw_at lw_m10 130 rfl) rfl
theorem jX20_choose_220 {w : rhW} : ∀ ci ∈ ([17] : List Nat), rh_cvr w YX20_choose YX20_isBefore 220 3 ci := rh_one (rh_cvr.of rfl (Or.inl q2543) kX20_isBefore)
theorem vX20_choose_159 {w : rhW} (hw : rh_hs w) {L : rhL} {S1 : List rhA} {M M0 : rhM} {r : Int} {y1 y2 y3 : Int} (E : eC w YX20_isBefore 2 [(2, 81), (0, y1), (0, y2), (0, y3)] M r M0) (hw1 : rh_wd S1 ≤ 8) : eS w YX20_choose 4 159 L ((0, y3) :: (0, y2) :: (0, y1) :: (2, 81) :: S1) M 162 L ((0, r) :: S1) M0 := by
  have hd : decode (ry_c YX20_choose) 159 = .ok (.invokevirtual 220, 3) := (tdX20_choose 159).resolve_right (by decide +kernel) ▸ (by decide +kernel : rh_dk dtX20_choose 159 = .ok (.invokevirtual 220, 3))
  exact fun _ _ K => eA.cv (jX20_choose_220 17 (by decide)) (rh_obl hw 81 (by decide +kernel)) (by decide) hd rfl hw1 rfl E K
theorem jX20_place_220 {w : rhW} : ∀ ci ∈ ([17] : List Nat), rh_cvr w YX20_place YX20_isBefore 220 3 ci := rh_one (rh_cvr.of rfl (Or.inl q2543) kX20_isBefore)
theorem vX20_place_34 {w : rhW} (hw : rh_hs w) {L : rhL} {S1 : List rhA} {M M0 : rhM} {r : Int} {y1 y2 y3 : Int} (E : eC w YX20_isBefore 2 [(2, 81), (0, y1), (0, y2), (0, y3)] M r M0) (hw1 : rh_wd S1 ≤ 8) : eS w YX20_place 3 34 L ((0, y3) :: (0, y2) :: (0, y1) :: (2, 81) :: S1) M 37 L ((0, r) :: S1) M0 := by
  have hd : decode (ry_c YX20_place) 34 = .ok (.invokevirtual 220, 3) := (tdX20_place 34).resolve_right (by decide +kernel) ▸ (by decide +kernel : rh_dk dtX20_place 34 = .ok (.invokevirtual 220, 3))
  exact fun _ _ K => eA.cv (jX20_place_220 17 (by decide)) (rh_obl hw 81 (by decide +kernel)) (by decide) hd rfl hw1 rfl E K
theorem jX20_tell_179 {w : rhW} : ∀ ci ∈ ([16] : List Nat), rh_cvr w YX20_tell YX19_copy 179 3 ci := rh_one (rh_cvr.of rfl (Or.inl q2515) kX19_copy)
theorem vX20_tell_111 {w : rhW} {L : rhL} {S1 : List rhA} {M M0 : rhM} {r y0 p : Int} {y1 y2 y3 : Int} (hb : rh_bl w 4 y0 p) (E : eC w YX19_copy 1 [(2, y0), (0, y1), (2, y2), (0, y3)] M r M0) (hw1 : rh_wd S1 ≤ 8) : eS w YX20_tell 2 111 L ((0, y3) :: (2, y2) :: (0, y1) :: (2, y0) :: S1) M 114 L S1 M0 := by
  have hd : decode (ry_c YX20_tell) 111 = .ok (.invokevirtual 179, 3) := (tdX20_tell 111).resolve_right (by decide +kernel) ▸ (by decide +kernel : rh_dk dtX20_tell 111 = .ok (.invokevirtual 179, 3))
  obtain ⟨ci, hci, hob⟩ := rh_obk (cis := [16]) (by decide +kernel) hb
  exact fun _ _ K => eA.cv (jX20_tell_179 ci hci) hob (by decide) hd rfl hw1 rfl E K
theorem jX20_tell_175 {w : rhW} : ∀ ci ∈ ([16] : List Nat), rh_cvr w YX20_tell YX19_get 175 2 ci := rh_one (rh_cvr.of rfl (Or.inl q2514) kX19_get)
theorem vX20_tell_176 {w : rhW} {L : rhL} {S1 : List rhA} {M M0 : rhM} {r y0 p : Int} {y1 y2 : Int} (hb : rh_bl w 4 y0 p) (E : eC w YX19_get 0 [(2, y0), (0, y1), (0, y2)] M r M0) (hw1 : rh_wd S1 ≤ 8) : eS w YX20_tell 2 176 L ((0, y2) :: (0, y1) :: (2, y0) :: S1) M 179 L ((0, r) :: S1) M0 := by
  have hd : decode (ry_c YX20_tell) 176 = .ok (.invokevirtual 175, 3) := (tdX20_tell 176).resolve_right (by decide +kernel) ▸ (by decide +kernel : rh_dk dtX20_tell 176 = .ok (.invokevirtual 175, 3))
  obtain ⟨ci, hci, hob⟩ := rh_obk (cis := [16]) (by decide +kernel) hb
  exact fun _ _ K => eA.cv (jX20_tell_175 ci hci) hob (by decide) hd rfl hw1 rfl E K
theorem vX20_tell_203 {w : rhW} {L : rhL} {S1 : List rhA} {M M0 : rhM} {r y0 p : Int} {y1 y2 : Int} (hb : rh_bl w 4 y0 p) (E : eC w YX19_get 0 [(2, y0), (0, y1), (0, y2)] M r M0) (hw1 : rh_wd S1 ≤ 8) : eS w YX20_tell 2 203 L ((0, y2) :: (0, y1) :: (2, y0) :: S1) M 206 L ((0, r) :: S1) M0 := by
  have hd : decode (ry_c YX20_tell) 203 = .ok (.invokevirtual 175, 3) := (tdX20_tell 203).resolve_right (by decide +kernel) ▸ (by decide +kernel : rh_dk dtX20_tell 203 = .ok (.invokevirtual 175, 3))
  obtain ⟨ci, hci, hob⟩ := rh_obk (cis := [16]) (by decide +kernel) hb
  exact fun _ _ K => eA.cv (jX20_tell_175 ci hci) hob (by decide) hd rfl hw1 rfl E K
theorem jX20_tell_191 {w : rhW} : ∀ ci ∈ ([15] : List Nat), rh_cvr w YX20_tell YX18_price 191 2 ci := rh_one (rh_cvr.of rfl (Or.inl q2521) kX18_price)
theorem vX20_tell_330 {w : rhW} (hw : rh_hs w) {L : rhL} {S1 : List rhA} {M M0 : rhM} {r : Int} {y1 y2 : Int} (E : eC w YX18_price 1 [(2, 63), (0, y1), (0, y2)] M r M0) (hw1 : rh_wd S1 ≤ 8) : eS w YX20_tell 2 330 L ((0, y2) :: (0, y1) :: (2, 63) :: S1) M 333 L ((0, r) :: S1) M0 := by
  have hd : decode (ry_c YX20_tell) 330 = .ok (.invokevirtual 191, 3) := (tdX20_tell 330).resolve_right (by decide +kernel) ▸ (by decide +kernel : rh_dk dtX20_tell 330 = .ok (.invokevirtual 191, 3))
  exact fun _ _ K => eA.cv (jX20_tell_191 15 (by decide)) (rh_obl hw 63 (by decide +kernel)) (by decide) hd rfl hw1 rfl E K
theorem q2720 : (Jvm.Cond.methodLink "ReadingHouse$Reading" (61 : Nat) ({ cls := "ReadingHouse$Row", name := "order", desc := "(LReadingHouse$Row;ILReadingHouse$Row;I)I" } : Jvm.MethodName)) ∈ lw_all := lw_g (lw_at lw_m11 67 rfl) rfl
theorem jX31_answer_61 {w : rhW} : rh_csr w YX31_answer YX19_order 61 4 := rh_csr.of (Or.inl q2720) kX19_order
theorem vX31_answer_59 {w : rhW} {L : rhL} {S1 : List rhA} {M M0 : rhM} {r : Int} {y1 y2 y3 y4 : Int} (E : eC w YX19_order 1 [(2, y1), (0, y2), (2, y3), (0, y4)] M r M0) (hw1 : rh_wd S1 ≤ 8) : eS w YX31_answer 2 59 L ((0, y4) :: (2, y3) :: (0, y2) :: (2, y1) :: S1) M 62 L ((0, r) :: S1) M0 := by
  have hd : decode (ry_c YX31_answer) 59 = .ok (.invokestatic 61, 3) := (tdX31_answer 59).resolve_right (by decide +kernel) ▸ (by decide +kernel : rh_dk dtX31_answer 59 = .ok (.invokestatic 61, 3))
  exact fun _ _ K => eA.cs (jX31_answer_61) (by decide) hd rfl hw1 rfl E K
theorem q2721 : (Jvm.Cond.methodLink "ReadingHouse$Reading" (65 : Nat) ({ cls := "ReadingHouse$Row", name := "copy", desc := "(ILReadingHouse$Row;I)V" } : Jvm.MethodName)) ∈ lw_all := lw_g (lw_at lw_m11 68 rfl) rfl
theorem jX31_answer_65 {w : rhW} : ∀ ci ∈ ([16] : List Nat), rh_cvr w YX31_answer YX19_copy 65 3 ci := rh_one (rh_cvr.of rfl (Or.inl q2721) kX19_copy)
theorem vX31_answer_87 {w : rhW} {L : rhL} {S1 : List rhA} {M M0 : rhM} {r y0 p : Int} {y1 y2 y3 : Int} (hb : rh_bl w 4 y0 p) (E : eC w YX19_copy 1 [(2, y0), (0, y1), (2, y2), (0, y3)] M r M0) (hw1 : rh_wd S1 ≤ 8) : eS w YX31_answer 2 87 L ((0, y3) :: (2, y2) :: (0, y1) :: (2, y0) :: S1) M 90 L S1 M0 := by
  have hd : decode (ry_c YX31_answer) 87 = .ok (.invokevirtual 65, 3) := (tdX31_answer 87).resolve_right (by decide +kernel) ▸ (by decide +kernel : rh_dk dtX31_answer 87 = .ok (.invokevirtual 65, 3))
  obtain ⟨ci, hci, hob⟩ := rh_obk (cis := [16]) (by decide +kernel) hb
  exact fun _ _ K => eA.cv (jX31_answer_65 ci hci) hob (by decide) hd rfl hw1 rfl E K
theorem vX31_answer_102 {w : rhW} {L : rhL} {S1 : List rhA} {M M0 : rhM} {r y0 p : Int} {y1 y2 y3 : Int} (hb : rh_bl w 4 y0 p) (E : eC w YX19_copy 1 [(2, y0), (0, y1), (2, y2), (0, y3)] M r M0) (hw1 : rh_wd S1 ≤ 8) : eS w YX31_answer 2 102 L ((0, y3) :: (2, y2) :: (0, y1) :: (2, y0) :: S1) M 105 L S1 M0 := by
  have hd : decode (ry_c YX31_answer) 102 = .ok (.invokevirtual 65, 3) := (tdX31_answer 102).resolve_right (by decide +kernel) ▸ (by decide +kernel : rh_dk dtX31_answer 102 = .ok (.invokevirtual 65, 3))
  obtain ⟨ci, hci, hob⟩ := rh_obk (cis := [16]) (by decide +kernel) hb
  exact fun _ _ K => eA.cv (jX31_answer_65 ci hci) hob (by decide) hd rfl hw1 rfl E K
theorem q2730 : (Jvm.Cond.methodLink "ReadingHouse$Reading" (73 : Nat) ({ cls := "ReadingHouse$Reading", name := "margin", desc := "(I)I" } : Jvm.MethodName)) ∈ lw_all := lw_g (lw_at lw_m11 77 rfl) rfl
theorem jX31_question_73 {w : rhW} : ∀ ci ∈ ([28] : List Nat), rh_cvr w YX31_question YX31_margin 73 1 ci := rh_one (rh_cvr.of rfl (Or.inl q2730) kX31_margin)
theorem vX31_question_57 {w : rhW} {L : rhL} {S1 : List rhA} {M M0 : rhM} {r y0 p : Int} {y1 : Int} (hb : rh_bl w 2 y0 p) (E : eC w YX31_margin 1 [(2, y0), (0, y1)] M r M0) (hw1 : rh_wd S1 ≤ 8) : eS w YX31_question 2 57 L ((0, y1) :: (2, y0) :: S1) M 60 L ((0, r) :: S1) M0 := by
  have hd : decode (ry_c YX31_question) 57 = .ok (.invokevirtual 73, 3) := (tdX31_question 57).resolve_right (by decide +kernel) ▸ (by decide +kernel : rh_dk dtX31_question 57 = .ok (.invokevirtual 73, 3))
  obtain ⟨ci, hci, hob⟩ := rh_obk (cis := [28]) (by decide +kernel) hb
  exact fun _ _ K => eA.cv (jX31_question_73 ci hci) hob (by decide) hd rfl hw1 rfl E K
theorem vX31_question_62 {w : rhW} {L : rhL} {S1 : List rhA} {M M0 : rhM} {r y0 p : Int} {y1 : Int} (hb : rh_bl w 2 y0 p) (E : eC w YX31_margin 1 [(2, y0), (0, y1)] M r M0) (hw1 : rh_wd S1 ≤ 8) : eS w YX31_question 2 62 L ((0, y1) :: (2, y0) :: S1) M 65 L ((0, r) :: S1) M0 := by
  have hd : decode (ry_c YX31_question) 62 = .ok (.invokevirtual 73, 3) := (tdX31_question 62).resolve_right (by decide +kernel) ▸ (by decide +kernel : rh_dk dtX31_question 62 = .ok (.invokevirtual 73, 3))
  obtain ⟨ci, hci, hob⟩ := rh_obk (cis := [28]) (by decide +kernel) hb
  exact fun _ _ K => eA.cv (jX31_question_73 ci hci) hob (by decide) hd rfl hw1 rfl E K
theorem q2390 : (Jvm.Cond.methodLink "ReadingHouse$Row" (24 : Nat) ({ cls := "ReadingHouse$Row", name := "get", desc := "(II)I" } : Jvm.MethodName)) ∈ lw_all := lw_g (lw_at lw_m9 217 rfl) rfl
theorem jX19_order_24 {w : rhW} : ∀ ci ∈ ([16] : List Nat), rh_cvr w YX19_order YX19_get 24 2 ci := rh_one (rh_cvr.of rfl (Or.inl q2390) kX19_get)
theorem vX19_order_31 {w : rhW} {L : rhL} {S1 : List rhA} {M M0 : rhM} {r y0 p : Int} {y1 y2 : Int} (hb : rh_bl w 4 y0 p) (E : eC w YX19_get 0 [(2, y0), (0, y1), (0, y2)] M r M0) (hw1 : rh_wd S1 ≤ 8) : eS w YX19_order 1 31 L ((0, y2) :: (0, y1) :: (2, y0) :: S1) M 34 L ((0, r) :: S1) M0 := by
  have hd : decode (ry_c YX19_order) 31 = .ok (.invokevirtual 24, 3) := (tdX19_order 31).resolve_right (by decide +kernel) ▸ (by decide +kernel : rh_dk dtX19_order 31 = .ok (.invokevirtual 24, 3))
  obtain ⟨ci, hci, hob⟩ := rh_obk (cis := [16]) (by decide +kernel) hb
  exact fun _ _ K => eA.cv (jX19_order_24 ci hci) hob (by decide) hd rfl hw1 rfl E K
theorem vX19_order_38 {w : rhW} {L : rhL} {S1 : List rhA} {M M0 : rhM} {r y0 p : Int} {y1 y2 : Int} (hb : rh_bl w 4 y0 p) (E : eC w YX19_get 0 [(2, y0), (0, y1), (0, y2)] M r M0) (hw1 : rh_wd S1 ≤ 8) : eS w YX19_order 1 38 L ((0, y2) :: (0, y1) :: (2, y0) :: S1) M 41 L ((0, r) :: S1) M0 := by
  have hd : decode (ry_c YX19_order) 38 = .ok (.invokevirtual 24, 3) := (tdX19_order 38).resolve_right (by decide +kernel) ▸ (by decide +kernel : rh_dk dtX19_order 38 = .ok (.invokevirtual 24, 3))
  obtain ⟨ci, hci, hob⟩ := rh_obk (cis := [16]) (by decide +kernel) hb
  exact fun _ _ K => eA.cv (jX19_order_24 ci hci) hob (by decide) hd rfl hw1 rfl E K
theorem q2381 : (Jvm.Cond.methodLink "ReadingHouse$Row" (27 : Nat) ({ cls := "java/lang/System", name := "arraycopy", desc := "(Ljava/lang/Object;ILjava/lang/Object;II)V" } : Jvm.MethodName)) ∈ lw_all := lw_g (lw_at lw_m9 208 rfl) rfl
theorem vX19_copy_18 {w : rhW} {L : rhL} {S1 : List rhA} {M : rhM} {n0 n1 t2 t4 t5 tt : Nat} {ty : FieldType} {r sp r1 dp m : Int} (hty : rh_it ty = true) (hrk : refKind ty = false) (hT : rh_tl[tt]? = some ty) (ha : rh_ar w r ty n0) (hb : rh_ar w r1 ty n1) (h2 : rh_ik t2 = true) (h4 : rh_ik t4 = true) (h5 : rh_ik t5 = true) (hs : 0 ≤ sp) (hdp : 0 ≤ dp) (hm : 0 ≤ m) (hn0 : sp + m ≤ n0) (hn1 : dp + m ≤ n1) (hn0' : n0 ≤ 2147483647) (hn1' : n1 ≤ 2147483647) (hw1 : rh_wd S1 ≤ 8) : eS w YX19_copy 1 18 L ((t5, m) :: (t4, dp) :: (2, r1) :: (t2, sp) :: (2, r) :: S1) M 21 L S1 (rh_cpy M r sp r1 dp m) :=
  fun _ _ K n => by
    have hd : decode (ry_c YX19_copy) 18 = .ok (.invokestatic 27, 3) := (tdX19_copy 18).resolve_right (by decide +kernel) ▸ (by decide +kernel : rh_dk dtX19_copy 18 = .ok (.invokestatic 27, 3))
    exact rh_copy (n := n + 0) q2381 q312 q311 q292 hd hty hrk hT ha hb h2 h4 h5 hs hdp hm hn0 hn1 hn0' hn1' hw1 (K n)
theorem vX19_set_12 {w : rhW} {L : rhL} {S1 : List rhA} {M : rhM} {n0 n1 t2 t4 t5 tt : Nat} {ty : FieldType} {r sp r1 dp m : Int} (hty : rh_it ty = true) (hrk : refKind ty = false) (hT : rh_tl[tt]? = some ty) (ha : rh_ar w r ty n0) (hb : rh_ar w r1 ty n1) (h2 : rh_ik t2 = true) (h4 : rh_ik t4 = true) (h5 : rh_ik t5 = true) (hs : 0 ≤ sp) (hdp : 0 ≤ dp) (hm : 0 ≤ m) (hn0 : sp + m ≤ n0) (hn1 : dp + m ≤ n1) (hn0' : n0 ≤ 2147483647) (hn1' : n1 ≤ 2147483647) (hw1 : rh_wd S1 ≤ 8) : eS w YX19_set 1 12 L ((t5, m) :: (t4, dp) :: (2, r1) :: (t2, sp) :: (2, r) :: S1) M 15 L S1 (rh_cpy M r sp r1 dp m) :=
  fun _ _ K n => by
    have hd : decode (ry_c YX19_set) 12 = .ok (.invokestatic 27, 3) := (tdX19_set 12).resolve_right (by decide +kernel) ▸ (by decide +kernel : rh_dk dtX19_set 12 = .ok (.invokestatic 27, 3))
    exact rh_copy (n := n + 0) q2381 q312 q311 q292 hd hty hrk hT ha hb h2 h4 h5 hs hdp hm hn0 hn1 hn0' hn1' hw1 (K n)
theorem q2935 : (Jvm.Cond.methodLink "ReadingHouse$Ruled" (37 : Nat) ({ cls := "ReadingHouse$Ruled", name := "isBlack", desc := "(LReadingHouse$Page;III)Z" } : Jvm.MethodName)) ∈ lw_all := lw_g (lw_at lw_m12 42 rfl) rfl
theorem jX24_isRule_37 {w : rhW} : rh_csr w YX24_isRule YX24_isBlack 37 4 := rh_csr.of (Or.inl q2935) kX24_isBlack
theorem vX24_isRule_34 {w : rhW} {L : rhL} {S1 : List rhA} {M M0 : rhM} {r : Int} {y1 y2 y3 y4 : Int} (E : eC w YX24_isBlack 2 [(2, y1), (0, y2), (0, y3), (0, y4)] M r M0) (hw1 : rh_wd S1 ≤ 8) : eS w YX24_isRule 3 34 L ((0, y4) :: (0, y3) :: (0, y2) :: (2, y1) :: S1) M 37 L ((0, r) :: S1) M0 := by
  have hd : decode (ry_c YX24_isRule) 34 = .ok (.invokestatic 37, 3) := (tdX24_isRule 34).resolve_right (by decide +kernel) ▸ (by decide +kernel : rh_dk dtX24_isRule 34 = .ok (.invokestatic 37, 3))
  exact fun _ _ K => eA.cs (jX24_isRule_37) (by decide) hd rfl hw1 rfl E K
theorem jX24_areJoined_37 {w : rhW} : rh_csr w YX24_areJoined YX24_isBlack 37 4 := rh_csr.of (Or.inl q2935) kX24_isBlack
theorem vX24_areJoined_56 {w : rhW} {L : rhL} {S1 : List rhA} {M M0 : rhM} {r : Int} {y1 y2 y3 y4 : Int} (E : eC w YX24_isBlack 2 [(2, y1), (0, y2), (0, y3), (0, y4)] M r M0) (hw1 : rh_wd S1 ≤ 8) : eS w YX24_areJoined 3 56 L ((0, y4) :: (0, y3) :: (0, y2) :: (2, y1) :: S1) M 59 L ((0, r) :: S1) M0 := by
  have hd : decode (ry_c YX24_areJoined) 56 = .ok (.invokestatic 37, 3) := (tdX24_areJoined 56).resolve_right (by decide +kernel) ▸ (by decide +kernel : rh_dk dtX24_areJoined 56 = .ok (.invokestatic 37, 3))
  exact fun _ _ K => eA.cs (jX24_areJoined_37) (by decide) hd rfl hw1 rfl E K
theorem q2956 : (Jvm.Cond.methodLink "ReadingHouse$Ruled" (49 : Nat) ({ cls := "ReadingHouse$Ruled", name := "root", desc := "(I)I" } : Jvm.MethodName)) ∈ lw_all := lw_g (lw_at lw_m12 63 rfl) rfl
theorem jX24_join_49 {w : rhW} : ∀ ci ∈ ([21] : List Nat), rh_cvr w YX24_join YX24_root 49 1 ci := rh_one (rh_cvr.of rfl (Or.inl q2956) kX24_root)
theorem vX24_join_2 {w : rhW} (hw : rh_hs w) {L : rhL} {S1 : List rhA} {M M0 : rhM} {r : Int} {y1 : Int} (E : eC w YX24_root 0 [(2, 205), (0, y1)] M r M0) (hw1 : rh_wd S1 ≤ 8) : eS w YX24_join 1 2 L ((0, y1) :: (2, 205) :: S1) M 5 L ((0, r) :: S1) M0 := by
  have hd : decode (ry_c YX24_join) 2 = .ok (.invokevirtual 49, 3) := (tdX24_join 2).resolve_right (by decide +kernel) ▸ (by decide +kernel : rh_dk dtX24_join 2 = .ok (.invokevirtual 49, 3))
  exact fun _ _ K => eA.cv (jX24_join_49 21 (by decide)) (rh_obl hw 205 (by decide +kernel)) (by decide) hd rfl hw1 rfl E K
theorem vX24_join_8 {w : rhW} (hw : rh_hs w) {L : rhL} {S1 : List rhA} {M M0 : rhM} {r : Int} {y1 : Int} (E : eC w YX24_root 0 [(2, 205), (0, y1)] M r M0) (hw1 : rh_wd S1 ≤ 8) : eS w YX24_join 1 8 L ((0, y1) :: (2, 205) :: S1) M 11 L ((0, r) :: S1) M0 := by
  have hd : decode (ry_c YX24_join) 8 = .ok (.invokevirtual 49, 3) := (tdX24_join 8).resolve_right (by decide +kernel) ▸ (by decide +kernel : rh_dk dtX24_join 8 = .ok (.invokevirtual 49, 3))
  exact fun _ _ K => eA.cv (jX24_join_49 21 (by decide)) (rh_obl hw 205 (by decide +kernel)) (by decide) hd rfl hw1 rfl E K
theorem q2928 : (Jvm.Cond.methodLink "ReadingHouse$Ruled" (56 : Nat) ({ cls := "ReadingHouse$Ruled", name := "findRules", desc := "(LReadingHouse$Page;II)V" } : Jvm.MethodName)) ∈ lw_all := lw_g (lw_at lw_m12 35 rfl) rfl
theorem jX24_find_56 {w : rhW} : ∀ ci ∈ ([21] : List Nat), rh_cvr w YX24_find YX24_findRules 56 3 ci := rh_one (rh_cvr.of rfl (Or.inl q2928) kX24_findRules)
theorem vX24_find_4 {w : rhW} (hw : rh_hs w) {L : rhL} {S1 : List rhA} {M M0 : rhM} {r : Int} {y1 y2 y3 : Int} (E : eC w YX24_findRules 4 [(2, 205), (2, y1), (0, y2), (0, y3)] M r M0) (hw1 : rh_wd S1 ≤ 8) : eS w YX24_find 5 4 L ((0, y3) :: (0, y2) :: (2, y1) :: (2, 205) :: S1) M 7 L S1 M0 := by
  have hd : decode (ry_c YX24_find) 4 = .ok (.invokevirtual 56, 3) := (tdX24_find 4).resolve_right (by decide +kernel) ▸ (by decide +kernel : rh_dk dtX24_find 4 = .ok (.invokevirtual 56, 3))
  exact fun _ _ K => eA.cv (jX24_find_56 21 (by decide)) (rh_obl hw 205 (by decide +kernel)) (by decide) hd rfl hw1 rfl E K
theorem vX24_find_11 {w : rhW} (hw : rh_hs w) {L : rhL} {S1 : List rhA} {M M0 : rhM} {r : Int} {y1 y2 y3 : Int} (E : eC w YX24_findRules 4 [(2, 205), (2, y1), (0, y2), (0, y3)] M r M0) (hw1 : rh_wd S1 ≤ 8) : eS w YX24_find 5 11 L ((0, y3) :: (0, y2) :: (2, y1) :: (2, 205) :: S1) M 14 L S1 M0 := by
  have hd : decode (ry_c YX24_find) 11 = .ok (.invokevirtual 56, 3) := (tdX24_find 11).resolve_right (by decide +kernel) ▸ (by decide +kernel : rh_dk dtX24_find 11 = .ok (.invokevirtual 56, 3))
  exact fun _ _ K => eA.cv (jX24_find_56 21 (by decide)) (rh_obl hw 205 (by decide +kernel)) (by decide) hd rfl hw1 rfl E K
theorem q2948 : (Jvm.Cond.methodLink "ReadingHouse$Ruled" (67 : Nat) ({ cls := "ReadingHouse$Ruled", name := "areJoined", desc := "(LReadingHouse$Page;IIII)Z" } : Jvm.MethodName)) ∈ lw_all := lw_g (lw_at lw_m12 55 rfl) rfl
theorem jX24_find_67 {w : rhW} : ∀ ci ∈ ([21] : List Nat), rh_cvr w YX24_find YX24_areJoined 67 5 ci := rh_one (rh_cvr.of rfl (Or.inl q2948) kX24_areJoined)
theorem vX24_find_102 {w : rhW} (hw : rh_hs w) {L : rhL} {S1 : List rhA} {M M0 : rhM} {r : Int} {y1 y2 y3 y4 y5 : Int} (E : eC w YX24_areJoined 3 [(2, 205), (2, y1), (0, y2), (0, y3), (0, y4), (0, y5)] M r M0) (hw1 : rh_wd S1 ≤ 8) : eS w YX24_find 5 102 L ((0, y5) :: (0, y4) :: (0, y3) :: (0, y2) :: (2, y1) :: (2, 205) :: S1) M 105 L ((0, r) :: S1) M0 := by
  have hd : decode (ry_c YX24_find) 102 = .ok (.invokevirtual 67, 3) := (tdX24_find 102).resolve_right (by decide +kernel) ▸ (by decide +kernel : rh_dk dtX24_find 102 = .ok (.invokevirtual 67, 3))
  exact fun _ _ K => eA.cv (jX24_find_67 21 (by decide)) (rh_obl hw 205 (by decide +kernel)) (by decide) hd rfl hw1 rfl E K
theorem q2952 : (Jvm.Cond.methodLink "ReadingHouse$Ruled" (71 : Nat) ({ cls := "ReadingHouse$Ruled", name := "join", desc := "(II)V" } : Jvm.MethodName)) ∈ lw_all := lw_g (lw_at lw_m12 59 rfl) rfl
theorem jX24_find_71 {w : rhW} : ∀ ci ∈ ([21] : List Nat), rh_cvr w YX24_find YX24_join 71 2 ci := rh_one (rh_cvr.of rfl (Or.inl q2952) kX24_join)
theorem vX24_find_115 {w : rhW} (hw : rh_hs w) {L : rhL} {S1 : List rhA} {M M0 : rhM} {r : Int} {y1 y2 : Int} (E : eC w YX24_join 1 [(2, 205), (0, y1), (0, y2)] M r M0) (hw1 : rh_wd S1 ≤ 8) : eS w YX24_find 5 115 L ((0, y2) :: (0, y1) :: (2, 205) :: S1) M 118 L S1 M0 := by
  have hd : decode (ry_c YX24_find) 115 = .ok (.invokevirtual 71, 3) := (tdX24_find 115).resolve_right (by decide +kernel) ▸ (by decide +kernel : rh_dk dtX24_find 115 = .ok (.invokevirtual 71, 3))
  exact fun _ _ K => eA.cv (jX24_find_71 21 (by decide)) (rh_obl hw 205 (by decide +kernel)) (by decide) hd rfl hw1 rfl E K
theorem vX24_find_154 {w : rhW} (hw : rh_hs w) {L : rhL} {S1 : List rhA} {M M0 : rhM} {r : Int} {y1 y2 y3 y4 y5 : Int} (E : eC w YX24_areJoined 3 [(2, 205), (2, y1), (0, y2), (0, y3), (0, y4), (0, y5)] M r M0) (hw1 : rh_wd S1 ≤ 8) : eS w YX24_find 5 154 L ((0, y5) :: (0, y4) :: (0, y3) :: (0, y2) :: (2, y1) :: (2, 205) :: S1) M 157 L ((0, r) :: S1) M0 := by
  have hd : decode (ry_c YX24_find) 154 = .ok (.invokevirtual 67, 3) := (tdX24_find 154).resolve_right (by decide +kernel) ▸ (by decide +kernel : rh_dk dtX24_find 154 = .ok (.invokevirtual 67, 3))
  exact fun _ _ K => eA.cv (jX24_find_67 21 (by decide)) (rh_obl hw 205 (by decide +kernel)) (by decide) hd rfl hw1 rfl E K
theorem vX24_find_167 {w : rhW} (hw : rh_hs w) {L : rhL} {S1 : List rhA} {M M0 : rhM} {r : Int} {y1 y2 : Int} (E : eC w YX24_join 1 [(2, 205), (0, y1), (0, y2)] M r M0) (hw1 : rh_wd S1 ≤ 8) : eS w YX24_find 5 167 L ((0, y2) :: (0, y1) :: (2, 205) :: S1) M 170 L S1 M0 := by
  have hd : decode (ry_c YX24_find) 167 = .ok (.invokevirtual 71, 3) := (tdX24_find 167).resolve_right (by decide +kernel) ▸ (by decide +kernel : rh_dk dtX24_find 167 = .ok (.invokevirtual 71, 3))
  exact fun _ _ K => eA.cv (jX24_find_71 21 (by decide)) (rh_obl hw 205 (by decide +kernel)) (by decide) hd rfl hw1 rfl E K
theorem jX24_find_49 {w : rhW} : ∀ ci ∈ ([21] : List Nat), rh_cvr w YX24_find YX24_root 49 1 ci := rh_one (rh_cvr.of rfl (Or.inl q2956) kX24_root)
theorem vX24_find_194 {w : rhW} (hw : rh_hs w) {L : rhL} {S1 : List rhA} {M M0 : rhM} {r : Int} {y1 : Int} (E : eC w YX24_root 0 [(2, 205), (0, y1)] M r M0) (hw1 : rh_wd S1 ≤ 8) : eS w YX24_find 5 194 L ((0, y1) :: (2, 205) :: S1) M 197 L ((0, r) :: S1) M0 := by
  have hd : decode (ry_c YX24_find) 194 = .ok (.invokevirtual 49, 3) := (tdX24_find 194).resolve_right (by decide +kernel) ▸ (by decide +kernel : rh_dk dtX24_find 194 = .ok (.invokevirtual 49, 3))
  exact fun _ _ K => eA.cv (jX24_find_49 21 (by decide)) (rh_obl hw 205 (by decide +kernel)) (by decide) hd rfl hw1 rfl E K
theorem jX24_tell_49 {w : rhW} : ∀ ci ∈ ([21] : List Nat), rh_cvr w YX24_tell YX24_root 49 1 ci := rh_one (rh_cvr.of rfl (Or.inl q2956) kX24_root)
theorem vX24_tell_88 {w : rhW} (hw : rh_hs w) {L : rhL} {S1 : List rhA} {M M0 : rhM} {r : Int} {y1 : Int} (E : eC w YX24_root 0 [(2, 205), (0, y1)] M r M0) (hw1 : rh_wd S1 ≤ 8) : eS w YX24_tell 2 88 L ((0, y1) :: (2, 205) :: S1) M 91 L ((0, r) :: S1) M0 := by
  have hd : decode (ry_c YX24_tell) 88 = .ok (.invokevirtual 49, 3) := (tdX24_tell 88).resolve_right (by decide +kernel) ▸ (by decide +kernel : rh_dk dtX24_tell 88 = .ok (.invokevirtual 49, 3))
  exact fun _ _ K => eA.cv (jX24_tell_49 21 (by decide)) (rh_obl hw 205 (by decide +kernel)) (by decide) hd rfl hw1 rfl E K
theorem q1697 : (Jvm.Cond.methodLink "ReadingHouse$RunForm" (7 : Nat) ({ cls := "ReadingHouse$RunForm", name := "readSize", desc := "(LReadingHouse$Sheet;)V" } : Jvm.MethodName)) ∈ lw_all := lw_g (lw_at lw_m7 4 rfl) rfl
theorem q1698 : (Jvm.Cond.sameMethod "ReadingHouse$RunForm" "ReadingHouse$PictureForm" "readSize" "(LReadingHouse$Sheet;)V") ∈ lw_all := lw_g (lw_at lw_m7 5 rfl) rfl
theorem q1699 : (Jvm.Cond.selects "ReadingHouse$RunForm" ({ cls := "ReadingHouse$RunForm", name := "readSize", desc := "(LReadingHouse$Sheet;)V" } : Jvm.MethodName) ({ cls := "ReadingHouse$PictureForm", name := "readSize", desc := "(LReadingHouse$Sheet;)V" } : Jvm.MethodName)) ∈ lw_all := lw_g (lw_at lw_m7 6 rfl) rfl
theorem uX12_readSize_X15_X15 : rh_kU YX12_readSize "ReadingHouse$RunForm" ⟨"ReadingHouse$RunForm", "readSize", "(LReadingHouse$Sheet;)V"⟩ 1 := ⟨q1698, q1699, q1650, q267, q1651, by decide +kernel, by decide, rfl⟩
theorem jX15_read_7 {w : rhW} : ∀ ci ∈ ([12] : List Nat), rh_cvr w YX15_read YX12_readSize 7 1 ci := rh_one (rh_cvr.ofU rfl q1697 uX12_readSize_X15_X15)
theorem vX15_read_2 {w : rhW} (hw : rh_hs w) {L : rhL} {S1 : List rhA} {M M0 : rhM} {r : Int} {y1 : Int} (E : eC w YX12_readSize 2 [(2, 24), (2, y1)] M r M0) (hw1 : rh_wd S1 ≤ 8) : eS w YX15_read 3 2 L ((2, y1) :: (2, 24) :: S1) M 5 L S1 M0 := by
  have hd : decode (ry_c YX15_read) 2 = .ok (.invokevirtual 7, 3) := (tdX15_read 2).resolve_right (by decide +kernel) ▸ (by decide +kernel : rh_dk dtX15_read 2 = .ok (.invokevirtual 7, 3))
  exact fun _ _ K => eA.cv (jX15_read_7 12 (by decide)) (rh_obl hw 24 (by decide +kernel)) (by decide) hd rfl hw1 rfl E K
theorem q1700 : (Jvm.Cond.methodLink "ReadingHouse$RunForm" (31 : Nat) ({ cls := "ReadingHouse$Tape", name := "next", desc := "()I" } : Jvm.MethodName)) ∈ lw_all := lw_g (lw_at lw_m7 7 rfl) rfl
theorem jX15_read_31 {w : rhW} : ∀ ci ∈ ([1] : List Nat), rh_cvr w YX15_read YX2_next 31 0 ci := rh_one (rh_cvr.of rfl (Or.inl q1700) kX2_next)
theorem vX15_read_38 {w : rhW} (hw : rh_hs w) {L : rhL} {S1 : List rhA} {M M0 : rhM} {r : Int} (E : eC w YX2_next 1 [(2, 1)] M r M0) (hw1 : rh_wd S1 ≤ 8) : eS w YX15_read 3 38 L ((2, 1) :: S1) M 41 L ((0, r) :: S1) M0 := by
  have hd : decode (ry_c YX15_read) 38 = .ok (.invokevirtual 31, 3) := (tdX15_read 38).resolve_right (by decide +kernel) ▸ (by decide +kernel : rh_dk dtX15_read 38 = .ok (.invokevirtual 31, 3))
  exact fun _ _ K => eA.cv (jX15_read_31 1 (by decide)) (rh_obl hw 1 (by decide +kernel)) (by decide) hd rfl hw1 rfl E K
theorem q1701 : (Jvm.Cond.methodLink "ReadingHouse$RunForm" (35 : Nat) ({ cls := "ReadingHouse$Tape", name := "must", desc := "(ZI)V" } : Jvm.MethodName)) ∈ lw_all := lw_g (lw_at lw_m7 8 rfl) rfl
theorem jX15_read_35 {w : rhW} : ∀ ci ∈ ([1] : List Nat), rh_cvr w YX15_read YX2_must 35 2 ci := rh_one (rh_cvr.of rfl (Or.inl q1701) kX2_must)
theorem vX15_read_96 {w : rhW} (hw : rh_hs w) {L : rhL} {S1 : List rhA} {M M0 : rhM} {r : Int} {y1 y2 : Int} (E : eC w YX2_must 1 [(2, 1), (0, y1), (0, y2)] M r M0) (hw1 : rh_wd S1 ≤ 8) : eS w YX15_read 3 96 L ((0, y2) :: (0, y1) :: (2, 1) :: S1) M 99 L S1 M0 := by
  have hd : decode (ry_c YX15_read) 96 = .ok (.invokevirtual 35, 3) := (tdX15_read 96).resolve_right (by decide +kernel) ▸ (by decide +kernel : rh_dk dtX15_read 96 = .ok (.invokevirtual 35, 3))
  exact fun _ _ K => eA.cv (jX15_read_35 1 (by decide)) (rh_obl hw 1 (by decide +kernel)) (by decide) hd rfl hw1 rfl E K
theorem vX15_read_115 {w : rhW} (hw : rh_hs w) {L : rhL} {S1 : List rhA} {M M0 : rhM} {r : Int} (E : eC w YX2_next 1 [(2, 1)] M r M0) (hw1 : rh_wd S1 ≤ 8) : eS w YX15_read 3 115 L ((2, 1) :: S1) M 118 L ((0, r) :: S1) M0 := by
  have hd : decode (ry_c YX15_read) 115 = .ok (.invokevirtual 31, 3) := (tdX15_read 115).resolve_right (by decide +kernel) ▸ (by decide +kernel : rh_dk dtX15_read 115 = .ok (.invokevirtual 31, 3))
  exact fun _ _ K => eA.cv (jX15_read_31 1 (by decide)) (rh_obl hw 1 (by decide +kernel)) (by decide) hd rfl hw1 rfl E K
theorem vX15_read_145 {w : rhW} (hw : rh_hs w) {L : rhL} {S1 : List rhA} {M M0 : rhM} {r : Int} (E : eC w YX2_next 1 [(2, 1)] M r M0) (hw1 : rh_wd S1 ≤ 8) : eS w YX15_read 3 145 L ((2, 1) :: S1) M 148 L ((0, r) :: S1) M0 := by
  have hd : decode (ry_c YX15_read) 145 = .ok (.invokevirtual 31, 3) := (tdX15_read 145).resolve_right (by decide +kernel) ▸ (by decide +kernel : rh_dk dtX15_read 145 = .ok (.invokevirtual 31, 3))
  exact fun _ _ K => eA.cv (jX15_read_31 1 (by decide)) (rh_obl hw 1 (by decide +kernel)) (by decide) hd rfl hw1 rfl E K
theorem q1703 : (Jvm.Cond.methodLink "ReadingHouse$RunForm" (43 : Nat) ({ cls := "ReadingHouse$Tape", name := "mustBeOver", desc := "()V" } : Jvm.MethodName)) ∈ lw_all := lw_g (lw_at lw_m7 10 rfl) rfl
theorem jX15_read_43 {w : rhW} : ∀ ci ∈ ([1] : List Nat), rh_cvr w YX15_read YX2_mustBeOver 43 0 ci := rh_one (rh_cvr.of rfl (Or.inl q1703) kX2_mustBeOver)
theorem vX15_read_178 {w : rhW} (hw : rh_hs w) {L : rhL} {S1 : List rhA} {M M0 : rhM} {r : Int} (E : eC w YX2_mustBeOver 2 [(2, 1)] M r M0) (hw1 : rh_wd S1 ≤ 8) : eS w YX15_read 3 178 L ((2, 1) :: S1) M 181 L S1 M0 := by
  have hd : decode (ry_c YX15_read) 178 = .ok (.invokevirtual 43, 3) := (tdX15_read 178).resolve_right (by decide +kernel) ▸ (by decide +kernel : rh_dk dtX15_read 178 = .ok (.invokevirtual 43, 3))
  exact fun _ _ K => eA.cv (jX15_read_43 1 (by decide)) (rh_obl hw 1 (by decide +kernel)) (by decide) hd rfl hw1 rfl E K
theorem q1748 : (Jvm.Cond.methodLink "ReadingHouse$Sheet" (34 : Nat) ({ cls := "java/lang/System", name := "arraycopy", desc := "(Ljava/lang/Object;ILjava/lang/Object;II)V" } : Jvm.MethodName)) ∈ lw_all := lw_g (lw_at lw_m7 55 rfl) rfl
theorem vX5_take_30 {w : rhW} {L : rhL} {S1 : List rhA} {M : rhM} {n0 n1 t2 t4 t5 tt : Nat} {ty : FieldType} {r sp r1 dp m : Int} (hty : rh_it ty = true) (hrk : refKind ty = false) (hT : rh_tl[tt]? = some ty) (ha : rh_ar w r ty n0) (hb : rh_ar w r1 ty n1) (h2 : rh_ik t2 = true) (h4 : rh_ik t4 = true) (h5 : rh_ik t5 = true) (hs : 0 ≤ sp) (hdp : 0 ≤ dp) (hm : 0 ≤ m) (hn0 : sp + m ≤ n0) (hn1 : dp + m ≤ n1) (hn0' : n0 ≤ 2147483647) (hn1' : n1 ≤ 2147483647) (hw1 : rh_wd S1 ≤ 8) : eS w YX5_take 1 30 L ((t5, m) :: (t4, dp) :: (2, r1) :: (t2, sp) :: (2, r) :: S1) M 33 L S1 (rh_cpy M r sp r1 dp m) :=
  fun _ _ K n => by
    have hd : decode (ry_c YX5_take) 30 = .ok (.invokestatic 34, 3) := (tdX5_take 30).resolve_right (by decide +kernel) ▸ (by decide +kernel : rh_dk dtX5_take 30 = .ok (.invokestatic 34, 3))
    exact rh_copy (n := n + 0) q1748 q312 q311 q292 hd hty hrk hT ha hb h2 h4 h5 hs hdp hm hn0 hn1 hn0' hn1' hw1 (K n)
theorem q1904 : (Jvm.Cond.methodLink "ReadingHouse$SpreadRule" (17 : Nat) ({ cls := "ReadingHouse$SpreadRule", name := "firstOf", desc := "(I)I" } : Jvm.MethodName)) ∈ lw_all := lw_g (lw_at lw_m7 211 rfl) rfl
theorem q1905 : (Jvm.Cond.sameMethod "ReadingHouse$SpreadRule" "ReadingHouse$BlackRule" "firstOf" "(I)I") ∈ lw_all := lw_g (lw_at lw_m7 212 rfl) rfl
theorem q1906 : (Jvm.Cond.selects "ReadingHouse$SpreadRule" ({ cls := "ReadingHouse$SpreadRule", name := "firstOf", desc := "(I)I" } : Jvm.MethodName) ({ cls := "ReadingHouse$BlackRule", name := "firstOf", desc := "(I)I" } : Jvm.MethodName)) ∈ lw_all := lw_g (lw_at lw_m7 213 rfl) rfl
theorem uX8_firstOf_X10_X10 : rh_kU YX8_firstOf "ReadingHouse$SpreadRule" ⟨"ReadingHouse$SpreadRule", "firstOf", "(I)I"⟩ 1 := ⟨q1905, q1906, q1887, q263, q1888, by decide +kernel, by decide, rfl⟩
theorem jX10_isBlack_17 {w : rhW} : ∀ ci ∈ ([8] : List Nat), rh_cvr w YX10_isBlack YX8_firstOf 17 1 ci := rh_one (rh_cvr.ofU rfl q1904 uX8_firstOf_X10_X10)
theorem vX10_isBlack_11 {w : rhW} (hw : rh_hs w) {L : rhL} {S1 : List rhA} {M M0 : rhM} {r : Int} {y1 : Int} (E : eC w YX8_firstOf 1 [(2, 19), (0, y1)] M r M0) (hw1 : rh_wd S1 ≤ 8) : eS w YX10_isBlack 2 11 L ((0, y1) :: (2, 19) :: S1) M 14 L ((0, r) :: S1) M0 := by
  have hd : decode (ry_c YX10_isBlack) 11 = .ok (.invokevirtual 17, 3) := (tdX10_isBlack 11).resolve_right (by decide +kernel) ▸ (by decide +kernel : rh_dk dtX10_isBlack 11 = .ok (.invokevirtual 17, 3))
  exact fun _ _ K => eA.cv (jX10_isBlack_17 8 (by decide)) (rh_obl hw 19 (by decide +kernel)) (by decide) hd rfl hw1 rfl E K
theorem q1907 : (Jvm.Cond.methodLink "ReadingHouse$SpreadRule" (29 : Nat) ({ cls := "ReadingHouse$SpreadRule", name := "lastOf", desc := "(II)I" } : Jvm.MethodName)) ∈ lw_all := lw_g (lw_at lw_m7 214 rfl) rfl
theorem q1908 : (Jvm.Cond.sameMethod "ReadingHouse$SpreadRule" "ReadingHouse$BlackRule" "lastOf" "(II)I") ∈ lw_all := lw_g (lw_at lw_m7 215 rfl) rfl
theorem q1909 : (Jvm.Cond.selects "ReadingHouse$SpreadRule" ({ cls := "ReadingHouse$SpreadRule", name := "lastOf", desc := "(II)I" } : Jvm.MethodName) ({ cls := "ReadingHouse$BlackRule", name := "lastOf", desc := "(II)I" } : Jvm.MethodName)) ∈ lw_all := lw_g (lw_at lw_m7 216 rfl) rfl
theorem uX8_lastOf_X10_X10 : rh_kU YX8_lastOf "ReadingHouse$SpreadRule" ⟨"ReadingHouse$SpreadRule", "lastOf", "(II)I"⟩ 2 := ⟨q1908, q1909, q1894, q263, q1895, by decide +kernel, by decide, rfl⟩
theorem jX10_isBlack_29 {w : rhW} : ∀ ci ∈ ([8] : List Nat), rh_cvr w YX10_isBlack YX8_lastOf 29 2 ci := rh_one (rh_cvr.ofU rfl q1907 uX8_lastOf_X10_X10)
theorem vX10_isBlack_24 {w : rhW} (hw : rh_hs w) {L : rhL} {S1 : List rhA} {M M0 : rhM} {r : Int} {y1 y2 : Int} (E : eC w YX8_lastOf 1 [(2, 19), (0, y1), (0, y2)] M r M0) (hw1 : rh_wd S1 ≤ 8) : eS w YX10_isBlack 2 24 L ((0, y2) :: (0, y1) :: (2, 19) :: S1) M 27 L ((0, r) :: S1) M0 := by
  have hd : decode (ry_c YX10_isBlack) 24 = .ok (.invokevirtual 29, 3) := (tdX10_isBlack 24).resolve_right (by decide +kernel) ▸ (by decide +kernel : rh_dk dtX10_isBlack 24 = .ok (.invokevirtual 29, 3))
  exact fun _ _ K => eA.cv (jX10_isBlack_29 8 (by decide)) (rh_obl hw 19 (by decide +kernel)) (by decide) hd rfl hw1 rfl E K
theorem vX10_isBlack_32 {w : rhW} (hw : rh_hs w) {L : rhL} {S1 : List rhA} {M M0 : rhM} {r : Int} {y1 : Int} (E : eC w YX8_firstOf 1 [(2, 19), (0, y1)] M r M0) (hw1 : rh_wd S1 ≤ 8) : eS w YX10_isBlack 2 32 L ((0, y1) :: (2, 19) :: S1) M 35 L ((0, r) :: S1) M0 := by
  have hd : decode (ry_c YX10_isBlack) 32 = .ok (.invokevirtual 17, 3) := (tdX10_isBlack 32).resolve_right (by decide +kernel) ▸ (by decide +kernel : rh_dk dtX10_isBlack 32 = .ok (.invokevirtual 17, 3))
  exact fun _ _ K => eA.cv (jX10_isBlack_17 8 (by decide)) (rh_obl hw 19 (by decide +kernel)) (by decide) hd rfl hw1 rfl E K
theorem vX10_isBlack_45 {w : rhW} (hw : rh_hs w) {L : rhL} {S1 : List rhA} {M M0 : rhM} {r : Int} {y1 y2 : Int} (E : eC w YX8_lastOf 1 [(2, 19), (0, y1), (0, y2)] M r M0) (hw1 : rh_wd S1 ≤ 8) : eS w YX10_isBlack 2 45 L ((0, y2) :: (0, y1) :: (2, 19) :: S1) M 48 L ((0, r) :: S1) M0 := by
  have hd : decode (ry_c YX10_isBlack) 45 = .ok (.invokevirtual 29, 3) := (tdX10_isBlack 45).resolve_right (by decide +kernel) ▸ (by decide +kernel : rh_dk dtX10_isBlack 45 = .ok (.invokevirtual 29, 3))
  exact fun _ _ K => eA.cv (jX10_isBlack_29 8 (by decide)) (rh_obl hw 19 (by decide +kernel)) (by decide) hd rfl hw1 rfl E K
theorem q3180 : (Jvm.Cond.methodLink "ReadingHouse$Store" (26 : Nat) ({ cls := "ReadingHouse$Store", name := "sum", desc := "(II)I" } : Jvm.MethodName)) ∈ lw_all := lw_g (lw_at lw_m13 47 rfl) rfl
theorem jX28_end_26 {w : rhW} : ∀ ci ∈ ([25] : List Nat), rh_cvr w YX28_end YX28_sum 26 2 ci := rh_one (rh_cvr.of rfl (Or.inl q3180) kX28_sum)
theorem vX28_end_26 {w : rhW} (hw : rh_hs w) {L : rhL} {S1 : List rhA} {M M0 : rhM} {r : Int} {y1 y2 : Int} (E : eC w YX28_sum 1 [(2, 233), (0, y1), (0, y2)] M r M0) (hw1 : rh_wd S1 ≤ 8) : eS w YX28_end 2 26 L ((0, y2) :: (0, y1) :: (2, 233) :: S1) M 29 L ((0, r) :: S1) M0 := by
  have hd : decode (ry_c YX28_end) 26 = .ok (.invokevirtual 26, 3) := (tdX28_end 26).resolve_right (by decide +kernel) ▸ (by decide +kernel : rh_dk dtX28_end 26 = .ok (.invokevirtual 26, 3))
  exact fun _ _ K => eA.cv (jX28_end_26 25 (by decide)) (rh_obl hw 233 (by decide +kernel)) (by decide) hd rfl hw1 rfl E K
theorem q3189 : (Jvm.Cond.methodLink "ReadingHouse$Store" (30 : Nat) ({ cls := "ReadingHouse$Store", name := "add", desc := "(I)V" } : Jvm.MethodName)) ∈ lw_all := lw_g (lw_at lw_m13 56 rfl) rfl
theorem jX28_end_30 {w : rhW} : ∀ ci ∈ ([25] : List Nat), rh_cvr w YX28_end YX28_add 30 1 ci := rh_one (rh_cvr.of rfl (Or.inl q3189) kX28_add)
theorem vX28_end_35 {w : rhW} (hw : rh_hs w) {L : rhL} {S1 : List rhA} {M M0 : rhM} {r : Int} {y1 : Int} (E : eC w YX28_add 0 [(2, 233), (0, y1)] M r M0) (hw1 : rh_wd S1 ≤ 8) : eS w YX28_end 2 35 L ((0, y1) :: (2, 233) :: S1) M 38 L S1 M0 := by
  have hd : decode (ry_c YX28_end) 35 = .ok (.invokevirtual 30, 3) := (tdX28_end 35).resolve_right (by decide +kernel) ▸ (by decide +kernel : rh_dk dtX28_end 35 = .ok (.invokevirtual 30, 3))
  exact fun _ _ K => eA.cv (jX28_end_30 25 (by decide)) (rh_obl hw 233 (by decide +kernel)) (by decide) hd rfl hw1 rfl E K
theorem vX28_end_40 {w : rhW} (hw : rh_hs w) {L : rhL} {S1 : List rhA} {M M0 : rhM} {r : Int} {y1 : Int} (E : eC w YX28_add 0 [(2, 233), (0, y1)] M r M0) (hw1 : rh_wd S1 ≤ 8) : eS w YX28_end 2 40 L ((0, y1) :: (2, 233) :: S1) M 43 L S1 M0 := by
  have hd : decode (ry_c YX28_end) 40 = .ok (.invokevirtual 30, 3) := (tdX28_end 40).resolve_right (by decide +kernel) ▸ (by decide +kernel : rh_dk dtX28_end 40 = .ok (.invokevirtual 30, 3))
  exact fun _ _ K => eA.cv (jX28_end_30 25 (by decide)) (rh_obl hw 233 (by decide +kernel)) (by decide) hd rfl hw1 rfl E K
theorem jX28_isRight_26 {w : rhW} : ∀ ci ∈ ([25] : List Nat), rh_cvr w YX28_isRight YX28_sum 26 2 ci := rh_one (rh_cvr.of rfl (Or.inl q3180) kX28_sum)
theorem vX28_isRight_11 {w : rhW} (hw : rh_hs w) {L : rhL} {S1 : List rhA} {M M0 : rhM} {r : Int} {y1 y2 : Int} (E : eC w YX28_sum 1 [(2, 233), (0, y1), (0, y2)] M r M0) (hw1 : rh_wd S1 ≤ 8) : eS w YX28_isRight 2 11 L ((0, y2) :: (0, y1) :: (2, 233) :: S1) M 14 L ((0, r) :: S1) M0 := by
  have hd : decode (ry_c YX28_isRight) 11 = .ok (.invokevirtual 26, 3) := (tdX28_isRight 11).resolve_right (by decide +kernel) ▸ (by decide +kernel : rh_dk dtX28_isRight 11 = .ok (.invokevirtual 26, 3))
  exact fun _ _ K => eA.cv (jX28_isRight_26 25 (by decide)) (rh_obl hw 233 (by decide +kernel)) (by decide) hd rfl hw1 rfl E K
theorem q1693 : (Jvm.Cond.methodLink "ReadingHouse$Tape" (40 : Nat) ({ cls := "ReadingHouse$Tape", name := "must", desc := "(ZI)V" } : Jvm.MethodName)) ∈ lw_all := lw_g (lw_at lw_m7 0 rfl) rfl
theorem jX2_mustBeOver_40 {w : rhW} : ∀ ci ∈ ([1] : List Nat), rh_cvr w YX2_mustBeOver YX2_must 40 2 ci := rh_one (rh_cvr.of rfl (Or.inl q1693) kX2_must)
theorem vX2_mustBeOver_9 {w : rhW} (hw : rh_hs w) {L : rhL} {S1 : List rhA} {M M0 : rhM} {r : Int} {y1 y2 : Int} (E : eC w YX2_must 1 [(2, 1), (0, y1), (0, y2)] M r M0) (hw1 : rh_wd S1 ≤ 8) : eS w YX2_mustBeOver 2 9 L ((0, y2) :: (0, y1) :: (2, 1) :: S1) M 12 L S1 M0 := by
  have hd : decode (ry_c YX2_mustBeOver) 9 = .ok (.invokevirtual 40, 3) := (tdX2_mustBeOver 9).resolve_right (by decide +kernel) ▸ (by decide +kernel : rh_dk dtX2_mustBeOver 9 = .ok (.invokevirtual 40, 3))
  exact fun _ _ K => eA.cv (jX2_mustBeOver_40 1 (by decide)) (rh_obl hw 1 (by decide +kernel)) (by decide) hd rfl hw1 rfl E K
theorem q1711 : (Jvm.Cond.methodLink "ReadingHouse$TextForm" (29 : Nat) ({ cls := "ReadingHouse$TextForm", name := "skip", desc := "()V" } : Jvm.MethodName)) ∈ lw_all := lw_g (lw_at lw_m7 18 rfl) rfl
theorem jX13_readNumber_29 {w : rhW} : ∀ ci ∈ ([10] : List Nat), rh_cvr w YX13_readNumber YX13_skip 29 0 ci := rh_one (rh_cvr.of rfl (Or.inl q1711) kX13_skip)
theorem vX13_readNumber_1 {w : rhW} (hw : rh_hs w) {L : rhL} {S1 : List rhA} {M M0 : rhM} {r : Int} (E : eC w YX13_skip 1 [(2, 22)] M r M0) (hw1 : rh_wd S1 ≤ 8) : eS w YX13_readNumber 2 1 L ((2, 22) :: S1) M 4 L S1 M0 := by
  have hd : decode (ry_c YX13_readNumber) 1 = .ok (.invokevirtual 29, 3) := (tdX13_readNumber 1).resolve_right (by decide +kernel) ▸ (by decide +kernel : rh_dk dtX13_readNumber 1 = .ok (.invokevirtual 29, 3))
  exact fun _ _ K => eA.cv (jX13_readNumber_29 10 (by decide)) (rh_obl hw 22 (by decide +kernel)) (by decide) hd rfl hw1 rfl E K
theorem q1723 : (Jvm.Cond.methodLink "ReadingHouse$TextForm" (44 : Nat) ({ cls := "ReadingHouse$Tape", name := "must", desc := "(ZI)V" } : Jvm.MethodName)) ∈ lw_all := lw_g (lw_at lw_m7 30 rfl) rfl
theorem jX13_readNumber_44 {w : rhW} : ∀ ci ∈ ([1] : List Nat), rh_cvr w YX13_readNumber YX2_must 44 2 ci := rh_one (rh_cvr.of rfl (Or.inl q1723) kX2_must)
theorem vX13_readNumber_40 {w : rhW} (hw : rh_hs w) {L : rhL} {S1 : List rhA} {M M0 : rhM} {r : Int} {y1 y2 : Int} (E : eC w YX2_must 1 [(2, 1), (0, y1), (0, y2)] M r M0) (hw1 : rh_wd S1 ≤ 8) : eS w YX13_readNumber 2 40 L ((0, y2) :: (0, y1) :: (2, 1) :: S1) M 43 L S1 M0 := by
  have hd : decode (ry_c YX13_readNumber) 40 = .ok (.invokevirtual 44, 3) := (tdX13_readNumber 40).resolve_right (by decide +kernel) ▸ (by decide +kernel : rh_dk dtX13_readNumber 40 = .ok (.invokevirtual 44, 3))
  exact fun _ _ K => eA.cv (jX13_readNumber_44 1 (by decide)) (rh_obl hw 1 (by decide +kernel)) (by decide) hd rfl hw1 rfl E K
theorem vX13_readNumber_88 {w : rhW} (hw : rh_hs w) {L : rhL} {S1 : List rhA} {M M0 : rhM} {r : Int} {y1 y2 : Int} (E : eC w YX2_must 1 [(2, 1), (0, y1), (0, y2)] M r M0) (hw1 : rh_wd S1 ≤ 8) : eS w YX13_readNumber 2 88 L ((0, y2) :: (0, y1) :: (2, 1) :: S1) M 91 L S1 M0 := by
  have hd : decode (ry_c YX13_readNumber) 88 = .ok (.invokevirtual 44, 3) := (tdX13_readNumber 88).resolve_right (by decide +kernel) ▸ (by decide +kernel : rh_dk dtX13_readNumber 88 = .ok (.invokevirtual 44, 3))
  exact fun _ _ K => eA.cv (jX13_readNumber_44 1 (by decide)) (rh_obl hw 1 (by decide +kernel)) (by decide) hd rfl hw1 rfl E K
theorem q1724 : (Jvm.Cond.methodLink "ReadingHouse$TextForm" (51 : Nat) ({ cls := "ReadingHouse$Tape", name := "next", desc := "()I" } : Jvm.MethodName)) ∈ lw_all := lw_g (lw_at lw_m7 31 rfl) rfl
theorem jX13_readNumber_51 {w : rhW} : ∀ ci ∈ ([1] : List Nat), rh_cvr w YX13_readNumber YX2_next 51 0 ci := rh_one (rh_cvr.of rfl (Or.inl q1724) kX2_next)
theorem vX13_readNumber_103 {w : rhW} (hw : rh_hs w) {L : rhL} {S1 : List rhA} {M M0 : rhM} {r : Int} (E : eC w YX2_next 1 [(2, 1)] M r M0) (hw1 : rh_wd S1 ≤ 8) : eS w YX13_readNumber 2 103 L ((2, 1) :: S1) M 106 L ((0, r) :: S1) M0 := by
  have hd : decode (ry_c YX13_readNumber) 103 = .ok (.invokevirtual 51, 3) := (tdX13_readNumber 103).resolve_right (by decide +kernel) ▸ (by decide +kernel : rh_dk dtX13_readNumber 103 = .ok (.invokevirtual 51, 3))
  exact fun _ _ K => eA.cv (jX13_readNumber_51 1 (by decide)) (rh_obl hw 1 (by decide +kernel)) (by decide) hd rfl hw1 rfl E K
theorem vX13_readNumber_139 {w : rhW} (hw : rh_hs w) {L : rhL} {S1 : List rhA} {M M0 : rhM} {r : Int} {y1 y2 : Int} (E : eC w YX2_must 1 [(2, 1), (0, y1), (0, y2)] M r M0) (hw1 : rh_wd S1 ≤ 8) : eS w YX13_readNumber 2 139 L ((0, y2) :: (0, y1) :: (2, 1) :: S1) M 142 L S1 M0 := by
  have hd : decode (ry_c YX13_readNumber) 139 = .ok (.invokevirtual 44, 3) := (tdX13_readNumber 139).resolve_right (by decide +kernel) ▸ (by decide +kernel : rh_dk dtX13_readNumber 139 = .ok (.invokevirtual 44, 3))
  exact fun _ _ K => eA.cv (jX13_readNumber_44 1 (by decide)) (rh_obl hw 1 (by decide +kernel)) (by decide) hd rfl hw1 rfl E K
theorem q1707 : (Jvm.Cond.methodLink "ReadingHouse$TextForm" (54 : Nat) ({ cls := "ReadingHouse$TextForm", name := "readNumber", desc := "(II)V" } : Jvm.MethodName)) ∈ lw_all := lw_g (lw_at lw_m7 14 rfl) rfl
theorem jX13_read_54 {w : rhW} : ∀ ci ∈ ([10] : List Nat), rh_cvr w YX13_read YX13_readNumber 54 2 ci := rh_one (rh_cvr.of rfl (Or.inl q1707) kX13_readNumber)
theorem vX13_read_5 {w : rhW} (hw : rh_hs w) {L : rhL} {S1 : List rhA} {M M0 : rhM} {r : Int} {y1 y2 : Int} (E : eC w YX13_readNumber 2 [(2, 22), (0, y1), (0, y2)] M r M0) (hw1 : rh_wd S1 ≤ 8) : eS w YX13_read 3 5 L ((0, y2) :: (0, y1) :: (2, 22) :: S1) M 8 L S1 M0 := by
  have hd : decode (ry_c YX13_read) 5 = .ok (.invokevirtual 54, 3) := (tdX13_read 5).resolve_right (by decide +kernel) ▸ (by decide +kernel : rh_dk dtX13_read 5 = .ok (.invokevirtual 54, 3))
  exact fun _ _ K => eA.cv (jX13_read_54 10 (by decide)) (rh_obl hw 22 (by decide +kernel)) (by decide) hd rfl hw1 rfl E K
theorem vX13_read_17 {w : rhW} (hw : rh_hs w) {L : rhL} {S1 : List rhA} {M M0 : rhM} {r : Int} {y1 y2 : Int} (E : eC w YX13_readNumber 2 [(2, 22), (0, y1), (0, y2)] M r M0) (hw1 : rh_wd S1 ≤ 8) : eS w YX13_read 3 17 L ((0, y2) :: (0, y1) :: (2, 22) :: S1) M 20 L S1 M0 := by
  have hd : decode (ry_c YX13_read) 17 = .ok (.invokevirtual 54, 3) := (tdX13_read 17).resolve_right (by decide +kernel) ▸ (by decide +kernel : rh_dk dtX13_read 17 = .ok (.invokevirtual 54, 3))
  exact fun _ _ K => eA.cv (jX13_read_54 10 (by decide)) (rh_obl hw 22 (by decide +kernel)) (by decide) hd rfl hw1 rfl E K
theorem jX13_read_44 {w : rhW} : ∀ ci ∈ ([1] : List Nat), rh_cvr w YX13_read YX2_must 44 2 ci := rh_one (rh_cvr.of rfl (Or.inl q1723) kX2_must)
theorem vX13_read_45 {w : rhW} (hw : rh_hs w) {L : rhL} {S1 : List rhA} {M M0 : rhM} {r : Int} {y1 y2 : Int} (E : eC w YX2_must 1 [(2, 1), (0, y1), (0, y2)] M r M0) (hw1 : rh_wd S1 ≤ 8) : eS w YX13_read 3 45 L ((0, y2) :: (0, y1) :: (2, 1) :: S1) M 48 L S1 M0 := by
  have hd : decode (ry_c YX13_read) 45 = .ok (.invokevirtual 44, 3) := (tdX13_read 45).resolve_right (by decide +kernel) ▸ (by decide +kernel : rh_dk dtX13_read 45 = .ok (.invokevirtual 44, 3))
  exact fun _ _ K => eA.cv (jX13_read_44 1 (by decide)) (rh_obl hw 1 (by decide +kernel)) (by decide) hd rfl hw1 rfl E K
theorem vX13_read_62 {w : rhW} (hw : rh_hs w) {L : rhL} {S1 : List rhA} {M M0 : rhM} {r : Int} {y1 y2 : Int} (E : eC w YX13_readNumber 2 [(2, 22), (0, y1), (0, y2)] M r M0) (hw1 : rh_wd S1 ≤ 8) : eS w YX13_read 3 62 L ((0, y2) :: (0, y1) :: (2, 22) :: S1) M 65 L S1 M0 := by
  have hd : decode (ry_c YX13_read) 62 = .ok (.invokevirtual 54, 3) := (tdX13_read 62).resolve_right (by decide +kernel) ▸ (by decide +kernel : rh_dk dtX13_read 62 = .ok (.invokevirtual 54, 3))
  exact fun _ _ K => eA.cv (jX13_read_54 10 (by decide)) (rh_obl hw 22 (by decide +kernel)) (by decide) hd rfl hw1 rfl E K
theorem vX13_read_85 {w : rhW} (hw : rh_hs w) {L : rhL} {S1 : List rhA} {M M0 : rhM} {r : Int} {y1 y2 : Int} (E : eC w YX13_readNumber 2 [(2, 22), (0, y1), (0, y2)] M r M0) (hw1 : rh_wd S1 ≤ 8) : eS w YX13_read 3 85 L ((0, y2) :: (0, y1) :: (2, 22) :: S1) M 88 L S1 M0 := by
  have hd : decode (ry_c YX13_read) 85 = .ok (.invokevirtual 54, 3) := (tdX13_read 85).resolve_right (by decide +kernel) ▸ (by decide +kernel : rh_dk dtX13_read 85 = .ok (.invokevirtual 54, 3))
  exact fun _ _ K => eA.cv (jX13_read_54 10 (by decide)) (rh_obl hw 22 (by decide +kernel)) (by decide) hd rfl hw1 rfl E K
theorem jX13_read_29 {w : rhW} : ∀ ci ∈ ([10] : List Nat), rh_cvr w YX13_read YX13_skip 29 0 ci := rh_one (rh_cvr.of rfl (Or.inl q1711) kX13_skip)
theorem vX13_read_113 {w : rhW} (hw : rh_hs w) {L : rhL} {S1 : List rhA} {M M0 : rhM} {r : Int} (E : eC w YX13_skip 1 [(2, 22)] M r M0) (hw1 : rh_wd S1 ≤ 8) : eS w YX13_read 3 113 L ((2, 22) :: S1) M 116 L S1 M0 := by
  have hd : decode (ry_c YX13_read) 113 = .ok (.invokevirtual 29, 3) := (tdX13_read 113).resolve_right (by decide +kernel) ▸ (by decide +kernel : rh_dk dtX13_read 113 = .ok (.invokevirtual 29, 3))
  exact fun _ _ K => eA.cv (jX13_read_29 10 (by decide)) (rh_obl hw 22 (by decide +kernel)) (by decide) hd rfl hw1 rfl E K
theorem q1732 : (Jvm.Cond.methodLink "ReadingHouse$TextForm" (70 : Nat) ({ cls := "ReadingHouse$Tape", name := "mustBeOver", desc := "()V" } : Jvm.MethodName)) ∈ lw_all := lw_g (lw_at lw_m7 39 rfl) rfl
theorem jX13_read_70 {w : rhW} : ∀ ci ∈ ([1] : List Nat), rh_cvr w YX13_read YX2_mustBeOver 70 0 ci := rh_one (rh_cvr.of rfl (Or.inl q1732) kX2_mustBeOver)
theorem vX13_read_120 {w : rhW} (hw : rh_hs w) {L : rhL} {S1 : List rhA} {M M0 : rhM} {r : Int} (E : eC w YX2_mustBeOver 2 [(2, 1)] M r M0) (hw1 : rh_wd S1 ≤ 8) : eS w YX13_read 3 120 L ((2, 1) :: S1) M 123 L S1 M0 := by
  have hd : decode (ry_c YX13_read) 120 = .ok (.invokevirtual 70, 3) := (tdX13_read 120).resolve_right (by decide +kernel) ▸ (by decide +kernel : rh_dk dtX13_read 120 = .ok (.invokevirtual 70, 3))
  exact fun _ _ K => eA.cv (jX13_read_70 1 (by decide)) (rh_obl hw 1 (by decide +kernel)) (by decide) hd rfl hw1 rfl E K
theorem q2059 : (Jvm.Cond.methodLink "ReadingHouse$Walk" (37 : Nat) ({ cls := "ReadingHouse$Walk", name := "isAhead", desc := "(LReadingHouse$Page;IIIII)Z" } : Jvm.MethodName)) ∈ lw_all := lw_g (lw_at lw_m8 126 rfl) rfl
theorem jX7_go_37 {w : rhW} : rh_csr w YX7_go YX7_isAhead 37 6 := rh_csr.of (Or.inl q2059) kX7_isAhead
theorem vX7_go_116 {w : rhW} {L : rhL} {S1 : List rhA} {M M0 : rhM} {r : Int} {y1 y2 y3 y4 y5 y6 : Int} (E : eC w YX7_isAhead 2 [(2, y1), (0, y2), (0, y3), (0, y4), (0, y5), (0, y6)] M r M0) (hw1 : rh_wd S1 ≤ 8) : eS w YX7_go 3 116 L ((0, y6) :: (0, y5) :: (0, y4) :: (0, y3) :: (0, y2) :: (2, y1) :: S1) M 119 L ((0, r) :: S1) M0 := by
  have hd : decode (ry_c YX7_go) 116 = .ok (.invokestatic 37, 3) := (tdX7_go 116).resolve_right (by decide +kernel) ▸ (by decide +kernel : rh_dk dtX7_go 116 = .ok (.invokestatic 37, 3))
  exact fun _ _ K => eA.cs (jX7_go_37) (by decide) hd rfl hw1 rfl E K
theorem vX7_go_140 {w : rhW} {L : rhL} {S1 : List rhA} {M M0 : rhM} {r : Int} {y1 y2 y3 y4 y5 y6 : Int} (E : eC w YX7_isAhead 2 [(2, y1), (0, y2), (0, y3), (0, y4), (0, y5), (0, y6)] M r M0) (hw1 : rh_wd S1 ≤ 8) : eS w YX7_go 3 140 L ((0, y6) :: (0, y5) :: (0, y4) :: (0, y3) :: (0, y2) :: (2, y1) :: S1) M 143 L ((0, r) :: S1) M0 := by
  have hd : decode (ry_c YX7_go) 140 = .ok (.invokestatic 37, 3) := (tdX7_go 140).resolve_right (by decide +kernel) ▸ (by decide +kernel : rh_dk dtX7_go 140 = .ok (.invokestatic 37, 3))
  exact fun _ _ K => eA.cs (jX7_go_37) (by decide) hd rfl hw1 rfl E K
theorem q2386 : (Jvm.Cond.methodLink "ReadingHouse$Words" (62 : Nat) ({ cls := "ReadingHouse$Row", name := "order", desc := "(LReadingHouse$Row;ILReadingHouse$Row;I)I" } : Jvm.MethodName)) ∈ lw_all := lw_g (lw_at lw_m9 213 rfl) rfl
theorem jX18_find_62 {w : rhW} : rh_csr w YX18_find YX19_order 62 4 := rh_csr.of (Or.inl q2386) kX19_order
theorem vX18_find_17 {w : rhW} {L : rhL} {S1 : List rhA} {M M0 : rhM} {r : Int} {y1 y2 y3 y4 : Int} (E : eC w YX19_order 1 [(2, y1), (0, y2), (2, y3), (0, y4)] M r M0) (hw1 : rh_wd S1 ≤ 8) : eS w YX18_find 2 17 L ((0, y4) :: (2, y3) :: (0, y2) :: (2, y1) :: S1) M 20 L ((0, r) :: S1) M0 := by
  have hd : decode (ry_c YX18_find) 17 = .ok (.invokestatic 62, 3) := (tdX18_find 17).resolve_right (by decide +kernel) ▸ (by decide +kernel : rh_dk dtX18_find 17 = .ok (.invokestatic 62, 3))
  exact fun _ _ K => eA.cs (jX18_find_62) (by decide) hd rfl hw1 rfl E K
theorem q2374 : (Jvm.Cond.methodLink "ReadingHouse$Words" (72 : Nat) ({ cls := "ReadingHouse$Tape", name := "next", desc := "()I" } : Jvm.MethodName)) ∈ lw_all := lw_g (lw_at lw_m9 201 rfl) rfl
theorem jX18_read_72 {w : rhW} : ∀ ci ∈ ([1] : List Nat), rh_cvr w YX18_read YX2_next 72 0 ci := rh_one (rh_cvr.of rfl (Or.inl q2374) kX2_next)
theorem vX18_read_8 {w : rhW} (hw : rh_hs w) {L : rhL} {S1 : List rhA} {M M0 : rhM} {r : Int} (E : eC w YX2_next 1 [(2, 1)] M r M0) (hw1 : rh_wd S1 ≤ 8) : eS w YX18_read 3 8 L ((2, 1) :: S1) M 11 L ((0, r) :: S1) M0 := by
  have hd : decode (ry_c YX18_read) 8 = .ok (.invokevirtual 72, 3) := (tdX18_read 8).resolve_right (by decide +kernel) ▸ (by decide +kernel : rh_dk dtX18_read 8 = .ok (.invokevirtual 72, 3))
  exact fun _ _ K => eA.cv (jX18_read_72 1 (by decide)) (rh_obl hw 1 (by decide +kernel)) (by decide) hd rfl hw1 rfl E K
theorem q2376 : (Jvm.Cond.methodLink "ReadingHouse$Words" (82 : Nat) ({ cls := "ReadingHouse$Tape", name := "must", desc := "(ZI)V" } : Jvm.MethodName)) ∈ lw_all := lw_g (lw_at lw_m9 203 rfl) rfl
theorem jX18_read_82 {w : rhW} : ∀ ci ∈ ([1] : List Nat), rh_cvr w YX18_read YX2_must 82 2 ci := rh_one (rh_cvr.of rfl (Or.inl q2376) kX2_must)
theorem vX18_read_69 {w : rhW} (hw : rh_hs w) {L : rhL} {S1 : List rhA} {M M0 : rhM} {r : Int} {y1 y2 : Int} (E : eC w YX2_must 1 [(2, 1), (0, y1), (0, y2)] M r M0) (hw1 : rh_wd S1 ≤ 8) : eS w YX18_read 3 69 L ((0, y2) :: (0, y1) :: (2, 1) :: S1) M 72 L S1 M0 := by
  have hd : decode (ry_c YX18_read) 69 = .ok (.invokevirtual 82, 3) := (tdX18_read 69).resolve_right (by decide +kernel) ▸ (by decide +kernel : rh_dk dtX18_read 69 = .ok (.invokevirtual 82, 3))
  exact fun _ _ K => eA.cv (jX18_read_82 1 (by decide)) (rh_obl hw 1 (by decide +kernel)) (by decide) hd rfl hw1 rfl E K
theorem q2377 : (Jvm.Cond.methodLink "ReadingHouse$Words" (90 : Nat) ({ cls := "ReadingHouse$Row", name := "set", desc := "(I[BII)V" } : Jvm.MethodName)) ∈ lw_all := lw_g (lw_at lw_m9 204 rfl) rfl
theorem jX18_read_90 {w : rhW} : ∀ ci ∈ ([16] : List Nat), rh_cvr w YX18_read YX19_set 90 4 ci := rh_one (rh_cvr.of rfl (Or.inl q2377) kX19_set)
theorem vX18_read_140 {w : rhW} {L : rhL} {S1 : List rhA} {M M0 : rhM} {r y0 p : Int} {y1 y2 y3 y4 : Int} (hb : rh_bl w 4 y0 p) (E : eC w YX19_set 1 [(2, y0), (0, y1), (2, y2), (0, y3), (0, y4)] M r M0) (hw1 : rh_wd S1 ≤ 8) : eS w YX18_read 3 140 L ((0, y4) :: (0, y3) :: (2, y2) :: (0, y1) :: (2, y0) :: S1) M 143 L S1 M0 := by
  have hd : decode (ry_c YX18_read) 140 = .ok (.invokevirtual 90, 3) := (tdX18_read 140).resolve_right (by decide +kernel) ▸ (by decide +kernel : rh_dk dtX18_read 140 = .ok (.invokevirtual 90, 3))
  obtain ⟨ci, hci, hob⟩ := rh_obk (cis := [16]) (by decide +kernel) hb
  exact fun _ _ K => eA.cv (jX18_read_90 ci hci) hob (by decide) hd rfl hw1 rfl E K
theorem q2382 : (Jvm.Cond.methodLink "ReadingHouse$Words" (94 : Nat) ({ cls := "ReadingHouse$Words", name := "find", desc := "(LReadingHouse$Row;I)I" } : Jvm.MethodName)) ∈ lw_all := lw_g (lw_at lw_m9 209 rfl) rfl
theorem jX18_read_94 {w : rhW} : ∀ ci ∈ ([15] : List Nat), rh_cvr w YX18_read YX18_find 94 2 ci := rh_one (rh_cvr.of rfl (Or.inl q2382) kX18_find)
theorem vX18_read_149 {w : rhW} (hw : rh_hs w) {L : rhL} {S1 : List rhA} {M M0 : rhM} {r : Int} {y1 y2 : Int} (E : eC w YX18_find 2 [(2, 63), (2, y1), (0, y2)] M r M0) (hw1 : rh_wd S1 ≤ 8) : eS w YX18_read 3 149 L ((0, y2) :: (2, y1) :: (2, 63) :: S1) M 152 L ((0, r) :: S1) M0 := by
  have hd : decode (ry_c YX18_read) 149 = .ok (.invokevirtual 94, 3) := (tdX18_read 149).resolve_right (by decide +kernel) ▸ (by decide +kernel : rh_dk dtX18_read 149 = .ok (.invokevirtual 94, 3))
  exact fun _ _ K => eA.cv (jX18_read_94 15 (by decide)) (rh_obl hw 63 (by decide +kernel)) (by decide) hd rfl hw1 rfl E K
theorem q2394 : (Jvm.Cond.methodLink "ReadingHouse$Words" (98 : Nat) ({ cls := "ReadingHouse$Row", name := "copy", desc := "(ILReadingHouse$Row;I)V" } : Jvm.MethodName)) ∈ lw_all := lw_g (lw_at lw_m9 221 rfl) rfl
theorem jX18_read_98 {w : rhW} : ∀ ci ∈ ([16] : List Nat), rh_cvr w YX18_read YX19_copy 98 3 ci := rh_one (rh_cvr.of rfl (Or.inl q2394) kX19_copy)
theorem vX18_read_195 {w : rhW} {L : rhL} {S1 : List rhA} {M M0 : rhM} {r y0 p : Int} {y1 y2 y3 : Int} (hb : rh_bl w 4 y0 p) (E : eC w YX19_copy 1 [(2, y0), (0, y1), (2, y2), (0, y3)] M r M0) (hw1 : rh_wd S1 ≤ 8) : eS w YX18_read 3 195 L ((0, y3) :: (2, y2) :: (0, y1) :: (2, y0) :: S1) M 198 L S1 M0 := by
  have hd : decode (ry_c YX18_read) 195 = .ok (.invokevirtual 98, 3) := (tdX18_read 195).resolve_right (by decide +kernel) ▸ (by decide +kernel : rh_dk dtX18_read 195 = .ok (.invokevirtual 98, 3))
  obtain ⟨ci, hci, hob⟩ := rh_obk (cis := [16]) (by decide +kernel) hb
  exact fun _ _ K => eA.cv (jX18_read_98 ci hci) hob (by decide) hd rfl hw1 rfl E K
theorem q2406 : (Jvm.Cond.methodLink "ReadingHouse$Words" (112 : Nat) ({ cls := "ReadingHouse$Row", name := "get", desc := "(II)I" } : Jvm.MethodName)) ∈ lw_all := lw_g (lw_at lw_m9 233 rfl) rfl
theorem jX18_build_112 {w : rhW} : ∀ ci ∈ ([16] : List Nat), rh_cvr w YX18_build YX19_get 112 2 ci := rh_one (rh_cvr.of rfl (Or.inl q2406) kX19_get)
theorem vX18_build_46 {w : rhW} {L : rhL} {S1 : List rhA} {M M0 : rhM} {r y0 p : Int} {y1 y2 : Int} (hb : rh_bl w 4 y0 p) (E : eC w YX19_get 0 [(2, y0), (0, y1), (0, y2)] M r M0) (hw1 : rh_wd S1 ≤ 8) : eS w YX18_build 2 46 L ((0, y2) :: (0, y1) :: (2, y0) :: S1) M 49 L ((0, r) :: S1) M0 := by
  have hd : decode (ry_c YX18_build) 46 = .ok (.invokevirtual 112, 3) := (tdX18_build 46).resolve_right (by decide +kernel) ▸ (by decide +kernel : rh_dk dtX18_build 46 = .ok (.invokevirtual 112, 3))
  obtain ⟨ci, hci, hob⟩ := rh_obk (cis := [16]) (by decide +kernel) hb
  exact fun _ _ K => eA.cv (jX18_build_112 ci hci) hob (by decide) hd rfl hw1 rfl E K
theorem q2407 : (Jvm.Cond.methodLink "ReadingHouse$Words" (116 : Nat) ({ cls := "ReadingHouse$Words", name := "childOf", desc := "(II)I" } : Jvm.MethodName)) ∈ lw_all := lw_g (lw_at lw_m9 234 rfl) rfl
theorem jX18_build_116 {w : rhW} : ∀ ci ∈ ([15] : List Nat), rh_cvr w YX18_build YX18_childOf 116 2 ci := rh_one (rh_cvr.of rfl (Or.inl q2407) kX18_childOf)
theorem vX18_build_49 {w : rhW} (hw : rh_hs w) {L : rhL} {S1 : List rhA} {M M0 : rhM} {r : Int} {y1 y2 : Int} (E : eC w YX18_childOf 1 [(2, 63), (0, y1), (0, y2)] M r M0) (hw1 : rh_wd S1 ≤ 8) : eS w YX18_build 2 49 L ((0, y2) :: (0, y1) :: (2, 63) :: S1) M 52 L ((0, r) :: S1) M0 := by
  have hd : decode (ry_c YX18_build) 49 = .ok (.invokevirtual 116, 3) := (tdX18_build 49).resolve_right (by decide +kernel) ▸ (by decide +kernel : rh_dk dtX18_build 49 = .ok (.invokevirtual 116, 3))
  exact fun _ _ K => eA.cv (jX18_build_116 15 (by decide)) (rh_obl hw 63 (by decide +kernel)) (by decide) hd rfl hw1 rfl E K
theorem q2411 : (Jvm.Cond.methodLink "ReadingHouse$Words" (125 : Nat) ({ cls := "ReadingHouse$Words", name := "areAlike", desc := "(II)Z" } : Jvm.MethodName)) ∈ lw_all := lw_g (lw_at lw_m9 238 rfl) rfl
theorem jX18_build_125 {w : rhW} : ∀ ci ∈ ([15] : List Nat), rh_cvr w YX18_build YX18_areAlike 125 2 ci := rh_one (rh_cvr.of rfl (Or.inl q2411) kX18_areAlike)
theorem vX18_build_111 {w : rhW} (hw : rh_hs w) {L : rhL} {S1 : List rhA} {M M0 : rhM} {r : Int} {y1 y2 : Int} (E : eC w YX18_areAlike 0 [(2, 63), (0, y1), (0, y2)] M r M0) (hw1 : rh_wd S1 ≤ 8) : eS w YX18_build 2 111 L ((0, y2) :: (0, y1) :: (2, 63) :: S1) M 114 L ((0, r) :: S1) M0 := by
  have hd : decode (ry_c YX18_build) 111 = .ok (.invokevirtual 125, 3) := (tdX18_build 111).resolve_right (by decide +kernel) ▸ (by decide +kernel : rh_dk dtX18_build 111 = .ok (.invokevirtual 125, 3))
  exact fun _ _ K => eA.cv (jX18_build_125 15 (by decide)) (rh_obl hw 63 (by decide +kernel)) (by decide) hd rfl hw1 rfl E K
theorem jX18_changes_112 {w : rhW} : ∀ ci ∈ ([16] : List Nat), rh_cvr w YX18_changes YX19_get 112 2 ci := rh_one (rh_cvr.of rfl (Or.inl q2406) kX19_get)
theorem vX18_changes_81 {w : rhW} {L : rhL} {S1 : List rhA} {M M0 : rhM} {r y0 p : Int} {y1 y2 : Int} (hb : rh_bl w 4 y0 p) (E : eC w YX19_get 0 [(2, y0), (0, y1), (0, y2)] M r M0) (hw1 : rh_wd S1 ≤ 8) : eS w YX18_changes 1 81 L ((0, y2) :: (0, y1) :: (2, y0) :: S1) M 84 L ((0, r) :: S1) M0 := by
  have hd : decode (ry_c YX18_changes) 81 = .ok (.invokevirtual 112, 3) := (tdX18_changes 81).resolve_right (by decide +kernel) ▸ (by decide +kernel : rh_dk dtX18_changes 81 = .ok (.invokevirtual 112, 3))
  obtain ⟨ci, hci, hob⟩ := rh_obk (cis := [16]) (by decide +kernel) hb
  exact fun _ _ K => eA.cv (jX18_changes_112 ci hci) hob (by decide) hd rfl hw1 rfl E K
theorem vX18_changes_93 {w : rhW} {L : rhL} {S1 : List rhA} {M M0 : rhM} {r y0 p : Int} {y1 y2 : Int} (hb : rh_bl w 4 y0 p) (E : eC w YX19_get 0 [(2, y0), (0, y1), (0, y2)] M r M0) (hw1 : rh_wd S1 ≤ 8) : eS w YX18_changes 1 93 L ((0, y2) :: (0, y1) :: (2, y0) :: S1) M 96 L ((0, r) :: S1) M0 := by
  have hd : decode (ry_c YX18_changes) 93 = .ok (.invokevirtual 112, 3) := (tdX18_changes 93).resolve_right (by decide +kernel) ▸ (by decide +kernel : rh_dk dtX18_changes 93 = .ok (.invokevirtual 112, 3))
  obtain ⟨ci, hci, hob⟩ := rh_obk (cis := [16]) (by decide +kernel) hb
  exact fun _ _ K => eA.cv (jX18_changes_112 ci hci) hob (by decide) hd rfl hw1 rfl E K
theorem vX18_changes_199 {w : rhW} {L : rhL} {S1 : List rhA} {M M0 : rhM} {r y0 p : Int} {y1 y2 : Int} (hb : rh_bl w 4 y0 p) (E : eC w YX19_get 0 [(2, y0), (0, y1), (0, y2)] M r M0) (hw1 : rh_wd S1 ≤ 8) : eS w YX18_changes 1 199 L ((0, y2) :: (0, y1) :: (2, y0) :: S1) M 202 L ((0, r) :: S1) M0 := by
  have hd : decode (ry_c YX18_changes) 199 = .ok (.invokevirtual 112, 3) := (tdX18_changes 199).resolve_right (by decide +kernel) ▸ (by decide +kernel : rh_dk dtX18_changes 199 = .ok (.invokevirtual 112, 3))
  obtain ⟨ci, hci, hob⟩ := rh_obk (cis := [16]) (by decide +kernel) hb
  exact fun _ _ K => eA.cv (jX18_changes_112 ci hci) hob (by decide) hd rfl hw1 rfl E K
theorem vX18_changes_211 {w : rhW} {L : rhL} {S1 : List rhA} {M M0 : rhM} {r y0 p : Int} {y1 y2 : Int} (hb : rh_bl w 4 y0 p) (E : eC w YX19_get 0 [(2, y0), (0, y1), (0, y2)] M r M0) (hw1 : rh_wd S1 ≤ 8) : eS w YX18_changes 1 211 L ((0, y2) :: (0, y1) :: (2, y0) :: S1) M 214 L ((0, r) :: S1) M0 := by
  have hd : decode (ry_c YX18_changes) 211 = .ok (.invokevirtual 112, 3) := (tdX18_changes 211).resolve_right (by decide +kernel) ▸ (by decide +kernel : rh_dk dtX18_changes 211 = .ok (.invokevirtual 112, 3))
  obtain ⟨ci, hci, hob⟩ := rh_obk (cis := [16]) (by decide +kernel) hb
  exact fun _ _ K => eA.cv (jX18_changes_112 ci hci) hob (by decide) hd rfl hw1 rfl E K
theorem vX18_changes_226 {w : rhW} {L : rhL} {S1 : List rhA} {M M0 : rhM} {r y0 p : Int} {y1 y2 : Int} (hb : rh_bl w 4 y0 p) (E : eC w YX19_get 0 [(2, y0), (0, y1), (0, y2)] M r M0) (hw1 : rh_wd S1 ≤ 8) : eS w YX18_changes 1 226 L ((0, y2) :: (0, y1) :: (2, y0) :: S1) M 229 L ((0, r) :: S1) M0 := by
  have hd : decode (ry_c YX18_changes) 226 = .ok (.invokevirtual 112, 3) := (tdX18_changes 226).resolve_right (by decide +kernel) ▸ (by decide +kernel : rh_dk dtX18_changes 226 = .ok (.invokevirtual 112, 3))
  obtain ⟨ci, hci, hob⟩ := rh_obk (cis := [16]) (by decide +kernel) hb
  exact fun _ _ K => eA.cv (jX18_changes_112 ci hci) hob (by decide) hd rfl hw1 rfl E K
theorem vX18_changes_238 {w : rhW} {L : rhL} {S1 : List rhA} {M M0 : rhM} {r y0 p : Int} {y1 y2 : Int} (hb : rh_bl w 4 y0 p) (E : eC w YX19_get 0 [(2, y0), (0, y1), (0, y2)] M r M0) (hw1 : rh_wd S1 ≤ 8) : eS w YX18_changes 1 238 L ((0, y2) :: (0, y1) :: (2, y0) :: S1) M 241 L ((0, r) :: S1) M0 := by
  have hd : decode (ry_c YX18_changes) 238 = .ok (.invokevirtual 112, 3) := (tdX18_changes 238).resolve_right (by decide +kernel) ▸ (by decide +kernel : rh_dk dtX18_changes 238 = .ok (.invokevirtual 112, 3))
  obtain ⟨ci, hci, hob⟩ := rh_obk (cis := [16]) (by decide +kernel) hb
  exact fun _ _ K => eA.cv (jX18_changes_112 ci hci) hob (by decide) hd rfl hw1 rfl E K
theorem q2455 : (Jvm.Cond.methodLink "ReadingHouse$Words" (137 : Nat) ({ cls := "ReadingHouse$Words", name := "changes", desc := "(I)I" } : Jvm.MethodName)) ∈ lw_all := lw_g (lw_at lw_m10 42 rfl) rfl
theorem jX18_findNear_137 {w : rhW} : ∀ ci ∈ ([15] : List Nat), rh_cvr w YX18_findNear YX18_changes 137 1 ci := rh_one (rh_cvr.of rfl (Or.inl q2455) kX18_changes)
theorem vX18_findNear_17 {w : rhW} (hw : rh_hs w) {L : rhL} {S1 : List rhA} {M M0 : rhM} {r : Int} {y1 : Int} (E : eC w YX18_changes 1 [(2, 63), (0, y1)] M r M0) (hw1 : rh_wd S1 ≤ 8) : eS w YX18_findNear 2 17 L ((0, y1) :: (2, 63) :: S1) M 20 L ((0, r) :: S1) M0 := by
  have hd : decode (ry_c YX18_findNear) 17 = .ok (.invokevirtual 137, 3) := (tdX18_findNear 17).resolve_right (by decide +kernel) ▸ (by decide +kernel : rh_dk dtX18_findNear 17 = .ok (.invokevirtual 137, 3))
  exact fun _ _ K => eA.cv (jX18_findNear_137 15 (by decide)) (rh_obl hw 63 (by decide +kernel)) (by decide) hd rfl hw1 rfl E K
theorem jX18_train_72 {w : rhW} : ∀ ci ∈ ([1] : List Nat), rh_cvr w YX18_train YX2_next 72 0 ci := rh_one (rh_cvr.of rfl (Or.inl q2374) kX2_next)
theorem vX18_train_13 {w : rhW} (hw : rh_hs w) {L : rhL} {S1 : List rhA} {M M0 : rhM} {r : Int} (E : eC w YX2_next 1 [(2, 1)] M r M0) (hw1 : rh_wd S1 ≤ 8) : eS w YX18_train 3 13 L ((2, 1) :: S1) M 16 L ((0, r) :: S1) M0 := by
  have hd : decode (ry_c YX18_train) 13 = .ok (.invokevirtual 72, 3) := (tdX18_train 13).resolve_right (by decide +kernel) ▸ (by decide +kernel : rh_dk dtX18_train 13 = .ok (.invokevirtual 72, 3))
  exact fun _ _ K => eA.cv (jX18_train_72 1 (by decide)) (rh_obl hw 1 (by decide +kernel)) (by decide) hd rfl hw1 rfl E K
theorem jX18_train_82 {w : rhW} : ∀ ci ∈ ([1] : List Nat), rh_cvr w YX18_train YX2_must 82 2 ci := rh_one (rh_cvr.of rfl (Or.inl q2376) kX2_must)
theorem vX18_train_48 {w : rhW} (hw : rh_hs w) {L : rhL} {S1 : List rhA} {M M0 : rhM} {r : Int} {y1 y2 : Int} (E : eC w YX2_must 1 [(2, 1), (0, y1), (0, y2)] M r M0) (hw1 : rh_wd S1 ≤ 8) : eS w YX18_train 3 48 L ((0, y2) :: (0, y1) :: (2, 1) :: S1) M 51 L S1 M0 := by
  have hd : decode (ry_c YX18_train) 48 = .ok (.invokevirtual 82, 3) := (tdX18_train 48).resolve_right (by decide +kernel) ▸ (by decide +kernel : rh_dk dtX18_train 48 = .ok (.invokevirtual 82, 3))
  exact fun _ _ K => eA.cv (jX18_train_82 1 (by decide)) (rh_obl hw 1 (by decide +kernel)) (by decide) hd rfl hw1 rfl E K
theorem q2473 : (Jvm.Cond.methodLink "ReadingHouse$Words" (147 : Nat) ({ cls := "ReadingHouse$Words", name := "count", desc := "(LReadingHouse$Tape;II)I" } : Jvm.MethodName)) ∈ lw_all := lw_g (lw_at lw_m10 60 rfl) rfl
theorem jX18_train_147 {w : rhW} : ∀ ci ∈ ([15] : List Nat), rh_cvr w YX18_train YX18_count 147 3 ci := rh_one (rh_cvr.of rfl (Or.inl q2473) kX18_count)
theorem vX18_train_58 {w : rhW} (hw : rh_hs w) {L : rhL} {S1 : List rhA} {M M0 : rhM} {r : Int} {y1 y2 y3 : Int} (E : eC w YX18_count 2 [(2, 63), (2, y1), (0, y2), (0, y3)] M r M0) (hw1 : rh_wd S1 ≤ 8) : eS w YX18_train 3 58 L ((0, y3) :: (0, y2) :: (2, y1) :: (2, 63) :: S1) M 61 L ((0, r) :: S1) M0 := by
  have hd : decode (ry_c YX18_train) 58 = .ok (.invokevirtual 147, 3) := (tdX18_train 58).resolve_right (by decide +kernel) ▸ (by decide +kernel : rh_dk dtX18_train 58 = .ok (.invokevirtual 147, 3))
  exact fun _ _ K => eA.cv (jX18_train_147 15 (by decide)) (rh_obl hw 63 (by decide +kernel)) (by decide) hd rfl hw1 rfl E K
theorem vX18_train_88 {w : rhW} (hw : rh_hs w) {L : rhL} {S1 : List rhA} {M M0 : rhM} {r : Int} {y1 y2 y3 : Int} (E : eC w YX18_count 2 [(2, 63), (2, y1), (0, y2), (0, y3)] M r M0) (hw1 : rh_wd S1 ≤ 8) : eS w YX18_train 3 88 L ((0, y3) :: (0, y2) :: (2, y1) :: (2, 63) :: S1) M 91 L ((0, r) :: S1) M0 := by
  have hd : decode (ry_c YX18_train) 88 = .ok (.invokevirtual 147, 3) := (tdX18_train 88).resolve_right (by decide +kernel) ▸ (by decide +kernel : rh_dk dtX18_train 88 = .ok (.invokevirtual 147, 3))
  exact fun _ _ K => eA.cv (jX18_train_147 15 (by decide)) (rh_obl hw 63 (by decide +kernel)) (by decide) hd rfl hw1 rfl E K

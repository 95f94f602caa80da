set_option maxRecDepth 100000
theorem hd_X8_isSign : yX8_isSign.cls ≠ "java/lang/invoke/MethodHandle" ∧ yX8_isSign.cls ≠ "java/lang/invoke/VarHandle" ∧ (parseMethodDescriptor yX8_isSign.desc).map (fun d => d.parameters.length) = some 1 := ⟨by decide +kernel, by decide +kernel, by decide +kernel⟩
set_option maxHeartbeats 4000000 in
theorem wX8_isSign {Ω : fg_O} {a0 : Nat} {i1 : Int32} {G : fg_H} {t : Int32 × fg_H} (X : fg_X Ω RX8 "isSign" cX8_isSign 2 (some .boolean) 0) (hF : fX8_isSign a0 i1 G = some t) (hT : fg_T Ω (.returned (some (.int t.1))) t.2) : fg_W Ω G 0 [(0, .ref a0), (1, .int i1)] [] := by
  unfold fX8_isSign at hF
  refine fg_aload_n X (r := (some a0)) dX8_isSign_0 rfl 0 rfl ?_
  replace hF := fg_ob_some hF
  obtain ⟨x1, e_1, hF⟩ := hF
  refine fg_geti X ff_X8_token q1554 e_1 dX8_isSign_1 ?_
  refine fg_iconst X (v := (3 : Int32)) dX8_isSign_4 (by decide) ?_
  refine fg_icmp_ne X (tgt := 25) dX8_isSign_5 (by decide) (fun hc => ?_) (fun hc => ?_)
  · rw [if_neg hc] at hF
    refine fg_iconst X (v := (0 : Int32)) dX8_isSign_25 (by decide) ?_
    cases hF
    exact fg_zret X (by decide) dX8_isSign_26 (hT)
  · rw [if_pos hc] at hF
    refine fg_aload_n X (r := (some a0)) dX8_isSign_8 rfl 0 rfl ?_
    replace hF := fg_ob_some hF
    obtain ⟨r2, e_2, hF⟩ := hF
    refine fg_getr X ff_X8_tape q1550 e_2 dX8_isSign_9 ?_
    refine fg_aload_n X (r := (some a0)) dX8_isSign_12 rfl 0 rfl ?_
    replace hF := fg_ob_some hF
    obtain ⟨x3, e_3, hF⟩ := hF
    refine fg_geti X ff_X8_begin q1553 e_3 dX8_isSign_13 ?_
    replace hF := fg_ob_some hF
    obtain ⟨a4, rfl, hF⟩ := hF
    replace hF := fg_ob_some hF
    obtain ⟨x5, e_4, hF⟩ := hF
    refine fg_iald X e_4 dX8_isSign_16 ?_
    refine fg_iload_n X dX8_isSign_17 rfl 1 rfl ?_
    refine fg_icmp_ne X (tgt := 25) dX8_isSign_18 (by decide) (fun hc => ?_) (fun hc => ?_)
    · rw [if_neg hc] at hF
      refine fg_iconst X (v := (0 : Int32)) dX8_isSign_25 (by decide) ?_
      cases hF
      exact fg_zret X (by decide) dX8_isSign_26 (hT)
    · rw [if_pos hc] at hF
      refine fg_iconst X (v := (1 : Int32)) dX8_isSign_21 (by decide) ?_
      refine fg_goto X (tgt := 26) dX8_isSign_22 (by decide) ?_
      cases hF
      exact fg_zret X (by decide) dX8_isSign_26 (hT)
theorem mX8_isSign (l : Launch) (D : fg_D) {a0 : Nat} {i1 : Int32} {G : fg_H} {t : Int32 × fg_H} (hF : fX8_isSign a0 i1 G = some t) : fg_M l D yX8_isSign cX8_isSign 2 (some .boolean) 0 [.ref a0, .int i1] G (.returned (some (.int t.1))) t.2 :=
  fg_Mof (own := RX8) (nm := "isSign") (L := [(0, .ref a0), (1, .int i1)]) (plainFor_of_name pn_X8) rfl rfl rfl (Nat.le_of_ble_eq_true rfl) (fun Ω _ _ X hT => wX8_isSign X hF hT)
theorem hd_X8_ends : yX8_ends.cls ≠ "java/lang/invoke/MethodHandle" ∧ yX8_ends.cls ≠ "java/lang/invoke/VarHandle" ∧ (parseMethodDescriptor yX8_ends.desc).map (fun d => d.parameters.length) = some 0 := ⟨by decide +kernel, by decide +kernel, by decide +kernel⟩
set_option maxHeartbeats 4000000 in
theorem wX8_ends {Ω : fg_O} {a0 : Nat} {G : fg_H} {t : Int32 × fg_H} (X : fg_X Ω RX8 "ends" cX8_ends 1 (some .boolean) 2) (hF : fX8_ends a0 G = some t) (hT : fg_T Ω (.returned (some (.int t.1))) t.2) : fg_W Ω G 0 [(0, .ref a0)] [] := by
  unfold fX8_ends at hF
  refine fg_aload_n X (r := (some a0)) dX8_ends_0 rfl 0 rfl ?_
  refine fg_bipush X (v := (59 : Int32)) dX8_ends_1 (by decide) ?_
  replace hF := fg_gd_some hF
  obtain ⟨eg_1, hF⟩ := hF
  obtain ⟨fs_2, eo_3⟩ := fg_rc_get eg_1
  replace hF := fg_oc_some hF
  obtain ⟨x2, G1, e_4, hF⟩ := hF
  refine fg_callV X (st := []) (mX8_isSign Ω.2.2.2.2.1 Ω.1 e_4) q1745 q1747 qs51 q105 q1748 hd_X8_isSign (by decide) rfl eo_3 (by decide) rfl rfl (Nat.le_of_ble_eq_true rfl) dX8_ends_3 ?_
  refine fg_if_ne X (tgt := 15) dX8_ends_6 (by decide) (fun hc => ?_) (fun hc => ?_)
  · rw [if_neg hc] at hF
    refine fg_aload_n X (r := (some a0)) dX8_ends_15 rfl 0 rfl ?_
    replace hF := fg_gd_some hF
    obtain ⟨eg_5, hF⟩ := hF
    obtain ⟨fs_6, eo_7⟩ := fg_rc_get eg_5
    replace hF := fg_oc_some hF
    obtain ⟨u, G3, e_8, hF⟩ := hF
    refine fg_callV X (st := []) (mX8_nextToken Ω.2.2.2.2.1 Ω.1 e_8) q1707 q1709 qs43 q105 q1710 hd_X8_nextToken (by decide) rfl eo_7 (by decide) rfl rfl (Nat.le_of_ble_eq_true rfl) dX8_ends_16 ?_
    refine fg_iconst X (v := (1 : Int32)) dX8_ends_19 (by decide) ?_
    cases hF
    exact fg_zret X (by decide) dX8_ends_20 (hT)
  · rw [if_pos hc] at hF
    refine fg_aload_n X (r := (some a0)) dX8_ends_9 rfl 0 rfl ?_
    refine fg_iconst X (v := (1 : Int32)) dX8_ends_10 (by decide) ?_
    replace hF := fg_gd_some hF
    obtain ⟨eg_9, hF⟩ := hF
    obtain ⟨fs_10, eo_11⟩ := fg_rc_get eg_9
    replace hF := fg_oc_some hF
    obtain ⟨x5, G4, e_12, hF⟩ := hF
    refine fg_callV X (st := []) (mX8_fails Ω.2.2.2.2.1 Ω.1 e_12) q1730 q1732 qs48 q105 q1733 hd_X8_fails (by decide) rfl eo_11 (by decide) rfl rfl (Nat.le_of_ble_eq_true rfl) dX8_ends_11 ?_
    replace hF := fg_gd_some hF
    obtain ⟨eg_13, hF⟩ := hF
    cases hF
    exact fg_zret X (fg_b_or eg_13) dX8_ends_14 (hT)
theorem mX8_ends (l : Launch) (D : fg_D) {a0 : Nat} {G : fg_H} {t : Int32 × fg_H} (hF : fX8_ends a0 G = some t) : fg_M l D yX8_ends cX8_ends 1 (some .boolean) 2 [.ref a0] G (.returned (some (.int t.1))) t.2 :=
  fg_Mof (own := RX8) (nm := "ends") (L := [(0, .ref a0)]) (plainFor_of_name pn_X8) rfl rfl rfl (Nat.le_of_ble_eq_true rfl) (fun Ω _ _ X hT => wX8_ends X hF hT)
theorem hd_X8_isTwice : yX8_isTwice.cls ≠ "java/lang/invoke/MethodHandle" ∧ yX8_isTwice.cls ≠ "java/lang/invoke/VarHandle" ∧ (parseMethodDescriptor yX8_isTwice.desc).map (fun d => d.parameters.length) = some 1 := ⟨by decide +kernel, by decide +kernel, by decide +kernel⟩
set_option maxHeartbeats 4000000 in
theorem wX8_isTwice {Ω : fg_O} {a0 : Nat} {i1 : Int32} {G : fg_H} {t : Int32 × fg_H} (X : fg_X Ω RX8 "isTwice" cX8_isTwice 2 (some .boolean) 0) (hF : fX8_isTwice a0 i1 G = some t) (hT : fg_T Ω (.returned (some (.int t.1))) t.2) : fg_W Ω G 0 [(0, .ref a0), (1, .int i1)] [] := by
  unfold fX8_isTwice at hF
  refine fg_aload_n X (r := (some a0)) dX8_isTwice_0 rfl 0 rfl ?_
  replace hF := fg_ob_some hF
  obtain ⟨x1, e_1, hF⟩ := hF
  refine fg_geti X ff_X8_isTold q1570 e_1 dX8_isTwice_1 ?_
  refine fg_iload_n X dX8_isTwice_4 rfl 1 rfl ?_
  refine fg_ishr X dX8_isTwice_5 ?_
  refine fg_iconst X (v := (1 : Int32)) dX8_isTwice_6 (by decide) ?_
  refine fg_iand X dX8_isTwice_7 ?_
  refine fg_iconst X (v := (1 : Int32)) dX8_isTwice_8 (by decide) ?_
  refine fg_icmp_ne X (tgt := 14) dX8_isTwice_9 (by decide) (fun hc => ?_) (fun hc => ?_)
  · rw [if_neg hc] at hF
    refine fg_aload_n X (r := (some a0)) dX8_isTwice_14 rfl 0 rfl ?_
    refine fg_dup X dX8_isTwice_15 rfl ?_
    replace hF := fg_ob_some hF
    obtain ⟨x2, e_2, hF⟩ := hF
    refine fg_geti X ff_X8_isTold q1570 e_2 dX8_isTwice_16 ?_
    refine fg_iconst X (v := (1 : Int32)) dX8_isTwice_19 (by decide) ?_
    refine fg_iload_n X dX8_isTwice_20 rfl 1 rfl ?_
    refine fg_ishl X dX8_isTwice_21 ?_
    refine fg_ior X dX8_isTwice_22 ?_
    replace hF := fg_ob_some hF
    obtain ⟨G3, e_3, hF⟩ := hF
    refine fg_putv X (ty := .int) (v := .int (x2 ||| ((1 : Int32) <<< (i1 &&& 31)))) ff_X8_isTold q1570 rfl (Or.inl rfl) rfl rfl rfl e_3 dX8_isTwice_23 ?_
    refine fg_iconst X (v := (0 : Int32)) dX8_isTwice_26 (by decide) ?_
    cases hF
    exact fg_zret X (by decide) dX8_isTwice_27 (hT)
  · rw [if_pos hc] at hF
    refine fg_iconst X (v := (1 : Int32)) dX8_isTwice_12 (by decide) ?_
    cases hF
    exact fg_zret X (by decide) dX8_isTwice_13 (hT)
theorem mX8_isTwice (l : Launch) (D : fg_D) {a0 : Nat} {i1 : Int32} {G : fg_H} {t : Int32 × fg_H} (hF : fX8_isTwice a0 i1 G = some t) : fg_M l D yX8_isTwice cX8_isTwice 2 (some .boolean) 0 [.ref a0, .int i1] G (.returned (some (.int t.1))) t.2 :=
  fg_Mof (own := RX8) (nm := "isTwice") (L := [(0, .ref a0), (1, .int i1)]) (plainFor_of_name pn_X8) rfl rfl rfl (Nat.le_of_ble_eq_true rfl) (fun Ω _ _ X hT => wX8_isTwice X hF hT)
theorem hd_X8_within : yX8_within.cls ≠ "java/lang/invoke/MethodHandle" ∧ yX8_within.cls ≠ "java/lang/invoke/VarHandle" ∧ (parseMethodDescriptor yX8_within.desc).map (fun d => d.parameters.length) = some 3 := ⟨by decide +kernel, by decide +kernel, by decide +kernel⟩
set_option maxHeartbeats 4000000 in
theorem wX8_within {Ω : fg_O} {i0 : Int32} {i1 : Int32} {i2 : Int32} {G : fg_H} {t : Int32 × fg_H} (X : fg_X Ω RX8 "within" cX8_within 3 (some .boolean) 0) (hF : fX8_within i0 i1 i2 G = some t) (hT : fg_T Ω (.returned (some (.int t.1))) t.2) : fg_W Ω G 0 [(0, .int i0), (1, .int i1), (2, .int i2)] [] := by
  unfold fX8_within at hF
  refine fg_iload_n X dX8_within_0 rfl 0 rfl ?_
  refine fg_iload_n X dX8_within_1 rfl 1 rfl ?_
  refine fg_icmp_lt X (tgt := 14) dX8_within_2 (by decide) (fun hc => ?_) (fun hc => ?_)
  · rw [if_pos hc] at hF
    refine fg_iconst X (v := (0 : Int32)) dX8_within_14 (by decide) ?_
    cases hF
    exact fg_zret X (by decide) dX8_within_15 (hT)
  · rw [if_neg hc] at hF
    refine fg_iload_n X dX8_within_5 rfl 0 rfl ?_
    refine fg_iload_n X dX8_within_6 rfl 2 rfl ?_
    refine fg_icmp_gt X (tgt := 14) dX8_within_7 (by decide) (fun hc => ?_) (fun hc => ?_)
    · rw [if_pos hc] at hF
      refine fg_iconst X (v := (0 : Int32)) dX8_within_14 (by decide) ?_
      cases hF
      exact fg_zret X (by decide) dX8_within_15 (hT)
    · rw [if_neg hc] at hF
      refine fg_iconst X (v := (1 : Int32)) dX8_within_10 (by decide) ?_
      refine fg_goto X (tgt := 15) dX8_within_11 (by decide) ?_
      cases hF
      exact fg_zret X (by decide) dX8_within_15 (hT)
theorem mX8_within (l : Launch) (D : fg_D) {i0 : Int32} {i1 : Int32} {i2 : Int32} {G : fg_H} {t : Int32 × fg_H} (hF : fX8_within i0 i1 i2 G = some t) : fg_M l D yX8_within cX8_within 3 (some .boolean) 0 [.int i0, .int i1, .int i2] G (.returned (some (.int t.1))) t.2 :=
  fg_Mof (own := RX8) (nm := "within") (L := [(0, .int i0), (1, .int i1), (2, .int i2)]) (plainFor_of_name pn_X8) rfl rfl rfl (Nat.le_of_ble_eq_true rfl) (fun Ω _ _ X hT => wX8_within X hF hT)
theorem hd_X8_needsNumber : yX8_needsNumber.cls ≠ "java/lang/invoke/MethodHandle" ∧ yX8_needsNumber.cls ≠ "java/lang/invoke/VarHandle" ∧ (parseMethodDescriptor yX8_needsNumber.desc).map (fun d => d.parameters.length) = some 2 := ⟨by decide +kernel, by decide +kernel, by decide +kernel⟩
set_option maxHeartbeats 4000000 in
theorem wX8_needsNumber {Ω : fg_O} {a0 : Nat} {i1 : Int32} {i2 : Int32} {G : fg_H} {t : Int32 × fg_H} (X : fg_X Ω RX8 "needsNumber" cX8_needsNumber 3 (some .boolean) 2) (hF : fX8_needsNumber a0 i1 i2 G = some t) (hT : fg_T Ω (.returned (some (.int t.1))) t.2) : fg_W Ω G 0 [(0, .ref a0), (1, .int i1), (2, .int i2)] [] := by
  unfold fX8_needsNumber at hF
  refine fg_aload_n X (r := (some a0)) dX8_needsNumber_0 rfl 0 rfl ?_
  replace hF := fg_ob_some hF
  obtain ⟨x1, e_1, hF⟩ := hF
  refine fg_geti X ff_X8_token q1554 e_1 dX8_needsNumber_1 ?_
  refine fg_iconst X (v := (2 : Int32)) dX8_needsNumber_4 (by decide) ?_
  refine fg_icmp_eq X (tgt := 14) dX8_needsNumber_5 (by decide) (fun hc => ?_) (fun hc => ?_)
  · rw [if_pos hc] at hF
    refine fg_aload_n X (r := (some a0)) dX8_needsNumber_14 rfl 0 rfl ?_
    replace hF := fg_ob_some hF
    obtain ⟨x2, e_2, hF⟩ := hF
    refine fg_geti X ff_X8_told q1556 e_2 dX8_needsNumber_15 ?_
    refine fg_iload_n X dX8_needsNumber_18 rfl 1 rfl ?_
    refine fg_iload_n X dX8_needsNumber_19 rfl 2 rfl ?_
    replace hF := fg_oc_some hF
    obtain ⟨x4, G3, e_3, hF⟩ := hF
    refine fg_callS X (st := []) (mX8_within Ω.2.2.2.2.1 Ω.1 e_3) q1738 q1739 q105 q1740 hd_X8_within (by decide) rfl rfl (Nat.le_of_ble_eq_true rfl) dX8_needsNumber_20 ?_
    refine fg_if_ne X (tgt := 32) dX8_needsNumber_23 (by decide) (fun hc => ?_) (fun hc => ?_)
    · rw [if_neg hc] at hF
      refine fg_aload_n X (r := (some a0)) dX8_needsNumber_32 rfl 0 rfl ?_
      refine fg_aload_n X (r := (some a0)) dX8_needsNumber_33 rfl 0 rfl ?_
      replace hF := fg_ob_some hF
      obtain ⟨x5, e_4, hF⟩ := hF
      refine fg_geti X ff_X8_told q1556 e_4 dX8_needsNumber_34 ?_
      replace hF := fg_ob_some hF
      obtain ⟨G6, e_5, hF⟩ := hF
      refine fg_putv X (ty := .int) (v := .int x5) ff_X8_given q1584 rfl (Or.inl rfl) rfl rfl rfl e_5 dX8_needsNumber_37 ?_
      refine fg_aload_n X (r := (some a0)) dX8_needsNumber_40 rfl 0 rfl ?_
      replace hF := fg_gd_some hF
      obtain ⟨eg_6, hF⟩ := hF
      obtain ⟨fs_7, eo_8⟩ := fg_rc_get eg_6
      replace hF := fg_oc_some hF
      obtain ⟨u, G7, e_9, hF⟩ := hF
      refine fg_callV X (st := []) (mX8_nextToken Ω.2.2.2.2.1 Ω.1 e_9) q1707 q1709 qs43 q105 q1710 hd_X8_nextToken (by decide) rfl eo_8 (by decide) rfl rfl (Nat.le_of_ble_eq_true rfl) dX8_needsNumber_41 ?_
      refine fg_iconst X (v := (1 : Int32)) dX8_needsNumber_44 (by decide) ?_
      cases hF
      exact fg_zret X (by decide) dX8_needsNumber_45 (hT)
    · rw [if_pos hc] at hF
      refine fg_aload_n X (r := (some a0)) dX8_needsNumber_26 rfl 0 rfl ?_
      refine fg_iconst X (v := (4 : Int32)) dX8_needsNumber_27 (by decide) ?_
      replace hF := fg_gd_some hF
      obtain ⟨eg_10, hF⟩ := hF
      obtain ⟨fs_11, eo_12⟩ := fg_rc_get eg_10
      replace hF := fg_oc_some hF
      obtain ⟨x9, G8, e_13, hF⟩ := hF
      refine fg_callV X (st := []) (mX8_fails Ω.2.2.2.2.1 Ω.1 e_13) q1730 q1732 qs48 q105 q1733 hd_X8_fails (by decide) rfl eo_12 (by decide) rfl rfl (Nat.le_of_ble_eq_true rfl) dX8_needsNumber_28 ?_
      replace hF := fg_gd_some hF
      obtain ⟨eg_14, hF⟩ := hF
      cases hF
      exact fg_zret X (fg_b_or eg_14) dX8_needsNumber_31 (hT)
  · rw [if_neg hc] at hF
    refine fg_aload_n X (r := (some a0)) dX8_needsNumber_8 rfl 0 rfl ?_
    refine fg_iconst X (v := (1 : Int32)) dX8_needsNumber_9 (by decide) ?_
    replace hF := fg_gd_some hF
    obtain ⟨eg_15, hF⟩ := hF
    obtain ⟨fs_16, eo_17⟩ := fg_rc_get eg_15
    replace hF := fg_oc_some hF
    obtain ⟨x11, G10, e_18, hF⟩ := hF
    refine fg_callV X (st := []) (mX8_fails Ω.2.2.2.2.1 Ω.1 e_18) q1730 q1732 qs48 q105 q1733 hd_X8_fails (by decide) rfl eo_17 (by decide) rfl rfl (Nat.le_of_ble_eq_true rfl) dX8_needsNumber_10 ?_
    replace hF := fg_gd_some hF
    obtain ⟨eg_19, hF⟩ := hF
    cases hF
    exact fg_zret X (fg_b_or eg_19) dX8_needsNumber_13 (hT)
theorem mX8_needsNumber (l : Launch) (D : fg_D) {a0 : Nat} {i1 : Int32} {i2 : Int32} {G : fg_H} {t : Int32 × fg_H} (hF : fX8_needsNumber a0 i1 i2 G = some t) : fg_M l D yX8_needsNumber cX8_needsNumber 3 (some .boolean) 2 [.ref a0, .int i1, .int i2] G (.returned (some (.int t.1))) t.2 :=
  fg_Mof (own := RX8) (nm := "needsNumber") (L := [(0, .ref a0), (1, .int i1), (2, .int i2)]) (plainFor_of_name pn_X8) rfl rfl rfl (Nat.le_of_ble_eq_true rfl) (fun Ω _ _ X hT => wX8_needsNumber X hF hT)
theorem hd_X8_readsField : yX8_readsField.cls ≠ "java/lang/invoke/MethodHandle" ∧ yX8_readsField.cls ≠ "java/lang/invoke/VarHandle" ∧ (parseMethodDescriptor yX8_readsField.desc).map (fun d => d.parameters.length) = some 0 := ⟨by decide +kernel, by decide +kernel, by decide +kernel⟩
set_option maxHeartbeats 4000000 in
theorem wX8_readsField_18 {Ω : fg_O} {a0 : Nat} {G : fg_H} {t : (Int32 × fg_H)} (X : fg_X Ω RX8 "readsField" cX8_readsField 1 (some .boolean) 3) (hF : fX8_readsField_18 a0 G = some t) (hT : fg_T Ω (.returned (some (.int t.1))) t.2) : fg_W Ω G 18 [(0, .ref a0)] [] := by
  unfold fX8_readsField_18 at hF
  refine fg_aload_n X (r := (some a0)) dX8_readsField_18 rfl 0 rfl ?_
  refine fg_iconst X (v := (3 : Int32)) dX8_readsField_19 (by decide) ?_
  replace hF := fg_gd_some hF
  obtain ⟨eg_1, hF⟩ := hF
  obtain ⟨fs_2, eo_3⟩ := fg_rc_get eg_1
  replace hF := fg_oc_some hF
  obtain ⟨x4, G3, e_4, hF⟩ := hF
  refine fg_callV X (st := []) (mX8_fails Ω.2.2.2.2.1 Ω.1 e_4) q1730 q1732 qs48 q105 q1733 hd_X8_fails (by decide) rfl eo_3 (by decide) rfl rfl (Nat.le_of_ble_eq_true rfl) dX8_readsField_20 ?_
  replace hF := fg_gd_some hF
  obtain ⟨eg_5, hF⟩ := hF
  cases hF
  exact fg_zret X (fg_b_or eg_5) dX8_readsField_23 (hT)
set_option maxHeartbeats 4000000 in
theorem wX8_readsField {Ω : fg_O} {a0 : Nat} {G : fg_H} {t : Int32 × fg_H} (X : fg_X Ω RX8 "readsField" cX8_readsField 1 (some .boolean) 3) (hF : fX8_readsField a0 G = some t) (hT : fg_T Ω (.returned (some (.int t.1))) t.2) : fg_W Ω G 0 [(0, .ref a0)] [] := by
  unfold fX8_readsField at hF
  refine fg_aload_n X (r := (some a0)) dX8_readsField_0 rfl 0 rfl ?_
  refine fg_iconst X (v := (0 : Int32)) dX8_readsField_1 (by decide) ?_
  replace hF := fg_gd_some hF
  obtain ⟨eg_1, hF⟩ := hF
  obtain ⟨fs_2, eo_3⟩ := fg_rc_get eg_1
  replace hF := fg_oc_some hF
  obtain ⟨x2, G1, e_4, hF⟩ := hF
  refine fg_callV X (st := []) (mX8_isTwice Ω.2.2.2.2.1 Ω.1 e_4) q1726 q1728 qs47 q105 q1729 hd_X8_isTwice (by decide) rfl eo_3 (by decide) rfl rfl (Nat.le_of_ble_eq_true rfl) dX8_readsField_2 ?_
  refine fg_if_ne X (tgt := 18) dX8_readsField_5 (by decide) (fun hc => ?_) (fun hc => ?_)
  · rw [if_neg hc] at hF
    refine fg_sub [0] rfl ?_
    exact wX8_readsField_18 X hF hT
  · rw [if_pos hc] at hF
    refine fg_aload_n X (r := (some a0)) dX8_readsField_8 rfl 0 rfl ?_
    replace hF := fg_ob_some hF
    obtain ⟨r5, e_5, hF⟩ := hF
    refine fg_getr X ff_X8_ridge q1558 e_5 dX8_readsField_9 ?_
    refine fg_bipush X (v := (13 : Int32)) dX8_readsField_12 (by decide) ?_
    replace hF := fg_ob_some hF
    obtain ⟨a6, rfl, hF⟩ := hF
    replace hF := fg_ob_some hF
    obtain ⟨x7, e_6, hF⟩ := hF
    refine fg_iald X e_6 dX8_readsField_14 ?_
    refine fg_if_le X (tgt := 24) dX8_readsField_15 (by decide) (fun hc => ?_) (fun hc => ?_)
    · rw [if_pos hc] at hF
      refine fg_aload_n X (r := (some a0)) dX8_readsField_24 rfl 0 rfl ?_
      replace hF := fg_gd_some hF
      obtain ⟨eg_7, hF⟩ := hF
      obtain ⟨fs_8, eo_9⟩ := fg_rc_get eg_7
      replace hF := fg_oc_some hF
      obtain ⟨u, G8, e_10, hF⟩ := hF
      refine fg_callV X (st := []) (mX8_nextToken Ω.2.2.2.2.1 Ω.1 e_10) q1707 q1709 qs43 q105 q1710 hd_X8_nextToken (by decide) rfl eo_9 (by decide) rfl rfl (Nat.le_of_ble_eq_true rfl) dX8_readsField_25 ?_
      refine fg_aload_n X (r := (some a0)) dX8_readsField_28 rfl 0 rfl ?_
      refine fg_iconst X (v := (1 : Int32)) dX8_readsField_29 (by decide) ?_
      refine fg_bipush X (v := (8 : Int32)) dX8_readsField_30 (by decide) ?_
      replace hF := fg_gd_some hF
      obtain ⟨eg_11, hF⟩ := hF
      obtain ⟨fs_12, eo_13⟩ := fg_rc_get eg_11
      replace hF := fg_oc_some hF
      obtain ⟨x10, G9, e_14, hF⟩ := hF
      refine fg_callV X (st := []) (mX8_needsNumber Ω.2.2.2.2.1 Ω.1 e_14) q1734 q1736 qs49 q105 q1737 hd_X8_needsNumber (by decide) rfl eo_13 (by decide) rfl rfl (Nat.le_of_ble_eq_true rfl) dX8_readsField_32 ?_
      refine fg_if_ne X (tgt := 40) dX8_readsField_35 (by decide) (fun hc => ?_) (fun hc => ?_)
      · rw [if_neg hc] at hF
        refine fg_aload_n X (r := (some a0)) dX8_readsField_40 rfl 0 rfl ?_
        replace hF := fg_ob_some hF
        obtain ⟨r11, e_15, hF⟩ := hF
        refine fg_getr X ff_X8_ridge q1558 e_15 dX8_readsField_41 ?_
        refine fg_bipush X (v := (7 : Int32)) dX8_readsField_44 (by decide) ?_
        refine fg_aload_n X (r := (some a0)) dX8_readsField_46 rfl 0 rfl ?_
        replace hF := fg_ob_some hF
        obtain ⟨x12, e_16, hF⟩ := hF
        refine fg_geti X ff_X8_given q1584 e_16 dX8_readsField_47 ?_
        replace hF := fg_ob_some hF
        obtain ⟨a13, rfl, hF⟩ := hF
        replace hF := fg_ob_some hF
        obtain ⟨G14, e_17, hF⟩ := hF
        refine fg_iast X e_17 dX8_readsField_50 ?_
        refine fg_aload_n X (r := (some a0)) dX8_readsField_51 rfl 0 rfl ?_
        refine fg_iconst X (v := (1 : Int32)) dX8_readsField_52 (by decide) ?_
        refine fg_bipush X (v := (8 : Int32)) dX8_readsField_53 (by decide) ?_
        replace hF := fg_gd_some hF
        obtain ⟨eg_18, hF⟩ := hF
        obtain ⟨fs_19, eo_20⟩ := fg_rc_get eg_18
        replace hF := fg_oc_some hF
        obtain ⟨x16, G15, e_21, hF⟩ := hF
        refine fg_callV X (st := []) (mX8_needsNumber Ω.2.2.2.2.1 Ω.1 e_21) q1734 q1736 qs49 q105 q1737 hd_X8_needsNumber (by decide) rfl eo_20 (by decide) rfl rfl (Nat.le_of_ble_eq_true rfl) dX8_readsField_55 ?_
        refine fg_if_ne X (tgt := 63) dX8_readsField_58 (by decide) (fun hc => ?_) (fun hc => ?_)
        · rw [if_neg hc] at hF
          refine fg_aload_n X (r := (some a0)) dX8_readsField_63 rfl 0 rfl ?_
          replace hF := fg_ob_some hF
          obtain ⟨r17, e_22, hF⟩ := hF
          refine fg_getr X ff_X8_ridge q1558 e_22 dX8_readsField_64 ?_
          refine fg_bipush X (v := (8 : Int32)) dX8_readsField_67 (by decide) ?_
          refine fg_aload_n X (r := (some a0)) dX8_readsField_69 rfl 0 rfl ?_
          replace hF := fg_ob_some hF
          obtain ⟨x18, e_23, hF⟩ := hF
          refine fg_geti X ff_X8_given q1584 e_23 dX8_readsField_70 ?_
          replace hF := fg_ob_some hF
          obtain ⟨a19, rfl, hF⟩ := hF
          replace hF := fg_ob_some hF
          obtain ⟨G20, e_24, hF⟩ := hF
          refine fg_iast X e_24 dX8_readsField_73 ?_
          refine fg_aload_n X (r := (some a0)) dX8_readsField_74 rfl 0 rfl ?_
          replace hF := fg_gd_some hF
          obtain ⟨eg_25, hF⟩ := hF
          obtain ⟨fs_26, eo_27⟩ := fg_rc_get eg_25
          replace hF := fg_oc_some hF
          obtain ⟨x22, G21, e_28, hF⟩ := hF
          refine fg_callV X (st := []) (mX8_ends Ω.2.2.2.2.1 Ω.1 e_28) q1741 q1743 qs50 q105 q1744 hd_X8_ends (by decide) rfl eo_27 (by decide) rfl rfl (Nat.le_of_ble_eq_true rfl) dX8_readsField_75 ?_
          replace hF := fg_gd_some hF
          obtain ⟨eg_29, hF⟩ := hF
          cases hF
          exact fg_zret X (fg_b_or eg_29) dX8_readsField_78 (hT)
        · rw [if_pos hc] at hF
          refine fg_iconst X (v := (0 : Int32)) dX8_readsField_61 (by decide) ?_
          cases hF
          exact fg_zret X (by decide) dX8_readsField_62 (hT)
      · rw [if_pos hc] at hF
        refine fg_iconst X (v := (0 : Int32)) dX8_readsField_38 (by decide) ?_
        cases hF
        exact fg_zret X (by decide) dX8_readsField_39 (hT)
    · rw [if_neg hc] at hF
      refine fg_sub [0] rfl ?_
      exact wX8_readsField_18 X hF hT
theorem mX8_readsField (l : Launch) (D : fg_D) {a0 : Nat} {G : fg_H} {t : Int32 × fg_H} (hF : fX8_readsField a0 G = some t) : fg_M l D yX8_readsField cX8_readsField 1 (some .boolean) 3 [.ref a0] G (.returned (some (.int t.1))) t.2 :=
  fg_Mof (own := RX8) (nm := "readsField") (L := [(0, .ref a0)]) (plainFor_of_name pn_X8) rfl rfl rfl (Nat.le_of_ble_eq_true rfl) (fun Ω _ _ X hT => wX8_readsField X hF hT)
theorem hd_X8_fact : yX8_fact.cls ≠ "java/lang/invoke/MethodHandle" ∧ yX8_fact.cls ≠ "java/lang/invoke/VarHandle" ∧ (parseMethodDescriptor yX8_fact.desc).map (fun d => d.parameters.length) = some 0 := ⟨by decide +kernel, by decide +kernel, by decide +kernel⟩
set_option maxHeartbeats 4000000 in
theorem wX8_fact {Ω : fg_O} {a0 : Nat} {G : fg_H} {t : Int32 × fg_H} (X : fg_X Ω RX8 "fact" cX8_fact 1 (some .int) 0) (hF : fX8_fact a0 G = some t) (hT : fg_T Ω (.returned (some (.int t.1))) t.2) : fg_W Ω G 0 [(0, .ref a0)] [] := by
  unfold fX8_fact at hF
  refine fg_aload_n X (r := (some a0)) dX8_fact_0 rfl 0 rfl ?_
  replace hF := fg_ob_some hF
  obtain ⟨x1, e_1, hF⟩ := hF
  refine fg_geti X ff_X8_token q1554 e_1 dX8_fact_1 ?_
  refine fg_iconst X (v := (1 : Int32)) dX8_fact_4 (by decide) ?_
  refine fg_icmp_eq X (tgt := 10) dX8_fact_5 (by decide) (fun hc => ?_) (fun hc => ?_)
  · rw [if_pos hc] at hF
    refine fg_aload_n X (r := (some a0)) dX8_fact_10 rfl 0 rfl ?_
    replace hF := fg_ob_some hF
    obtain ⟨y2, e_2, hF⟩ := hF
    refine fg_getl X ff_X8_word q1555 e_2 dX8_fact_11 ?_
    refine fg_ldc2 X q1769 dX8_fact_14 ?_
    refine fg_lcmp X dX8_fact_17 ?_
    refine fg_if_ne X (tgt := 23) dX8_fact_18 (by decide) (fun hc => ?_) (fun hc => ?_)
    · rw [if_neg hc] at hF
      refine fg_aload_n X (r := (some a0)) dX8_fact_23 rfl 0 rfl ?_
      replace hF := fg_ob_some hF
      obtain ⟨y3, e_3, hF⟩ := hF
      refine fg_getl X ff_X8_word q1555 e_3 dX8_fact_24 ?_
      refine fg_ldc2 X q1770 dX8_fact_27 ?_
      refine fg_lcmp X dX8_fact_30 ?_
      refine fg_if_ne X (tgt := 36) dX8_fact_31 (by decide) (fun hc => ?_) (fun hc => ?_)
      · rw [if_neg hc] at hF
        refine fg_aload_n X (r := (some a0)) dX8_fact_36 rfl 0 rfl ?_
        replace hF := fg_ob_some hF
        obtain ⟨x4, e_4, hF⟩ := hF
        refine fg_geti X ff_X8_isFog q1571 e_4 dX8_fact_37 ?_
        refine fg_if_ne X (tgt := 45) dX8_fact_40 (by decide) (fun hc => ?_) (fun hc => ?_)
        · rw [if_neg hc] at hF
          refine fg_aload_n X (r := (some a0)) dX8_fact_45 rfl 0 rfl ?_
          replace hF := fg_ob_some hF
          obtain ⟨y5, e_5, hF⟩ := hF
          refine fg_getl X ff_X8_word q1555 e_5 dX8_fact_46 ?_
          refine fg_ldc2 X q1771 dX8_fact_49 ?_
          refine fg_lcmp X dX8_fact_52 ?_
          refine fg_if_ne X (tgt := 58) dX8_fact_53 (by decide) (fun hc => ?_) (fun hc => ?_)
          · rw [if_neg hc] at hF
            refine fg_aload_n X (r := (some a0)) dX8_fact_58 rfl 0 rfl ?_
            replace hF := fg_ob_some hF
            obtain ⟨y6, e_6, hF⟩ := hF
            refine fg_getl X ff_X8_word q1555 e_6 dX8_fact_59 ?_
            refine fg_ldc2 X q1772 dX8_fact_62 ?_
            refine fg_lcmp X dX8_fact_65 ?_
            refine fg_if_ne X (tgt := 73) dX8_fact_66 (by decide) (fun hc => ?_) (fun hc => ?_)
            · rw [if_neg hc] at hF
              refine fg_iconst X (v := (0 : Int32)) dX8_fact_73 (by decide) ?_
              cases hF
              exact fg_iret X dX8_fact_74 (hT)
            · rw [if_pos hc] at hF
              refine fg_iconst X (v := (4 : Int32)) dX8_fact_69 (by decide) ?_
              refine fg_goto X (tgt := 74) dX8_fact_70 (by decide) ?_
              cases hF
              exact fg_iret X dX8_fact_74 (hT)
          · rw [if_pos hc] at hF
            refine fg_iconst X (v := (3 : Int32)) dX8_fact_56 (by decide) ?_
            cases hF
            exact fg_iret X dX8_fact_57 (hT)
        · rw [if_pos hc] at hF
          refine fg_iconst X (v := (0 : Int32)) dX8_fact_43 (by decide) ?_
          cases hF
          exact fg_iret X dX8_fact_44 (hT)
      · rw [if_pos hc] at hF
        refine fg_iconst X (v := (2 : Int32)) dX8_fact_34 (by decide) ?_
        cases hF
        exact fg_iret X dX8_fact_35 (hT)
    · rw [if_pos hc] at hF
      refine fg_iconst X (v := (1 : Int32)) dX8_fact_21 (by decide) ?_
      cases hF
      exact fg_iret X dX8_fact_22 (hT)
  · rw [if_neg hc] at hF
    refine fg_iconst X (v := (0 : Int32)) dX8_fact_8 (by decide) ?_
    cases hF
    exact fg_iret X dX8_fact_9 (hT)
theorem mX8_fact (l : Launch) (D : fg_D) {a0 : Nat} {G : fg_H} {t : Int32 × fg_H} (hF : fX8_fact a0 G = some t) : fg_M l D yX8_fact cX8_fact 1 (some .int) 0 [.ref a0] G (.returned (some (.int t.1))) t.2 :=
  fg_Mof (own := RX8) (nm := "fact") (L := [(0, .ref a0)]) (plainFor_of_name pn_X8) rfl rfl rfl (Nat.le_of_ble_eq_true rfl) (fun Ω _ _ X hT => wX8_fact X hF hT)
theorem hd_X8_puts : yX8_puts.cls ≠ "java/lang/invoke/MethodHandle" ∧ yX8_puts.cls ≠ "java/lang/invoke/VarHandle" ∧ (parseMethodDescriptor yX8_puts.desc).map (fun d => d.parameters.length) = some 1 := ⟨by decide +kernel, by decide +kernel, by decide +kernel⟩
set_option maxHeartbeats 4000000 in
theorem wX8_puts {Ω : fg_O} {a0 : Nat} {i1 : Int32} {G : fg_H} {t : Unit × fg_H} (X : fg_X Ω RX8 "puts" cX8_puts 2 none 0) (hF : fX8_puts a0 i1 G = some t) (hT : fg_T Ω (.returned none) t.2) : fg_W Ω G 0 [(0, .ref a0), (1, .int i1)] [] := by
  unfold fX8_puts at hF
  refine fg_aload_n X (r := (some a0)) dX8_puts_0 rfl 0 rfl ?_
  replace hF := fg_ob_some hF
  obtain ⟨r1, e_1, hF⟩ := hF
  refine fg_getr X ff_X8_codes q1568 e_1 dX8_puts_1 ?_
  refine fg_aload_n X (r := (some a0)) dX8_puts_4 rfl 0 rfl ?_
  replace hF := fg_ob_some hF
  obtain ⟨x2, e_2, hF⟩ := hF
  refine fg_geti X ff_X8_code q1569 e_2 dX8_puts_5 ?_
  refine fg_iload_n X dX8_puts_8 rfl 1 rfl ?_
  replace hF := fg_ob_some hF
  obtain ⟨a3, rfl, hF⟩ := hF
  replace hF := fg_ob_some hF
  obtain ⟨G4, e_3, hF⟩ := hF
  refine fg_iast X e_3 dX8_puts_9 ?_
  refine fg_aload_n X (r := (some a0)) dX8_puts_10 rfl 0 rfl ?_
  refine fg_dup X dX8_puts_11 rfl ?_
  replace hF := fg_ob_some hF
  obtain ⟨x5, e_4, hF⟩ := hF
  refine fg_geti X ff_X8_code q1569 e_4 dX8_puts_12 ?_
  refine fg_iconst X (v := (1 : Int32)) dX8_puts_15 (by decide) ?_
  refine fg_iadd X dX8_puts_16 ?_
  replace hF := fg_ob_some hF
  obtain ⟨G6, e_5, hF⟩ := hF
  refine fg_putv X (ty := .int) (v := .int (x5 + (1 : Int32))) ff_X8_code q1569 rfl (Or.inl rfl) rfl rfl rfl e_5 dX8_puts_17 ?_
  cases hF
  exact fg_vret X dX8_puts_20 (hT)
theorem mX8_puts (l : Launch) (D : fg_D) {a0 : Nat} {i1 : Int32} {G : fg_H} {t : Unit × fg_H} (hF : fX8_puts a0 i1 G = some t) : fg_M l D yX8_puts cX8_puts 2 none 0 [.ref a0, .int i1] G (.returned none) t.2 :=
  fg_Mof (own := RX8) (nm := "puts") (L := [(0, .ref a0), (1, .int i1)]) (plainFor_of_name pn_X8) rfl rfl rfl (Nat.le_of_ble_eq_true rfl) (fun Ω _ _ X hT => wX8_puts X hF hT)
theorem hd_X8_reads : yX8_reads.cls ≠ "java/lang/invoke/MethodHandle" ∧ yX8_reads.cls ≠ "java/lang/invoke/VarHandle" ∧ (parseMethodDescriptor yX8_reads.desc).map (fun d => d.parameters.length) = some 0 := ⟨by decide +kernel, by decide +kernel, by decide +kernel⟩
set_option maxHeartbeats 4000000 in
theorem wX8_reads_424 {Ω : fg_O} {a0 : Nat} {i1 : Int32} {i2 : Int32} {G : fg_H} {t : ((Nat × Int32 × Int32 × fg_H) ⊕ (Int32 × fg_H))} (X : fg_X Ω RX8 "reads" cX8_reads 6 (some .boolean) 2) (hF : fX8_reads_424 a0 i1 i2 G = some t) (h11 : ∀ z, t = (.inl z) → fg_W Ω z.2.2.2 11 [(0, .ref z.1), (1, .int z.2.1), (2, .int z.2.2.1)] []) (hT : ∀ u, t = (.inr u) → fg_T Ω (.returned (some (.int u.1))) u.2) : fg_W Ω G 424 [(0, .ref a0), (1, .int i1), (2, .int i2)] [] := by
  unfold fX8_reads_424 at hF
  refine fg_aload_n X (r := (some a0)) dX8_reads_424 rfl 0 rfl ?_
  replace hF := fg_gd_some hF
  obtain ⟨eg_1, hF⟩ := hF
  obtain ⟨fs_2, eo_3⟩ := fg_rc_get eg_1
  replace hF := fg_oc_some hF
  obtain ⟨u, G11, e_4, hF⟩ := hF
  refine fg_callV X (st := []) (mX8_nextToken Ω.2.2.2.2.1 Ω.1 e_4) q1707 q1709 qs43 q105 q1710 hd_X8_nextToken (by decide) rfl eo_3 (by decide) rfl rfl (Nat.le_of_ble_eq_true rfl) dX8_reads_425 ?_
  refine fg_goto X (tgt := 11) dX8_reads_428 (by decide) ?_
  refine fg_sub [0, 1, 2] rfl ?_
  exact h11 _ (Option.some.inj hF).symm
set_option maxHeartbeats 4000000 in
theorem wX8_reads_237 {Ω : fg_O} {a0 : Nat} {i1 : Int32} {s0 : Nat} {s1 : Int32} {G : fg_H} {t : ((Nat × Int32 × Int32 × fg_H) ⊕ (Int32 × fg_H))} (X : fg_X Ω RX8 "reads" cX8_reads 6 (some .boolean) 2) (hF : fX8_reads_237 a0 i1 s0 s1 G = some t) (h11 : ∀ z, t = (.inl z) → fg_W Ω z.2.2.2 11 [(0, .ref z.1), (1, .int z.2.1), (2, .int z.2.2.1)] []) (hT : ∀ u, t = (.inr u) → fg_T Ω (.returned (some (.int u.1))) u.2) : fg_W Ω G 237 [(0, .ref a0), (1, .int i1)] [.int s1, .ref s0] := by
  unfold fX8_reads_237 at hF
  replace hF := fg_gd_some hF
  obtain ⟨eg_1, hF⟩ := hF
  obtain ⟨fs_2, eo_3⟩ := fg_rc_get eg_1
  replace hF := fg_oc_some hF
  obtain ⟨u, G10, e_4, hF⟩ := hF
  refine fg_callV X (st := []) (mX8_puts Ω.2.2.2.2.1 Ω.1 e_4) q1774 q1776 qs56 q105 q1777 hd_X8_puts (by decide) rfl eo_3 (by decide) rfl rfl (Nat.le_of_ble_eq_true rfl) dX8_reads_237 ?_
  refine fg_iconst X (v := (1 : Int32)) dX8_reads_240 (by decide) ?_
  refine fg_istore_n X (L' := [(2, .int (1 : Int32)), (0, .ref a0), (1, .int i1)]) dX8_reads_241 rfl (by decide) rfl ?_
  refine fg_goto X (tgt := 424) dX8_reads_242 (by decide) ?_
  refine fg_sub [1, 2, 0] rfl ?_
  exact wX8_reads_424 X hF h11 hT
set_option maxHeartbeats 4000000 in
theorem wX8_reads_206 {Ω : fg_O} {a0 : Nat} {i1 : Int32} {G : fg_H} {t : ((Nat × Int32 × Int32 × fg_H) ⊕ (Int32 × fg_H))} (X : fg_X Ω RX8 "reads" cX8_reads 6 (some .boolean) 2) (hF : fX8_reads_206 a0 i1 G = some t) (h11 : ∀ z, t = (.inl z) → fg_W Ω z.2.2.2 11 [(0, .ref z.1), (1, .int z.2.1), (2, .int z.2.2.1)] []) (hT : ∀ u, t = (.inr u) → fg_T Ω (.returned (some (.int u.1))) u.2) : fg_W Ω G 206 [(0, .ref a0), (1, .int i1)] [] := by
  unfold fX8_reads_206 at hF
  refine fg_aload_n X (r := (some a0)) dX8_reads_206 rfl 0 rfl ?_
  refine fg_aload_n X (r := (some a0)) dX8_reads_207 rfl 0 rfl ?_
  refine fg_bipush X (v := (43 : Int32)) dX8_reads_208 (by decide) ?_
  replace hF := fg_gd_some hF
  obtain ⟨eg_1, hF⟩ := hF
  obtain ⟨fs_2, eo_3⟩ := fg_rc_get eg_1
  replace hF := fg_oc_some hF
  obtain ⟨x7, G6, e_4, hF⟩ := hF
  refine fg_callV X (st := [.ref a0]) (mX8_isSign Ω.2.2.2.2.1 Ω.1 e_4) q1745 q1747 qs51 q105 q1748 hd_X8_isSign (by decide) rfl eo_3 (by decide) rfl rfl (Nat.le_of_ble_eq_true rfl) dX8_reads_210 ?_
  refine fg_if_eq X (tgt := 221) dX8_reads_213 (by decide) (fun hc => ?_) (fun hc => ?_)
  · rw [if_pos hc] at hF
    refine fg_aload_n X (r := (some a0)) dX8_reads_221 rfl 0 rfl ?_
    refine fg_bipush X (v := (45 : Int32)) dX8_reads_222 (by decide) ?_
    replace hF := fg_gd_some hF
    obtain ⟨eg_5, hF⟩ := hF
    obtain ⟨fs_6, eo_7⟩ := fg_rc_get eg_5
    replace hF := fg_oc_some hF
    obtain ⟨x9, G8, e_8, hF⟩ := hF
    refine fg_callV X (st := [.ref a0]) (mX8_isSign Ω.2.2.2.2.1 Ω.1 e_8) q1745 q1747 qs51 q105 q1748 hd_X8_isSign (by decide) rfl eo_7 (by decide) rfl rfl (Nat.le_of_ble_eq_true rfl) dX8_reads_224 ?_
    refine fg_if_eq X (tgt := 235) dX8_reads_227 (by decide) (fun hc => ?_) (fun hc => ?_)
    · rw [if_pos hc] at hF
      refine fg_bipush X (v := (22 : Int32)) dX8_reads_235 (by decide) ?_
      refine fg_sub [0, 1] rfl ?_
      exact wX8_reads_237 X hF h11 hT
    · rw [if_neg hc] at hF
      refine fg_bipush X (v := (21 : Int32)) dX8_reads_230 (by decide) ?_
      refine fg_goto X (tgt := 237) dX8_reads_232 (by decide) ?_
      refine fg_sub [0, 1] rfl ?_
      exact wX8_reads_237 X hF h11 hT
  · rw [if_neg hc] at hF
    refine fg_bipush X (v := (20 : Int32)) dX8_reads_216 (by decide) ?_
    refine fg_goto X (tgt := 237) dX8_reads_218 (by decide) ?_
    refine fg_sub [0, 1] rfl ?_
    exact wX8_reads_237 X hF h11 hT
set_option maxHeartbeats 4000000 in
theorem wX8_reads_342 {Ω : fg_O} {a0 : Nat} {i1 : Int32} {s0 : Nat} {s1 : Int32} {G : fg_H} {t : ((Nat × Int32 × Int32 × fg_H) ⊕ (Int32 × fg_H))} (X : fg_X Ω RX8 "reads" cX8_reads 6 (some .boolean) 2) (hF : fX8_reads_342 a0 i1 s0 s1 G = some t) (h11 : ∀ z, t = (.inl z) → fg_W Ω z.2.2.2 11 [(0, .ref z.1), (1, .int z.2.1), (2, .int z.2.2.1)] []) (hT : ∀ u, t = (.inr u) → fg_T Ω (.returned (some (.int u.1))) u.2) : fg_W Ω G 342 [(0, .ref a0), (1, .int i1)] [.int s1, .ref s0] := by
  unfold fX8_reads_342 at hF
  replace hF := fg_gd_some hF
  obtain ⟨eg_1, hF⟩ := hF
  obtain ⟨fs_2, eo_3⟩ := fg_rc_get eg_1
  replace hF := fg_oc_some hF
  obtain ⟨u, G25, e_4, hF⟩ := hF
  refine fg_callV X (st := []) (mX8_puts Ω.2.2.2.2.1 Ω.1 e_4) q1774 q1776 qs56 q105 q1777 hd_X8_puts (by decide) rfl eo_3 (by decide) rfl rfl (Nat.le_of_ble_eq_true rfl) dX8_reads_342 ?_
  refine fg_aload_n X (r := (some a0)) dX8_reads_345 rfl 0 rfl ?_
  replace hF := fg_ob_some hF
  obtain ⟨r26, e_5, hF⟩ := hF
  refine fg_getr X ff_X8_compared q1573 e_5 dX8_reads_346 ?_
  refine fg_iload_n X dX8_reads_349 rfl 1 rfl ?_
  refine fg_iconst X (v := (0 : Int32)) dX8_reads_350 (by decide) ?_
  replace hF := fg_ob_some hF
  obtain ⟨a27, rfl, hF⟩ := hF
  replace hF := fg_ob_some hF
  obtain ⟨G28, e_6, hF⟩ := hF
  refine fg_zast X e_6 dX8_reads_351 ?_
  refine fg_iconst X (v := (1 : Int32)) dX8_reads_352 (by decide) ?_
  refine fg_istore_n X (L' := [(2, .int (1 : Int32)), (0, .ref a0), (1, .int i1)]) dX8_reads_353 rfl (by decide) rfl ?_
  refine fg_goto X (tgt := 424) dX8_reads_354 (by decide) ?_
  refine fg_sub [1, 2, 0] rfl ?_
  exact wX8_reads_424 X hF h11 hT
set_option maxHeartbeats 4000000 in
theorem wX8_reads_324 {Ω : fg_O} {a0 : Nat} {i1 : Int32} {G : fg_H} {t : ((Nat × Int32 × Int32 × fg_H) ⊕ (Int32 × fg_H))} (X : fg_X Ω RX8 "reads" cX8_reads 6 (some .boolean) 2) (hF : fX8_reads_324 a0 i1 G = some t) (h11 : ∀ z, t = (.inl z) → fg_W Ω z.2.2.2 11 [(0, .ref z.1), (1, .int z.2.1), (2, .int z.2.2.1)] []) (hT : ∀ u, t = (.inr u) → fg_T Ω (.returned (some (.int u.1))) u.2) : fg_W Ω G 324 [(0, .ref a0), (1, .int i1)] [] := by
  unfold fX8_reads_324 at hF
  refine fg_aload_n X (r := (some a0)) dX8_reads_324 rfl 0 rfl ?_
  refine fg_aload_n X (r := (some a0)) dX8_reads_325 rfl 0 rfl ?_
  refine fg_ldc2 X q1778 dX8_reads_326 ?_
  replace hF := fg_gd_some hF
  obtain ⟨eg_1, hF⟩ := hF
  obtain ⟨fs_2, eo_3⟩ := fg_rc_get eg_1
  replace hF := fg_oc_some hF
  obtain ⟨x24, G23, e_4, hF⟩ := hF
  refine fg_callV X (st := [.ref a0]) (mX8_isWord Ω.2.2.2.2.1 Ω.1 e_4) q1718 q1720 qs45 q105 q1721 hd_X8_isWord (by decide) rfl eo_3 (by decide) rfl rfl (Nat.le_of_ble_eq_true rfl) dX8_reads_329 ?_
  refine fg_if_eq X (tgt := 340) dX8_reads_332 (by decide) (fun hc => ?_) (fun hc => ?_)
  · rw [if_pos hc] at hF
    refine fg_bipush X (v := (27 : Int32)) dX8_reads_340 (by decide) ?_
    refine fg_sub [0, 1] rfl ?_
    exact wX8_reads_342 X hF h11 hT
  · rw [if_neg hc] at hF
    refine fg_bipush X (v := (26 : Int32)) dX8_reads_335 (by decide) ?_
    refine fg_goto X (tgt := 342) dX8_reads_337 (by decide) ?_
    refine fg_sub [0, 1] rfl ?_
    exact wX8_reads_342 X hF h11 hT
set_option maxHeartbeats 4000000 in
theorem wX8_reads_418 {Ω : fg_O} {a0 : Nat} {G : fg_H} {t : (Int32 × fg_H)} (X : fg_X Ω RX8 "reads" cX8_reads 6 (some .boolean) 2) (hF : fX8_reads_418 a0 G = some t) (hT : fg_T Ω (.returned (some (.int t.1))) t.2) : fg_W Ω G 418 [(0, .ref a0)] [] := by
  unfold fX8_reads_418 at hF
  refine fg_aload_n X (r := (some a0)) dX8_reads_418 rfl 0 rfl ?_
  refine fg_iconst X (v := (1 : Int32)) dX8_reads_419 (by decide) ?_
  replace hF := fg_gd_some hF
  obtain ⟨eg_1, hF⟩ := hF
  obtain ⟨fs_2, eo_3⟩ := fg_rc_get eg_1
  replace hF := fg_oc_some hF
  obtain ⟨x35, G34, e_4, hF⟩ := hF
  refine fg_callV X (st := []) (mX8_fails Ω.2.2.2.2.1 Ω.1 e_4) q1730 q1732 qs48 q105 q1733 hd_X8_fails (by decide) rfl eo_3 (by decide) rfl rfl (Nat.le_of_ble_eq_true rfl) dX8_reads_420 ?_
  replace hF := fg_gd_some hF
  obtain ⟨eg_5, hF⟩ := hF
  cases hF
  exact fg_zret X (fg_b_or eg_5) dX8_reads_423 (hT)
set_option maxHeartbeats 4000000 in
theorem wX8_reads_399 {Ω : fg_O} {a0 : Nat} {i1 : Int32} {G : fg_H} {t : (Int32 × fg_H)} (X : fg_X Ω RX8 "reads" cX8_reads 6 (some .boolean) 2) (hF : fX8_reads_399 a0 i1 G = some t) (hT : fg_T Ω (.returned (some (.int t.1))) t.2) : fg_W Ω G 399 [(0, .ref a0), (1, .int i1)] [] := by
  unfold fX8_reads_399 at hF
  refine fg_iload_n X dX8_reads_399 rfl 1 rfl ?_
  refine fg_if_ne X (tgt := 418) dX8_reads_400 (by decide) (fun hc => ?_) (fun hc => ?_)
  · rw [if_neg hc] at hF
    refine fg_sub [0] rfl ?_
    exact wX8_reads_418 X hF hT
  · rw [if_pos hc] at hF
    refine fg_aload_n X (r := (some a0)) dX8_reads_403 rfl 0 rfl ?_
    refine fg_bipush X (v := (59 : Int32)) dX8_reads_404 (by decide) ?_
    replace hF := fg_gd_some hF
    obtain ⟨eg_1, hF⟩ := hF
    obtain ⟨fs_2, eo_3⟩ := fg_rc_get eg_1
    replace hF := fg_oc_some hF
    obtain ⟨x37, G36, e_4, hF⟩ := hF
    refine fg_callV X (st := []) (mX8_isSign Ω.2.2.2.2.1 Ω.1 e_4) q1745 q1747 qs51 q105 q1748 hd_X8_isSign (by decide) rfl eo_3 (by decide) rfl rfl (Nat.le_of_ble_eq_true rfl) dX8_reads_406 ?_
    refine fg_if_eq X (tgt := 418) dX8_reads_409 (by decide) (fun hc => ?_) (fun hc => ?_)
    · rw [if_pos hc] at hF
      refine fg_sub [0] rfl ?_
      exact wX8_reads_418 X hF hT
    · rw [if_neg hc] at hF
      refine fg_aload_n X (r := (some a0)) dX8_reads_412 rfl 0 rfl ?_
      replace hF := fg_gd_some hF
      obtain ⟨eg_5, hF⟩ := hF
      obtain ⟨fs_6, eo_7⟩ := fg_rc_get eg_5
      replace hF := fg_oc_some hF
      obtain ⟨u, G38, e_8, hF⟩ := hF
      refine fg_callV X (st := []) (mX8_nextToken Ω.2.2.2.2.1 Ω.1 e_8) q1707 q1709 qs43 q105 q1710 hd_X8_nextToken (by decide) rfl eo_7 (by decide) rfl rfl (Nat.le_of_ble_eq_true rfl) dX8_reads_413 ?_
      refine fg_iconst X (v := (1 : Int32)) dX8_reads_416 (by decide) ?_
      cases hF
      exact fg_zret X (by decide) dX8_reads_417 (hT)
set_option maxHeartbeats 4000000 in
theorem wX8_reads_379b {Ω : fg_O} {a0 : Nat} {i1 : Int32} {i2 : Int32} {G : fg_H} {t : ((Nat × Int32 × Int32 × fg_H) ⊕ ((Nat × Int32 × Int32 × fg_H) ⊕ (Int32 × fg_H)))} (X : fg_X Ω RX8 "reads" cX8_reads 6 (some .boolean) 2) (hF : fX8_reads_379b a0 i1 i2 G = some t) (h11 : ∀ z, t = (.inr (.inl z)) → fg_W Ω z.2.2.2 11 [(0, .ref z.1), (1, .int z.2.1), (2, .int z.2.2.1)] []) (h379 : ∀ z, t = (.inl z) → fg_W Ω z.2.2.2 379 [(0, .ref z.1), (1, .int z.2.1), (2, .int z.2.2.1)] []) (hT : ∀ u, t = (.inr (.inr u)) → fg_T Ω (.returned (some (.int u.1))) u.2) : fg_W Ω G 379 [(0, .ref a0), (1, .int i1), (2, .int i2)] [] := by
  unfold fX8_reads_379b at hF
  refine fg_iload_n X dX8_reads_379 rfl 1 rfl ?_
  refine fg_if_le X (tgt := 424) dX8_reads_380 (by decide) (fun hc => ?_) (fun hc => ?_)
  · rw [if_pos hc] at hF
    replace hF := fg_rt_some hF
    obtain ⟨t41, hF, ht_1⟩ := hF
    subst ht_1
    replace h11 := fun z q => h11 z (congrArg Sum.inr q)
    replace hT := fun u q => hT u (congrArg Sum.inr q)
    refine fg_sub [0, 1, 2] rfl ?_
    exact wX8_reads_424 X hF h11 hT
  · rw [if_neg hc] at hF
    refine fg_aload_n X (r := (some a0)) dX8_reads_383 rfl 0 rfl ?_
    replace hF := fg_ob_some hF
    obtain ⟨r42, e_2, hF⟩ := hF
    refine fg_getr X ff_X8_opened q1572 e_2 dX8_reads_384 ?_
    refine fg_iload_n X dX8_reads_387 rfl 1 rfl ?_
    replace hF := fg_ob_some hF
    obtain ⟨a43, rfl, hF⟩ := hF
    replace hF := fg_ob_some hF
    obtain ⟨x44, e_3, hF⟩ := hF
    refine fg_iald X e_3 dX8_reads_388 ?_
    refine fg_iconst X (v := (1 : Int32)) dX8_reads_389 (by decide) ?_
    refine fg_icmp_ne X (tgt := 424) dX8_reads_390 (by decide) (fun hc => ?_) (fun hc => ?_)
    · rw [if_neg hc] at hF
      replace hF := fg_rt_some hF
      obtain ⟨t45, hF, ht_4⟩ := hF
      subst ht_4
      replace h11 := fun z q => h11 z (congrArg Sum.inr q)
      replace hT := fun u q => hT u (congrArg Sum.inr q)
      refine fg_sub [0, 1, 2] rfl ?_
      exact wX8_reads_424 X hF h11 hT
    · rw [if_pos hc] at hF
      refine fg_iinc X (v := (i1 + (-1 : Int32))) (L' := [(1, .int (i1 + (-1 : Int32))), (0, .ref a0), (2, .int i2)]) dX8_reads_393 1 rfl rfl (by decide) rfl ?_
      refine fg_goto X (tgt := 379) dX8_reads_396 (by decide) ?_
      refine fg_sub [1, 0, 2] rfl ?_
      exact h379 _ (Option.some.inj hF).symm
set_option maxHeartbeats 4000000 in
theorem wX8_reads_379 {Ω : fg_O} {a0 : Nat} {i1 : Int32} {i2 : Int32} {G : fg_H} {t : ((Nat × Int32 × Int32 × fg_H) ⊕ (Int32 × fg_H))} (X : fg_X Ω RX8 "reads" cX8_reads 6 (some .boolean) 2) (hF : fX8_reads_379 a0 i1 i2 G = some t) (h11 : ∀ z, t = (.inl z) → fg_W Ω z.2.2.2 11 [(0, .ref z.1), (1, .int z.2.1), (2, .int z.2.2.1)] []) (hT : ∀ u, t = (.inr u) → fg_T Ω (.returned (some (.int u.1))) u.2) : fg_W Ω G 379 [(0, .ref a0), (1, .int i1), (2, .int i2)] [] := by
  unfold fX8_reads_379 at hF
  exact fg_lp_walk (P := fun z => fg_W Ω z.2.2.2 379 [(0, .ref z.1), (1, .int z.2.1), (2, .int z.2.2.1)] []) (fun y o ho hl hr => wX8_reads_379b X ho (fun z e => h11 z (hr _ e).symm) (fun z e => hl z e) (fun u e => hT u (hr _ e).symm)) hF
set_option maxHeartbeats 4000000 in
theorem wX8_reads_304 {Ω : fg_O} {a0 : Nat} {i1 : Int32} {i2 : Int32} {G : fg_H} {t : ((Nat × Int32 × Int32 × fg_H) ⊕ (Int32 × fg_H))} (X : fg_X Ω RX8 "reads" cX8_reads 6 (some .boolean) 2) (hF : fX8_reads_304 a0 i1 i2 G = some t) (h11 : ∀ z, t = (.inl z) → fg_W Ω z.2.2.2 11 [(0, .ref z.1), (1, .int z.2.1), (2, .int z.2.2.1)] []) (hT : ∀ u, t = (.inr u) → fg_T Ω (.returned (some (.int u.1))) u.2) : fg_W Ω G 304 [(0, .ref a0), (1, .int i1), (2, .int i2)] [] := by
  unfold fX8_reads_304 at hF
  refine fg_aload_n X (r := (some a0)) dX8_reads_304 rfl 0 rfl ?_
  refine fg_ldc2 X q1778 dX8_reads_305 ?_
  replace hF := fg_gd_some hF
  obtain ⟨eg_1, hF⟩ := hF
  obtain ⟨fs_2, eo_3⟩ := fg_rc_get eg_1
  replace hF := fg_oc_some hF
  obtain ⟨x22, G21, e_4, hF⟩ := hF
  refine fg_callV X (st := []) (mX8_isWord Ω.2.2.2.2.1 Ω.1 e_4) q1718 q1720 qs45 q105 q1721 hd_X8_isWord (by decide) rfl eo_3 (by decide) rfl rfl (Nat.le_of_ble_eq_true rfl) dX8_reads_308 ?_
  refine fg_if_ne X (tgt := 324) dX8_reads_311 (by decide) (fun hc => ?_) (fun hc => ?_)
  · rw [if_neg hc] at hF
    refine fg_sub [0, 1] rfl ?_
    exact wX8_reads_324 X hF h11 hT
  · rw [if_pos hc] at hF
    refine fg_aload_n X (r := (some a0)) dX8_reads_314 rfl 0 rfl ?_
    refine fg_ldc2 X q1779 dX8_reads_315 ?_
    replace hF := fg_gd_some hF
    obtain ⟨eg_5, hF⟩ := hF
    obtain ⟨fs_6, eo_7⟩ := fg_rc_get eg_5
    replace hF := fg_oc_some hF
    obtain ⟨x30, G29, e_8, hF⟩ := hF
    refine fg_callV X (st := []) (mX8_isWord Ω.2.2.2.2.1 Ω.1 e_8) q1718 q1720 qs45 q105 q1721 hd_X8_isWord (by decide) rfl eo_7 (by decide) rfl rfl (Nat.le_of_ble_eq_true rfl) dX8_reads_318 ?_
    refine fg_if_eq X (tgt := 357) dX8_reads_321 (by decide) (fun hc => ?_) (fun hc => ?_)
    · rw [if_pos hc] at hF
      refine fg_aload_n X (r := (some a0)) dX8_reads_357 rfl 0 rfl ?_
      refine fg_bipush X (v := (41 : Int32)) dX8_reads_358 (by decide) ?_
      replace hF := fg_gd_some hF
      obtain ⟨eg_9, hF⟩ := hF
      obtain ⟨fs_10, eo_11⟩ := fg_rc_get eg_9
      replace hF := fg_oc_some hF
      obtain ⟨x32, G31, e_12, hF⟩ := hF
      refine fg_callV X (st := []) (mX8_isSign Ω.2.2.2.2.1 Ω.1 e_12) q1745 q1747 qs51 q105 q1748 hd_X8_isSign (by decide) rfl eo_11 (by decide) rfl rfl (Nat.le_of_ble_eq_true rfl) dX8_reads_360 ?_
      refine fg_if_eq X (tgt := 399) dX8_reads_363 (by decide) (fun hc => ?_) (fun hc => ?_)
      · rw [if_pos hc] at hF
        replace hF := fg_rt_some hF
        obtain ⟨t33, hF, ht_13⟩ := hF
        subst ht_13
        replace hT := hT _ rfl
        refine fg_sub [0, 1] rfl ?_
        exact wX8_reads_399 X hF hT
      · rw [if_neg hc] at hF
        refine fg_iload_n X dX8_reads_366 rfl 1 rfl ?_
        refine fg_if_le X (tgt := 399) dX8_reads_367 (by decide) (fun hc => ?_) (fun hc => ?_)
        · rw [if_pos hc] at hF
          replace hF := fg_rt_some hF
          obtain ⟨t39, hF, ht_14⟩ := hF
          subst ht_14
          replace hT := hT _ rfl
          refine fg_sub [0, 1] rfl ?_
          exact wX8_reads_399 X hF hT
        · rw [if_neg hc] at hF
          refine fg_aload_n X (r := (some a0)) dX8_reads_370 rfl 0 rfl ?_
          refine fg_bipush X (v := (29 : Int32)) dX8_reads_371 (by decide) ?_
          replace hF := fg_gd_some hF
          obtain ⟨eg_15, hF⟩ := hF
          obtain ⟨fs_16, eo_17⟩ := fg_rc_get eg_15
          replace hF := fg_oc_some hF
          obtain ⟨u, G40, e_18, hF⟩ := hF
          refine fg_callV X (st := []) (mX8_puts Ω.2.2.2.2.1 Ω.1 e_18) q1774 q1776 qs56 q105 q1777 hd_X8_puts (by decide) rfl eo_17 (by decide) rfl rfl (Nat.le_of_ble_eq_true rfl) dX8_reads_373 ?_
          refine fg_iinc X (v := (i1 + (-1 : Int32))) (L' := [(1, .int (i1 + (-1 : Int32))), (0, .ref a0), (2, .int i2)]) dX8_reads_376 1 rfl rfl (by decide) rfl ?_
          refine fg_sub [1, 0, 2] rfl ?_
          exact wX8_reads_379 X hF h11 hT
    · rw [if_neg hc] at hF
      refine fg_sub [0, 1] rfl ?_
      exact wX8_reads_324 X hF h11 hT
set_option maxHeartbeats 4000000 in
theorem wX8_reads_289 {Ω : fg_O} {a0 : Nat} {i1 : Int32} {s0 : Nat} {s1 : Int32} {G : fg_H} {t : ((Nat × Int32 × Int32 × fg_H) ⊕ (Int32 × fg_H))} (X : fg_X Ω RX8 "reads" cX8_reads 6 (some .boolean) 2) (hF : fX8_reads_289 a0 i1 s0 s1 G = some t) (h11 : ∀ z, t = (.inl z) → fg_W Ω z.2.2.2 11 [(0, .ref z.1), (1, .int z.2.1), (2, .int z.2.2.1)] []) (hT : ∀ u, t = (.inr u) → fg_T Ω (.returned (some (.int u.1))) u.2) : fg_W Ω G 289 [(0, .ref a0), (1, .int i1)] [.int s1, .ref s0] := by
  unfold fX8_reads_289 at hF
  replace hF := fg_gd_some hF
  obtain ⟨eg_1, hF⟩ := hF
  obtain ⟨fs_2, eo_3⟩ := fg_rc_get eg_1
  replace hF := fg_oc_some hF
  obtain ⟨u, G48, e_4, hF⟩ := hF
  refine fg_callV X (st := []) (mX8_puts Ω.2.2.2.2.1 Ω.1 e_4) q1774 q1776 qs56 q105 q1777 hd_X8_puts (by decide) rfl eo_3 (by decide) rfl rfl (Nat.le_of_ble_eq_true rfl) dX8_reads_289 ?_
  refine fg_aload_n X (r := (some a0)) dX8_reads_292 rfl 0 rfl ?_
  replace hF := fg_ob_some hF
  obtain ⟨r49, e_5, hF⟩ := hF
  refine fg_getr X ff_X8_compared q1573 e_5 dX8_reads_293 ?_
  refine fg_iload_n X dX8_reads_296 rfl 1 rfl ?_
  refine fg_iconst X (v := (1 : Int32)) dX8_reads_297 (by decide) ?_
  replace hF := fg_ob_some hF
  obtain ⟨a50, rfl, hF⟩ := hF
  replace hF := fg_ob_some hF
  obtain ⟨G51, e_6, hF⟩ := hF
  refine fg_zast X e_6 dX8_reads_298 ?_
  refine fg_iconst X (v := (1 : Int32)) dX8_reads_299 (by decide) ?_
  refine fg_istore_n X (L' := [(2, .int (1 : Int32)), (0, .ref a0), (1, .int i1)]) dX8_reads_300 rfl (by decide) rfl ?_
  refine fg_goto X (tgt := 424) dX8_reads_301 (by decide) ?_
  refine fg_sub [1, 2, 0] rfl ?_
  exact wX8_reads_424 X hF h11 hT
set_option maxHeartbeats 4000000 in
theorem wX8_reads_263 {Ω : fg_O} {a0 : Nat} {i1 : Int32} {i2 : Int32} {G : fg_H} {t : ((Nat × Int32 × Int32 × fg_H) ⊕ (Int32 × fg_H))} (X : fg_X Ω RX8 "reads" cX8_reads 6 (some .boolean) 2) (hF : fX8_reads_263 a0 i1 i2 G = some t) (h11 : ∀ z, t = (.inl z) → fg_W Ω z.2.2.2 11 [(0, .ref z.1), (1, .int z.2.1), (2, .int z.2.2.1)] []) (hT : ∀ u, t = (.inr u) → fg_T Ω (.returned (some (.int u.1))) u.2) : fg_W Ω G 263 [(0, .ref a0), (1, .int i1), (2, .int i2)] [] := by
  unfold fX8_reads_263 at hF
  refine fg_aload_n X (r := (some a0)) dX8_reads_263 rfl 0 rfl ?_
  replace hF := fg_ob_some hF
  obtain ⟨r18, e_1, hF⟩ := hF
  refine fg_getr X ff_X8_compared q1573 e_1 dX8_reads_264 ?_
  refine fg_iload_n X dX8_reads_267 rfl 1 rfl ?_
  replace hF := fg_ob_some hF
  obtain ⟨a19, rfl, hF⟩ := hF
  replace hF := fg_ob_some hF
  obtain ⟨x20, e_2, hF⟩ := hF
  refine fg_zald X e_2 dX8_reads_268 ?_
  refine fg_if_ne X (tgt := 304) dX8_reads_269 (by decide) (fun hc => ?_) (fun hc => ?_)
  · rw [if_neg hc] at hF
    refine fg_sub [0, 1, 2] rfl ?_
    exact wX8_reads_304 X hF h11 hT
  · rw [if_pos hc] at hF
    refine fg_aload_n X (r := (some a0)) dX8_reads_272 rfl 0 rfl ?_
    refine fg_aload_n X (r := (some a0)) dX8_reads_273 rfl 0 rfl ?_
    refine fg_bipush X (v := (60 : Int32)) dX8_reads_274 (by decide) ?_
    replace hF := fg_gd_some hF
    obtain ⟨eg_3, hF⟩ := hF
    obtain ⟨fs_4, eo_5⟩ := fg_rc_get eg_3
    replace hF := fg_oc_some hF
    obtain ⟨x47, G46, e_6, hF⟩ := hF
    refine fg_callV X (st := [.ref a0]) (mX8_isSign Ω.2.2.2.2.1 Ω.1 e_6) q1745 q1747 qs51 q105 q1748 hd_X8_isSign (by decide) rfl eo_5 (by decide) rfl rfl (Nat.le_of_ble_eq_true rfl) dX8_reads_276 ?_
    refine fg_if_eq X (tgt := 287) dX8_reads_279 (by decide) (fun hc => ?_) (fun hc => ?_)
    · rw [if_pos hc] at hF
      refine fg_bipush X (v := (25 : Int32)) dX8_reads_287 (by decide) ?_
      refine fg_sub [0, 1] rfl ?_
      exact wX8_reads_289 X hF h11 hT
    · rw [if_neg hc] at hF
      refine fg_bipush X (v := (24 : Int32)) dX8_reads_282 (by decide) ?_
      refine fg_goto X (tgt := 289) dX8_reads_284 (by decide) ?_
      refine fg_sub [0, 1] rfl ?_
      exact wX8_reads_289 X hF h11 hT
set_option maxHeartbeats 4000000 in
theorem wX8_reads_172 {Ω : fg_O} {a0 : Nat} {i1 : Int32} {i2 : Int32} {G : fg_H} {t : ((Nat × Int32 × Int32 × fg_H) ⊕ (Int32 × fg_H))} (X : fg_X Ω RX8 "reads" cX8_reads 6 (some .boolean) 2) (hF : fX8_reads_172 a0 i1 i2 G = some t) (h11 : ∀ z, t = (.inl z) → fg_W Ω z.2.2.2 11 [(0, .ref z.1), (1, .int z.2.1), (2, .int z.2.2.1)] []) (hT : ∀ u, t = (.inr u) → fg_T Ω (.returned (some (.int u.1))) u.2) : fg_W Ω G 172 [(0, .ref a0), (1, .int i1), (2, .int i2)] [] := by
  unfold fX8_reads_172 at hF
  refine fg_aload_n X (r := (some a0)) dX8_reads_172 rfl 0 rfl ?_
  replace hF := fg_gd_some hF
  obtain ⟨eg_1, hF⟩ := hF
  obtain ⟨fs_2, eo_3⟩ := fg_rc_get eg_1
  replace hF := fg_oc_some hF
  obtain ⟨u, G67, e_4, hF⟩ := hF
  refine fg_callV X (st := []) (mX8_nextToken Ω.2.2.2.2.1 Ω.1 e_4) q1707 q1709 qs43 q105 q1710 hd_X8_nextToken (by decide) rfl eo_3 (by decide) rfl rfl (Nat.le_of_ble_eq_true rfl) dX8_reads_173 ?_
  refine fg_goto X (tgt := 11) dX8_reads_176 (by decide) ?_
  refine fg_sub [0, 1, 2] rfl ?_
  exact h11 _ (Option.some.inj hF).symm
set_option maxHeartbeats 4000000 in
theorem wX8_reads_120 {Ω : fg_O} {a0 : Nat} {i1 : Int32} {i2 : Int32} {s0 : Option Nat} {s1 : Int32} {s2 : Int32} {G : fg_H} {t : ((Nat × Int32 × Int32 × fg_H) ⊕ (Int32 × fg_H))} (X : fg_X Ω RX8 "reads" cX8_reads 6 (some .boolean) 2) (hF : fX8_reads_120 a0 i1 i2 s0 s1 s2 G = some t) (h11 : ∀ z, t = (.inl z) → fg_W Ω z.2.2.2 11 [(0, .ref z.1), (1, .int z.2.1), (2, .int z.2.2.1)] []) (hT : ∀ u, t = (.inr u) → fg_T Ω (.returned (some (.int u.1))) u.2) : fg_W Ω G 120 [(0, .ref a0), (1, .int i1), (2, .int i2)] [.int s2, .int s1, va_rf s0] := by
  unfold fX8_reads_120 at hF
  replace hF := fg_ob_some hF
  obtain ⟨a62, rfl, hF⟩ := hF
  replace hF := fg_ob_some hF
  obtain ⟨G63, e_1, hF⟩ := hF
  refine fg_iast X e_1 dX8_reads_120 ?_
  refine fg_aload_n X (r := (some a0)) dX8_reads_121 rfl 0 rfl ?_
  replace hF := fg_ob_some hF
  obtain ⟨r64, e_2, hF⟩ := hF
  refine fg_getr X ff_X8_compared q1573 e_2 dX8_reads_122 ?_
  refine fg_iload_n X dX8_reads_125 rfl 1 rfl ?_
  refine fg_iconst X (v := (0 : Int32)) dX8_reads_126 (by decide) ?_
  replace hF := fg_ob_some hF
  obtain ⟨a65, rfl, hF⟩ := hF
  replace hF := fg_ob_some hF
  obtain ⟨G66, e_3, hF⟩ := hF
  refine fg_zast X e_3 dX8_reads_127 ?_
  refine fg_goto X (tgt := 172) dX8_reads_128 (by decide) ?_
  refine fg_sub [0, 1, 2] rfl ?_
  exact wX8_reads_172 X hF h11 hT
set_option maxHeartbeats 4000000 in
theorem wX8_reads_99 {Ω : fg_O} {a0 : Nat} {i1 : Int32} {i2 : Int32} {i4 : Int32} {s0 : Nat} {s1 : Int32} {G : fg_H} {t : ((Nat × Int32 × Int32 × fg_H) ⊕ (Int32 × fg_H))} (X : fg_X Ω RX8 "reads" cX8_reads 6 (some .boolean) 2) (hF : fX8_reads_99 a0 i1 i2 i4 s0 s1 G = some t) (h11 : ∀ z, t = (.inl z) → fg_W Ω z.2.2.2 11 [(0, .ref z.1), (1, .int z.2.1), (2, .int z.2.2.1)] []) (hT : ∀ u, t = (.inr u) → fg_T Ω (.returned (some (.int u.1))) u.2) : fg_W Ω G 99 [(0, .ref a0), (1, .int i1), (2, .int i2), (4, .int i4)] [.int s1, .ref s0] := by
  unfold fX8_reads_99 at hF
  replace hF := fg_gd_some hF
  obtain ⟨eg_1, hF⟩ := hF
  obtain ⟨fs_2, eo_3⟩ := fg_rc_get eg_1
  replace hF := fg_oc_some hF
  obtain ⟨u, G60, e_4, hF⟩ := hF
  refine fg_callV X (st := []) (mX8_puts Ω.2.2.2.2.1 Ω.1 e_4) q1774 q1776 qs56 q105 q1777 hd_X8_puts (by decide) rfl eo_3 (by decide) rfl rfl (Nat.le_of_ble_eq_true rfl) dX8_reads_99 ?_
  refine fg_iinc X (v := (i1 + (1 : Int32))) (L' := [(1, .int (i1 + (1 : Int32))), (0, .ref a0), (2, .int i2), (4, .int i4)]) dX8_reads_102 1 rfl rfl (by decide) rfl ?_
  refine fg_aload_n X (r := (some a0)) dX8_reads_105 rfl 1 rfl ?_
  replace hF := fg_ob_some hF
  obtain ⟨r61, e_5, hF⟩ := hF
  refine fg_getr X ff_X8_opened q1572 e_5 dX8_reads_106 ?_
  refine fg_iload_n X dX8_reads_109 rfl 0 rfl ?_
  refine fg_iload X dX8_reads_110 3 rfl ?_
  refine fg_if_eq X (tgt := 119) dX8_reads_112 (by decide) (fun hc => ?_) (fun hc => ?_)
  · rw [if_pos hc] at hF
    refine fg_iconst X (v := (2 : Int32)) dX8_reads_119 (by decide) ?_
    refine fg_sub [1, 0, 2] rfl ?_
    exact wX8_reads_120 X hF h11 hT
  · rw [if_neg hc] at hF
    refine fg_iconst X (v := (1 : Int32)) dX8_reads_115 (by decide) ?_
    refine fg_goto X (tgt := 120) dX8_reads_116 (by decide) ?_
    refine fg_sub [1, 0, 2] rfl ?_
    exact wX8_reads_120 X hF h11 hT
set_option maxHeartbeats 4000000 in
theorem wX8_reads_86 {Ω : fg_O} {a0 : Nat} {i1 : Int32} {i2 : Int32} {i4 : Int32} {G : fg_H} {t : ((Nat × Int32 × Int32 × fg_H) ⊕ (Int32 × fg_H))} (X : fg_X Ω RX8 "reads" cX8_reads 6 (some .boolean) 2) (hF : fX8_reads_86 a0 i1 i2 i4 G = some t) (h11 : ∀ z, t = (.inl z) → fg_W Ω z.2.2.2 11 [(0, .ref z.1), (1, .int z.2.1), (2, .int z.2.2.1)] []) (hT : ∀ u, t = (.inr u) → fg_T Ω (.returned (some (.int u.1))) u.2) : fg_W Ω G 86 [(0, .ref a0), (1, .int i1), (2, .int i2), (4, .int i4)] [] := by
  unfold fX8_reads_86 at hF
  refine fg_aload_n X (r := (some a0)) dX8_reads_86 rfl 0 rfl ?_
  refine fg_iload X dX8_reads_87 3 rfl ?_
  refine fg_if_eq X (tgt := 97) dX8_reads_89 (by decide) (fun hc => ?_) (fun hc => ?_)
  · rw [if_pos hc] at hF
    refine fg_bipush X (v := (28 : Int32)) dX8_reads_97 (by decide) ?_
    refine fg_sub [0, 1, 2, 3] rfl ?_
    exact wX8_reads_99 X hF h11 hT
  · rw [if_neg hc] at hF
    refine fg_bipush X (v := (30 : Int32)) dX8_reads_92 (by decide) ?_
    refine fg_goto X (tgt := 99) dX8_reads_94 (by decide) ?_
    refine fg_sub [0, 1, 2, 3] rfl ?_
    exact wX8_reads_99 X hF h11 hT
set_option maxHeartbeats 4000000 in
theorem wX8_reads_152b {Ω : fg_O} {a0 : Nat} {i1 : Int32} {i2 : Int32} {G : fg_H} {t : ((Nat × Int32 × Int32 × fg_H) ⊕ ((Nat × Int32 × Int32 × fg_H) ⊕ (Int32 × fg_H)))} (X : fg_X Ω RX8 "reads" cX8_reads 6 (some .boolean) 2) (hF : fX8_reads_152b a0 i1 i2 G = some t) (h11 : ∀ z, t = (.inr (.inl z)) → fg_W Ω z.2.2.2 11 [(0, .ref z.1), (1, .int z.2.1), (2, .int z.2.2.1)] []) (h152 : ∀ z, t = (.inl z) → fg_W Ω z.2.2.2 152 [(0, .ref z.1), (1, .int z.2.1), (2, .int z.2.2.1)] []) (hT : ∀ u, t = (.inr (.inr u)) → fg_T Ω (.returned (some (.int u.1))) u.2) : fg_W Ω G 152 [(0, .ref a0), (1, .int i1), (2, .int i2)] [] := by
  unfold fX8_reads_152b at hF
  refine fg_iload_n X dX8_reads_152 rfl 1 rfl ?_
  refine fg_if_le X (tgt := 172) dX8_reads_153 (by decide) (fun hc => ?_) (fun hc => ?_)
  · rw [if_pos hc] at hF
    replace hF := fg_rt_some hF
    obtain ⟨t70, hF, ht_1⟩ := hF
    subst ht_1
    replace h11 := fun z q => h11 z (congrArg Sum.inr q)
    replace hT := fun u q => hT u (congrArg Sum.inr q)
    refine fg_sub [0, 1, 2] rfl ?_
    exact wX8_reads_172 X hF h11 hT
  · rw [if_neg hc] at hF
    refine fg_aload_n X (r := (some a0)) dX8_reads_156 rfl 0 rfl ?_
    replace hF := fg_ob_some hF
    obtain ⟨r71, e_2, hF⟩ := hF
    refine fg_getr X ff_X8_opened q1572 e_2 dX8_reads_157 ?_
    refine fg_iload_n X dX8_reads_160 rfl 1 rfl ?_
    replace hF := fg_ob_some hF
    obtain ⟨a72, rfl, hF⟩ := hF
    replace hF := fg_ob_some hF
    obtain ⟨x73, e_3, hF⟩ := hF
    refine fg_iald X e_3 dX8_reads_161 ?_
    refine fg_iconst X (v := (1 : Int32)) dX8_reads_162 (by decide) ?_
    refine fg_icmp_ne X (tgt := 172) dX8_reads_163 (by decide) (fun hc => ?_) (fun hc => ?_)
    · rw [if_neg hc] at hF
      replace hF := fg_rt_some hF
      obtain ⟨t74, hF, ht_4⟩ := hF
      subst ht_4
      replace h11 := fun z q => h11 z (congrArg Sum.inr q)
      replace hT := fun u q => hT u (congrArg Sum.inr q)
      refine fg_sub [0, 1, 2] rfl ?_
      exact wX8_reads_172 X hF h11 hT
    · rw [if_pos hc] at hF
      refine fg_iinc X (v := (i1 + (-1 : Int32))) (L' := [(1, .int (i1 + (-1 : Int32))), (0, .ref a0), (2, .int i2)]) dX8_reads_166 1 rfl rfl (by decide) rfl ?_
      refine fg_goto X (tgt := 152) dX8_reads_169 (by decide) ?_
      refine fg_sub [1, 0, 2] rfl ?_
      exact h152 _ (Option.some.inj hF).symm
set_option maxHeartbeats 4000000 in
theorem wX8_reads_152 {Ω : fg_O} {a0 : Nat} {i1 : Int32} {i2 : Int32} {G : fg_H} {t : ((Nat × Int32 × Int32 × fg_H) ⊕ (Int32 × fg_H))} (X : fg_X Ω RX8 "reads" cX8_reads 6 (some .boolean) 2) (hF : fX8_reads_152 a0 i1 i2 G = some t) (h11 : ∀ z, t = (.inl z) → fg_W Ω z.2.2.2 11 [(0, .ref z.1), (1, .int z.2.1), (2, .int z.2.2.1)] []) (hT : ∀ u, t = (.inr u) → fg_T Ω (.returned (some (.int u.1))) u.2) : fg_W Ω G 152 [(0, .ref a0), (1, .int i1), (2, .int i2)] [] := by
  unfold fX8_reads_152 at hF
  exact fg_lp_walk (P := fun z => fg_W Ω z.2.2.2 152 [(0, .ref z.1), (1, .int z.2.1), (2, .int z.2.2.1)] []) (fun y o ho hl hr => wX8_reads_152b X ho (fun z e => h11 z (hr _ e).symm) (fun z e => hl z e) (fun u e => hT u (hr _ e).symm)) hF
set_option maxHeartbeats 4000000 in
theorem wX8_reads_147 {Ω : fg_O} {a0 : Nat} {i1 : Int32} {s0 : Nat} {s1 : Int32} {G : fg_H} {t : ((Nat × Int32 × Int32 × fg_H) ⊕ (Int32 × fg_H))} (X : fg_X Ω RX8 "reads" cX8_reads 6 (some .boolean) 2) (hF : fX8_reads_147 a0 i1 s0 s1 G = some t) (h11 : ∀ z, t = (.inl z) → fg_W Ω z.2.2.2 11 [(0, .ref z.1), (1, .int z.2.1), (2, .int z.2.2.1)] []) (hT : ∀ u, t = (.inr u) → fg_T Ω (.returned (some (.int u.1))) u.2) : fg_W Ω G 147 [(0, .ref a0), (1, .int i1)] [.int s1, .ref s0] := by
  unfold fX8_reads_147 at hF
  replace hF := fg_gd_some hF
  obtain ⟨eg_1, hF⟩ := hF
  obtain ⟨fs_2, eo_3⟩ := fg_rc_get eg_1
  replace hF := fg_oc_some hF
  obtain ⟨u, G69, e_4, hF⟩ := hF
  refine fg_callV X (st := []) (mX8_puts Ω.2.2.2.2.1 Ω.1 e_4) q1774 q1776 qs56 q105 q1777 hd_X8_puts (by decide) rfl eo_3 (by decide) rfl rfl (Nat.le_of_ble_eq_true rfl) dX8_reads_147 ?_
  refine fg_iconst X (v := (0 : Int32)) dX8_reads_150 (by decide) ?_
  refine fg_istore_n X (L' := [(2, .int (0 : Int32)), (0, .ref a0), (1, .int i1)]) dX8_reads_151 rfl (by decide) rfl ?_
  refine fg_sub [1, 2, 0] rfl ?_
  exact wX8_reads_152 X hF h11 hT
set_option maxHeartbeats 4000000 in
theorem wX8_reads_65 {Ω : fg_O} {a0 : Nat} {i1 : Int32} {i2 : Int32} {i3 : Int32} {i4 : Int32} {i5 : Int32} {G : fg_H} {t : ((Nat × Int32 × Int32 × fg_H) ⊕ (Int32 × fg_H))} (X : fg_X Ω RX8 "reads" cX8_reads 6 (some .boolean) 2) (hF : fX8_reads_65 a0 i1 i2 i3 i4 i5 G = some t) (h11 : ∀ z, t = (.inl z) → fg_W Ω z.2.2.2 11 [(0, .ref z.1), (1, .int z.2.1), (2, .int z.2.2.1)] []) (hT : ∀ u, t = (.inr u) → fg_T Ω (.returned (some (.int u.1))) u.2) : fg_W Ω G 65 [(0, .ref a0), (1, .int i1), (2, .int i2), (3, .int i3), (4, .int i4), (5, .int i5)] [] := by
  unfold fX8_reads_65 at hF
  refine fg_iload_n X dX8_reads_65 rfl 1 rfl ?_
  refine fg_iconst X (v := (5 : Int32)) dX8_reads_66 (by decide) ?_
  refine fg_icmp_ne X (tgt := 76) dX8_reads_67 (by decide) (fun hc => ?_) (fun hc => ?_)
  · rw [if_neg hc] at hF
    refine fg_iload X dX8_reads_76 4 rfl ?_
    refine fg_if_ne X (tgt := 86) dX8_reads_78 (by decide) (fun hc => ?_) (fun hc => ?_)
    · rw [if_neg hc] at hF
      refine fg_sub [0, 1, 2, 4] rfl ?_
      exact wX8_reads_86 X hF h11 hT
    · rw [if_pos hc] at hF
      refine fg_iload X dX8_reads_81 5 rfl ?_
      refine fg_if_eq X (tgt := 131) dX8_reads_83 (by decide) (fun hc => ?_) (fun hc => ?_)
      · rw [if_pos hc] at hF
        refine fg_aload_n X (r := (some a0)) dX8_reads_131 rfl 0 rfl ?_
        refine fg_iload_n X dX8_reads_132 rfl 3 rfl ?_
        refine fg_if_le X (tgt := 140) dX8_reads_133 (by decide) (fun hc => ?_) (fun hc => ?_)
        · rw [if_pos hc] at hF
          refine fg_bipush X (v := (100 : Int32)) dX8_reads_140 (by decide) ?_
          refine fg_aload_n X (r := (some a0)) dX8_reads_142 rfl 0 rfl ?_
          replace hF := fg_ob_some hF
          obtain ⟨x68, e_1, hF⟩ := hF
          refine fg_geti X ff_X8_told q1556 e_1 dX8_reads_143 ?_
          refine fg_iadd X dX8_reads_146 ?_
          refine fg_sub [0, 1] rfl ?_
          exact wX8_reads_147 X hF h11 hT
        · rw [if_neg hc] at hF
          refine fg_iload_n X dX8_reads_136 rfl 3 rfl ?_
          refine fg_goto X (tgt := 147) dX8_reads_137 (by decide) ?_
          refine fg_sub [0, 1] rfl ?_
          exact wX8_reads_147 X hF h11 hT
      · rw [if_neg hc] at hF
        refine fg_sub [0, 1, 2, 4] rfl ?_
        exact wX8_reads_86 X hF h11 hT
  · rw [if_pos hc] at hF
    replace hF := fg_rt_some hF
    obtain ⟨t75, hF, ht_2⟩ := hF
    subst ht_2
    replace hT := hT _ rfl
    refine fg_aload_n X (r := (some a0)) dX8_reads_70 rfl 0 rfl ?_
    refine fg_iconst X (v := (5 : Int32)) dX8_reads_71 (by decide) ?_
    replace hF := fg_gd_some hF
    obtain ⟨eg_3, hF⟩ := hF
    obtain ⟨fs_4, eo_5⟩ := fg_rc_get eg_3
    replace hF := fg_oc_some hF
    obtain ⟨x77, G76, e_6, hF⟩ := hF
    refine fg_callV X (st := []) (mX8_fails Ω.2.2.2.2.1 Ω.1 e_6) q1730 q1732 qs48 q105 q1733 hd_X8_fails (by decide) rfl eo_5 (by decide) rfl rfl (Nat.le_of_ble_eq_true rfl) dX8_reads_72 ?_
    replace hF := fg_gd_some hF
    obtain ⟨eg_7, hF⟩ := hF
    cases hF
    exact fg_zret X (fg_b_or eg_7) dX8_reads_75 (hT)
set_option maxHeartbeats 4000000 in
theorem wX8_reads_11b {Ω : fg_O} {a0 : Nat} {i1 : Int32} {i2 : Int32} {G : fg_H} {t : ((Nat × Int32 × Int32 × fg_H) ⊕ (Int32 × fg_H))} (X : fg_X Ω RX8 "reads" cX8_reads 6 (some .boolean) 2) (hF : fX8_reads_11b a0 i1 i2 G = some t) (h11 : ∀ z, t = (.inl z) → fg_W Ω z.2.2.2 11 [(0, .ref z.1), (1, .int z.2.1), (2, .int z.2.2.1)] []) (hT : ∀ u, t = (.inr u) → fg_T Ω (.returned (some (.int u.1))) u.2) : fg_W Ω G 11 [(0, .ref a0), (1, .int i1), (2, .int i2)] [] := by
  unfold fX8_reads_11b at hF
  refine fg_iload_n X dX8_reads_11 rfl 2 rfl ?_
  refine fg_if_eq X (tgt := 179) dX8_reads_12 (by decide) (fun hc => ?_) (fun hc => ?_)
  · rw [if_pos hc] at hF
    refine fg_aload_n X (r := (some a0)) dX8_reads_179 rfl 0 rfl ?_
    refine fg_bipush X (v := (43 : Int32)) dX8_reads_180 (by decide) ?_
    replace hF := fg_gd_some hF
    obtain ⟨eg_1, hF⟩ := hF
    obtain ⟨fs_2, eo_3⟩ := fg_rc_get eg_1
    replace hF := fg_oc_some hF
    obtain ⟨x5, G4, e_4, hF⟩ := hF
    refine fg_callV X (st := []) (mX8_isSign Ω.2.2.2.2.1 Ω.1 e_4) q1745 q1747 qs51 q105 q1748 hd_X8_isSign (by decide) rfl eo_3 (by decide) rfl rfl (Nat.le_of_ble_eq_true rfl) dX8_reads_182 ?_
    refine fg_if_ne X (tgt := 206) dX8_reads_185 (by decide) (fun hc => ?_) (fun hc => ?_)
    · rw [if_neg hc] at hF
      refine fg_sub [0, 1] rfl ?_
      exact wX8_reads_206 X hF h11 hT
    · rw [if_pos hc] at hF
      refine fg_aload_n X (r := (some a0)) dX8_reads_188 rfl 0 rfl ?_
      refine fg_bipush X (v := (45 : Int32)) dX8_reads_189 (by decide) ?_
      replace hF := fg_gd_some hF
      obtain ⟨eg_5, hF⟩ := hF
      obtain ⟨fs_6, eo_7⟩ := fg_rc_get eg_5
      replace hF := fg_oc_some hF
      obtain ⟨x13, G12, e_8, hF⟩ := hF
      refine fg_callV X (st := []) (mX8_isSign Ω.2.2.2.2.1 Ω.1 e_8) q1745 q1747 qs51 q105 q1748 hd_X8_isSign (by decide) rfl eo_7 (by decide) rfl rfl (Nat.le_of_ble_eq_true rfl) dX8_reads_191 ?_
      refine fg_if_ne X (tgt := 206) dX8_reads_194 (by decide) (fun hc => ?_) (fun hc => ?_)
      · rw [if_neg hc] at hF
        refine fg_sub [0, 1] rfl ?_
        exact wX8_reads_206 X hF h11 hT
      · rw [if_pos hc] at hF
        refine fg_aload_n X (r := (some a0)) dX8_reads_197 rfl 0 rfl ?_
        refine fg_bipush X (v := (42 : Int32)) dX8_reads_198 (by decide) ?_
        replace hF := fg_gd_some hF
        obtain ⟨eg_9, hF⟩ := hF
        obtain ⟨fs_10, eo_11⟩ := fg_rc_get eg_9
        replace hF := fg_oc_some hF
        obtain ⟨x15, G14, e_12, hF⟩ := hF
        refine fg_callV X (st := []) (mX8_isSign Ω.2.2.2.2.1 Ω.1 e_12) q1745 q1747 qs51 q105 q1748 hd_X8_isSign (by decide) rfl eo_11 (by decide) rfl rfl (Nat.le_of_ble_eq_true rfl) dX8_reads_200 ?_
        refine fg_if_eq X (tgt := 245) dX8_reads_203 (by decide) (fun hc => ?_) (fun hc => ?_)
        · rw [if_pos hc] at hF
          refine fg_aload_n X (r := (some a0)) dX8_reads_245 rfl 0 rfl ?_
          refine fg_bipush X (v := (60 : Int32)) dX8_reads_246 (by decide) ?_
          replace hF := fg_gd_some hF
          obtain ⟨eg_13, hF⟩ := hF
          obtain ⟨fs_14, eo_15⟩ := fg_rc_get eg_13
          replace hF := fg_oc_some hF
          obtain ⟨x17, G16, e_16, hF⟩ := hF
          refine fg_callV X (st := []) (mX8_isSign Ω.2.2.2.2.1 Ω.1 e_16) q1745 q1747 qs51 q105 q1748 hd_X8_isSign (by decide) rfl eo_15 (by decide) rfl rfl (Nat.le_of_ble_eq_true rfl) dX8_reads_248 ?_
          refine fg_if_ne X (tgt := 263) dX8_reads_251 (by decide) (fun hc => ?_) (fun hc => ?_)
          · rw [if_neg hc] at hF
            refine fg_sub [0, 1, 2] rfl ?_
            exact wX8_reads_263 X hF h11 hT
          · rw [if_pos hc] at hF
            refine fg_aload_n X (r := (some a0)) dX8_reads_254 rfl 0 rfl ?_
            refine fg_bipush X (v := (61 : Int32)) dX8_reads_255 (by decide) ?_
            replace hF := fg_gd_some hF
            obtain ⟨eg_17, hF⟩ := hF
            obtain ⟨fs_18, eo_19⟩ := fg_rc_get eg_17
            replace hF := fg_oc_some hF
            obtain ⟨x53, G52, e_20, hF⟩ := hF
            refine fg_callV X (st := []) (mX8_isSign Ω.2.2.2.2.1 Ω.1 e_20) q1745 q1747 qs51 q105 q1748 hd_X8_isSign (by decide) rfl eo_19 (by decide) rfl rfl (Nat.le_of_ble_eq_true rfl) dX8_reads_257 ?_
            refine fg_if_eq X (tgt := 304) dX8_reads_260 (by decide) (fun hc => ?_) (fun hc => ?_)
            · rw [if_pos hc] at hF
              refine fg_sub [0, 1, 2] rfl ?_
              exact wX8_reads_304 X hF h11 hT
            · rw [if_neg hc] at hF
              refine fg_sub [0, 1, 2] rfl ?_
              exact wX8_reads_263 X hF h11 hT
        · rw [if_neg hc] at hF
          refine fg_sub [0, 1] rfl ?_
          exact wX8_reads_206 X hF h11 hT
  · rw [if_neg hc] at hF
    refine fg_aload_n X (r := (some a0)) dX8_reads_15 rfl 0 rfl ?_
    replace hF := fg_gd_some hF
    obtain ⟨eg_21, hF⟩ := hF
    obtain ⟨fs_22, eo_23⟩ := fg_rc_get eg_21
    replace hF := fg_oc_some hF
    obtain ⟨x55, G54, e_24, hF⟩ := hF
    refine fg_callV X (st := []) (mX8_fact Ω.2.2.2.2.1 Ω.1 e_24) q1765 q1767 qs55 q105 q1768 hd_X8_fact (by decide) rfl eo_23 (by decide) rfl rfl (Nat.le_of_ble_eq_true rfl) dX8_reads_16 ?_
    refine fg_istore_n X (L' := [(3, .int x55), (0, .ref a0), (1, .int i1), (2, .int i2)]) dX8_reads_19 rfl (by decide) rfl ?_
    refine fg_aload_n X (r := (some a0)) dX8_reads_20 rfl 1 rfl ?_
    refine fg_ldc2 X q1773 dX8_reads_21 ?_
    replace hF := fg_gd_some hF
    obtain ⟨eg_25, hF⟩ := hF
    obtain ⟨fs_26, eo_27⟩ := fg_rc_get eg_25
    replace hF := fg_oc_some hF
    obtain ⟨x57, G56, e_28, hF⟩ := hF
    refine fg_callV X (st := []) (mX8_isWord Ω.2.2.2.2.1 Ω.1 e_28) q1718 q1720 qs45 q105 q1721 hd_X8_isWord (by decide) rfl eo_27 (by decide) rfl rfl (Nat.le_of_ble_eq_true rfl) dX8_reads_24 ?_
    refine fg_istore X (L' := [(4, .int x57), (3, .int x55), (0, .ref a0), (1, .int i1), (2, .int i2)]) dX8_reads_27 (by decide) rfl ?_
    refine fg_aload_n X (r := (some a0)) dX8_reads_29 rfl 2 rfl ?_
    refine fg_bipush X (v := (40 : Int32)) dX8_reads_30 (by decide) ?_
    replace hF := fg_gd_some hF
    obtain ⟨eg_29, hF⟩ := hF
    obtain ⟨fs_30, eo_31⟩ := fg_rc_get eg_29
    replace hF := fg_oc_some hF
    obtain ⟨x59, G58, e_32, hF⟩ := hF
    refine fg_callV X (st := []) (mX8_isSign Ω.2.2.2.2.1 Ω.1 e_32) q1745 q1747 qs51 q105 q1748 hd_X8_isSign (by decide) rfl eo_31 (by decide) rfl rfl (Nat.le_of_ble_eq_true rfl) dX8_reads_32 ?_
    refine fg_istore X (L' := [(5, .int x59), (4, .int x57), (3, .int x55), (0, .ref a0), (1, .int i1), (2, .int i2)]) dX8_reads_35 (by decide) rfl ?_
    refine fg_iload_n X dX8_reads_37 rfl 2 rfl ?_
    refine fg_if_ne X (tgt := 65) dX8_reads_38 (by decide) (fun hc => ?_) (fun hc => ?_)
    · rw [if_neg hc] at hF
      refine fg_sub [3, 4, 5, 2, 1, 0] rfl ?_
      exact wX8_reads_65 X hF h11 hT
    · rw [if_pos hc] at hF
      refine fg_iload X dX8_reads_41 1 rfl ?_
      refine fg_if_ne X (tgt := 65) dX8_reads_43 (by decide) (fun hc => ?_) (fun hc => ?_)
      · rw [if_neg hc] at hF
        refine fg_sub [3, 4, 5, 2, 1, 0] rfl ?_
        exact wX8_reads_65 X hF h11 hT
      · rw [if_pos hc] at hF
        refine fg_iload X dX8_reads_46 0 rfl ?_
        refine fg_if_ne X (tgt := 65) dX8_reads_48 (by decide) (fun hc => ?_) (fun hc => ?_)
        · rw [if_neg hc] at hF
          refine fg_sub [3, 4, 5, 2, 1, 0] rfl ?_
          exact wX8_reads_65 X hF h11 hT
        · rw [if_pos hc] at hF
          refine fg_aload_n X (r := (some a0)) dX8_reads_51 rfl 3 rfl ?_
          replace hF := fg_ob_some hF
          obtain ⟨x78, e_33, hF⟩ := hF
          refine fg_geti X ff_X8_token q1554 e_33 dX8_reads_52 ?_
          refine fg_iconst X (v := (2 : Int32)) dX8_reads_55 (by decide) ?_
          refine fg_icmp_eq X (tgt := 65) dX8_reads_56 (by decide) (fun hc => ?_) (fun hc => ?_)
          · rw [if_pos hc] at hF
            refine fg_sub [3, 4, 5, 2, 1, 0] rfl ?_
            exact wX8_reads_65 X hF h11 hT
          · rw [if_neg hc] at hF
            replace hF := fg_rt_some hF
            obtain ⟨t79, hF, ht_34⟩ := hF
            subst ht_34
            replace hT := hT _ rfl
            refine fg_aload_n X (r := (some a0)) dX8_reads_59 rfl 3 rfl ?_
            refine fg_iconst X (v := (1 : Int32)) dX8_reads_60 (by decide) ?_
            replace hF := fg_gd_some hF
            obtain ⟨eg_35, hF⟩ := hF
            obtain ⟨fs_36, eo_37⟩ := fg_rc_get eg_35
            replace hF := fg_oc_some hF
            obtain ⟨x81, G80, e_38, hF⟩ := hF
            refine fg_callV X (st := []) (mX8_fails Ω.2.2.2.2.1 Ω.1 e_38) q1730 q1732 qs48 q105 q1733 hd_X8_fails (by decide) rfl eo_37 (by decide) rfl rfl (Nat.le_of_ble_eq_true rfl) dX8_reads_61 ?_
            replace hF := fg_gd_some hF
            obtain ⟨eg_39, hF⟩ := hF
            cases hF
            exact fg_zret X (fg_b_or eg_39) dX8_reads_64 (hT)
set_option maxHeartbeats 4000000 in
theorem wX8_reads_11 {Ω : fg_O} {a0 : Nat} {i1 : Int32} {i2 : Int32} {G : fg_H} {t : (Int32 × fg_H)} (X : fg_X Ω RX8 "reads" cX8_reads 6 (some .boolean) 2) (hF : fX8_reads_11 a0 i1 i2 G = some t) (hT : fg_T Ω (.returned (some (.int t.1))) t.2) : fg_W Ω G 11 [(0, .ref a0), (1, .int i1), (2, .int i2)] [] := by
  unfold fX8_reads_11 at hF
  exact fg_lp_walk (P := fun z => fg_W Ω z.2.2.2 11 [(0, .ref z.1), (1, .int z.2.1), (2, .int z.2.2.1)] []) (fun y o ho hl hr => wX8_reads_11b X ho (fun z e => hl z e) (fun u e => by rw [hr _ e]; exact hT)) hF
set_option maxHeartbeats 4000000 in
theorem wX8_reads {Ω : fg_O} {a0 : Nat} {G : fg_H} {t : Int32 × fg_H} (X : fg_X Ω RX8 "reads" cX8_reads 6 (some .boolean) 2) (hF : fX8_reads a0 G = some t) (hT : fg_T Ω (.returned (some (.int t.1))) t.2) : fg_W Ω G 0 [(0, .ref a0)] [] := by
  unfold fX8_reads at hF
  refine fg_iconst X (v := (0 : Int32)) dX8_reads_0 (by decide) ?_
  refine fg_istore_n X (L' := [(1, .int (0 : Int32)), (0, .ref a0)]) dX8_reads_1 rfl (by decide) rfl ?_
  refine fg_iconst X (v := (1 : Int32)) dX8_reads_2 (by decide) ?_
  refine fg_istore_n X (L' := [(2, .int (1 : Int32)), (1, .int (0 : Int32)), (0, .ref a0)]) dX8_reads_3 rfl (by decide) rfl ?_
  refine fg_aload_n X (r := (some a0)) dX8_reads_4 rfl 2 rfl ?_
  replace hF := fg_ob_some hF
  obtain ⟨r1, e_1, hF⟩ := hF
  refine fg_getr X ff_X8_compared q1573 e_1 dX8_reads_5 ?_
  refine fg_iconst X (v := (0 : Int32)) dX8_reads_8 (by decide) ?_
  refine fg_iconst X (v := (0 : Int32)) dX8_reads_9 (by decide) ?_
  replace hF := fg_ob_some hF
  obtain ⟨a2, rfl, hF⟩ := hF
  replace hF := fg_ob_some hF
  obtain ⟨G3, e_2, hF⟩ := hF
  refine fg_zast X e_2 dX8_reads_10 ?_
  refine fg_sub [2, 1, 0] rfl ?_
  exact wX8_reads_11 X hF hT
theorem mX8_reads (l : Launch) (D : fg_D) {a0 : Nat} {G : fg_H} {t : Int32 × fg_H} (hF : fX8_reads a0 G = some t) : fg_M l D yX8_reads cX8_reads 6 (some .boolean) 2 [.ref a0] G (.returned (some (.int t.1))) t.2 :=
  fg_Mof (own := RX8) (nm := "reads") (L := [(0, .ref a0)]) (plainFor_of_name pn_X8) rfl rfl rfl (Nat.le_of_ble_eq_true rfl) (fun Ω _ _ X hT => wX8_reads X hF hT)
theorem hd_X8_readsLaw : yX8_readsLaw.cls ≠ "java/lang/invoke/MethodHandle" ∧ yX8_readsLaw.cls ≠ "java/lang/invoke/VarHandle" ∧ (parseMethodDescriptor yX8_readsLaw.desc).map (fun d => d.parameters.length) = some 1 := ⟨by decide +kernel, by decide +kernel, by decide +kernel⟩
set_option maxHeartbeats 4000000 in
theorem wX8_readsLaw_36 {Ω : fg_O} {a0 : Nat} {i1 : Int32} {s0 : Nat} {s1 : Int32} {G : fg_H} {t : (Int32 × fg_H)} (X : fg_X Ω RX8 "readsLaw" cX8_readsLaw 2 (some .boolean) 3) (hF : fX8_readsLaw_36 a0 i1 s0 s1 G = some t) (hT : fg_T Ω (.returned (some (.int t.1))) t.2) : fg_W Ω G 36 [(0, .ref a0), (1, .int i1)] [.int s1, .ref s0] := by
  unfold fX8_readsLaw_36 at hF
  replace hF := fg_gd_some hF
  obtain ⟨eg_1, hF⟩ := hF
  replace hF := fg_ob_some hF
  obtain ⟨G7, e_2, hF⟩ := hF
  refine fg_putv X (ty := .boolean) (v := .int s1) ff_X8_isFog q1571 rfl (Or.inl rfl) rfl (fg_nb eg_1) (fg_fb eg_1) e_2 dX8_readsLaw_36 ?_
  refine fg_aload_n X (r := (some a0)) dX8_readsLaw_39 rfl 0 rfl ?_
  replace hF := fg_gd_some hF
  obtain ⟨eg_3, hF⟩ := hF
  obtain ⟨fs_4, eo_5⟩ := fg_rc_get eg_3
  replace hF := fg_oc_some hF
  obtain ⟨u, G8, e_6, hF⟩ := hF
  refine fg_callV X (st := []) (mX8_nextToken Ω.2.2.2.2.1 Ω.1 e_6) q1707 q1709 qs43 q105 q1710 hd_X8_nextToken (by decide) rfl eo_5 (by decide) rfl rfl (Nat.le_of_ble_eq_true rfl) dX8_readsLaw_40 ?_
  refine fg_aload_n X (r := (some a0)) dX8_readsLaw_43 rfl 0 rfl ?_
  replace hF := fg_ob_some hF
  obtain ⟨r9, e_7, hF⟩ := hF
  refine fg_getr X ff_X8_lineFrom q1566 e_7 dX8_readsLaw_44 ?_
  refine fg_iconst X (v := (2 : Int32)) dX8_readsLaw_47 (by decide) ?_
  refine fg_iload_n X dX8_readsLaw_48 rfl 1 rfl ?_
  refine fg_iadd X dX8_readsLaw_49 ?_
  refine fg_aload_n X (r := (some a0)) dX8_readsLaw_50 rfl 0 rfl ?_
  replace hF := fg_ob_some hF
  obtain ⟨x10, e_8, hF⟩ := hF
  refine fg_geti X ff_X8_code q1569 e_8 dX8_readsLaw_51 ?_
  replace hF := fg_ob_some hF
  obtain ⟨a11, rfl, hF⟩ := hF
  replace hF := fg_ob_some hF
  obtain ⟨G12, e_9, hF⟩ := hF
  refine fg_iast X e_9 dX8_readsLaw_54 ?_
  refine fg_aload_n X (r := (some a0)) dX8_readsLaw_55 rfl 0 rfl ?_
  replace hF := fg_gd_some hF
  obtain ⟨eg_10, hF⟩ := hF
  obtain ⟨fs_11, eo_12⟩ := fg_rc_get eg_10
  replace hF := fg_oc_some hF
  obtain ⟨x14, G13, e_13, hF⟩ := hF
  refine fg_callV X (st := []) (mX8_reads Ω.2.2.2.2.1 Ω.1 e_13) q1761 q1763 qs54 q105 q1764 hd_X8_reads (by decide) rfl eo_12 (by decide) rfl rfl (Nat.le_of_ble_eq_true rfl) dX8_readsLaw_56 ?_
  refine fg_if_ne X (tgt := 64) dX8_readsLaw_59 (by decide) (fun hc => ?_) (fun hc => ?_)
  · rw [if_neg hc] at hF
    refine fg_aload_n X (r := (some a0)) dX8_readsLaw_64 rfl 0 rfl ?_
    replace hF := fg_ob_some hF
    obtain ⟨r15, e_14, hF⟩ := hF
    refine fg_getr X ff_X8_lineTo q1567 e_14 dX8_readsLaw_65 ?_
    refine fg_iconst X (v := (2 : Int32)) dX8_readsLaw_68 (by decide) ?_
    refine fg_iload_n X dX8_readsLaw_69 rfl 1 rfl ?_
    refine fg_iadd X dX8_readsLaw_70 ?_
    refine fg_aload_n X (r := (some a0)) dX8_readsLaw_71 rfl 0 rfl ?_
    replace hF := fg_ob_some hF
    obtain ⟨x16, e_15, hF⟩ := hF
    refine fg_geti X ff_X8_code q1569 e_15 dX8_readsLaw_72 ?_
    replace hF := fg_ob_some hF
    obtain ⟨a17, rfl, hF⟩ := hF
    replace hF := fg_ob_some hF
    obtain ⟨G18, e_16, hF⟩ := hF
    refine fg_iast X e_16 dX8_readsLaw_75 ?_
    refine fg_iconst X (v := (1 : Int32)) dX8_readsLaw_76 (by decide) ?_
    cases hF
    exact fg_zret X (by decide) dX8_readsLaw_77 (hT)
  · rw [if_pos hc] at hF
    refine fg_iconst X (v := (0 : Int32)) dX8_readsLaw_62 (by decide) ?_
    cases hF
    exact fg_zret X (by decide) dX8_readsLaw_63 (hT)
set_option maxHeartbeats 4000000 in
theorem wX8_readsLaw {Ω : fg_O} {a0 : Nat} {i1 : Int32} {G : fg_H} {t : Int32 × fg_H} (X : fg_X Ω RX8 "readsLaw" cX8_readsLaw 2 (some .boolean) 3) (hF : fX8_readsLaw a0 i1 G = some t) (hT : fg_T Ω (.returned (some (.int t.1))) t.2) : fg_W Ω G 0 [(0, .ref a0), (1, .int i1)] [] := by
  unfold fX8_readsLaw at hF
  refine fg_aload_n X (r := (some a0)) dX8_readsLaw_0 rfl 0 rfl ?_
  replace hF := fg_ob_some hF
  obtain ⟨r1, e_1, hF⟩ := hF
  refine fg_getr X ff_X8_lineTo q1567 e_1 dX8_readsLaw_1 ?_
  refine fg_iconst X (v := (2 : Int32)) dX8_readsLaw_4 (by decide) ?_
  refine fg_iload_n X dX8_readsLaw_5 rfl 1 rfl ?_
  refine fg_iadd X dX8_readsLaw_6 ?_
  replace hF := fg_ob_some hF
  obtain ⟨a2, rfl, hF⟩ := hF
  replace hF := fg_ob_some hF
  obtain ⟨x3, e_2, hF⟩ := hF
  refine fg_iald X e_2 dX8_readsLaw_7 ?_
  refine fg_aload_n X (r := (some a0)) dX8_readsLaw_8 rfl 0 rfl ?_
  replace hF := fg_ob_some hF
  obtain ⟨r4, e_3, hF⟩ := hF
  refine fg_getr X ff_X8_lineFrom q1566 e_3 dX8_readsLaw_9 ?_
  refine fg_iconst X (v := (2 : Int32)) dX8_readsLaw_12 (by decide) ?_
  refine fg_iload_n X dX8_readsLaw_13 rfl 1 rfl ?_
  refine fg_iadd X dX8_readsLaw_14 ?_
  replace hF := fg_ob_some hF
  obtain ⟨a5, rfl, hF⟩ := hF
  replace hF := fg_ob_some hF
  obtain ⟨x6, e_4, hF⟩ := hF
  refine fg_iald X e_4 dX8_readsLaw_15 ?_
  refine fg_icmp_le X (tgt := 25) dX8_readsLaw_16 (by decide) (fun hc => ?_) (fun hc => ?_)
  · rw [if_pos hc] at hF
    refine fg_aload_n X (r := (some a0)) dX8_readsLaw_25 rfl 0 rfl ?_
    refine fg_iload_n X dX8_readsLaw_26 rfl 1 rfl ?_
    refine fg_iconst X (v := (1 : Int32)) dX8_readsLaw_27 (by decide) ?_
    refine fg_icmp_ne X (tgt := 35) dX8_readsLaw_28 (by decide) (fun hc => ?_) (fun hc => ?_)
    · rw [if_neg hc] at hF
      refine fg_iconst X (v := (0 : Int32)) dX8_readsLaw_35 (by decide) ?_
      refine fg_sub [0, 1] rfl ?_
      exact wX8_readsLaw_36 X hF hT
    · rw [if_pos hc] at hF
      refine fg_iconst X (v := (1 : Int32)) dX8_readsLaw_31 (by decide) ?_
      refine fg_goto X (tgt := 36) dX8_readsLaw_32 (by decide) ?_
      refine fg_sub [0, 1] rfl ?_
      exact wX8_readsLaw_36 X hF hT
  · rw [if_neg hc] at hF
    refine fg_aload_n X (r := (some a0)) dX8_readsLaw_19 rfl 0 rfl ?_
    refine fg_iconst X (v := (3 : Int32)) dX8_readsLaw_20 (by decide) ?_
    replace hF := fg_gd_some hF
    obtain ⟨eg_5, hF⟩ := hF
    obtain ⟨fs_6, eo_7⟩ := fg_rc_get eg_5
    replace hF := fg_oc_some hF
    obtain ⟨x20, G19, e_8, hF⟩ := hF
    refine fg_callV X (st := []) (mX8_fails Ω.2.2.2.2.1 Ω.1 e_8) q1730 q1732 qs48 q105 q1733 hd_X8_fails (by decide) rfl eo_7 (by decide) rfl rfl (Nat.le_of_ble_eq_true rfl) dX8_readsLaw_21 ?_
    replace hF := fg_gd_some hF
    obtain ⟨eg_9, hF⟩ := hF
    cases hF
    exact fg_zret X (fg_b_or eg_9) dX8_readsLaw_24 (hT)
theorem mX8_readsLaw (l : Launch) (D : fg_D) {a0 : Nat} {i1 : Int32} {G : fg_H} {t : Int32 × fg_H} (hF : fX8_readsLaw a0 i1 G = some t) : fg_M l D yX8_readsLaw cX8_readsLaw 2 (some .boolean) 3 [.ref a0, .int i1] G (.returned (some (.int t.1))) t.2 :=
  fg_Mof (own := RX8) (nm := "readsLaw") (L := [(0, .ref a0), (1, .int i1)]) (plainFor_of_name pn_X8) rfl rfl rfl (Nat.le_of_ble_eq_true rfl) (fun Ω _ _ X hT => wX8_readsLaw X hF hT)
theorem hd_X8_isKept : yX8_isKept.cls ≠ "java/lang/invoke/MethodHandle" ∧ yX8_isKept.cls ≠ "java/lang/invoke/VarHandle" ∧ (parseMethodDescriptor yX8_isKept.desc).map (fun d => d.parameters.length) = some 0 := ⟨by decide +kernel, by decide +kernel, by decide +kernel⟩
set_option maxHeartbeats 4000000 in
theorem wX8_isKept {Ω : fg_O} {a0 : Nat} {G : fg_H} {t : Int32 × fg_H} (X : fg_X Ω RX8 "isKept" cX8_isKept 1 (some .boolean) 0) (hF : fX8_isKept a0 G = some t) (hT : fg_T Ω (.returned (some (.int t.1))) t.2) : fg_W Ω G 0 [(0, .ref a0)] [] := by
  unfold fX8_isKept at hF
  refine fg_aload_n X (r := (some a0)) dX8_isKept_0 rfl 0 rfl ?_
  replace hF := fg_ob_some hF
  obtain ⟨x1, e_1, hF⟩ := hF
  refine fg_geti X ff_X8_token q1554 e_1 dX8_isKept_1 ?_
  refine fg_iconst X (v := (1 : Int32)) dX8_isKept_4 (by decide) ?_
  refine fg_icmp_eq X (tgt := 10) dX8_isKept_5 (by decide) (fun hc => ?_) (fun hc => ?_)
  · rw [if_pos hc] at hF
    refine fg_aload_n X (r := (some a0)) dX8_isKept_10 rfl 0 rfl ?_
    replace hF := fg_ob_some hF
    obtain ⟨y2, e_2, hF⟩ := hF
    refine fg_getl X ff_X8_word q1555 e_2 dX8_isKept_11 ?_
    refine fg_ldc2 X q1717 dX8_isKept_14 ?_
    refine fg_lcmp X dX8_isKept_17 ?_
    refine fg_if_eq X (tgt := 241) dX8_isKept_18 (by decide) (fun hc => ?_) (fun hc => ?_)
    · rw [if_pos hc] at hF
      refine fg_iconst X (v := (1 : Int32)) dX8_isKept_241 (by decide) ?_
      refine fg_goto X (tgt := 246) dX8_isKept_242 (by decide) ?_
      cases hF
      exact fg_zret X (by decide) dX8_isKept_246 (hT)
    · rw [if_neg hc] at hF
      refine fg_aload_n X (r := (some a0)) dX8_isKept_21 rfl 0 rfl ?_
      replace hF := fg_ob_some hF
      obtain ⟨y3, e_3, hF⟩ := hF
      refine fg_getl X ff_X8_word q1555 e_3 dX8_isKept_22 ?_
      refine fg_ldc2 X q1749 dX8_isKept_25 ?_
      refine fg_lcmp X dX8_isKept_28 ?_
      refine fg_if_eq X (tgt := 241) dX8_isKept_29 (by decide) (fun hc => ?_) (fun hc => ?_)
      · rw [if_pos hc] at hF
        refine fg_iconst X (v := (1 : Int32)) dX8_isKept_241 (by decide) ?_
        refine fg_goto X (tgt := 246) dX8_isKept_242 (by decide) ?_
        cases hF
        exact fg_zret X (by decide) dX8_isKept_246 (hT)
      · rw [if_neg hc] at hF
        refine fg_aload_n X (r := (some a0)) dX8_isKept_32 rfl 0 rfl ?_
        replace hF := fg_ob_some hF
        obtain ⟨y4, e_4, hF⟩ := hF
        refine fg_getl X ff_X8_word q1555 e_4 dX8_isKept_33 ?_
        refine fg_ldc2 X q1754 dX8_isKept_36 ?_
        refine fg_lcmp X dX8_isKept_39 ?_
        refine fg_if_eq X (tgt := 241) dX8_isKept_40 (by decide) (fun hc => ?_) (fun hc => ?_)
        · rw [if_pos hc] at hF
          refine fg_iconst X (v := (1 : Int32)) dX8_isKept_241 (by decide) ?_
          refine fg_goto X (tgt := 246) dX8_isKept_242 (by decide) ?_
          cases hF
          exact fg_zret X (by decide) dX8_isKept_246 (hT)
        · rw [if_neg hc] at hF
          refine fg_aload_n X (r := (some a0)) dX8_isKept_43 rfl 0 rfl ?_
          replace hF := fg_ob_some hF
          obtain ⟨y5, e_5, hF⟩ := hF
          refine fg_getl X ff_X8_word q1555 e_5 dX8_isKept_44 ?_
          refine fg_ldc2 X q1755 dX8_isKept_47 ?_
          refine fg_lcmp X dX8_isKept_50 ?_
          refine fg_if_eq X (tgt := 241) dX8_isKept_51 (by decide) (fun hc => ?_) (fun hc => ?_)
          · rw [if_pos hc] at hF
            refine fg_iconst X (v := (1 : Int32)) dX8_isKept_241 (by decide) ?_
            refine fg_goto X (tgt := 246) dX8_isKept_242 (by decide) ?_
            cases hF
            exact fg_zret X (by decide) dX8_isKept_246 (hT)
          · rw [if_neg hc] at hF
            refine fg_aload_n X (r := (some a0)) dX8_isKept_54 rfl 0 rfl ?_
            replace hF := fg_ob_some hF
            obtain ⟨y6, e_6, hF⟩ := hF
            refine fg_getl X ff_X8_word q1555 e_6 dX8_isKept_55 ?_
            refine fg_ldc2 X q1756 dX8_isKept_58 ?_
            refine fg_lcmp X dX8_isKept_61 ?_
            refine fg_if_eq X (tgt := 241) dX8_isKept_62 (by decide) (fun hc => ?_) (fun hc => ?_)
            · rw [if_pos hc] at hF
              refine fg_iconst X (v := (1 : Int32)) dX8_isKept_241 (by decide) ?_
              refine fg_goto X (tgt := 246) dX8_isKept_242 (by decide) ?_
              cases hF
              exact fg_zret X (by decide) dX8_isKept_246 (hT)
            · rw [if_neg hc] at hF
              refine fg_aload_n X (r := (some a0)) dX8_isKept_65 rfl 0 rfl ?_
              replace hF := fg_ob_some hF
              obtain ⟨y7, e_7, hF⟩ := hF
              refine fg_getl X ff_X8_word q1555 e_7 dX8_isKept_66 ?_
              refine fg_ldc2 X q1780 dX8_isKept_69 ?_
              refine fg_lcmp X dX8_isKept_72 ?_
              refine fg_if_eq X (tgt := 241) dX8_isKept_73 (by decide) (fun hc => ?_) (fun hc => ?_)
              · rw [if_pos hc] at hF
                refine fg_iconst X (v := (1 : Int32)) dX8_isKept_241 (by decide) ?_
                refine fg_goto X (tgt := 246) dX8_isKept_242 (by decide) ?_
                cases hF
                exact fg_zret X (by decide) dX8_isKept_246 (hT)
              · rw [if_neg hc] at hF
                refine fg_aload_n X (r := (some a0)) dX8_isKept_76 rfl 0 rfl ?_
                replace hF := fg_ob_some hF
                obtain ⟨y8, e_8, hF⟩ := hF
                refine fg_getl X ff_X8_word q1555 e_8 dX8_isKept_77 ?_
                refine fg_ldc2 X q1781 dX8_isKept_80 ?_
                refine fg_lcmp X dX8_isKept_83 ?_
                refine fg_if_eq X (tgt := 241) dX8_isKept_84 (by decide) (fun hc => ?_) (fun hc => ?_)
                · rw [if_pos hc] at hF
                  refine fg_iconst X (v := (1 : Int32)) dX8_isKept_241 (by decide) ?_
                  refine fg_goto X (tgt := 246) dX8_isKept_242 (by decide) ?_
                  cases hF
                  exact fg_zret X (by decide) dX8_isKept_246 (hT)
                · rw [if_neg hc] at hF
                  refine fg_aload_n X (r := (some a0)) dX8_isKept_87 rfl 0 rfl ?_
                  replace hF := fg_ob_some hF
                  obtain ⟨y9, e_9, hF⟩ := hF
                  refine fg_getl X ff_X8_word q1555 e_9 dX8_isKept_88 ?_
                  refine fg_ldc2 X q1790 dX8_isKept_91 ?_
                  refine fg_lcmp X dX8_isKept_94 ?_
                  refine fg_if_eq X (tgt := 241) dX8_isKept_95 (by decide) (fun hc => ?_) (fun hc => ?_)
                  · rw [if_pos hc] at hF
                    refine fg_iconst X (v := (1 : Int32)) dX8_isKept_241 (by decide) ?_
                    refine fg_goto X (tgt := 246) dX8_isKept_242 (by decide) ?_
                    cases hF
                    exact fg_zret X (by decide) dX8_isKept_246 (hT)
                  · rw [if_neg hc] at hF
                    refine fg_aload_n X (r := (some a0)) dX8_isKept_98 rfl 0 rfl ?_
                    replace hF := fg_ob_some hF
                    obtain ⟨y10, e_10, hF⟩ := hF
                    refine fg_getl X ff_X8_word q1555 e_10 dX8_isKept_99 ?_
                    refine fg_ldc2 X q1791 dX8_isKept_102 ?_
                    refine fg_lcmp X dX8_isKept_105 ?_
                    refine fg_if_eq X (tgt := 241) dX8_isKept_106 (by decide) (fun hc => ?_) (fun hc => ?_)
                    · rw [if_pos hc] at hF
                      refine fg_iconst X (v := (1 : Int32)) dX8_isKept_241 (by decide) ?_
                      refine fg_goto X (tgt := 246) dX8_isKept_242 (by decide) ?_
                      cases hF
                      exact fg_zret X (by decide) dX8_isKept_246 (hT)
                    · rw [if_neg hc] at hF
                      refine fg_aload_n X (r := (some a0)) dX8_isKept_109 rfl 0 rfl ?_
                      replace hF := fg_ob_some hF
                      obtain ⟨y11, e_11, hF⟩ := hF
                      refine fg_getl X ff_X8_word q1555 e_11 dX8_isKept_110 ?_
                      refine fg_ldc2 X q1792 dX8_isKept_113 ?_
                      refine fg_lcmp X dX8_isKept_116 ?_
                      refine fg_if_eq X (tgt := 241) dX8_isKept_117 (by decide) (fun hc => ?_) (fun hc => ?_)
                      · rw [if_pos hc] at hF
                        refine fg_iconst X (v := (1 : Int32)) dX8_isKept_241 (by decide) ?_
                        refine fg_goto X (tgt := 246) dX8_isKept_242 (by decide) ?_
                        cases hF
                        exact fg_zret X (by decide) dX8_isKept_246 (hT)
                      · rw [if_neg hc] at hF
                        refine fg_aload_n X (r := (some a0)) dX8_isKept_120 rfl 0 rfl ?_
                        replace hF := fg_ob_some hF
                        obtain ⟨y12, e_12, hF⟩ := hF
                        refine fg_getl X ff_X8_word q1555 e_12 dX8_isKept_121 ?_
                        refine fg_ldc2 X q1793 dX8_isKept_124 ?_
                        refine fg_lcmp X dX8_isKept_127 ?_
                        refine fg_if_eq X (tgt := 241) dX8_isKept_128 (by decide) (fun hc => ?_) (fun hc => ?_)
                        · rw [if_pos hc] at hF
                          refine fg_iconst X (v := (1 : Int32)) dX8_isKept_241 (by decide) ?_
                          refine fg_goto X (tgt := 246) dX8_isKept_242 (by decide) ?_
                          cases hF
                          exact fg_zret X (by decide) dX8_isKept_246 (hT)
                        · rw [if_neg hc] at hF
                          refine fg_aload_n X (r := (some a0)) dX8_isKept_131 rfl 0 rfl ?_
                          replace hF := fg_ob_some hF
                          obtain ⟨y13, e_13, hF⟩ := hF
                          refine fg_getl X ff_X8_word q1555 e_13 dX8_isKept_132 ?_
                          refine fg_ldc2 X q1794 dX8_isKept_135 ?_
                          refine fg_lcmp X dX8_isKept_138 ?_
                          refine fg_if_eq X (tgt := 241) dX8_isKept_139 (by decide) (fun hc => ?_) (fun hc => ?_)
                          · rw [if_pos hc] at hF
                            refine fg_iconst X (v := (1 : Int32)) dX8_isKept_241 (by decide) ?_
                            refine fg_goto X (tgt := 246) dX8_isKept_242 (by decide) ?_
                            cases hF
                            exact fg_zret X (by decide) dX8_isKept_246 (hT)
                          · rw [if_neg hc] at hF
                            refine fg_aload_n X (r := (some a0)) dX8_isKept_142 rfl 0 rfl ?_
                            replace hF := fg_ob_some hF
                            obtain ⟨y14, e_14, hF⟩ := hF
                            refine fg_getl X ff_X8_word q1555 e_14 dX8_isKept_143 ?_
                            refine fg_ldc2 X q1795 dX8_isKept_146 ?_
                            refine fg_lcmp X dX8_isKept_149 ?_
                            refine fg_if_eq X (tgt := 241) dX8_isKept_150 (by decide) (fun hc => ?_) (fun hc => ?_)
                            · rw [if_pos hc] at hF
                              refine fg_iconst X (v := (1 : Int32)) dX8_isKept_241 (by decide) ?_
                              refine fg_goto X (tgt := 246) dX8_isKept_242 (by decide) ?_
                              cases hF
                              exact fg_zret X (by decide) dX8_isKept_246 (hT)
                            · rw [if_neg hc] at hF
                              refine fg_aload_n X (r := (some a0)) dX8_isKept_153 rfl 0 rfl ?_
                              replace hF := fg_ob_some hF
                              obtain ⟨y15, e_15, hF⟩ := hF
                              refine fg_getl X ff_X8_word q1555 e_15 dX8_isKept_154 ?_
                              refine fg_ldc2 X q1796 dX8_isKept_157 ?_
                              refine fg_lcmp X dX8_isKept_160 ?_
                              refine fg_if_eq X (tgt := 241) dX8_isKept_161 (by decide) (fun hc => ?_) (fun hc => ?_)
                              · rw [if_pos hc] at hF
                                refine fg_iconst X (v := (1 : Int32)) dX8_isKept_241 (by decide) ?_
                                refine fg_goto X (tgt := 246) dX8_isKept_242 (by decide) ?_
                                cases hF
                                exact fg_zret X (by decide) dX8_isKept_246 (hT)
                              · rw [if_neg hc] at hF
                                refine fg_aload_n X (r := (some a0)) dX8_isKept_164 rfl 0 rfl ?_
                                replace hF := fg_ob_some hF
                                obtain ⟨y16, e_16, hF⟩ := hF
                                refine fg_getl X ff_X8_word q1555 e_16 dX8_isKept_165 ?_
                                refine fg_ldc2 X q1797 dX8_isKept_168 ?_
                                refine fg_lcmp X dX8_isKept_171 ?_
                                refine fg_if_eq X (tgt := 241) dX8_isKept_172 (by decide) (fun hc => ?_) (fun hc => ?_)
                                · rw [if_pos hc] at hF
                                  refine fg_iconst X (v := (1 : Int32)) dX8_isKept_241 (by decide) ?_
                                  refine fg_goto X (tgt := 246) dX8_isKept_242 (by decide) ?_
                                  cases hF
                                  exact fg_zret X (by decide) dX8_isKept_246 (hT)
                                · rw [if_neg hc] at hF
                                  refine fg_aload_n X (r := (some a0)) dX8_isKept_175 rfl 0 rfl ?_
                                  replace hF := fg_ob_some hF
                                  obtain ⟨y17, e_17, hF⟩ := hF
                                  refine fg_getl X ff_X8_word q1555 e_17 dX8_isKept_176 ?_
                                  refine fg_ldc2 X q1798 dX8_isKept_179 ?_
                                  refine fg_lcmp X dX8_isKept_182 ?_
                                  refine fg_if_eq X (tgt := 241) dX8_isKept_183 (by decide) (fun hc => ?_) (fun hc => ?_)
                                  · rw [if_pos hc] at hF
                                    refine fg_iconst X (v := (1 : Int32)) dX8_isKept_241 (by decide) ?_
                                    refine fg_goto X (tgt := 246) dX8_isKept_242 (by decide) ?_
                                    cases hF
                                    exact fg_zret X (by decide) dX8_isKept_246 (hT)
                                  · rw [if_neg hc] at hF
                                    refine fg_aload_n X (r := (some a0)) dX8_isKept_186 rfl 0 rfl ?_
                                    replace hF := fg_ob_some hF
                                    obtain ⟨y18, e_18, hF⟩ := hF
                                    refine fg_getl X ff_X8_word q1555 e_18 dX8_isKept_187 ?_
                                    refine fg_ldc2 X q1799 dX8_isKept_190 ?_
                                    refine fg_lcmp X dX8_isKept_193 ?_
                                    refine fg_if_eq X (tgt := 241) dX8_isKept_194 (by decide) (fun hc => ?_) (fun hc => ?_)
                                    · rw [if_pos hc] at hF
                                      refine fg_iconst X (v := (1 : Int32)) dX8_isKept_241 (by decide) ?_
                                      refine fg_goto X (tgt := 246) dX8_isKept_242 (by decide) ?_
                                      cases hF
                                      exact fg_zret X (by decide) dX8_isKept_246 (hT)
                                    · rw [if_neg hc] at hF
                                      refine fg_aload_n X (r := (some a0)) dX8_isKept_197 rfl 0 rfl ?_
                                      replace hF := fg_ob_some hF
                                      obtain ⟨y19, e_19, hF⟩ := hF
                                      refine fg_getl X ff_X8_word q1555 e_19 dX8_isKept_198 ?_
                                      refine fg_ldc2 X q1800 dX8_isKept_201 ?_
                                      refine fg_lcmp X dX8_isKept_204 ?_
                                      refine fg_if_eq X (tgt := 241) dX8_isKept_205 (by decide) (fun hc => ?_) (fun hc => ?_)
                                      · rw [if_pos hc] at hF
                                        refine fg_iconst X (v := (1 : Int32)) dX8_isKept_241 (by decide) ?_
                                        refine fg_goto X (tgt := 246) dX8_isKept_242 (by decide) ?_
                                        cases hF
                                        exact fg_zret X (by decide) dX8_isKept_246 (hT)
                                      · rw [if_neg hc] at hF
                                        refine fg_aload_n X (r := (some a0)) dX8_isKept_208 rfl 0 rfl ?_
                                        replace hF := fg_ob_some hF
                                        obtain ⟨y20, e_20, hF⟩ := hF
                                        refine fg_getl X ff_X8_word q1555 e_20 dX8_isKept_209 ?_
                                        refine fg_ldc2 X q1773 dX8_isKept_212 ?_
                                        refine fg_lcmp X dX8_isKept_215 ?_
                                        refine fg_if_eq X (tgt := 241) dX8_isKept_216 (by decide) (fun hc => ?_) (fun hc => ?_)
                                        · rw [if_pos hc] at hF
                                          refine fg_iconst X (v := (1 : Int32)) dX8_isKept_241 (by decide) ?_
                                          refine fg_goto X (tgt := 246) dX8_isKept_242 (by decide) ?_
                                          cases hF
                                          exact fg_zret X (by decide) dX8_isKept_246 (hT)
                                        · rw [if_neg hc] at hF
                                          refine fg_aload_n X (r := (some a0)) dX8_isKept_219 rfl 0 rfl ?_
                                          replace hF := fg_ob_some hF
                                          obtain ⟨y21, e_21, hF⟩ := hF
                                          refine fg_getl X ff_X8_word q1555 e_21 dX8_isKept_220 ?_
                                          refine fg_ldc2 X q1778 dX8_isKept_223 ?_
                                          refine fg_lcmp X dX8_isKept_226 ?_
                                          refine fg_if_eq X (tgt := 241) dX8_isKept_227 (by decide) (fun hc => ?_) (fun hc => ?_)
                                          · rw [if_pos hc] at hF
                                            refine fg_iconst X (v := (1 : Int32)) dX8_isKept_241 (by decide) ?_
                                            refine fg_goto X (tgt := 246) dX8_isKept_242 (by decide) ?_
                                            cases hF
                                            exact fg_zret X (by decide) dX8_isKept_246 (hT)
                                          · rw [if_neg hc] at hF
                                            refine fg_aload_n X (r := (some a0)) dX8_isKept_230 rfl 0 rfl ?_
                                            replace hF := fg_ob_some hF
                                            obtain ⟨y22, e_22, hF⟩ := hF
                                            refine fg_getl X ff_X8_word q1555 e_22 dX8_isKept_231 ?_
                                            refine fg_ldc2 X q1779 dX8_isKept_234 ?_
                                            refine fg_lcmp X dX8_isKept_237 ?_
                                            refine fg_if_ne X (tgt := 245) dX8_isKept_238 (by decide) (fun hc => ?_) (fun hc => ?_)
                                            · rw [if_neg hc] at hF
                                              refine fg_iconst X (v := (0 : Int32)) dX8_isKept_245 (by decide) ?_
                                              cases hF
                                              exact fg_zret X (by decide) dX8_isKept_246 (hT)
                                            · rw [if_pos hc] at hF
                                              refine fg_iconst X (v := (1 : Int32)) dX8_isKept_241 (by decide) ?_
                                              refine fg_goto X (tgt := 246) dX8_isKept_242 (by decide) ?_
                                              cases hF
                                              exact fg_zret X (by decide) dX8_isKept_246 (hT)
  · rw [if_neg hc] at hF
    refine fg_iconst X (v := (1 : Int32)) dX8_isKept_8 (by decide) ?_
    cases hF
    exact fg_zret X (by decide) dX8_isKept_9 (hT)
theorem mX8_isKept (l : Launch) (D : fg_D) {a0 : Nat} {G : fg_H} {t : Int32 × fg_H} (hF : fX8_isKept a0 G = some t) : fg_M l D yX8_isKept cX8_isKept 1 (some .boolean) 0 [.ref a0] G (.returned (some (.int t.1))) t.2 :=
  fg_Mof (own := RX8) (nm := "isKept") (L := [(0, .ref a0)]) (plainFor_of_name pn_X8) rfl rfl rfl (Nat.le_of_ble_eq_true rfl) (fun Ω _ _ X hT => wX8_isKept X hF hT)

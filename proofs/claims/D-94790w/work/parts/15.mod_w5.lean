set_option maxRecDepth 100000
theorem hd_X8_isPlace : yX8_isPlace.cls ≠ "java/lang/invoke/MethodHandle" ∧ yX8_isPlace.cls ≠ "java/lang/invoke/VarHandle" ∧ (parseMethodDescriptor yX8_isPlace.desc).map (fun d => d.parameters.length) = some 1 := ⟨by decide +kernel, by decide +kernel, by decide +kernel⟩
set_option maxHeartbeats 4000000 in
theorem wX8_isPlace {Ω : fg_O} {a0 : Nat} {i1 : Int32} {G : fg_H} {t : Int32 × fg_H} (X : fg_X Ω RX8 "isPlace" cX8_isPlace 2 (some .boolean) 0) (hF : fX8_isPlace a0 i1 G = some t) (hT : fg_T Ω (.returned (some (.int t.1))) t.2) : fg_W Ω G 0 [(0, .ref a0), (1, .int i1)] [] := by
  unfold fX8_isPlace at hF
  refine fg_iload_n X dX8_isPlace_0 rfl 1 rfl ?_
  refine fg_if_lt X (tgt := 34) dX8_isPlace_1 (by decide) (fun hc => ?_) (fun hc => ?_)
  · rw [if_pos hc] at hF
    refine fg_iconst X (v := (0 : Int32)) dX8_isPlace_34 (by decide) ?_
    cases hF
    exact fg_zret X (by decide) dX8_isPlace_35 (hT)
  · rw [if_neg hc] at hF
    refine fg_iload_n X dX8_isPlace_4 rfl 1 rfl ?_
    refine fg_bipush X (v := (8 : Int32)) dX8_isPlace_5 (by decide) ?_
    refine fg_irem X dX8_isPlace_7 (by decide) ?_
    refine fg_aload_n X (r := (some a0)) dX8_isPlace_8 rfl 0 rfl ?_
    replace hF := fg_ob_some hF
    obtain ⟨r1, e_1, hF⟩ := hF
    refine fg_getr X ff_X8_ridge q1558 e_1 dX8_isPlace_9 ?_
    refine fg_iconst X (v := (0 : Int32)) dX8_isPlace_12 (by decide) ?_
    replace hF := fg_ob_some hF
    obtain ⟨a2, rfl, hF⟩ := hF
    replace hF := fg_ob_some hF
    obtain ⟨x3, e_2, hF⟩ := hF
    refine fg_iald X e_2 dX8_isPlace_13 ?_
    refine fg_icmp_ge X (tgt := 34) dX8_isPlace_14 (by decide) (fun hc => ?_) (fun hc => ?_)
    · rw [if_pos hc] at hF
      refine fg_iconst X (v := (0 : Int32)) dX8_isPlace_34 (by decide) ?_
      cases hF
      exact fg_zret X (by decide) dX8_isPlace_35 (hT)
    · rw [if_neg hc] at hF
      refine fg_iload_n X dX8_isPlace_17 rfl 1 rfl ?_
      refine fg_bipush X (v := (8 : Int32)) dX8_isPlace_18 (by decide) ?_
      refine fg_idiv X dX8_isPlace_20 (by decide) ?_
      refine fg_aload_n X (r := (some a0)) dX8_isPlace_21 rfl 0 rfl ?_
      replace hF := fg_ob_some hF
      obtain ⟨r4, e_3, hF⟩ := hF
      refine fg_getr X ff_X8_ridge q1558 e_3 dX8_isPlace_22 ?_
      refine fg_iconst X (v := (1 : Int32)) dX8_isPlace_25 (by decide) ?_
      replace hF := fg_ob_some hF
      obtain ⟨a5, rfl, hF⟩ := hF
      replace hF := fg_ob_some hF
      obtain ⟨x6, e_4, hF⟩ := hF
      refine fg_iald X e_4 dX8_isPlace_26 ?_
      refine fg_icmp_ge X (tgt := 34) dX8_isPlace_27 (by decide) (fun hc => ?_) (fun hc => ?_)
      · rw [if_pos hc] at hF
        refine fg_iconst X (v := (0 : Int32)) dX8_isPlace_34 (by decide) ?_
        cases hF
        exact fg_zret X (by decide) dX8_isPlace_35 (hT)
      · rw [if_neg hc] at hF
        refine fg_iconst X (v := (1 : Int32)) dX8_isPlace_30 (by decide) ?_
        refine fg_goto X (tgt := 35) dX8_isPlace_31 (by decide) ?_
        cases hF
        exact fg_zret X (by decide) dX8_isPlace_35 (hT)
theorem mX8_isPlace (l : Launch) (D : fg_D) {a0 : Nat} {i1 : Int32} {G : fg_H} {t : Int32 × fg_H} (hF : fX8_isPlace a0 i1 G = some t) : fg_M l D yX8_isPlace cX8_isPlace 2 (some .boolean) 0 [.ref a0, .int i1] G (.returned (some (.int t.1))) t.2 :=
  fg_Mof (own := RX8) (nm := "isPlace") (L := [(0, .ref a0), (1, .int i1)]) (plainFor_of_name pn_X8) rfl rfl rfl (Nat.le_of_ble_eq_true rfl) (fun Ω _ _ X hT => wX8_isPlace X hF hT)
theorem hd_X8_move : yX8_move.cls ≠ "java/lang/invoke/MethodHandle" ∧ yX8_move.cls ≠ "java/lang/invoke/VarHandle" ∧ (parseMethodDescriptor yX8_move.desc).map (fun d => d.parameters.length) = some 2 := ⟨by decide +kernel, by decide +kernel, by decide +kernel⟩
set_option maxHeartbeats 4000000 in
theorem wX8_move {Ω : fg_O} {a0 : Nat} {i1 : Int32} {i2 : Int32} {G : fg_H} {t : Int32 × fg_H} (X : fg_X Ω RX8 "move" cX8_move 3 (some .boolean) 1) (hF : fX8_move a0 i1 i2 G = some t) (hT : fg_T Ω (.returned (some (.int t.1))) t.2) : fg_W Ω G 0 [(0, .ref a0), (1, .int i1), (2, .int i2)] [] := by
  unfold fX8_move at hF
  refine fg_aload_n X (r := (some a0)) dX8_move_0 rfl 0 rfl ?_
  refine fg_iconst X (v := (0 : Int32)) dX8_move_1 (by decide) ?_
  replace hF := fg_ob_some hF
  obtain ⟨G1, e_1, hF⟩ := hF
  refine fg_putv X (ty := .int) (v := .int (0 : Int32)) ff_X8_thrown q1548 rfl (Or.inl rfl) rfl rfl rfl e_1 dX8_move_2 ?_
  refine fg_aload_n X (r := (some a0)) dX8_move_5 rfl 0 rfl ?_
  refine fg_iload_n X dX8_move_6 rfl 1 rfl ?_
  replace hF := fg_gd_some hF
  obtain ⟨eg_2, hF⟩ := hF
  obtain ⟨fs_3, eo_4⟩ := fg_rc_get eg_2
  replace hF := fg_oc_some hF
  obtain ⟨x3, G2, e_5, hF⟩ := hF
  refine fg_callV X (st := []) (mX8_isNet Ω.2.2.2.2.1 Ω.1 e_5) q1828 q1830 qs64 q105 q1831 hd_X8_isNet (by decide) rfl eo_4 (by decide) rfl rfl (Nat.le_of_ble_eq_true rfl) dX8_move_7 ?_
  refine fg_if_eq X (tgt := 33) dX8_move_10 (by decide) (fun hc => ?_) (fun hc => ?_)
  · rw [if_pos hc] at hF
    refine fg_iconst X (v := (0 : Int32)) dX8_move_33 (by decide) ?_
    cases hF
    exact fg_zret X (by decide) dX8_move_34 (hT)
  · rw [if_neg hc] at hF
    refine fg_aload_n X (r := (some a0)) dX8_move_13 rfl 0 rfl ?_
    refine fg_iload_n X dX8_move_14 rfl 2 rfl ?_
    replace hF := fg_gd_some hF
    obtain ⟨eg_6, hF⟩ := hF
    obtain ⟨fs_7, eo_8⟩ := fg_rc_get eg_6
    replace hF := fg_oc_some hF
    obtain ⟨x5, G4, e_9, hF⟩ := hF
    refine fg_callV X (st := []) (mX8_isPlace Ω.2.2.2.2.1 Ω.1 e_9) q1937 q1939 qs85 q105 q1940 hd_X8_isPlace (by decide) rfl eo_8 (by decide) rfl rfl (Nat.le_of_ble_eq_true rfl) dX8_move_15 ?_
    refine fg_if_eq X (tgt := 33) dX8_move_18 (by decide) (fun hc => ?_) (fun hc => ?_)
    · rw [if_pos hc] at hF
      refine fg_iconst X (v := (0 : Int32)) dX8_move_33 (by decide) ?_
      cases hF
      exact fg_zret X (by decide) dX8_move_34 (hT)
    · rw [if_neg hc] at hF
      refine fg_aload_n X (r := (some a0)) dX8_move_21 rfl 0 rfl ?_
      refine fg_iload_n X dX8_move_22 rfl 2 rfl ?_
      refine fg_aload_n X (r := (some a0)) dX8_move_23 rfl 0 rfl ?_
      replace hF := fg_gd_some hF
      obtain ⟨eg_10, hF⟩ := hF
      obtain ⟨fs_11, eo_12⟩ := fg_rc_get eg_10
      replace hF := fg_oc_some hF
      obtain ⟨x7, G6, e_13, hF⟩ := hF
      refine fg_callV X (st := [.int i2, .ref a0]) (mX8_all Ω.2.2.2.2.1 Ω.1 e_13) q1885 q1887 qs75 q105 q1888 hd_X8_all (by decide) rfl eo_12 (by decide) rfl rfl (Nat.le_of_ble_eq_true rfl) dX8_move_24 ?_
      replace hF := fg_gd_some hF
      obtain ⟨eg_14, hF⟩ := hF
      obtain ⟨fs_15, eo_16⟩ := fg_rc_get eg_14
      replace hF := fg_oc_some hF
      obtain ⟨x9, G8, e_17, hF⟩ := hF
      refine fg_callV X (st := []) (mX8_netAt Ω.2.2.2.2.1 Ω.1 e_17) q1893 q1895 qs77 q105 q1896 hd_X8_netAt (by decide) rfl eo_16 (by decide) rfl rfl (Nat.le_of_ble_eq_true rfl) dX8_move_27 ?_
      refine fg_if_lt X (tgt := 35) dX8_move_30 (by decide) (fun hc => ?_) (fun hc => ?_)
      · rw [if_pos hc] at hF
        refine fg_aload_n X (r := (some a0)) dX8_move_35 rfl 0 rfl ?_
        replace hF := fg_ob_some hF
        obtain ⟨r10, e_18, hF⟩ := hF
        refine fg_getr X ff_X8_s q1585 e_18 dX8_move_36 ?_
        refine fg_bipush X (v := (12 : Int32)) dX8_move_39 (by decide) ?_
        refine fg_iload_n X dX8_move_41 rfl 1 rfl ?_
        refine fg_iadd X dX8_move_42 ?_
        refine fg_iload_n X dX8_move_43 rfl 2 rfl ?_
        replace hF := fg_ob_some hF
        obtain ⟨a11, rfl, hF⟩ := hF
        replace hF := fg_ob_some hF
        obtain ⟨G12, e_19, hF⟩ := hF
        refine fg_iast X e_19 dX8_move_44 ?_
        refine fg_iconst X (v := (1 : Int32)) dX8_move_45 (by decide) ?_
        cases hF
        exact fg_zret X (by decide) dX8_move_46 (hT)
      · rw [if_neg hc] at hF
        refine fg_iconst X (v := (0 : Int32)) dX8_move_33 (by decide) ?_
        cases hF
        exact fg_zret X (by decide) dX8_move_34 (hT)
theorem mX8_move (l : Launch) (D : fg_D) {a0 : Nat} {i1 : Int32} {i2 : Int32} {G : fg_H} {t : Int32 × fg_H} (hF : fX8_move a0 i1 i2 G = some t) : fg_M l D yX8_move cX8_move 3 (some .boolean) 1 [.ref a0, .int i1, .int i2] G (.returned (some (.int t.1))) t.2 :=
  fg_Mof (own := RX8) (nm := "move") (L := [(0, .ref a0), (1, .int i1), (2, .int i2)]) (plainFor_of_name pn_X8) rfl rfl rfl (Nat.le_of_ble_eq_true rfl) (fun Ω _ _ X hT => wX8_move X hF hT)
theorem hd_X8_yields : yX8_yields.cls ≠ "java/lang/invoke/MethodHandle" ∧ yX8_yields.cls ≠ "java/lang/invoke/VarHandle" ∧ (parseMethodDescriptor yX8_yields.desc).map (fun d => d.parameters.length) = some 1 := ⟨by decide +kernel, by decide +kernel, by decide +kernel⟩
set_option maxHeartbeats 4000000 in
theorem wX8_yields_22 {Ω : fg_O} {a0 : Nat} {i1 : Int32} {s0 : Nat} {s1 : Int32} {G : fg_H} {t : (Int32 × fg_H)} (X : fg_X Ω RX8 "yields" cX8_yields 2 (some .int) 7) (hF : fX8_yields_22 a0 i1 s0 s1 G = some t) (hT : fg_T Ω (.returned (some (.int t.1))) t.2) : fg_W Ω G 22 [(0, .ref a0), (1, .int i1)] [.int s1, .ref s0] := by
  unfold fX8_yields_22 at hF
  replace hF := fg_ob_some hF
  obtain ⟨G6, e_1, hF⟩ := hF
  refine fg_putv X (ty := .int) (v := .int s1) ff_X8_thrown q1548 rfl (Or.inl rfl) rfl rfl rfl e_1 dX8_yields_22 ?_
  refine fg_aload_n X (r := (some a0)) dX8_yields_25 rfl 0 rfl ?_
  replace hF := fg_ob_some hF
  obtain ⟨x7, e_2, hF⟩ := hF
  refine fg_geti X ff_X8_thrown q1548 e_2 dX8_yields_26 ?_
  refine fg_iconst X (v := (1 : Int32)) dX8_yields_29 (by decide) ?_
  refine fg_icmp_ne X (tgt := 35) dX8_yields_30 (by decide) (fun hc => ?_) (fun hc => ?_)
  · rw [if_neg hc] at hF
    refine fg_aload_n X (r := (some a0)) dX8_yields_35 rfl 0 rfl ?_
    refine fg_aload_n X (r := (some a0)) dX8_yields_36 rfl 0 rfl ?_
    replace hF := fg_gd_some hF
    obtain ⟨eg_3, hF⟩ := hF
    obtain ⟨fs_4, eo_5⟩ := fg_rc_get eg_3
    replace hF := fg_oc_some hF
    obtain ⟨x9, G8, e_6, hF⟩ := hF
    refine fg_callV X (st := [.ref a0]) (mX8_all Ω.2.2.2.2.1 Ω.1 e_6) q1885 q1887 qs75 q105 q1888 hd_X8_all (by decide) rfl eo_5 (by decide) rfl rfl (Nat.le_of_ble_eq_true rfl) dX8_yields_37 ?_
    replace hF := fg_gd_some hF
    obtain ⟨eg_7, hF⟩ := hF
    obtain ⟨fs_8, eo_9⟩ := fg_rc_get eg_7
    replace hF := fg_oc_some hF
    obtain ⟨u, G10, e_10, hF⟩ := hF
    refine fg_callV X (st := []) (mX8_goes Ω.2.2.2.2.1 Ω.1 e_10) q1909 q1911 qs80 q105 q1912 hd_X8_goes (by decide) rfl eo_9 (by decide) rfl rfl (Nat.le_of_ble_eq_true rfl) dX8_yields_40 ?_
    refine fg_aload_n X (r := (some a0)) dX8_yields_43 rfl 0 rfl ?_
    refine fg_iload_n X dX8_yields_44 rfl 1 rfl ?_
    refine fg_iconst X (v := (-1 : Int32)) dX8_yields_45 (by decide) ?_
    replace hF := fg_gd_some hF
    obtain ⟨eg_11, hF⟩ := hF
    obtain ⟨fs_12, eo_13⟩ := fg_rc_get eg_11
    replace hF := fg_oc_some hF
    obtain ⟨x12, G11, e_14, hF⟩ := hF
    refine fg_callV X (st := []) (mX8_yielded Ω.2.2.2.2.1 Ω.1 e_14) q1925 q1927 qs84 q105 q1928 hd_X8_yielded (by decide) rfl eo_13 (by decide) rfl rfl (Nat.le_of_ble_eq_true rfl) dX8_yields_46 ?_
    cases hF
    exact fg_iret X dX8_yields_49 (hT)
  · rw [if_pos hc] at hF
    refine fg_iconst X (v := (0 : Int32)) dX8_yields_33 (by decide) ?_
    cases hF
    exact fg_iret X dX8_yields_34 (hT)
set_option maxHeartbeats 4000000 in
theorem wX8_yields {Ω : fg_O} {a0 : Nat} {i1 : Int32} {G : fg_H} {t : Int32 × fg_H} (X : fg_X Ω RX8 "yields" cX8_yields 2 (some .int) 7) (hF : fX8_yields a0 i1 G = some t) (hT : fg_T Ω (.returned (some (.int t.1))) t.2) : fg_W Ω G 0 [(0, .ref a0), (1, .int i1)] [] := by
  unfold fX8_yields at hF
  refine fg_aload_n X (r := (some a0)) dX8_yields_0 rfl 0 rfl ?_
  refine fg_iload_n X dX8_yields_1 rfl 1 rfl ?_
  refine fg_iconst X (v := (-1 : Int32)) dX8_yields_2 (by decide) ?_
  refine fg_aload_n X (r := (some a0)) dX8_yields_3 rfl 0 rfl ?_
  replace hF := fg_ob_some hF
  obtain ⟨r1, e_1, hF⟩ := hF
  refine fg_getr X ff_X8_ridge q1558 e_1 dX8_yields_4 ?_
  refine fg_iconst X (v := (5 : Int32)) dX8_yields_7 (by decide) ?_
  replace hF := fg_ob_some hF
  obtain ⟨a2, rfl, hF⟩ := hF
  replace hF := fg_ob_some hF
  obtain ⟨x3, e_2, hF⟩ := hF
  refine fg_iald X e_2 dX8_yields_8 ?_
  refine fg_iconst X (v := (1 : Int32)) dX8_yields_9 (by decide) ?_
  refine fg_isub X dX8_yields_10 ?_
  replace hF := fg_oc_some hF
  obtain ⟨x5, G4, e_3, hF⟩ := hF
  refine fg_callS X (st := [.ref a0]) (mX8_within Ω.2.2.2.2.1 Ω.1 e_3) q1738 q1739 q105 q1740 hd_X8_within (by decide) rfl rfl (Nat.le_of_ble_eq_true rfl) dX8_yields_11 ?_
  refine fg_if_eq X (tgt := 21) dX8_yields_14 (by decide) (fun hc => ?_) (fun hc => ?_)
  · rw [if_pos hc] at hF
    refine fg_iconst X (v := (1 : Int32)) dX8_yields_21 (by decide) ?_
    refine fg_sub [0, 1] rfl ?_
    exact wX8_yields_22 X hF hT
  · rw [if_neg hc] at hF
    refine fg_iconst X (v := (0 : Int32)) dX8_yields_17 (by decide) ?_
    refine fg_goto X (tgt := 22) dX8_yields_18 (by decide) ?_
    refine fg_sub [0, 1] rfl ?_
    exact wX8_yields_22 X hF hT
theorem mX8_yields (l : Launch) (D : fg_D) {a0 : Nat} {i1 : Int32} {G : fg_H} {t : Int32 × fg_H} (hF : fX8_yields a0 i1 G = some t) : fg_M l D yX8_yields cX8_yields 2 (some .int) 7 [.ref a0, .int i1] G (.returned (some (.int t.1))) t.2 :=
  fg_Mof (own := RX8) (nm := "yields") (L := [(0, .ref a0), (1, .int i1)]) (plainFor_of_name pn_X8) rfl rfl rfl (Nat.le_of_ble_eq_true rfl) (fun Ω _ _ X hT => wX8_yields X hF hT)
theorem hd_X8_asked : yX8_asked.cls ≠ "java/lang/invoke/MethodHandle" ∧ yX8_asked.cls ≠ "java/lang/invoke/VarHandle" ∧ (parseMethodDescriptor yX8_asked.desc).map (fun d => d.parameters.length) = some 2 := ⟨by decide +kernel, by decide +kernel, by decide +kernel⟩
set_option maxHeartbeats 4000000 in
theorem wX8_asked {Ω : fg_O} {a0 : Nat} {i1 : Int32} {i2 : Int32} {G : fg_H} {t : Int32 × fg_H} (X : fg_X Ω RX8 "asked" cX8_asked 3 (some .int) 1) (hF : fX8_asked a0 i1 i2 G = some t) (hT : fg_T Ω (.returned (some (.int t.1))) t.2) : fg_W Ω G 0 [(0, .ref a0), (1, .int i1), (2, .int i2)] [] := by
  unfold fX8_asked at hF
  refine fg_iload_n X dX8_asked_0 rfl 2 rfl ?_
  refine fg_if_ne X (tgt := 13) dX8_asked_1 (by decide) (fun hc => ?_) (fun hc => ?_)
  · rw [if_neg hc] at hF
    refine fg_iload_n X dX8_asked_13 rfl 2 rfl ?_
    refine fg_iconst X (v := (1 : Int32)) dX8_asked_14 (by decide) ?_
    refine fg_icmp_ne X (tgt := 27) dX8_asked_15 (by decide) (fun hc => ?_) (fun hc => ?_)
    · rw [if_neg hc] at hF
      refine fg_aload_n X (r := (some a0)) dX8_asked_27 rfl 0 rfl ?_
      refine fg_iconst X (v := (-1 : Int32)) dX8_asked_28 (by decide) ?_
      refine fg_iload_n X dX8_asked_29 rfl 1 rfl ?_
      replace hF := fg_gd_some hF
      obtain ⟨eg_1, hF⟩ := hF
      obtain ⟨fs_2, eo_3⟩ := fg_rc_get eg_1
      replace hF := fg_oc_some hF
      obtain ⟨x2, G1, e_4, hF⟩ := hF
      refine fg_callV X (st := []) (mX8_yielded Ω.2.2.2.2.1 Ω.1 e_4) q1925 q1927 qs84 q105 q1928 hd_X8_yielded (by decide) rfl eo_3 (by decide) rfl rfl (Nat.le_of_ble_eq_true rfl) dX8_asked_30 ?_
      refine fg_ineg X dX8_asked_33 ?_
      cases hF
      exact fg_iret X dX8_asked_34 (hT)
    · rw [if_pos hc] at hF
      refine fg_aload_n X (r := (some a0)) dX8_asked_18 rfl 0 rfl ?_
      refine fg_iload_n X dX8_asked_19 rfl 1 rfl ?_
      refine fg_iconst X (v := (-1 : Int32)) dX8_asked_20 (by decide) ?_
      replace hF := fg_gd_some hF
      obtain ⟨eg_5, hF⟩ := hF
      obtain ⟨fs_6, eo_7⟩ := fg_rc_get eg_5
      replace hF := fg_oc_some hF
      obtain ⟨x4, G3, e_8, hF⟩ := hF
      refine fg_callV X (st := []) (mX8_yielded Ω.2.2.2.2.1 Ω.1 e_8) q1925 q1927 qs84 q105 q1928 hd_X8_yielded (by decide) rfl eo_7 (by decide) rfl rfl (Nat.le_of_ble_eq_true rfl) dX8_asked_21 ?_
      refine fg_goto X (tgt := 34) dX8_asked_24 (by decide) ?_
      cases hF
      exact fg_iret X dX8_asked_34 (hT)
  · rw [if_pos hc] at hF
    refine fg_aload_n X (r := (some a0)) dX8_asked_4 rfl 0 rfl ?_
    refine fg_iconst X (v := (-1 : Int32)) dX8_asked_5 (by decide) ?_
    refine fg_iconst X (v := (-1 : Int32)) dX8_asked_6 (by decide) ?_
    replace hF := fg_gd_some hF
    obtain ⟨eg_9, hF⟩ := hF
    obtain ⟨fs_10, eo_11⟩ := fg_rc_get eg_9
    replace hF := fg_oc_some hF
    obtain ⟨x6, G5, e_12, hF⟩ := hF
    refine fg_callV X (st := []) (mX8_yielded Ω.2.2.2.2.1 Ω.1 e_12) q1925 q1927 qs84 q105 q1928 hd_X8_yielded (by decide) rfl eo_11 (by decide) rfl rfl (Nat.le_of_ble_eq_true rfl) dX8_asked_7 ?_
    refine fg_goto X (tgt := 34) dX8_asked_10 (by decide) ?_
    cases hF
    exact fg_iret X dX8_asked_34 (hT)
theorem mX8_asked (l : Launch) (D : fg_D) {a0 : Nat} {i1 : Int32} {i2 : Int32} {G : fg_H} {t : Int32 × fg_H} (hF : fX8_asked a0 i1 i2 G = some t) : fg_M l D yX8_asked cX8_asked 3 (some .int) 1 [.ref a0, .int i1, .int i2] G (.returned (some (.int t.1))) t.2 :=
  fg_Mof (own := RX8) (nm := "asked") (L := [(0, .ref a0), (1, .int i1), (2, .int i2)]) (plainFor_of_name pn_X8) rfl rfl rfl (Nat.le_of_ble_eq_true rfl) (fun Ω _ _ X hT => wX8_asked X hF hT)
theorem hd_X8_place : yX8_place.cls ≠ "java/lang/invoke/MethodHandle" ∧ yX8_place.cls ≠ "java/lang/invoke/VarHandle" ∧ (parseMethodDescriptor yX8_place.desc).map (fun d => d.parameters.length) = some 5 := ⟨by decide +kernel, by decide +kernel, by decide +kernel⟩
set_option maxHeartbeats 4000000 in
theorem wX8_place_172 {Ω : fg_O} {a0 : Nat} {i1 : Int32} {i4 : Int32} {i5 : Int32} {i8 : Int32} {i9 : Int32} {G : fg_H} {t : ((Nat × Int32 × Int32 × Int32 × Int32 × Int32 × Int32 × fg_H) ⊕ (Int32 × fg_H))} (X : fg_X Ω RX8 "place" cX8_place 10 (some .int) 7) (hF : fX8_place_172 a0 i1 i4 i5 i8 i9 G = some t) (h95 : ∀ z, t = (.inl z) → fg_W Ω z.2.2.2.2.2.2.2 95 [(0, .ref z.1), (1, .int z.2.1), (4, .int z.2.2.1), (5, .int z.2.2.2.1), (6, .int z.2.2.2.2.1), (7, .int z.2.2.2.2.2.1), (8, .int z.2.2.2.2.2.2.1)] []) (hT : ∀ u, t = (.inr u) → fg_T Ω (.returned (some (.int u.1))) u.2) : fg_W Ω G 172 [(0, .ref a0), (1, .int i1), (4, .int i4), (5, .int i5), (8, .int i8), (9, .int i9)] [] := by
  unfold fX8_place_172 at hF
  refine fg_iload X dX8_place_172 4 rfl ?_
  refine fg_istore X (L' := [(6, .int i8), (0, .ref a0), (1, .int i1), (4, .int i4), (5, .int i5), (8, .int i8), (9, .int i9)]) dX8_place_174 (by decide) rfl ?_
  refine fg_iload X dX8_place_176 6 rfl ?_
  refine fg_istore X (L' := [(7, .int i9), (6, .int i8), (0, .ref a0), (1, .int i1), (4, .int i4), (5, .int i5), (8, .int i8), (9, .int i9)]) dX8_place_178 (by decide) rfl ?_
  refine fg_iinc X (v := (i8 + (1 : Int32))) (L' := [(8, .int (i8 + (1 : Int32))), (7, .int i9), (6, .int i8), (0, .ref a0), (1, .int i1), (4, .int i4), (5, .int i5), (9, .int i9)]) dX8_place_180 6 rfl rfl (by decide) rfl ?_
  refine fg_goto X (tgt := 95) dX8_place_183 (by decide) ?_
  refine fg_sub [3, 4, 5, 6, 2, 1, 0] rfl ?_
  exact h95 _ (Option.some.inj hF).symm
set_option maxHeartbeats 4000000 in
theorem wX8_place_95b {Ω : fg_O} {a0 : Nat} {i1 : Int32} {i4 : Int32} {i5 : Int32} {i6 : Int32} {i7 : Int32} {i8 : Int32} {G : fg_H} {t : ((Nat × Int32 × Int32 × Int32 × Int32 × Int32 × Int32 × fg_H) ⊕ (Int32 × fg_H))} (X : fg_X Ω RX8 "place" cX8_place 10 (some .int) 7) (hF : fX8_place_95b a0 i1 i4 i5 i6 i7 i8 G = some t) (h95 : ∀ z, t = (.inl z) → fg_W Ω z.2.2.2.2.2.2.2 95 [(0, .ref z.1), (1, .int z.2.1), (4, .int z.2.2.1), (5, .int z.2.2.2.1), (6, .int z.2.2.2.2.1), (7, .int z.2.2.2.2.2.1), (8, .int z.2.2.2.2.2.2.1)] []) (hT : ∀ u, t = (.inr u) → fg_T Ω (.returned (some (.int u.1))) u.2) : fg_W Ω G 95 [(0, .ref a0), (1, .int i1), (4, .int i4), (5, .int i5), (6, .int i6), (7, .int i7), (8, .int i8)] [] := by
  unfold fX8_place_95b at hF
  refine fg_iload X dX8_place_95 6 rfl ?_
  refine fg_bipush X (v := (64 : Int32)) dX8_place_97 (by decide) ?_
  refine fg_icmp_ge X (tgt := 186) dX8_place_99 (by decide) (fun hc => ?_) (fun hc => ?_)
  · rw [if_pos hc] at hF
    replace hF := fg_rt_some hF
    obtain ⟨t24, hF, ht_1⟩ := hF
    subst ht_1
    replace hT := hT _ rfl
    refine fg_iload X dX8_place_186 4 rfl ?_
    refine fg_if_lt X (tgt := 196) dX8_place_188 (by decide) (fun hc => ?_) (fun hc => ?_)
    · rw [if_pos hc] at hF
      refine fg_iload X dX8_place_196 4 rfl ?_
      refine fg_goto X (tgt := 215) dX8_place_198 (by decide) ?_
      cases hF
      exact fg_iret X dX8_place_215 (hT)
    · rw [if_neg hc] at hF
      refine fg_iload X dX8_place_191 3 rfl ?_
      refine fg_if_ne X (tgt := 201) dX8_place_193 (by decide) (fun hc => ?_) (fun hc => ?_)
      · rw [if_neg hc] at hF
        refine fg_iload X dX8_place_201 2 rfl ?_
        refine fg_iconst X (v := (2 : Int32)) dX8_place_203 (by decide) ?_
        refine fg_icmp_ne X (tgt := 213) dX8_place_204 (by decide) (fun hc => ?_) (fun hc => ?_)
        · rw [if_neg hc] at hF
          refine fg_iload X dX8_place_213 5 rfl ?_
          cases hF
          exact fg_iret X dX8_place_215 (hT)
        · rw [if_pos hc] at hF
          refine fg_iload X dX8_place_207 5 rfl ?_
          refine fg_ineg X dX8_place_209 ?_
          refine fg_goto X (tgt := 215) dX8_place_210 (by decide) ?_
          cases hF
          exact fg_iret X dX8_place_215 (hT)
      · rw [if_pos hc] at hF
        refine fg_iload X dX8_place_196 4 rfl ?_
        refine fg_goto X (tgt := 215) dX8_place_198 (by decide) ?_
        cases hF
        exact fg_iret X dX8_place_215 (hT)
  · rw [if_neg hc] at hF
    refine fg_aload_n X (r := (some a0)) dX8_place_102 rfl 0 rfl ?_
    refine fg_iload X dX8_place_103 6 rfl ?_
    replace hF := fg_gd_some hF
    obtain ⟨eg_2, hF⟩ := hF
    obtain ⟨fs_3, eo_4⟩ := fg_rc_get eg_2
    replace hF := fg_oc_some hF
    obtain ⟨x26, G25, e_5, hF⟩ := hF
    refine fg_callV X (st := []) (mX8_isPlace Ω.2.2.2.2.1 Ω.1 e_5) q1937 q1939 qs85 q105 q1940 hd_X8_isPlace (by decide) rfl eo_4 (by decide) rfl rfl (Nat.le_of_ble_eq_true rfl) dX8_place_105 ?_
    refine fg_if_eq X (tgt := 180) dX8_place_108 (by decide) (fun hc => ?_) (fun hc => ?_)
    · rw [if_pos hc] at hF
      refine fg_iinc X (v := (i8 + (1 : Int32))) (L' := [(8, .int (i8 + (1 : Int32))), (0, .ref a0), (1, .int i1), (4, .int i4), (5, .int i5), (6, .int i6), (7, .int i7)]) dX8_place_180 6 rfl rfl (by decide) rfl ?_
      refine fg_goto X (tgt := 95) dX8_place_183 (by decide) ?_
      refine fg_sub [1, 2, 3, 4, 5, 6, 0] rfl ?_
      exact h95 _ (Option.some.inj hF).symm
    · rw [if_neg hc] at hF
      refine fg_aload_n X (r := (some a0)) dX8_place_111 rfl 0 rfl ?_
      refine fg_iload X dX8_place_112 6 rfl ?_
      refine fg_aload_n X (r := (some a0)) dX8_place_114 rfl 0 rfl ?_
      replace hF := fg_gd_some hF
      obtain ⟨eg_6, hF⟩ := hF
      obtain ⟨fs_7, eo_8⟩ := fg_rc_get eg_6
      replace hF := fg_oc_some hF
      obtain ⟨x28, G27, e_9, hF⟩ := hF
      refine fg_callV X (st := [.int i8, .ref a0]) (mX8_all Ω.2.2.2.2.1 Ω.1 e_9) q1885 q1887 qs75 q105 q1888 hd_X8_all (by decide) rfl eo_8 (by decide) rfl rfl (Nat.le_of_ble_eq_true rfl) dX8_place_115 ?_
      replace hF := fg_gd_some hF
      obtain ⟨eg_10, hF⟩ := hF
      obtain ⟨fs_11, eo_12⟩ := fg_rc_get eg_10
      replace hF := fg_oc_some hF
      obtain ⟨x30, G29, e_13, hF⟩ := hF
      refine fg_callV X (st := []) (mX8_netAt Ω.2.2.2.2.1 Ω.1 e_13) q1893 q1895 qs77 q105 q1896 hd_X8_netAt (by decide) rfl eo_12 (by decide) rfl rfl (Nat.le_of_ble_eq_true rfl) dX8_place_118 ?_
      refine fg_if_lt X (tgt := 127) dX8_place_121 (by decide) (fun hc => ?_) (fun hc => ?_)
      · rw [if_pos hc] at hF
        refine fg_aload_n X (r := (some a0)) dX8_place_127 rfl 0 rfl ?_
        replace hF := fg_ob_some hF
        obtain ⟨r31, e_14, hF⟩ := hF
        refine fg_getr X ff_X8_s q1585 e_14 dX8_place_128 ?_
        refine fg_bipush X (v := (24 : Int32)) dX8_place_131 (by decide) ?_
        refine fg_iload X dX8_place_133 6 rfl ?_
        replace hF := fg_ob_some hF
        obtain ⟨a32, rfl, hF⟩ := hF
        replace hF := fg_ob_some hF
        obtain ⟨G33, e_15, hF⟩ := hF
        refine fg_iast X e_15 dX8_place_135 ?_
        refine fg_aload_n X (r := (some a0)) dX8_place_136 rfl 0 rfl ?_
        refine fg_aload_n X (r := (some a0)) dX8_place_137 rfl 0 rfl ?_
        replace hF := fg_gd_some hF
        obtain ⟨eg_16, hF⟩ := hF
        obtain ⟨fs_17, eo_18⟩ := fg_rc_get eg_16
        replace hF := fg_oc_some hF
        obtain ⟨x35, G34, e_19, hF⟩ := hF
        refine fg_callV X (st := [.ref a0]) (mX8_all Ω.2.2.2.2.1 Ω.1 e_19) q1885 q1887 qs75 q105 q1888 hd_X8_all (by decide) rfl eo_18 (by decide) rfl rfl (Nat.le_of_ble_eq_true rfl) dX8_place_138 ?_
        refine fg_sipush X (v := (4096 : Int32)) dX8_place_141 (by decide) ?_
        refine fg_ior X dX8_place_144 ?_
        replace hF := fg_gd_some hF
        obtain ⟨eg_20, hF⟩ := hF
        obtain ⟨fs_21, eo_22⟩ := fg_rc_get eg_20
        replace hF := fg_oc_some hF
        obtain ⟨u, G36, e_23, hF⟩ := hF
        refine fg_callV X (st := []) (mX8_goes Ω.2.2.2.2.1 Ω.1 e_23) q1909 q1911 qs80 q105 q1912 hd_X8_goes (by decide) rfl eo_22 (by decide) rfl rfl (Nat.le_of_ble_eq_true rfl) dX8_place_145 ?_
        refine fg_aload_n X (r := (some a0)) dX8_place_148 rfl 0 rfl ?_
        refine fg_iload_n X dX8_place_149 rfl 1 rfl ?_
        refine fg_iload X dX8_place_150 2 rfl ?_
        replace hF := fg_gd_some hF
        obtain ⟨eg_24, hF⟩ := hF
        obtain ⟨fs_25, eo_26⟩ := fg_rc_get eg_24
        replace hF := fg_oc_some hF
        obtain ⟨x38, G37, e_27, hF⟩ := hF
        refine fg_callV X (st := []) (mX8_asked Ω.2.2.2.2.1 Ω.1 e_27) q1949 q1951 qs86 q105 q1952 hd_X8_asked (by decide) rfl eo_26 (by decide) rfl rfl (Nat.le_of_ble_eq_true rfl) dX8_place_152 ?_
        refine fg_istore X (L' := [(9, .int x38), (0, .ref a0), (1, .int i1), (4, .int i4), (5, .int i5), (6, .int i6), (7, .int i7), (8, .int i8)]) dX8_place_155 (by decide) rfl ?_
        refine fg_iload X dX8_place_157 5 rfl ?_
        refine fg_if_lt X (tgt := 172) dX8_place_159 (by decide) (fun hc => ?_) (fun hc => ?_)
        · rw [if_pos hc] at hF
          refine fg_sub [1, 2, 3, 4, 7, 0] rfl ?_
          exact wX8_place_172 X hF h95 hT
        · rw [if_neg hc] at hF
          refine fg_iload X dX8_place_162 0 rfl ?_
          refine fg_iload X dX8_place_164 6 rfl ?_
          refine fg_icmp_gt X (tgt := 172) dX8_place_166 (by decide) (fun hc => ?_) (fun hc => ?_)
          · rw [if_pos hc] at hF
            refine fg_sub [1, 2, 3, 4, 7, 0] rfl ?_
            exact wX8_place_172 X hF h95 hT
          · rw [if_neg hc] at hF
            refine fg_goto X (tgt := 180) dX8_place_169 (by decide) ?_
            refine fg_iinc X (v := (i8 + (1 : Int32))) (L' := [(8, .int (i8 + (1 : Int32))), (9, .int x38), (0, .ref a0), (1, .int i1), (4, .int i4), (5, .int i5), (6, .int i6), (7, .int i7)]) dX8_place_180 7 rfl rfl (by decide) rfl ?_
            refine fg_goto X (tgt := 95) dX8_place_183 (by decide) ?_
            refine fg_sub [2, 3, 4, 5, 6, 7, 0] rfl ?_
            exact h95 _ (Option.some.inj hF).symm
      · rw [if_neg hc] at hF
        refine fg_goto X (tgt := 180) dX8_place_124 (by decide) ?_
        refine fg_iinc X (v := (i8 + (1 : Int32))) (L' := [(8, .int (i8 + (1 : Int32))), (0, .ref a0), (1, .int i1), (4, .int i4), (5, .int i5), (6, .int i6), (7, .int i7)]) dX8_place_180 6 rfl rfl (by decide) rfl ?_
        refine fg_goto X (tgt := 95) dX8_place_183 (by decide) ?_
        refine fg_sub [1, 2, 3, 4, 5, 6, 0] rfl ?_
        exact h95 _ (Option.some.inj hF).symm
set_option maxHeartbeats 4000000 in
theorem wX8_place_95 {Ω : fg_O} {a0 : Nat} {i1 : Int32} {i4 : Int32} {i5 : Int32} {i6 : Int32} {i7 : Int32} {i8 : Int32} {G : fg_H} {t : (Int32 × fg_H)} (X : fg_X Ω RX8 "place" cX8_place 10 (some .int) 7) (hF : fX8_place_95 a0 i1 i4 i5 i6 i7 i8 G = some t) (hT : fg_T Ω (.returned (some (.int t.1))) t.2) : fg_W Ω G 95 [(0, .ref a0), (1, .int i1), (4, .int i4), (5, .int i5), (6, .int i6), (7, .int i7), (8, .int i8)] [] := by
  unfold fX8_place_95 at hF
  exact fg_lp_walk (P := fun z => fg_W Ω z.2.2.2.2.2.2.2 95 [(0, .ref z.1), (1, .int z.2.1), (4, .int z.2.2.1), (5, .int z.2.2.2.1), (6, .int z.2.2.2.2.1), (7, .int z.2.2.2.2.2.1), (8, .int z.2.2.2.2.2.2.1)] []) (fun y o ho hl hr => wX8_place_95b X ho (fun z e => hl z e) (fun u e => by rw [hr _ e]; exact hT)) hF
set_option maxHeartbeats 4000000 in
theorem wX8_place {Ω : fg_O} {a0 : Nat} {i1 : Int32} {i2 : Int32} {i3 : Int32} {i4 : Int32} {i5 : Int32} {G : fg_H} {t : Int32 × fg_H} (X : fg_X Ω RX8 "place" cX8_place 10 (some .int) 7) (hF : fX8_place a0 i1 i2 i3 i4 i5 G = some t) (hT : fg_T Ω (.returned (some (.int t.1))) t.2) : fg_W Ω G 0 [(0, .ref a0), (1, .int i1), (2, .int i2), (3, .int i3), (4, .int i4), (5, .int i5)] [] := by
  unfold fX8_place at hF
  refine fg_aload_n X (r := (some a0)) dX8_place_0 rfl 0 rfl ?_
  refine fg_iconst X (v := (0 : Int32)) dX8_place_1 (by decide) ?_
  replace hF := fg_ob_some hF
  obtain ⟨G1, e_1, hF⟩ := hF
  refine fg_putv X (ty := .int) (v := .int (0 : Int32)) ff_X8_thrown q1548 rfl (Or.inl rfl) rfl rfl rfl e_1 dX8_place_2 ?_
  refine fg_aload_n X (r := (some a0)) dX8_place_5 rfl 0 rfl ?_
  refine fg_iload_n X dX8_place_6 rfl 1 rfl ?_
  replace hF := fg_gd_some hF
  obtain ⟨eg_2, hF⟩ := hF
  obtain ⟨fs_3, eo_4⟩ := fg_rc_get eg_2
  replace hF := fg_oc_some hF
  obtain ⟨x3, G2, e_5, hF⟩ := hF
  refine fg_callV X (st := []) (mX8_isVillage Ω.2.2.2.2.1 Ω.1 e_5) q1836 q1838 qs65 q105 q1839 hd_X8_isVillage (by decide) rfl eo_4 (by decide) rfl rfl (Nat.le_of_ble_eq_true rfl) dX8_place_7 ?_
  refine fg_if_eq X (tgt := 52) dX8_place_10 (by decide) (fun hc => ?_) (fun hc => ?_)
  · rw [if_pos hc] at hF
    refine fg_iconst X (v := (-1 : Int32)) dX8_place_52 (by decide) ?_
    cases hF
    exact fg_iret X dX8_place_53 (hT)
  · rw [if_neg hc] at hF
    refine fg_iload_n X dX8_place_13 rfl 2 rfl ?_
    refine fg_iconst X (v := (0 : Int32)) dX8_place_14 (by decide) ?_
    refine fg_bipush X (v := (10 : Int32)) dX8_place_15 (by decide) ?_
    replace hF := fg_oc_some hF
    obtain ⟨x5, G4, e_6, hF⟩ := hF
    refine fg_callS X (st := []) (mX8_within Ω.2.2.2.2.1 Ω.1 e_6) q1738 q1739 q105 q1740 hd_X8_within (by decide) rfl rfl (Nat.le_of_ble_eq_true rfl) dX8_place_17 ?_
    refine fg_if_eq X (tgt := 52) dX8_place_20 (by decide) (fun hc => ?_) (fun hc => ?_)
    · rw [if_pos hc] at hF
      refine fg_iconst X (v := (-1 : Int32)) dX8_place_52 (by decide) ?_
      cases hF
      exact fg_iret X dX8_place_53 (hT)
    · rw [if_neg hc] at hF
      refine fg_iload_n X dX8_place_23 rfl 3 rfl ?_
      refine fg_iconst X (v := (0 : Int32)) dX8_place_24 (by decide) ?_
      refine fg_iconst X (v := (5 : Int32)) dX8_place_25 (by decide) ?_
      replace hF := fg_oc_some hF
      obtain ⟨x7, G6, e_7, hF⟩ := hF
      refine fg_callS X (st := []) (mX8_within Ω.2.2.2.2.1 Ω.1 e_7) q1738 q1739 q105 q1740 hd_X8_within (by decide) rfl rfl (Nat.le_of_ble_eq_true rfl) dX8_place_26 ?_
      refine fg_if_eq X (tgt := 52) dX8_place_29 (by decide) (fun hc => ?_) (fun hc => ?_)
      · rw [if_pos hc] at hF
        refine fg_iconst X (v := (-1 : Int32)) dX8_place_52 (by decide) ?_
        cases hF
        exact fg_iret X dX8_place_53 (hT)
      · rw [if_neg hc] at hF
        refine fg_iload X dX8_place_32 4 rfl ?_
        refine fg_iconst X (v := (0 : Int32)) dX8_place_34 (by decide) ?_
        refine fg_iconst X (v := (2 : Int32)) dX8_place_35 (by decide) ?_
        replace hF := fg_oc_some hF
        obtain ⟨x9, G8, e_8, hF⟩ := hF
        refine fg_callS X (st := []) (mX8_within Ω.2.2.2.2.1 Ω.1 e_8) q1738 q1739 q105 q1740 hd_X8_within (by decide) rfl rfl (Nat.le_of_ble_eq_true rfl) dX8_place_36 ?_
        refine fg_if_eq X (tgt := 52) dX8_place_39 (by decide) (fun hc => ?_) (fun hc => ?_)
        · rw [if_pos hc] at hF
          refine fg_iconst X (v := (-1 : Int32)) dX8_place_52 (by decide) ?_
          cases hF
          exact fg_iret X dX8_place_53 (hT)
        · rw [if_neg hc] at hF
          refine fg_iload X dX8_place_42 5 rfl ?_
          refine fg_iconst X (v := (0 : Int32)) dX8_place_44 (by decide) ?_
          refine fg_iconst X (v := (1 : Int32)) dX8_place_45 (by decide) ?_
          replace hF := fg_oc_some hF
          obtain ⟨x11, G10, e_9, hF⟩ := hF
          refine fg_callS X (st := []) (mX8_within Ω.2.2.2.2.1 Ω.1 e_9) q1738 q1739 q105 q1740 hd_X8_within (by decide) rfl rfl (Nat.le_of_ble_eq_true rfl) dX8_place_46 ?_
          refine fg_if_ne X (tgt := 54) dX8_place_49 (by decide) (fun hc => ?_) (fun hc => ?_)
          · rw [if_neg hc] at hF
            refine fg_aload_n X (r := (some a0)) dX8_place_54 rfl 0 rfl ?_
            replace hF := fg_ob_some hF
            obtain ⟨r12, e_10, hF⟩ := hF
            refine fg_getr X ff_X8_villageOf q1562 e_10 dX8_place_55 ?_
            refine fg_bipush X (v := (12 : Int32)) dX8_place_58 (by decide) ?_
            refine fg_iload_n X dX8_place_60 rfl 1 rfl ?_
            replace hF := fg_ob_some hF
            obtain ⟨a13, rfl, hF⟩ := hF
            replace hF := fg_ob_some hF
            obtain ⟨G14, e_11, hF⟩ := hF
            refine fg_iast X e_11 dX8_place_61 ?_
            refine fg_aload_n X (r := (some a0)) dX8_place_62 rfl 0 rfl ?_
            replace hF := fg_ob_some hF
            obtain ⟨r15, e_12, hF⟩ := hF
            refine fg_getr X ff_X8_mesh q1564 e_12 dX8_place_63 ?_
            refine fg_bipush X (v := (12 : Int32)) dX8_place_66 (by decide) ?_
            refine fg_iload_n X dX8_place_68 rfl 2 rfl ?_
            replace hF := fg_ob_some hF
            obtain ⟨a16, rfl, hF⟩ := hF
            replace hF := fg_ob_some hF
            obtain ⟨G17, e_13, hF⟩ := hF
            refine fg_iast X e_13 dX8_place_69 ?_
            refine fg_aload_n X (r := (some a0)) dX8_place_70 rfl 0 rfl ?_
            replace hF := fg_ob_some hF
            obtain ⟨r18, e_14, hF⟩ := hF
            refine fg_getr X ff_X8_kind q1565 e_14 dX8_place_71 ?_
            refine fg_bipush X (v := (12 : Int32)) dX8_place_74 (by decide) ?_
            refine fg_iload_n X dX8_place_76 rfl 3 rfl ?_
            replace hF := fg_ob_some hF
            obtain ⟨a19, rfl, hF⟩ := hF
            replace hF := fg_ob_some hF
            obtain ⟨G20, e_15, hF⟩ := hF
            refine fg_iast X e_15 dX8_place_77 ?_
            refine fg_aload_n X (r := (some a0)) dX8_place_78 rfl 0 rfl ?_
            replace hF := fg_ob_some hF
            obtain ⟨r21, e_16, hF⟩ := hF
            refine fg_getr X ff_X8_s q1585 e_16 dX8_place_79 ?_
            refine fg_bipush X (v := (37 : Int32)) dX8_place_82 (by decide) ?_
            refine fg_iconst X (v := (0 : Int32)) dX8_place_84 (by decide) ?_
            replace hF := fg_ob_some hF
            obtain ⟨a22, rfl, hF⟩ := hF
            replace hF := fg_ob_some hF
            obtain ⟨G23, e_17, hF⟩ := hF
            refine fg_iast X e_17 dX8_place_85 ?_
            refine fg_iconst X (v := (-1 : Int32)) dX8_place_86 (by decide) ?_
            refine fg_istore X (L' := [(6, .int (-1 : Int32)), (0, .ref a0), (1, .int i1), (2, .int i2), (3, .int i3), (4, .int i4), (5, .int i5)]) dX8_place_87 (by decide) rfl ?_
            refine fg_iconst X (v := (0 : Int32)) dX8_place_89 (by decide) ?_
            refine fg_istore X (L' := [(7, .int (0 : Int32)), (6, .int (-1 : Int32)), (0, .ref a0), (1, .int i1), (2, .int i2), (3, .int i3), (4, .int i4), (5, .int i5)]) dX8_place_90 (by decide) rfl ?_
            refine fg_iconst X (v := (0 : Int32)) dX8_place_92 (by decide) ?_
            refine fg_istore X (L' := [(8, .int (0 : Int32)), (7, .int (0 : Int32)), (6, .int (-1 : Int32)), (0, .ref a0), (1, .int i1), (2, .int i2), (3, .int i3), (4, .int i4), (5, .int i5)]) dX8_place_93 (by decide) rfl ?_
            refine fg_sub [3, 4, 7, 8, 2, 1, 0] rfl ?_
            exact wX8_place_95 X hF hT
          · rw [if_pos hc] at hF
            refine fg_iconst X (v := (-1 : Int32)) dX8_place_52 (by decide) ?_
            cases hF
            exact fg_iret X dX8_place_53 (hT)
theorem mX8_place (l : Launch) (D : fg_D) {a0 : Nat} {i1 : Int32} {i2 : Int32} {i3 : Int32} {i4 : Int32} {i5 : Int32} {G : fg_H} {t : Int32 × fg_H} (hF : fX8_place a0 i1 i2 i3 i4 i5 G = some t) : fg_M l D yX8_place cX8_place 10 (some .int) 7 [.ref a0, .int i1, .int i2, .int i3, .int i4, .int i5] G (.returned (some (.int t.1))) t.2 :=
  fg_Mof (own := RX8) (nm := "place") (L := [(0, .ref a0), (1, .int i1), (2, .int i2), (3, .int i3), (4, .int i4), (5, .int i5)]) (plainFor_of_name pn_X8) rfl rfl rfl (Nat.le_of_ble_eq_true rfl) (fun Ω _ _ X hT => wX8_place X hF hT)
theorem hd_X8_betterAt : yX8_betterAt.cls ≠ "java/lang/invoke/MethodHandle" ∧ yX8_betterAt.cls ≠ "java/lang/invoke/VarHandle" ∧ (parseMethodDescriptor yX8_betterAt.desc).map (fun d => d.parameters.length) = some 1 := ⟨by decide +kernel, by decide +kernel, by decide +kernel⟩
set_option maxHeartbeats 4000000 in
theorem wX8_betterAt_36b {Ω : fg_O} {a0 : Nat} {i1 : Int32} {i2 : Int32} {i3 : Int32} {i4 : Int32} {i5 : Int32} {G : fg_H} {t : ((Nat × Int32 × Int32 × Int32 × Int32 × Int32 × fg_H) ⊕ (Int32 × fg_H))} (X : fg_X Ω RX8 "betterAt" cX8_betterAt 7 (some .int) 7) (hF : fX8_betterAt_36b a0 i1 i2 i3 i4 i5 G = some t) (h36 : ∀ z, t = (.inl z) → fg_W Ω z.2.2.2.2.2.2 36 [(0, .ref z.1), (1, .int z.2.1), (2, .int z.2.2.1), (3, .int z.2.2.2.1), (4, .int z.2.2.2.2.1), (5, .int z.2.2.2.2.2.1)] []) (hT : ∀ u, t = (.inr u) → fg_T Ω (.returned (some (.int u.1))) u.2) : fg_W Ω G 36 [(0, .ref a0), (1, .int i1), (2, .int i2), (3, .int i3), (4, .int i4), (5, .int i5)] [] := by
  unfold fX8_betterAt_36b at hF
  refine fg_iload X dX8_betterAt_36 5 rfl ?_
  refine fg_bipush X (v := (64 : Int32)) dX8_betterAt_38 (by decide) ?_
  refine fg_icmp_ge X (tgt := 133) dX8_betterAt_40 (by decide) (fun hc => ?_) (fun hc => ?_)
  · rw [if_pos hc] at hF
    replace hF := fg_rt_some hF
    obtain ⟨t12, hF, ht_1⟩ := hF
    subst ht_1
    replace hT := hT _ rfl
    refine fg_aload_n X (r := (some a0)) dX8_betterAt_133 rfl 0 rfl ?_
    replace hF := fg_ob_some hF
    obtain ⟨r13, e_2, hF⟩ := hF
    refine fg_getr X ff_X8_s q1585 e_2 dX8_betterAt_134 ?_
    refine fg_bipush X (v := (12 : Int32)) dX8_betterAt_137 (by decide) ?_
    refine fg_iload_n X dX8_betterAt_139 rfl 1 rfl ?_
    refine fg_iadd X dX8_betterAt_140 ?_
    refine fg_iload_n X dX8_betterAt_141 rfl 2 rfl ?_
    replace hF := fg_ob_some hF
    obtain ⟨a14, rfl, hF⟩ := hF
    replace hF := fg_ob_some hF
    obtain ⟨G15, e_3, hF⟩ := hF
    refine fg_iast X e_3 dX8_betterAt_142 ?_
    refine fg_iload_n X dX8_betterAt_143 rfl 3 rfl ?_
    cases hF
    exact fg_iret X dX8_betterAt_144 (hT)
  · rw [if_neg hc] at hF
    refine fg_aload_n X (r := (some a0)) dX8_betterAt_43 rfl 0 rfl ?_
    replace hF := fg_ob_some hF
    obtain ⟨r16, e_4, hF⟩ := hF
    refine fg_getr X ff_X8_s q1585 e_4 dX8_betterAt_44 ?_
    refine fg_bipush X (v := (12 : Int32)) dX8_betterAt_47 (by decide) ?_
    refine fg_iload_n X dX8_betterAt_49 rfl 1 rfl ?_
    refine fg_iadd X dX8_betterAt_50 ?_
    refine fg_iload_n X dX8_betterAt_51 rfl 2 rfl ?_
    replace hF := fg_ob_some hF
    obtain ⟨a17, rfl, hF⟩ := hF
    replace hF := fg_ob_some hF
    obtain ⟨G18, e_5, hF⟩ := hF
    refine fg_iast X e_5 dX8_betterAt_52 ?_
    refine fg_aload_n X (r := (some a0)) dX8_betterAt_53 rfl 0 rfl ?_
    refine fg_iload X dX8_betterAt_54 5 rfl ?_
    replace hF := fg_gd_some hF
    obtain ⟨eg_6, hF⟩ := hF
    obtain ⟨fs_7, eo_8⟩ := fg_rc_get eg_6
    replace hF := fg_oc_some hF
    obtain ⟨x20, G19, e_9, hF⟩ := hF
    refine fg_callV X (st := []) (mX8_isPlace Ω.2.2.2.2.1 Ω.1 e_9) q1937 q1939 qs85 q105 q1940 hd_X8_isPlace (by decide) rfl eo_8 (by decide) rfl rfl (Nat.le_of_ble_eq_true rfl) dX8_betterAt_56 ?_
    refine fg_if_eq X (tgt := 127) dX8_betterAt_59 (by decide) (fun hc => ?_) (fun hc => ?_)
    · rw [if_pos hc] at hF
      refine fg_iinc X (v := (i5 + (1 : Int32))) (L' := [(5, .int (i5 + (1 : Int32))), (0, .ref a0), (1, .int i1), (2, .int i2), (3, .int i3), (4, .int i4)]) dX8_betterAt_127 5 rfl rfl (by decide) rfl ?_
      refine fg_goto X (tgt := 36) dX8_betterAt_130 (by decide) ?_
      refine fg_sub [1, 2, 3, 4, 5, 0] rfl ?_
      exact h36 _ (Option.some.inj hF).symm
    · rw [if_neg hc] at hF
      refine fg_aload_n X (r := (some a0)) dX8_betterAt_62 rfl 0 rfl ?_
      refine fg_iload X dX8_betterAt_63 5 rfl ?_
      refine fg_aload_n X (r := (some a0)) dX8_betterAt_65 rfl 0 rfl ?_
      replace hF := fg_gd_some hF
      obtain ⟨eg_10, hF⟩ := hF
      obtain ⟨fs_11, eo_12⟩ := fg_rc_get eg_10
      replace hF := fg_oc_some hF
      obtain ⟨x22, G21, e_13, hF⟩ := hF
      refine fg_callV X (st := [.int i5, .ref a0]) (mX8_all Ω.2.2.2.2.1 Ω.1 e_13) q1885 q1887 qs75 q105 q1888 hd_X8_all (by decide) rfl eo_12 (by decide) rfl rfl (Nat.le_of_ble_eq_true rfl) dX8_betterAt_66 ?_
      replace hF := fg_gd_some hF
      obtain ⟨eg_14, hF⟩ := hF
      obtain ⟨fs_15, eo_16⟩ := fg_rc_get eg_14
      replace hF := fg_oc_some hF
      obtain ⟨x24, G23, e_17, hF⟩ := hF
      refine fg_callV X (st := []) (mX8_netAt Ω.2.2.2.2.1 Ω.1 e_17) q1893 q1895 qs77 q105 q1896 hd_X8_netAt (by decide) rfl eo_16 (by decide) rfl rfl (Nat.le_of_ble_eq_true rfl) dX8_betterAt_69 ?_
      refine fg_if_lt X (tgt := 78) dX8_betterAt_72 (by decide) (fun hc => ?_) (fun hc => ?_)
      · rw [if_pos hc] at hF
        refine fg_aload_n X (r := (some a0)) dX8_betterAt_78 rfl 0 rfl ?_
        replace hF := fg_ob_some hF
        obtain ⟨r25, e_18, hF⟩ := hF
        refine fg_getr X ff_X8_s q1585 e_18 dX8_betterAt_79 ?_
        refine fg_bipush X (v := (12 : Int32)) dX8_betterAt_82 (by decide) ?_
        refine fg_iload_n X dX8_betterAt_84 rfl 1 rfl ?_
        refine fg_iadd X dX8_betterAt_85 ?_
        refine fg_iload X dX8_betterAt_86 5 rfl ?_
        replace hF := fg_ob_some hF
        obtain ⟨a26, rfl, hF⟩ := hF
        replace hF := fg_ob_some hF
        obtain ⟨G27, e_19, hF⟩ := hF
        refine fg_iast X e_19 dX8_betterAt_88 ?_
        refine fg_aload_n X (r := (some a0)) dX8_betterAt_89 rfl 0 rfl ?_
        refine fg_aload_n X (r := (some a0)) dX8_betterAt_90 rfl 0 rfl ?_
        replace hF := fg_gd_some hF
        obtain ⟨eg_20, hF⟩ := hF
        obtain ⟨fs_21, eo_22⟩ := fg_rc_get eg_20
        replace hF := fg_oc_some hF
        obtain ⟨x29, G28, e_23, hF⟩ := hF
        refine fg_callV X (st := [.ref a0]) (mX8_all Ω.2.2.2.2.1 Ω.1 e_23) q1885 q1887 qs75 q105 q1888 hd_X8_all (by decide) rfl eo_22 (by decide) rfl rfl (Nat.le_of_ble_eq_true rfl) dX8_betterAt_91 ?_
        replace hF := fg_gd_some hF
        obtain ⟨eg_24, hF⟩ := hF
        obtain ⟨fs_25, eo_26⟩ := fg_rc_get eg_24
        replace hF := fg_oc_some hF
        obtain ⟨u, G30, e_27, hF⟩ := hF
        refine fg_callV X (st := []) (mX8_goes Ω.2.2.2.2.1 Ω.1 e_27) q1909 q1911 qs80 q105 q1912 hd_X8_goes (by decide) rfl eo_26 (by decide) rfl rfl (Nat.le_of_ble_eq_true rfl) dX8_betterAt_94 ?_
        refine fg_aload_n X (r := (some a0)) dX8_betterAt_97 rfl 0 rfl ?_
        refine fg_aload_n X (r := (some a0)) dX8_betterAt_98 rfl 0 rfl ?_
        replace hF := fg_ob_some hF
        obtain ⟨r31, e_28, hF⟩ := hF
        refine fg_getr X ff_X8_villageOf q1562 e_28 dX8_betterAt_99 ?_
        refine fg_iload_n X dX8_betterAt_102 rfl 1 rfl ?_
        replace hF := fg_ob_some hF
        obtain ⟨a32, rfl, hF⟩ := hF
        replace hF := fg_ob_some hF
        obtain ⟨x33, e_29, hF⟩ := hF
        refine fg_iald X e_29 dX8_betterAt_103 ?_
        refine fg_iconst X (v := (-1 : Int32)) dX8_betterAt_104 (by decide) ?_
        replace hF := fg_gd_some hF
        obtain ⟨eg_30, hF⟩ := hF
        obtain ⟨fs_31, eo_32⟩ := fg_rc_get eg_30
        replace hF := fg_oc_some hF
        obtain ⟨x35, G34, e_33, hF⟩ := hF
        refine fg_callV X (st := []) (mX8_yielded Ω.2.2.2.2.1 Ω.1 e_33) q1925 q1927 qs84 q105 q1928 hd_X8_yielded (by decide) rfl eo_32 (by decide) rfl rfl (Nat.le_of_ble_eq_true rfl) dX8_betterAt_105 ?_
        refine fg_istore X (L' := [(6, .int x35), (0, .ref a0), (1, .int i1), (2, .int i2), (3, .int i3), (4, .int i4), (5, .int i5)]) dX8_betterAt_108 (by decide) rfl ?_
        refine fg_iload X dX8_betterAt_110 0 rfl ?_
        refine fg_iload X dX8_betterAt_112 5 rfl ?_
        refine fg_icmp_gt X (tgt := 120) dX8_betterAt_114 (by decide) (fun hc => ?_) (fun hc => ?_)
        · rw [if_pos hc] at hF
          refine fg_iload X dX8_betterAt_120 0 rfl ?_
          refine fg_istore X (L' := [(4, .int x35), (6, .int x35), (0, .ref a0), (1, .int i1), (2, .int i2), (3, .int i3), (5, .int i5)]) dX8_betterAt_122 (by decide) rfl ?_
          refine fg_iload X dX8_betterAt_124 6 rfl ?_
          refine fg_istore_n X (L' := [(3, .int i5), (4, .int x35), (6, .int x35), (0, .ref a0), (1, .int i1), (2, .int i2), (5, .int i5)]) dX8_betterAt_126 rfl (by decide) rfl ?_
          refine fg_iinc X (v := (i5 + (1 : Int32))) (L' := [(5, .int (i5 + (1 : Int32))), (3, .int i5), (4, .int x35), (6, .int x35), (0, .ref a0), (1, .int i1), (2, .int i2)]) dX8_betterAt_127 6 rfl rfl (by decide) rfl ?_
          refine fg_goto X (tgt := 36) dX8_betterAt_130 (by decide) ?_
          refine fg_sub [4, 5, 6, 1, 2, 0] rfl ?_
          exact h36 _ (Option.some.inj hF).symm
        · rw [if_neg hc] at hF
          refine fg_goto X (tgt := 127) dX8_betterAt_117 (by decide) ?_
          refine fg_iinc X (v := (i5 + (1 : Int32))) (L' := [(5, .int (i5 + (1 : Int32))), (6, .int x35), (0, .ref a0), (1, .int i1), (2, .int i2), (3, .int i3), (4, .int i4)]) dX8_betterAt_127 6 rfl rfl (by decide) rfl ?_
          refine fg_goto X (tgt := 36) dX8_betterAt_130 (by decide) ?_
          refine fg_sub [2, 3, 4, 5, 6, 0] rfl ?_
          exact h36 _ (Option.some.inj hF).symm
      · rw [if_neg hc] at hF
        refine fg_goto X (tgt := 127) dX8_betterAt_75 (by decide) ?_
        refine fg_iinc X (v := (i5 + (1 : Int32))) (L' := [(5, .int (i5 + (1 : Int32))), (0, .ref a0), (1, .int i1), (2, .int i2), (3, .int i3), (4, .int i4)]) dX8_betterAt_127 5 rfl rfl (by decide) rfl ?_
        refine fg_goto X (tgt := 36) dX8_betterAt_130 (by decide) ?_
        refine fg_sub [1, 2, 3, 4, 5, 0] rfl ?_
        exact h36 _ (Option.some.inj hF).symm
set_option maxHeartbeats 4000000 in
theorem wX8_betterAt_36 {Ω : fg_O} {a0 : Nat} {i1 : Int32} {i2 : Int32} {i3 : Int32} {i4 : Int32} {i5 : Int32} {G : fg_H} {t : (Int32 × fg_H)} (X : fg_X Ω RX8 "betterAt" cX8_betterAt 7 (some .int) 7) (hF : fX8_betterAt_36 a0 i1 i2 i3 i4 i5 G = some t) (hT : fg_T Ω (.returned (some (.int t.1))) t.2) : fg_W Ω G 36 [(0, .ref a0), (1, .int i1), (2, .int i2), (3, .int i3), (4, .int i4), (5, .int i5)] [] := by
  unfold fX8_betterAt_36 at hF
  exact fg_lp_walk (P := fun z => fg_W Ω z.2.2.2.2.2.2 36 [(0, .ref z.1), (1, .int z.2.1), (2, .int z.2.2.1), (3, .int z.2.2.2.1), (4, .int z.2.2.2.2.1), (5, .int z.2.2.2.2.2.1)] []) (fun y o ho hl hr => wX8_betterAt_36b X ho (fun z e => hl z e) (fun u e => by rw [hr _ e]; exact hT)) hF
set_option maxHeartbeats 4000000 in
theorem wX8_betterAt {Ω : fg_O} {a0 : Nat} {i1 : Int32} {G : fg_H} {t : Int32 × fg_H} (X : fg_X Ω RX8 "betterAt" cX8_betterAt 7 (some .int) 7) (hF : fX8_betterAt a0 i1 G = some t) (hT : fg_T Ω (.returned (some (.int t.1))) t.2) : fg_W Ω G 0 [(0, .ref a0), (1, .int i1)] [] := by
  unfold fX8_betterAt at hF
  refine fg_aload_n X (r := (some a0)) dX8_betterAt_0 rfl 0 rfl ?_
  replace hF := fg_ob_some hF
  obtain ⟨r1, e_1, hF⟩ := hF
  refine fg_getr X ff_X8_s q1585 e_1 dX8_betterAt_1 ?_
  refine fg_bipush X (v := (12 : Int32)) dX8_betterAt_4 (by decide) ?_
  refine fg_iload_n X dX8_betterAt_6 rfl 1 rfl ?_
  refine fg_iadd X dX8_betterAt_7 ?_
  replace hF := fg_ob_some hF
  obtain ⟨a2, rfl, hF⟩ := hF
  replace hF := fg_ob_some hF
  obtain ⟨x3, e_2, hF⟩ := hF
  refine fg_iald X e_2 dX8_betterAt_8 ?_
  refine fg_istore_n X (L' := [(2, .int x3), (0, .ref a0), (1, .int i1)]) dX8_betterAt_9 rfl (by decide) rfl ?_
  refine fg_iload_n X dX8_betterAt_10 rfl 0 rfl ?_
  refine fg_istore_n X (L' := [(3, .int x3), (2, .int x3), (0, .ref a0), (1, .int i1)]) dX8_betterAt_11 rfl (by decide) rfl ?_
  refine fg_aload_n X (r := (some a0)) dX8_betterAt_12 rfl 2 rfl ?_
  refine fg_aload_n X (r := (some a0)) dX8_betterAt_13 rfl 2 rfl ?_
  replace hF := fg_gd_some hF
  obtain ⟨eg_3, hF⟩ := hF
  obtain ⟨fs_4, eo_5⟩ := fg_rc_get eg_3
  replace hF := fg_oc_some hF
  obtain ⟨x5, G4, e_6, hF⟩ := hF
  refine fg_callV X (st := [.ref a0]) (mX8_all Ω.2.2.2.2.1 Ω.1 e_6) q1885 q1887 qs75 q105 q1888 hd_X8_all (by decide) rfl eo_5 (by decide) rfl rfl (Nat.le_of_ble_eq_true rfl) dX8_betterAt_14 ?_
  replace hF := fg_gd_some hF
  obtain ⟨eg_7, hF⟩ := hF
  obtain ⟨fs_8, eo_9⟩ := fg_rc_get eg_7
  replace hF := fg_oc_some hF
  obtain ⟨u, G6, e_10, hF⟩ := hF
  refine fg_callV X (st := []) (mX8_goes Ω.2.2.2.2.1 Ω.1 e_10) q1909 q1911 qs80 q105 q1912 hd_X8_goes (by decide) rfl eo_9 (by decide) rfl rfl (Nat.le_of_ble_eq_true rfl) dX8_betterAt_17 ?_
  refine fg_aload_n X (r := (some a0)) dX8_betterAt_20 rfl 2 rfl ?_
  refine fg_aload_n X (r := (some a0)) dX8_betterAt_21 rfl 2 rfl ?_
  replace hF := fg_ob_some hF
  obtain ⟨r7, e_11, hF⟩ := hF
  refine fg_getr X ff_X8_villageOf q1562 e_11 dX8_betterAt_22 ?_
  refine fg_iload_n X dX8_betterAt_25 rfl 3 rfl ?_
  replace hF := fg_ob_some hF
  obtain ⟨a8, rfl, hF⟩ := hF
  replace hF := fg_ob_some hF
  obtain ⟨x9, e_12, hF⟩ := hF
  refine fg_iald X e_12 dX8_betterAt_26 ?_
  refine fg_iconst X (v := (-1 : Int32)) dX8_betterAt_27 (by decide) ?_
  replace hF := fg_gd_some hF
  obtain ⟨eg_13, hF⟩ := hF
  obtain ⟨fs_14, eo_15⟩ := fg_rc_get eg_13
  replace hF := fg_oc_some hF
  obtain ⟨x11, G10, e_16, hF⟩ := hF
  refine fg_callV X (st := []) (mX8_yielded Ω.2.2.2.2.1 Ω.1 e_16) q1925 q1927 qs84 q105 q1928 hd_X8_yielded (by decide) rfl eo_15 (by decide) rfl rfl (Nat.le_of_ble_eq_true rfl) dX8_betterAt_28 ?_
  refine fg_istore X (L' := [(4, .int x11), (3, .int x3), (2, .int x3), (0, .ref a0), (1, .int i1)]) dX8_betterAt_31 (by decide) rfl ?_
  refine fg_iconst X (v := (0 : Int32)) dX8_betterAt_33 (by decide) ?_
  refine fg_istore X (L' := [(5, .int (0 : Int32)), (4, .int x11), (3, .int x3), (2, .int x3), (0, .ref a0), (1, .int i1)]) dX8_betterAt_34 (by decide) rfl ?_
  refine fg_sub [4, 5, 3, 2, 1, 0] rfl ?_
  exact wX8_betterAt_36 X hF hT
theorem mX8_betterAt (l : Launch) (D : fg_D) {a0 : Nat} {i1 : Int32} {G : fg_H} {t : Int32 × fg_H} (hF : fX8_betterAt a0 i1 G = some t) : fg_M l D yX8_betterAt cX8_betterAt 7 (some .int) 7 [.ref a0, .int i1] G (.returned (some (.int t.1))) t.2 :=
  fg_Mof (own := RX8) (nm := "betterAt") (L := [(0, .ref a0), (1, .int i1)]) (plainFor_of_name pn_X8) rfl rfl rfl (Nat.le_of_ble_eq_true rfl) (fun Ω _ _ X hT => wX8_betterAt X hF hT)
theorem hd_X8_restless : yX8_restless.cls ≠ "java/lang/invoke/MethodHandle" ∧ yX8_restless.cls ≠ "java/lang/invoke/VarHandle" ∧ (parseMethodDescriptor yX8_restless.desc).map (fun d => d.parameters.length) = some 0 := ⟨by decide +kernel, by decide +kernel, by decide +kernel⟩
set_option maxHeartbeats 4000000 in
theorem wX8_restless_9b {Ω : fg_O} {a0 : Nat} {i1 : Int32} {i2 : Int32} {G : fg_H} {t : ((Nat × Int32 × Int32 × fg_H) ⊕ (Int32 × fg_H))} (X : fg_X Ω RX8 "restless" cX8_restless 3 (some .int) 8) (hF : fX8_restless_9b a0 i1 i2 G = some t) (h9 : ∀ z, t = (.inl z) → fg_W Ω z.2.2.2 9 [(0, .ref z.1), (1, .int z.2.1), (2, .int z.2.2.1)] []) (hT : ∀ u, t = (.inr u) → fg_T Ω (.returned (some (.int u.1))) u.2) : fg_W Ω G 9 [(0, .ref a0), (1, .int i1), (2, .int i2)] [] := by
  unfold fX8_restless_9b at hF
  refine fg_iload_n X dX8_restless_9 rfl 2 rfl ?_
  refine fg_aload_n X (r := (some a0)) dX8_restless_10 rfl 0 rfl ?_
  replace hF := fg_ob_some hF
  obtain ⟨r2, e_1, hF⟩ := hF
  refine fg_getr X ff_X8_ridge q1558 e_1 dX8_restless_11 ?_
  refine fg_bipush X (v := (6 : Int32)) dX8_restless_14 (by decide) ?_
  replace hF := fg_ob_some hF
  obtain ⟨a3, rfl, hF⟩ := hF
  replace hF := fg_ob_some hF
  obtain ⟨x4, e_2, hF⟩ := hF
  refine fg_iald X e_2 dX8_restless_16 ?_
  refine fg_icmp_ge X (tgt := 53) dX8_restless_17 (by decide) (fun hc => ?_) (fun hc => ?_)
  · rw [if_pos hc] at hF
    replace hF := fg_rt_some hF
    obtain ⟨t5, hF, ht_3⟩ := hF
    subst ht_3
    replace hT := hT _ rfl
    refine fg_iload_n X dX8_restless_53 rfl 1 rfl ?_
    cases hF
    exact fg_iret X dX8_restless_54 (hT)
  · rw [if_neg hc] at hF
    refine fg_iload_n X dX8_restless_20 rfl 1 rfl ?_
    refine fg_aload_n X (r := (some a0)) dX8_restless_21 rfl 0 rfl ?_
    refine fg_iload_n X dX8_restless_22 rfl 2 rfl ?_
    replace hF := fg_gd_some hF
    obtain ⟨eg_4, hF⟩ := hF
    obtain ⟨fs_5, eo_6⟩ := fg_rc_get eg_4
    replace hF := fg_oc_some hF
    obtain ⟨x7, G6, e_7, hF⟩ := hF
    refine fg_callV X (st := [.int i1]) (mX8_betterAt Ω.2.2.2.2.1 Ω.1 e_7) q1957 q1959 qs87 q105 q1960 hd_X8_betterAt (by decide) rfl eo_6 (by decide) rfl rfl (Nat.le_of_ble_eq_true rfl) dX8_restless_23 ?_
    refine fg_aload_n X (r := (some a0)) dX8_restless_26 rfl 0 rfl ?_
    replace hF := fg_ob_some hF
    obtain ⟨r8, e_8, hF⟩ := hF
    refine fg_getr X ff_X8_s q1585 e_8 dX8_restless_27 ?_
    refine fg_bipush X (v := (12 : Int32)) dX8_restless_30 (by decide) ?_
    refine fg_iload_n X dX8_restless_32 rfl 2 rfl ?_
    refine fg_iadd X dX8_restless_33 ?_
    replace hF := fg_ob_some hF
    obtain ⟨a9, rfl, hF⟩ := hF
    replace hF := fg_ob_some hF
    obtain ⟨x10, e_9, hF⟩ := hF
    refine fg_iald X e_9 dX8_restless_34 ?_
    refine fg_icmp_eq X (tgt := 44) dX8_restless_35 (by decide) (fun hc => ?_) (fun hc => ?_)
    · rw [if_pos hc] at hF
      refine fg_iconst X (v := (0 : Int32)) dX8_restless_44 (by decide) ?_
      refine fg_ior X dX8_restless_45 ?_
      replace hF := fg_ob_some hF
      obtain ⟨v11, ex_10, hF⟩ := hF
      refine fg_topi (Option.some.inj ex_10) ?_
      refine fg_istore_n X (L' := [(1, .int v11), (0, .ref a0), (2, .int i2)]) dX8_restless_46 rfl (by decide) rfl ?_
      refine fg_iinc X (v := (i2 + (1 : Int32))) (L' := [(2, .int (i2 + (1 : Int32))), (1, .int v11), (0, .ref a0)]) dX8_restless_47 2 rfl rfl (by decide) rfl ?_
      refine fg_goto X (tgt := 9) dX8_restless_50 (by decide) ?_
      refine fg_sub [2, 1, 0] rfl ?_
      exact h9 _ (Option.some.inj hF).symm
    · rw [if_neg hc] at hF
      refine fg_iconst X (v := (1 : Int32)) dX8_restless_38 (by decide) ?_
      refine fg_iload_n X dX8_restless_39 rfl 2 rfl ?_
      refine fg_ishl X dX8_restless_40 ?_
      refine fg_goto X (tgt := 45) dX8_restless_41 (by decide) ?_
      refine fg_ior X dX8_restless_45 ?_
      replace hF := fg_ob_some hF
      obtain ⟨v12, ex_11, hF⟩ := hF
      refine fg_topi (Option.some.inj ex_11) ?_
      refine fg_istore_n X (L' := [(1, .int v12), (0, .ref a0), (2, .int i2)]) dX8_restless_46 rfl (by decide) rfl ?_
      refine fg_iinc X (v := (i2 + (1 : Int32))) (L' := [(2, .int (i2 + (1 : Int32))), (1, .int v12), (0, .ref a0)]) dX8_restless_47 2 rfl rfl (by decide) rfl ?_
      refine fg_goto X (tgt := 9) dX8_restless_50 (by decide) ?_
      refine fg_sub [2, 1, 0] rfl ?_
      exact h9 _ (Option.some.inj hF).symm
set_option maxHeartbeats 4000000 in
theorem wX8_restless_9 {Ω : fg_O} {a0 : Nat} {i1 : Int32} {i2 : Int32} {G : fg_H} {t : (Int32 × fg_H)} (X : fg_X Ω RX8 "restless" cX8_restless 3 (some .int) 8) (hF : fX8_restless_9 a0 i1 i2 G = some t) (hT : fg_T Ω (.returned (some (.int t.1))) t.2) : fg_W Ω G 9 [(0, .ref a0), (1, .int i1), (2, .int i2)] [] := by
  unfold fX8_restless_9 at hF
  exact fg_lp_walk (P := fun z => fg_W Ω z.2.2.2 9 [(0, .ref z.1), (1, .int z.2.1), (2, .int z.2.2.1)] []) (fun y o ho hl hr => wX8_restless_9b X ho (fun z e => hl z e) (fun u e => by rw [hr _ e]; exact hT)) hF
set_option maxHeartbeats 4000000 in
theorem wX8_restless {Ω : fg_O} {a0 : Nat} {G : fg_H} {t : Int32 × fg_H} (X : fg_X Ω RX8 "restless" cX8_restless 3 (some .int) 8) (hF : fX8_restless a0 G = some t) (hT : fg_T Ω (.returned (some (.int t.1))) t.2) : fg_W Ω G 0 [(0, .ref a0)] [] := by
  unfold fX8_restless at hF
  refine fg_aload_n X (r := (some a0)) dX8_restless_0 rfl 0 rfl ?_
  refine fg_iconst X (v := (0 : Int32)) dX8_restless_1 (by decide) ?_
  replace hF := fg_ob_some hF
  obtain ⟨G1, e_1, hF⟩ := hF
  refine fg_putv X (ty := .int) (v := .int (0 : Int32)) ff_X8_thrown q1548 rfl (Or.inl rfl) rfl rfl rfl e_1 dX8_restless_2 ?_
  refine fg_iconst X (v := (0 : Int32)) dX8_restless_5 (by decide) ?_
  refine fg_istore_n X (L' := [(1, .int (0 : Int32)), (0, .ref a0)]) dX8_restless_6 rfl (by decide) rfl ?_
  refine fg_iconst X (v := (0 : Int32)) dX8_restless_7 (by decide) ?_
  refine fg_istore_n X (L' := [(2, .int (0 : Int32)), (1, .int (0 : Int32)), (0, .ref a0)]) dX8_restless_8 rfl (by decide) rfl ?_
  refine fg_sub [2, 1, 0] rfl ?_
  exact wX8_restless_9 X hF hT
theorem mX8_restless (l : Launch) (D : fg_D) {a0 : Nat} {G : fg_H} {t : Int32 × fg_H} (hF : fX8_restless a0 G = some t) : fg_M l D yX8_restless cX8_restless 3 (some .int) 8 [.ref a0] G (.returned (some (.int t.1))) t.2 :=
  fg_Mof (own := RX8) (nm := "restless") (L := [(0, .ref a0)]) (plainFor_of_name pn_X8) rfl rfl rfl (Nat.le_of_ble_eq_true rfl) (fun Ω _ _ X hT => wX8_restless X hF hT)
theorem hd_X8_copies : yX8_copies.cls ≠ "java/lang/invoke/MethodHandle" ∧ yX8_copies.cls ≠ "java/lang/invoke/VarHandle" ∧ (parseMethodDescriptor yX8_copies.desc).map (fun d => d.parameters.length) = some 4 := ⟨by decide +kernel, by decide +kernel, by decide +kernel⟩
set_option maxHeartbeats 4000000 in
theorem wX8_copies_3b {Ω : fg_O} {r0 : Option Nat} {i1 : Int32} {r2 : Option Nat} {i3 : Int32} {i4 : Int32} {G : fg_H} {t : ((Option Nat × Int32 × Option Nat × Int32 × Int32 × fg_H) ⊕ (Unit × fg_H))} (X : fg_X Ω RX8 "copies" cX8_copies 5 none 0) (hF : fX8_copies_3b r0 i1 r2 i3 i4 G = some t) (h3 : ∀ z, t = (.inl z) → fg_W Ω z.2.2.2.2.2 3 [(0, va_rf z.1), (1, .int z.2.1), (2, va_rf z.2.2.1), (3, .int z.2.2.2.1), (4, .int z.2.2.2.2.1)] []) (hT : ∀ u, t = (.inr u) → fg_T Ω (.returned none) u.2) : fg_W Ω G 3 [(0, va_rf r0), (1, .int i1), (2, va_rf r2), (3, .int i3), (4, .int i4)] [] := by
  unfold fX8_copies_3b at hF
  refine fg_iload X dX8_copies_3 4 rfl ?_
  refine fg_bipush X (v := (80 : Int32)) dX8_copies_5 (by decide) ?_
  refine fg_icmp_ge X (tgt := 28) dX8_copies_7 (by decide) (fun hc => ?_) (fun hc => ?_)
  · rw [if_pos hc] at hF
    replace hF := fg_rt_some hF
    obtain ⟨t1, hF, ht_1⟩ := hF
    subst ht_1
    replace hT := hT _ rfl
    cases hF
    exact fg_vret X dX8_copies_28 (hT)
  · rw [if_neg hc] at hF
    refine fg_aload_n X (r := r2) dX8_copies_10 rfl 2 rfl ?_
    refine fg_iload_n X dX8_copies_11 rfl 3 rfl ?_
    refine fg_iload X dX8_copies_12 4 rfl ?_
    refine fg_iadd X dX8_copies_14 ?_
    refine fg_aload_n X (r := r0) dX8_copies_15 rfl 0 rfl ?_
    refine fg_iload_n X dX8_copies_16 rfl 1 rfl ?_
    refine fg_iload X dX8_copies_17 4 rfl ?_
    refine fg_iadd X dX8_copies_19 ?_
    replace hF := fg_ob_some hF
    obtain ⟨a2, rfl, hF⟩ := hF
    replace hF := fg_ob_some hF
    obtain ⟨x3, e_2, hF⟩ := hF
    refine fg_iald X e_2 dX8_copies_20 ?_
    replace hF := fg_ob_some hF
    obtain ⟨a4, rfl, hF⟩ := hF
    replace hF := fg_ob_some hF
    obtain ⟨G5, e_3, hF⟩ := hF
    refine fg_iast X e_3 dX8_copies_21 ?_
    refine fg_iinc X (v := (i4 + (1 : Int32))) (L' := [(4, .int (i4 + (1 : Int32))), (0, .ref a2), (1, .int i1), (2, .ref a4), (3, .int i3)]) dX8_copies_22 4 rfl rfl (by decide) rfl ?_
    refine fg_goto X (tgt := 3) dX8_copies_25 (by decide) ?_
    refine fg_sub [1, 2, 3, 4, 0] rfl ?_
    exact h3 _ (Option.some.inj hF).symm
set_option maxHeartbeats 4000000 in
theorem wX8_copies_3 {Ω : fg_O} {r0 : Option Nat} {i1 : Int32} {r2 : Option Nat} {i3 : Int32} {i4 : Int32} {G : fg_H} {t : (Unit × fg_H)} (X : fg_X Ω RX8 "copies" cX8_copies 5 none 0) (hF : fX8_copies_3 r0 i1 r2 i3 i4 G = some t) (hT : fg_T Ω (.returned none) t.2) : fg_W Ω G 3 [(0, va_rf r0), (1, .int i1), (2, va_rf r2), (3, .int i3), (4, .int i4)] [] := by
  unfold fX8_copies_3 at hF
  exact fg_lp_walk (P := fun z => fg_W Ω z.2.2.2.2.2 3 [(0, va_rf z.1), (1, .int z.2.1), (2, va_rf z.2.2.1), (3, .int z.2.2.2.1), (4, .int z.2.2.2.2.1)] []) (fun y o ho hl hr => wX8_copies_3b X ho (fun z e => hl z e) (fun u e => by rw [hr _ e]; exact hT)) hF
set_option maxHeartbeats 4000000 in
theorem wX8_copies {Ω : fg_O} {r0 : Option Nat} {i1 : Int32} {r2 : Option Nat} {i3 : Int32} {G : fg_H} {t : Unit × fg_H} (X : fg_X Ω RX8 "copies" cX8_copies 5 none 0) (hF : fX8_copies r0 i1 r2 i3 G = some t) (hT : fg_T Ω (.returned none) t.2) : fg_W Ω G 0 [(0, va_rf r0), (1, .int i1), (2, va_rf r2), (3, .int i3)] [] := by
  unfold fX8_copies at hF
  refine fg_iconst X (v := (0 : Int32)) dX8_copies_0 (by decide) ?_
  refine fg_istore X (L' := [(4, .int (0 : Int32)), (0, va_rf r0), (1, .int i1), (2, va_rf r2), (3, .int i3)]) dX8_copies_1 (by decide) rfl ?_
  refine fg_sub [1, 2, 3, 4, 0] rfl ?_
  exact wX8_copies_3 X hF hT
theorem mX8_copies (l : Launch) (D : fg_D) {r0 : Option Nat} {i1 : Int32} {r2 : Option Nat} {i3 : Int32} {G : fg_H} {t : Unit × fg_H} (hF : fX8_copies r0 i1 r2 i3 G = some t) : fg_M l D yX8_copies cX8_copies 5 none 0 [va_rf r0, .int i1, va_rf r2, .int i3] G (.returned none) t.2 :=
  fg_Mof (own := RX8) (nm := "copies") (L := [(0, va_rf r0), (1, .int i1), (2, va_rf r2), (3, .int i3)]) (plainFor_of_name pn_X8) rfl rfl (by cases r0 <;> cases r2 <;> rfl) (by cases r0 <;> cases r2 <;> exact Nat.le_of_ble_eq_true rfl) (fun Ω _ _ X hT => wX8_copies X hF hT)
theorem hd_X8_isAs : yX8_isAs.cls ≠ "java/lang/invoke/MethodHandle" ∧ yX8_isAs.cls ≠ "java/lang/invoke/VarHandle" ∧ (parseMethodDescriptor yX8_isAs.desc).map (fun d => d.parameters.length) = some 1 := ⟨by decide +kernel, by decide +kernel, by decide +kernel⟩
set_option maxHeartbeats 4000000 in
theorem wX8_isAs_2b {Ω : fg_O} {a0 : Nat} {i1 : Int32} {i2 : Int32} {G : fg_H} {t : ((Nat × Int32 × Int32 × fg_H) ⊕ (Int32 × fg_H))} (X : fg_X Ω RX8 "isAs" cX8_isAs 3 (some .boolean) 0) (hF : fX8_isAs_2b a0 i1 i2 G = some t) (h2 : ∀ z, t = (.inl z) → fg_W Ω z.2.2.2 2 [(0, .ref z.1), (1, .int z.2.1), (2, .int z.2.2.1)] []) (hT : ∀ u, t = (.inr u) → fg_T Ω (.returned (some (.int u.1))) u.2) : fg_W Ω G 2 [(0, .ref a0), (1, .int i1), (2, .int i2)] [] := by
  unfold fX8_isAs_2b at hF
  refine fg_iload_n X dX8_isAs_2 rfl 2 rfl ?_
  refine fg_aload_n X (r := (some a0)) dX8_isAs_3 rfl 0 rfl ?_
  replace hF := fg_ob_some hF
  obtain ⟨r1, e_1, hF⟩ := hF
  refine fg_getr X ff_X8_ridge q1558 e_1 dX8_isAs_4 ?_
  refine fg_bipush X (v := (6 : Int32)) dX8_isAs_7 (by decide) ?_
  replace hF := fg_ob_some hF
  obtain ⟨a2, rfl, hF⟩ := hF
  replace hF := fg_ob_some hF
  obtain ⟨x3, e_2, hF⟩ := hF
  refine fg_iald X e_2 dX8_isAs_9 ?_
  refine fg_icmp_ge X (tgt := 44) dX8_isAs_10 (by decide) (fun hc => ?_) (fun hc => ?_)
  · rw [if_pos hc] at hF
    replace hF := fg_rt_some hF
    obtain ⟨t4, hF, ht_3⟩ := hF
    subst ht_3
    replace hT := hT _ rfl
    refine fg_iconst X (v := (1 : Int32)) dX8_isAs_44 (by decide) ?_
    cases hF
    exact fg_zret X (by decide) dX8_isAs_45 (hT)
  · rw [if_neg hc] at hF
    refine fg_aload_n X (r := (some a0)) dX8_isAs_13 rfl 0 rfl ?_
    replace hF := fg_ob_some hF
    obtain ⟨r5, e_4, hF⟩ := hF
    refine fg_getr X ff_X8_been q1589 e_4 dX8_isAs_14 ?_
    refine fg_bipush X (v := (12 : Int32)) dX8_isAs_17 (by decide) ?_
    refine fg_iload_n X dX8_isAs_19 rfl 1 rfl ?_
    refine fg_imul X dX8_isAs_20 ?_
    refine fg_iload_n X dX8_isAs_21 rfl 2 rfl ?_
    refine fg_iadd X dX8_isAs_22 ?_
    replace hF := fg_ob_some hF
    obtain ⟨a6, rfl, hF⟩ := hF
    replace hF := fg_ob_some hF
    obtain ⟨x7, e_5, hF⟩ := hF
    refine fg_iald X e_5 dX8_isAs_23 ?_
    refine fg_aload_n X (r := (some a0)) dX8_isAs_24 rfl 0 rfl ?_
    replace hF := fg_ob_some hF
    obtain ⟨r8, e_6, hF⟩ := hF
    refine fg_getr X ff_X8_s q1585 e_6 dX8_isAs_25 ?_
    refine fg_bipush X (v := (12 : Int32)) dX8_isAs_28 (by decide) ?_
    refine fg_iload_n X dX8_isAs_30 rfl 2 rfl ?_
    refine fg_iadd X dX8_isAs_31 ?_
    replace hF := fg_ob_some hF
    obtain ⟨a9, rfl, hF⟩ := hF
    replace hF := fg_ob_some hF
    obtain ⟨x10, e_7, hF⟩ := hF
    refine fg_iald X e_7 dX8_isAs_32 ?_
    refine fg_icmp_eq X (tgt := 38) dX8_isAs_33 (by decide) (fun hc => ?_) (fun hc => ?_)
    · rw [if_pos hc] at hF
      refine fg_iinc X (v := (i2 + (1 : Int32))) (L' := [(2, .int (i2 + (1 : Int32))), (0, .ref a0), (1, .int i1)]) dX8_isAs_38 2 rfl rfl (by decide) rfl ?_
      refine fg_goto X (tgt := 2) dX8_isAs_41 (by decide) ?_
      refine fg_sub [1, 2, 0] rfl ?_
      exact h2 _ (Option.some.inj hF).symm
    · rw [if_neg hc] at hF
      replace hF := fg_rt_some hF
      obtain ⟨t11, hF, ht_8⟩ := hF
      subst ht_8
      replace hT := hT _ rfl
      refine fg_iconst X (v := (0 : Int32)) dX8_isAs_36 (by decide) ?_
      cases hF
      exact fg_zret X (by decide) dX8_isAs_37 (hT)
set_option maxHeartbeats 4000000 in
theorem wX8_isAs_2 {Ω : fg_O} {a0 : Nat} {i1 : Int32} {i2 : Int32} {G : fg_H} {t : (Int32 × fg_H)} (X : fg_X Ω RX8 "isAs" cX8_isAs 3 (some .boolean) 0) (hF : fX8_isAs_2 a0 i1 i2 G = some t) (hT : fg_T Ω (.returned (some (.int t.1))) t.2) : fg_W Ω G 2 [(0, .ref a0), (1, .int i1), (2, .int i2)] [] := by
  unfold fX8_isAs_2 at hF
  exact fg_lp_walk (P := fun z => fg_W Ω z.2.2.2 2 [(0, .ref z.1), (1, .int z.2.1), (2, .int z.2.2.1)] []) (fun y o ho hl hr => wX8_isAs_2b X ho (fun z e => hl z e) (fun u e => by rw [hr _ e]; exact hT)) hF
set_option maxHeartbeats 4000000 in
theorem wX8_isAs {Ω : fg_O} {a0 : Nat} {i1 : Int32} {G : fg_H} {t : Int32 × fg_H} (X : fg_X Ω RX8 "isAs" cX8_isAs 3 (some .boolean) 0) (hF : fX8_isAs a0 i1 G = some t) (hT : fg_T Ω (.returned (some (.int t.1))) t.2) : fg_W Ω G 0 [(0, .ref a0), (1, .int i1)] [] := by
  unfold fX8_isAs at hF
  refine fg_iconst X (v := (0 : Int32)) dX8_isAs_0 (by decide) ?_
  refine fg_istore_n X (L' := [(2, .int (0 : Int32)), (0, .ref a0), (1, .int i1)]) dX8_isAs_1 rfl (by decide) rfl ?_
  refine fg_sub [1, 2, 0] rfl ?_
  exact wX8_isAs_2 X hF hT
theorem mX8_isAs (l : Launch) (D : fg_D) {a0 : Nat} {i1 : Int32} {G : fg_H} {t : Int32 × fg_H} (hF : fX8_isAs a0 i1 G = some t) : fg_M l D yX8_isAs cX8_isAs 3 (some .boolean) 0 [.ref a0, .int i1] G (.returned (some (.int t.1))) t.2 :=
  fg_Mof (own := RX8) (nm := "isAs") (L := [(0, .ref a0), (1, .int i1)]) (plainFor_of_name pn_X8) rfl rfl rfl (Nat.le_of_ble_eq_true rfl) (fun Ω _ _ X hT => wX8_isAs X hF hT)
theorem hd_X8_plays : yX8_plays.cls ≠ "java/lang/invoke/MethodHandle" ∧ yX8_plays.cls ≠ "java/lang/invoke/VarHandle" ∧ (parseMethodDescriptor yX8_plays.desc).map (fun d => d.parameters.length) = some 0 := ⟨by decide +kernel, by decide +kernel, by decide +kernel⟩
set_option maxHeartbeats 4000000 in
theorem wX8_plays_173b {Ω : fg_O} {a0 : Nat} {i1 : Int32} {i3 : Int32} {G : fg_H} {t : ((Nat × Int32 × Int32 × fg_H) ⊕ ((Nat × Int32 × fg_H) ⊕ (Unit × fg_H)))} (X : fg_X Ω RX8 "plays" cX8_plays 5 none 8) (hF : fX8_plays_173b a0 i1 i3 G = some t) (h41 : ∀ z, t = (.inr (.inl z)) → fg_W Ω z.2.2 41 [(0, .ref z.1), (1, .int z.2.1)] []) (h173 : ∀ z, t = (.inl z) → fg_W Ω z.2.2.2 173 [(0, .ref z.1), (1, .int z.2.1), (3, .int z.2.2.1)] []) (hT : ∀ u, t = (.inr (.inr u)) → fg_T Ω (.returned none) u.2) : fg_W Ω G 173 [(0, .ref a0), (1, .int i1), (3, .int i3)] [] := by
  unfold fX8_plays_173b at hF
  refine fg_iload_n X dX8_plays_173 rfl 2 rfl ?_
  refine fg_bipush X (v := (12 : Int32)) dX8_plays_174 (by decide) ?_
  refine fg_icmp_ge X (tgt := 208) dX8_plays_176 (by decide) (fun hc => ?_) (fun hc => ?_)
  · rw [if_pos hc] at hF
    replace hF := fg_rt_some hF
    obtain ⟨t17, hF, ht_1⟩ := hF
    subst ht_1
    replace h41 := fun z q => h41 z (congrArg Sum.inr q)
    replace hT := fun u q => hT u (congrArg Sum.inr q)
    refine fg_goto X (tgt := 41) dX8_plays_208 (by decide) ?_
    refine fg_sub [0, 1] rfl ?_
    exact h41 _ (Option.some.inj hF).symm
  · rw [if_neg hc] at hF
    refine fg_aload_n X (r := (some a0)) dX8_plays_179 rfl 0 rfl ?_
    replace hF := fg_ob_some hF
    obtain ⟨r18, e_2, hF⟩ := hF
    refine fg_getr X ff_X8_been q1589 e_2 dX8_plays_180 ?_
    refine fg_bipush X (v := (12 : Int32)) dX8_plays_183 (by decide) ?_
    refine fg_aload_n X (r := (some a0)) dX8_plays_185 rfl 0 rfl ?_
    replace hF := fg_ob_some hF
    obtain ⟨x19, e_3, hF⟩ := hF
    refine fg_geti X ff_X8_playedRounds q1590 e_3 dX8_plays_186 ?_
    refine fg_imul X dX8_plays_189 ?_
    refine fg_iload_n X dX8_plays_190 rfl 2 rfl ?_
    refine fg_iadd X dX8_plays_191 ?_
    refine fg_aload_n X (r := (some a0)) dX8_plays_192 rfl 0 rfl ?_
    replace hF := fg_ob_some hF
    obtain ⟨r20, e_4, hF⟩ := hF
    refine fg_getr X ff_X8_s q1585 e_4 dX8_plays_193 ?_
    refine fg_bipush X (v := (12 : Int32)) dX8_plays_196 (by decide) ?_
    refine fg_iload_n X dX8_plays_198 rfl 2 rfl ?_
    refine fg_iadd X dX8_plays_199 ?_
    replace hF := fg_ob_some hF
    obtain ⟨a21, rfl, hF⟩ := hF
    replace hF := fg_ob_some hF
    obtain ⟨x22, e_5, hF⟩ := hF
    refine fg_iald X e_5 dX8_plays_200 ?_
    replace hF := fg_ob_some hF
    obtain ⟨a23, rfl, hF⟩ := hF
    replace hF := fg_ob_some hF
    obtain ⟨G24, e_6, hF⟩ := hF
    refine fg_iast X e_6 dX8_plays_201 ?_
    refine fg_iinc X (v := (i3 + (1 : Int32))) (L' := [(3, .int (i3 + (1 : Int32))), (0, .ref a0), (1, .int i1)]) dX8_plays_202 2 rfl rfl (by decide) rfl ?_
    refine fg_goto X (tgt := 173) dX8_plays_205 (by decide) ?_
    refine fg_sub [1, 2, 0] rfl ?_
    exact h173 _ (Option.some.inj hF).symm
set_option maxHeartbeats 4000000 in
theorem wX8_plays_173 {Ω : fg_O} {a0 : Nat} {i1 : Int32} {i3 : Int32} {G : fg_H} {t : ((Nat × Int32 × fg_H) ⊕ (Unit × fg_H))} (X : fg_X Ω RX8 "plays" cX8_plays 5 none 8) (hF : fX8_plays_173 a0 i1 i3 G = some t) (h41 : ∀ z, t = (.inl z) → fg_W Ω z.2.2 41 [(0, .ref z.1), (1, .int z.2.1)] []) (hT : ∀ u, t = (.inr u) → fg_T Ω (.returned none) u.2) : fg_W Ω G 173 [(0, .ref a0), (1, .int i1), (3, .int i3)] [] := by
  unfold fX8_plays_173 at hF
  exact fg_lp_walk (P := fun z => fg_W Ω z.2.2.2 173 [(0, .ref z.1), (1, .int z.2.1), (3, .int z.2.2.1)] []) (fun y o ho hl hr => wX8_plays_173b X ho (fun z e => h41 z (hr _ e).symm) (fun z e => hl z e) (fun u e => hT u (hr _ e).symm)) hF
set_option maxHeartbeats 4000000 in
theorem wX8_plays_147b {Ω : fg_O} {a0 : Nat} {i1 : Int32} {i3 : Int32} {G : fg_H} {t : ((Nat × Int32 × Int32 × fg_H) ⊕ ((Nat × Int32 × fg_H) ⊕ (Unit × fg_H)))} (X : fg_X Ω RX8 "plays" cX8_plays 5 none 8) (hF : fX8_plays_147b a0 i1 i3 G = some t) (h41 : ∀ z, t = (.inr (.inl z)) → fg_W Ω z.2.2 41 [(0, .ref z.1), (1, .int z.2.1)] []) (h147 : ∀ z, t = (.inl z) → fg_W Ω z.2.2.2 147 [(0, .ref z.1), (1, .int z.2.1), (3, .int z.2.2.1)] []) (hT : ∀ u, t = (.inr (.inr u)) → fg_T Ω (.returned none) u.2) : fg_W Ω G 147 [(0, .ref a0), (1, .int i1), (3, .int i3)] [] := by
  unfold fX8_plays_147b at hF
  refine fg_iload_n X dX8_plays_147 rfl 2 rfl ?_
  refine fg_aload_n X (r := (some a0)) dX8_plays_148 rfl 0 rfl ?_
  replace hF := fg_ob_some hF
  obtain ⟨x15, e_1, hF⟩ := hF
  refine fg_geti X ff_X8_playedRounds q1590 e_1 dX8_plays_149 ?_
  refine fg_icmp_ge X (tgt := 171) dX8_plays_152 (by decide) (fun hc => ?_) (fun hc => ?_)
  · rw [if_pos hc] at hF
    replace hF := fg_rt_some hF
    obtain ⟨t16, hF, ht_2⟩ := hF
    subst ht_2
    replace h41 := fun z q => h41 z (congrArg Sum.inr q)
    replace hT := fun u q => hT u (congrArg Sum.inr q)
    refine fg_iconst X (v := (0 : Int32)) dX8_plays_171 (by decide) ?_
    refine fg_istore_n X (L' := [(3, .int (0 : Int32)), (0, .ref a0), (1, .int i1)]) dX8_plays_172 rfl (by decide) rfl ?_
    refine fg_sub [1, 2, 0] rfl ?_
    exact wX8_plays_173 X hF h41 hT
  · rw [if_neg hc] at hF
    refine fg_iload_n X dX8_plays_155 rfl 1 rfl ?_
    refine fg_if_ne X (tgt := 171) dX8_plays_156 (by decide) (fun hc => ?_) (fun hc => ?_)
    · rw [if_neg hc] at hF
      replace hF := fg_rt_some hF
      obtain ⟨t25, hF, ht_3⟩ := hF
      subst ht_3
      replace h41 := fun z q => h41 z (congrArg Sum.inr q)
      replace hT := fun u q => hT u (congrArg Sum.inr q)
      refine fg_iconst X (v := (0 : Int32)) dX8_plays_171 (by decide) ?_
      refine fg_istore_n X (L' := [(3, .int (0 : Int32)), (0, .ref a0), (1, .int i1)]) dX8_plays_172 rfl (by decide) rfl ?_
      refine fg_sub [1, 2, 0] rfl ?_
      exact wX8_plays_173 X hF h41 hT
    · rw [if_pos hc] at hF
      refine fg_aload_n X (r := (some a0)) dX8_plays_159 rfl 0 rfl ?_
      refine fg_iload_n X dX8_plays_160 rfl 2 rfl ?_
      replace hF := fg_gd_some hF
      obtain ⟨eg_4, hF⟩ := hF
      obtain ⟨fs_5, eo_6⟩ := fg_rc_get eg_4
      replace hF := fg_oc_some hF
      obtain ⟨x27, G26, e_7, hF⟩ := hF
      refine fg_callV X (st := []) (mX8_isAs Ω.2.2.2.2.1 Ω.1 e_7) q1972 q1974 qs89 q105 q1975 hd_X8_isAs (by decide) rfl eo_6 (by decide) rfl rfl (Nat.le_of_ble_eq_true rfl) dX8_plays_161 ?_
      refine fg_istore_n X (L' := [(1, .int x27), (0, .ref a0), (3, .int i3)]) dX8_plays_164 rfl (by decide) rfl ?_
      refine fg_iinc X (v := (i3 + (1 : Int32))) (L' := [(3, .int (i3 + (1 : Int32))), (1, .int x27), (0, .ref a0)]) dX8_plays_165 2 rfl rfl (by decide) rfl ?_
      refine fg_goto X (tgt := 147) dX8_plays_168 (by decide) ?_
      refine fg_sub [2, 1, 0] rfl ?_
      exact h147 _ (Option.some.inj hF).symm
set_option maxHeartbeats 4000000 in
theorem wX8_plays_147 {Ω : fg_O} {a0 : Nat} {i1 : Int32} {i3 : Int32} {G : fg_H} {t : ((Nat × Int32 × fg_H) ⊕ (Unit × fg_H))} (X : fg_X Ω RX8 "plays" cX8_plays 5 none 8) (hF : fX8_plays_147 a0 i1 i3 G = some t) (h41 : ∀ z, t = (.inl z) → fg_W Ω z.2.2 41 [(0, .ref z.1), (1, .int z.2.1)] []) (hT : ∀ u, t = (.inr u) → fg_T Ω (.returned none) u.2) : fg_W Ω G 147 [(0, .ref a0), (1, .int i1), (3, .int i3)] [] := by
  unfold fX8_plays_147 at hF
  exact fg_lp_walk (P := fun z => fg_W Ω z.2.2.2 147 [(0, .ref z.1), (1, .int z.2.1), (3, .int z.2.2.1)] []) (fun y o ho hl hr => wX8_plays_147b X ho (fun z e => h41 z (hr _ e).symm) (fun z e => hl z e) (fun u e => hT u (hr _ e).symm)) hF
set_option maxHeartbeats 4000000 in
theorem wX8_plays_137 {Ω : fg_O} {a0 : Nat} {s0 : Nat} {s1 : Int32} {G : fg_H} {t : ((Nat × Int32 × fg_H) ⊕ (Unit × fg_H))} (X : fg_X Ω RX8 "plays" cX8_plays 5 none 8) (hF : fX8_plays_137 a0 s0 s1 G = some t) (h41 : ∀ z, t = (.inl z) → fg_W Ω z.2.2 41 [(0, .ref z.1), (1, .int z.2.1)] []) (hT : ∀ u, t = (.inr u) → fg_T Ω (.returned none) u.2) : fg_W Ω G 137 [(0, .ref a0)] [.int s1, .ref s0] := by
  unfold fX8_plays_137 at hF
  replace hF := fg_gd_some hF
  obtain ⟨eg_1, hF⟩ := hF
  replace hF := fg_ob_some hF
  obtain ⟨G13, e_2, hF⟩ := hF
  refine fg_putv X (ty := .boolean) (v := .int s1) ff_X8_isRest q1591 rfl (Or.inl rfl) rfl (fg_nb eg_1) (fg_fb eg_1) e_2 dX8_plays_137 ?_
  refine fg_aload_n X (r := (some a0)) dX8_plays_140 rfl 0 rfl ?_
  replace hF := fg_ob_some hF
  obtain ⟨x14, e_3, hF⟩ := hF
  refine fg_geti X ff_X8_isRest q1591 e_3 dX8_plays_141 ?_
  refine fg_istore_n X (L' := [(1, .int x14), (0, .ref a0)]) dX8_plays_144 rfl (by decide) rfl ?_
  refine fg_iconst X (v := (0 : Int32)) dX8_plays_145 (by decide) ?_
  refine fg_istore_n X (L' := [(3, .int (0 : Int32)), (1, .int x14), (0, .ref a0)]) dX8_plays_146 rfl (by decide) rfl ?_
  refine fg_sub [2, 1, 0] rfl ?_
  exact wX8_plays_147 X hF h41 hT
set_option maxHeartbeats 4000000 in
theorem wX8_plays_109 {Ω : fg_O} {a0 : Nat} {i3 : Int32} {i4 : Int32} {s0 : Int32} {G : fg_H} {t : ((Nat × Int32 × Int32 × fg_H) ⊕ ((Nat × Int32 × fg_H) ⊕ (Unit × fg_H)))} (X : fg_X Ω RX8 "plays" cX8_plays 5 none 8) (hF : fX8_plays_109 a0 i3 i4 s0 G = some t) (h41 : ∀ z, t = (.inr (.inl z)) → fg_W Ω z.2.2 41 [(0, .ref z.1), (1, .int z.2.1)] []) (h68 : ∀ z, t = (.inl z) → fg_W Ω z.2.2.2 68 [(0, .ref z.1), (2, .int z.2.1), (3, .int z.2.2.1)] []) (hT : ∀ u, t = (.inr (.inr u)) → fg_T Ω (.returned none) u.2) : fg_W Ω G 109 [(0, .ref a0), (3, .int i3), (4, .int i4)] [.int s0] := by
  unfold fX8_plays_109 at hF
  refine fg_istore_n X (L' := [(2, .int s0), (0, .ref a0), (3, .int i3), (4, .int i4)]) dX8_plays_109 rfl (by decide) rfl ?_
  refine fg_aload_n X (r := (some a0)) dX8_plays_110 rfl 1 rfl ?_
  replace hF := fg_ob_some hF
  obtain ⟨r30, e_1, hF⟩ := hF
  refine fg_getr X ff_X8_s q1585 e_1 dX8_plays_111 ?_
  refine fg_bipush X (v := (12 : Int32)) dX8_plays_114 (by decide) ?_
  refine fg_iload_n X dX8_plays_116 rfl 2 rfl ?_
  refine fg_iadd X dX8_plays_117 ?_
  refine fg_iload X dX8_plays_118 3 rfl ?_
  replace hF := fg_ob_some hF
  obtain ⟨a31, rfl, hF⟩ := hF
  replace hF := fg_ob_some hF
  obtain ⟨G32, e_2, hF⟩ := hF
  refine fg_iast X e_2 dX8_plays_120 ?_
  refine fg_iinc X (v := (i3 + (1 : Int32))) (L' := [(3, .int (i3 + (1 : Int32))), (2, .int s0), (0, .ref a0), (4, .int i4)]) dX8_plays_121 2 rfl rfl (by decide) rfl ?_
  refine fg_goto X (tgt := 68) dX8_plays_124 (by decide) ?_
  refine fg_sub [2, 1, 0] rfl ?_
  exact h68 _ (Option.some.inj hF).symm
set_option maxHeartbeats 4000000 in
theorem wX8_plays_104 {Ω : fg_O} {a0 : Nat} {i3 : Int32} {i4 : Int32} {G : fg_H} {t : ((Nat × Int32 × Int32 × fg_H) ⊕ ((Nat × Int32 × fg_H) ⊕ (Unit × fg_H)))} (X : fg_X Ω RX8 "plays" cX8_plays 5 none 8) (hF : fX8_plays_104 a0 i3 i4 G = some t) (h41 : ∀ z, t = (.inr (.inl z)) → fg_W Ω z.2.2 41 [(0, .ref z.1), (1, .int z.2.1)] []) (h68 : ∀ z, t = (.inl z) → fg_W Ω z.2.2.2 68 [(0, .ref z.1), (2, .int z.2.1), (3, .int z.2.2.1)] []) (hT : ∀ u, t = (.inr (.inr u)) → fg_T Ω (.returned none) u.2) : fg_W Ω G 104 [(0, .ref a0), (3, .int i3), (4, .int i4)] [] := by
  unfold fX8_plays_104 at hF
  refine fg_iconst X (v := (1 : Int32)) dX8_plays_104 (by decide) ?_
  refine fg_goto X (tgt := 109) dX8_plays_105 (by decide) ?_
  refine fg_sub [0, 1, 2] rfl ?_
  exact wX8_plays_109 X hF h41 h68 hT
set_option maxHeartbeats 4000000 in
theorem wX8_plays_68b {Ω : fg_O} {a0 : Nat} {i2 : Int32} {i3 : Int32} {G : fg_H} {t : ((Nat × Int32 × Int32 × fg_H) ⊕ ((Nat × Int32 × fg_H) ⊕ (Unit × fg_H)))} (X : fg_X Ω RX8 "plays" cX8_plays 5 none 8) (hF : fX8_plays_68b a0 i2 i3 G = some t) (h41 : ∀ z, t = (.inr (.inl z)) → fg_W Ω z.2.2 41 [(0, .ref z.1), (1, .int z.2.1)] []) (h68 : ∀ z, t = (.inl z) → fg_W Ω z.2.2.2 68 [(0, .ref z.1), (2, .int z.2.1), (3, .int z.2.2.1)] []) (hT : ∀ u, t = (.inr (.inr u)) → fg_T Ω (.returned none) u.2) : fg_W Ω G 68 [(0, .ref a0), (2, .int i2), (3, .int i3)] [] := by
  unfold fX8_plays_68b at hF
  refine fg_iload_n X dX8_plays_68 rfl 2 rfl ?_
  refine fg_aload_n X (r := (some a0)) dX8_plays_69 rfl 0 rfl ?_
  replace hF := fg_ob_some hF
  obtain ⟨r9, e_1, hF⟩ := hF
  refine fg_getr X ff_X8_ridge q1558 e_1 dX8_plays_70 ?_
  refine fg_bipush X (v := (6 : Int32)) dX8_plays_73 (by decide) ?_
  replace hF := fg_ob_some hF
  obtain ⟨a10, rfl, hF⟩ := hF
  replace hF := fg_ob_some hF
  obtain ⟨x11, e_2, hF⟩ := hF
  refine fg_iald X e_2 dX8_plays_75 ?_
  refine fg_icmp_ge X (tgt := 127) dX8_plays_76 (by decide) (fun hc => ?_) (fun hc => ?_)
  · rw [if_pos hc] at hF
    replace hF := fg_rt_some hF
    obtain ⟨t12, hF, ht_3⟩ := hF
    subst ht_3
    replace h41 := fun z q => h41 z (congrArg Sum.inr q)
    replace hT := fun u q => hT u (congrArg Sum.inr q)
    refine fg_aload_n X (r := (some a0)) dX8_plays_127 rfl 0 rfl ?_
    refine fg_iload_n X dX8_plays_128 rfl 1 rfl ?_
    refine fg_if_ne X (tgt := 136) dX8_plays_129 (by decide) (fun hc => ?_) (fun hc => ?_)
    · rw [if_neg hc] at hF
      refine fg_iconst X (v := (0 : Int32)) dX8_plays_136 (by decide) ?_
      refine fg_sub [0] rfl ?_
      exact wX8_plays_137 X hF h41 hT
    · rw [if_pos hc] at hF
      refine fg_iconst X (v := (1 : Int32)) dX8_plays_132 (by decide) ?_
      refine fg_goto X (tgt := 137) dX8_plays_133 (by decide) ?_
      refine fg_sub [0] rfl ?_
      exact wX8_plays_137 X hF h41 hT
  · rw [if_neg hc] at hF
    refine fg_aload_n X (r := (some a0)) dX8_plays_79 rfl 0 rfl ?_
    refine fg_iload_n X dX8_plays_80 rfl 2 rfl ?_
    replace hF := fg_gd_some hF
    obtain ⟨eg_4, hF⟩ := hF
    obtain ⟨fs_5, eo_6⟩ := fg_rc_get eg_4
    replace hF := fg_oc_some hF
    obtain ⟨x29, G28, e_7, hF⟩ := hF
    refine fg_callV X (st := []) (mX8_betterAt Ω.2.2.2.2.1 Ω.1 e_7) q1957 q1959 qs87 q105 q1960 hd_X8_betterAt (by decide) rfl eo_6 (by decide) rfl rfl (Nat.le_of_ble_eq_true rfl) dX8_plays_81 ?_
    refine fg_istore X (L' := [(4, .int x29), (0, .ref a0), (2, .int i2), (3, .int i3)]) dX8_plays_84 (by decide) rfl ?_
    refine fg_iload_n X dX8_plays_86 rfl 2 rfl ?_
    refine fg_if_ne X (tgt := 104) dX8_plays_87 (by decide) (fun hc => ?_) (fun hc => ?_)
    · rw [if_neg hc] at hF
      refine fg_sub [1, 3, 0] rfl ?_
      exact wX8_plays_104 X hF h41 h68 hT
    · rw [if_pos hc] at hF
      refine fg_iload X dX8_plays_90 0 rfl ?_
      refine fg_aload_n X (r := (some a0)) dX8_plays_92 rfl 1 rfl ?_
      replace hF := fg_ob_some hF
      obtain ⟨r33, e_8, hF⟩ := hF
      refine fg_getr X ff_X8_s q1585 e_8 dX8_plays_93 ?_
      refine fg_bipush X (v := (12 : Int32)) dX8_plays_96 (by decide) ?_
      refine fg_iload_n X dX8_plays_98 rfl 3 rfl ?_
      refine fg_iadd X dX8_plays_99 ?_
      replace hF := fg_ob_some hF
      obtain ⟨a34, rfl, hF⟩ := hF
      replace hF := fg_ob_some hF
      obtain ⟨x35, e_9, hF⟩ := hF
      refine fg_iald X e_9 dX8_plays_100 ?_
      refine fg_icmp_eq X (tgt := 108) dX8_plays_101 (by decide) (fun hc => ?_) (fun hc => ?_)
      · rw [if_pos hc] at hF
        refine fg_iconst X (v := (0 : Int32)) dX8_plays_108 (by decide) ?_
        refine fg_sub [1, 3, 0] rfl ?_
        exact wX8_plays_109 X hF h41 h68 hT
      · rw [if_neg hc] at hF
        refine fg_sub [1, 3, 0] rfl ?_
        exact wX8_plays_104 X hF h41 h68 hT
set_option maxHeartbeats 4000000 in
theorem wX8_plays_68 {Ω : fg_O} {a0 : Nat} {i2 : Int32} {i3 : Int32} {G : fg_H} {t : ((Nat × Int32 × fg_H) ⊕ (Unit × fg_H))} (X : fg_X Ω RX8 "plays" cX8_plays 5 none 8) (hF : fX8_plays_68 a0 i2 i3 G = some t) (h41 : ∀ z, t = (.inl z) → fg_W Ω z.2.2 41 [(0, .ref z.1), (1, .int z.2.1)] []) (hT : ∀ u, t = (.inr u) → fg_T Ω (.returned none) u.2) : fg_W Ω G 68 [(0, .ref a0), (2, .int i2), (3, .int i3)] [] := by
  unfold fX8_plays_68 at hF
  exact fg_lp_walk (P := fun z => fg_W Ω z.2.2.2 68 [(0, .ref z.1), (2, .int z.2.1), (3, .int z.2.2.1)] []) (fun y o ho hl hr => wX8_plays_68b X ho (fun z e => h41 z (hr _ e).symm) (fun z e => hl z e) (fun u e => hT u (hr _ e).symm)) hF
set_option maxHeartbeats 4000000 in
theorem wX8_plays_41b {Ω : fg_O} {a0 : Nat} {i1 : Int32} {G : fg_H} {t : ((Nat × Int32 × fg_H) ⊕ (Unit × fg_H))} (X : fg_X Ω RX8 "plays" cX8_plays 5 none 8) (hF : fX8_plays_41b a0 i1 G = some t) (h41 : ∀ z, t = (.inl z) → fg_W Ω z.2.2 41 [(0, .ref z.1), (1, .int z.2.1)] []) (hT : ∀ u, t = (.inr u) → fg_T Ω (.returned none) u.2) : fg_W Ω G 41 [(0, .ref a0), (1, .int i1)] [] := by
  unfold fX8_plays_41b at hF
  refine fg_iload_n X dX8_plays_41 rfl 1 rfl ?_
  refine fg_if_ne X (tgt := 211) dX8_plays_42 (by decide) (fun hc => ?_) (fun hc => ?_)
  · rw [if_neg hc] at hF
    replace hF := fg_rt_some hF
    obtain ⟨t4, hF, ht_1⟩ := hF
    subst ht_1
    replace hT := hT _ rfl
    cases hF
    exact fg_vret X dX8_plays_211 (hT)
  · rw [if_pos hc] at hF
    refine fg_aload_n X (r := (some a0)) dX8_plays_45 rfl 0 rfl ?_
    replace hF := fg_ob_some hF
    obtain ⟨x5, e_2, hF⟩ := hF
    refine fg_geti X ff_X8_playedRounds q1590 e_2 dX8_plays_46 ?_
    refine fg_bipush X (v := (100 : Int32)) dX8_plays_49 (by decide) ?_
    refine fg_icmp_ge X (tgt := 211) dX8_plays_51 (by decide) (fun hc => ?_) (fun hc => ?_)
    · rw [if_pos hc] at hF
      replace hF := fg_rt_some hF
      obtain ⟨t6, hF, ht_3⟩ := hF
      subst ht_3
      replace hT := hT _ rfl
      cases hF
      exact fg_vret X dX8_plays_211 (hT)
    · rw [if_neg hc] at hF
      refine fg_aload_n X (r := (some a0)) dX8_plays_54 rfl 0 rfl ?_
      refine fg_dup X dX8_plays_55 rfl ?_
      replace hF := fg_ob_some hF
      obtain ⟨x7, e_4, hF⟩ := hF
      refine fg_geti X ff_X8_playedRounds q1590 e_4 dX8_plays_56 ?_
      refine fg_iconst X (v := (1 : Int32)) dX8_plays_59 (by decide) ?_
      refine fg_iadd X dX8_plays_60 ?_
      replace hF := fg_ob_some hF
      obtain ⟨G8, e_5, hF⟩ := hF
      refine fg_putv X (ty := .int) (v := .int (x7 + (1 : Int32))) ff_X8_playedRounds q1590 rfl (Or.inl rfl) rfl rfl rfl e_5 dX8_plays_61 ?_
      refine fg_iconst X (v := (0 : Int32)) dX8_plays_64 (by decide) ?_
      refine fg_istore_n X (L' := [(2, .int (0 : Int32)), (0, .ref a0), (1, .int i1)]) dX8_plays_65 rfl (by decide) rfl ?_
      refine fg_iconst X (v := (0 : Int32)) dX8_plays_66 (by decide) ?_
      refine fg_istore_n X (L' := [(3, .int (0 : Int32)), (2, .int (0 : Int32)), (0, .ref a0), (1, .int i1)]) dX8_plays_67 rfl (by decide) rfl ?_
      refine fg_sub [2, 1, 0] rfl ?_
      exact wX8_plays_68 X hF h41 hT
set_option maxHeartbeats 4000000 in
theorem wX8_plays_41 {Ω : fg_O} {a0 : Nat} {i1 : Int32} {G : fg_H} {t : (Unit × fg_H)} (X : fg_X Ω RX8 "plays" cX8_plays 5 none 8) (hF : fX8_plays_41 a0 i1 G = some t) (hT : fg_T Ω (.returned none) t.2) : fg_W Ω G 41 [(0, .ref a0), (1, .int i1)] [] := by
  unfold fX8_plays_41 at hF
  exact fg_lp_walk (P := fun z => fg_W Ω z.2.2 41 [(0, .ref z.1), (1, .int z.2.1)] []) (fun y o ho hl hr => wX8_plays_41b X ho (fun z e => hl z e) (fun u e => by rw [hr _ e]; exact hT)) hF
set_option maxHeartbeats 4000000 in
theorem wX8_plays_14b {Ω : fg_O} {a0 : Nat} {i1 : Int32} {i2 : Int32} {G : fg_H} {t : ((Nat × Int32 × Int32 × fg_H) ⊕ (Unit × fg_H))} (X : fg_X Ω RX8 "plays" cX8_plays 5 none 8) (hF : fX8_plays_14b a0 i1 i2 G = some t) (h14 : ∀ z, t = (.inl z) → fg_W Ω z.2.2.2 14 [(0, .ref z.1), (1, .int z.2.1), (2, .int z.2.2.1)] []) (hT : ∀ u, t = (.inr u) → fg_T Ω (.returned none) u.2) : fg_W Ω G 14 [(0, .ref a0), (1, .int i1), (2, .int i2)] [] := by
  unfold fX8_plays_14b at hF
  refine fg_iload_n X dX8_plays_14 rfl 2 rfl ?_
  refine fg_bipush X (v := (12 : Int32)) dX8_plays_15 (by decide) ?_
  refine fg_icmp_ge X (tgt := 41) dX8_plays_17 (by decide) (fun hc => ?_) (fun hc => ?_)
  · rw [if_pos hc] at hF
    replace hF := fg_rt_some hF
    obtain ⟨t3, hF, ht_1⟩ := hF
    subst ht_1
    replace hT := hT _ rfl
    refine fg_sub [0, 1] rfl ?_
    exact wX8_plays_41 X hF hT
  · rw [if_neg hc] at hF
    refine fg_aload_n X (r := (some a0)) dX8_plays_20 rfl 0 rfl ?_
    replace hF := fg_ob_some hF
    obtain ⟨r36, e_2, hF⟩ := hF
    refine fg_getr X ff_X8_been q1589 e_2 dX8_plays_21 ?_
    refine fg_iload_n X dX8_plays_24 rfl 2 rfl ?_
    refine fg_aload_n X (r := (some a0)) dX8_plays_25 rfl 0 rfl ?_
    replace hF := fg_ob_some hF
    obtain ⟨r37, e_3, hF⟩ := hF
    refine fg_getr X ff_X8_s q1585 e_3 dX8_plays_26 ?_
    refine fg_bipush X (v := (12 : Int32)) dX8_plays_29 (by decide) ?_
    refine fg_iload_n X dX8_plays_31 rfl 2 rfl ?_
    refine fg_iadd X dX8_plays_32 ?_
    replace hF := fg_ob_some hF
    obtain ⟨a38, rfl, hF⟩ := hF
    replace hF := fg_ob_some hF
    obtain ⟨x39, e_4, hF⟩ := hF
    refine fg_iald X e_4 dX8_plays_33 ?_
    replace hF := fg_ob_some hF
    obtain ⟨a40, rfl, hF⟩ := hF
    replace hF := fg_ob_some hF
    obtain ⟨G41, e_5, hF⟩ := hF
    refine fg_iast X e_5 dX8_plays_34 ?_
    refine fg_iinc X (v := (i2 + (1 : Int32))) (L' := [(2, .int (i2 + (1 : Int32))), (0, .ref a0), (1, .int i1)]) dX8_plays_35 2 rfl rfl (by decide) rfl ?_
    refine fg_goto X (tgt := 14) dX8_plays_38 (by decide) ?_
    refine fg_sub [1, 2, 0] rfl ?_
    exact h14 _ (Option.some.inj hF).symm
set_option maxHeartbeats 4000000 in
theorem wX8_plays_14 {Ω : fg_O} {a0 : Nat} {i1 : Int32} {i2 : Int32} {G : fg_H} {t : (Unit × fg_H)} (X : fg_X Ω RX8 "plays" cX8_plays 5 none 8) (hF : fX8_plays_14 a0 i1 i2 G = some t) (hT : fg_T Ω (.returned none) t.2) : fg_W Ω G 14 [(0, .ref a0), (1, .int i1), (2, .int i2)] [] := by
  unfold fX8_plays_14 at hF
  exact fg_lp_walk (P := fun z => fg_W Ω z.2.2.2 14 [(0, .ref z.1), (1, .int z.2.1), (2, .int z.2.2.1)] []) (fun y o ho hl hr => wX8_plays_14b X ho (fun z e => hl z e) (fun u e => by rw [hr _ e]; exact hT)) hF
set_option maxHeartbeats 4000000 in
theorem wX8_plays {Ω : fg_O} {a0 : Nat} {G : fg_H} {t : Unit × fg_H} (X : fg_X Ω RX8 "plays" cX8_plays 5 none 8) (hF : fX8_plays a0 G = some t) (hT : fg_T Ω (.returned none) t.2) : fg_W Ω G 0 [(0, .ref a0)] [] := by
  unfold fX8_plays at hF
  refine fg_aload_n X (r := (some a0)) dX8_plays_0 rfl 0 rfl ?_
  refine fg_iconst X (v := (0 : Int32)) dX8_plays_1 (by decide) ?_
  replace hF := fg_ob_some hF
  obtain ⟨G1, e_1, hF⟩ := hF
  refine fg_putv X (ty := .boolean) (v := .int (0 : Int32)) ff_X8_isRest q1591 rfl (Or.inl rfl) rfl rfl rfl e_1 dX8_plays_2 ?_
  refine fg_aload_n X (r := (some a0)) dX8_plays_5 rfl 0 rfl ?_
  refine fg_iconst X (v := (0 : Int32)) dX8_plays_6 (by decide) ?_
  replace hF := fg_ob_some hF
  obtain ⟨G2, e_2, hF⟩ := hF
  refine fg_putv X (ty := .int) (v := .int (0 : Int32)) ff_X8_playedRounds q1590 rfl (Or.inl rfl) rfl rfl rfl e_2 dX8_plays_7 ?_
  refine fg_iconst X (v := (0 : Int32)) dX8_plays_10 (by decide) ?_
  refine fg_istore_n X (L' := [(1, .int (0 : Int32)), (0, .ref a0)]) dX8_plays_11 rfl (by decide) rfl ?_
  refine fg_iconst X (v := (0 : Int32)) dX8_plays_12 (by decide) ?_
  refine fg_istore_n X (L' := [(2, .int (0 : Int32)), (1, .int (0 : Int32)), (0, .ref a0)]) dX8_plays_13 rfl (by decide) rfl ?_
  refine fg_sub [2, 1, 0] rfl ?_
  exact wX8_plays_14 X hF hT
theorem mX8_plays (l : Launch) (D : fg_D) {a0 : Nat} {G : fg_H} {t : Unit × fg_H} (hF : fX8_plays a0 G = some t) : fg_M l D yX8_plays cX8_plays 5 none 8 [.ref a0] G (.returned none) t.2 :=
  fg_Mof (own := RX8) (nm := "plays") (L := [(0, .ref a0)]) (plainFor_of_name pn_X8) rfl rfl rfl (Nat.le_of_ble_eq_true rfl) (fun Ω _ _ X hT => wX8_plays X hF hT)
theorem hd_X8_played : yX8_played.cls ≠ "java/lang/invoke/MethodHandle" ∧ yX8_played.cls ≠ "java/lang/invoke/VarHandle" ∧ (parseMethodDescriptor yX8_played.desc).map (fun d => d.parameters.length) = some 1 := ⟨by decide +kernel, by decide +kernel, by decide +kernel⟩
set_option maxHeartbeats 4000000 in
theorem wX8_played_83 {Ω : fg_O} {a0 : Nat} {s0 : Int32} {G : fg_H} {t : (Int32 × fg_H)} (X : fg_X Ω RX8 "played" cX8_played 3 (some .int) 9) (hF : fX8_played_83 a0 s0 G = some t) (hT : fg_T Ω (.returned (some (.int t.1))) t.2) : fg_W Ω G 83 [(0, .ref a0)] [.int s0] := by
  unfold fX8_played_83 at hF
  refine fg_istore_n X (L' := [(2, .int s0), (0, .ref a0)]) dX8_played_83 rfl (by decide) rfl ?_
  refine fg_aload_n X (r := (some a0)) dX8_played_84 rfl 1 rfl ?_
  replace hF := fg_ob_some hF
  obtain ⟨r14, e_1, hF⟩ := hF
  refine fg_getr X ff_X8_aside q1586 e_1 dX8_played_85 ?_
  refine fg_iconst X (v := (0 : Int32)) dX8_played_88 (by decide) ?_
  refine fg_aload_n X (r := (some a0)) dX8_played_89 rfl 1 rfl ?_
  replace hF := fg_ob_some hF
  obtain ⟨r15, e_2, hF⟩ := hF
  refine fg_getr X ff_X8_s q1585 e_2 dX8_played_90 ?_
  refine fg_iconst X (v := (0 : Int32)) dX8_played_93 (by decide) ?_
  replace hF := fg_oc_some hF
  obtain ⟨u, G16, e_3, hF⟩ := hF
  refine fg_callS X (st := []) (mX8_copies Ω.2.2.2.2.1 Ω.1 e_3) q1965 q1966 q105 q1967 hd_X8_copies (by decide) rfl rfl (Nat.le_of_ble_eq_true rfl) dX8_played_94 ?_
  refine fg_iload_n X dX8_played_97 rfl 0 rfl ?_
  cases hF
  exact fg_iret X dX8_played_98 (hT)
set_option maxHeartbeats 4000000 in
theorem wX8_played {Ω : fg_O} {a0 : Nat} {i1 : Int32} {G : fg_H} {t : Int32 × fg_H} (X : fg_X Ω RX8 "played" cX8_played 3 (some .int) 9) (hF : fX8_played a0 i1 G = some t) (hT : fg_T Ω (.returned (some (.int t.1))) t.2) : fg_W Ω G 0 [(0, .ref a0), (1, .int i1)] [] := by
  unfold fX8_played at hF
  refine fg_aload_n X (r := (some a0)) dX8_played_0 rfl 0 rfl ?_
  refine fg_iconst X (v := (0 : Int32)) dX8_played_1 (by decide) ?_
  replace hF := fg_ob_some hF
  obtain ⟨G1, e_1, hF⟩ := hF
  refine fg_putv X (ty := .int) (v := .int (0 : Int32)) ff_X8_thrown q1548 rfl (Or.inl rfl) rfl rfl rfl e_1 dX8_played_2 ?_
  refine fg_iload_n X dX8_played_5 rfl 1 rfl ?_
  refine fg_iconst X (v := (0 : Int32)) dX8_played_6 (by decide) ?_
  refine fg_iconst X (v := (1 : Int32)) dX8_played_7 (by decide) ?_
  refine fg_aload_n X (r := (some a0)) dX8_played_8 rfl 0 rfl ?_
  replace hF := fg_ob_some hF
  obtain ⟨r2, e_2, hF⟩ := hF
  refine fg_getr X ff_X8_ridge q1558 e_2 dX8_played_9 ?_
  refine fg_bipush X (v := (6 : Int32)) dX8_played_12 (by decide) ?_
  replace hF := fg_ob_some hF
  obtain ⟨a3, rfl, hF⟩ := hF
  replace hF := fg_ob_some hF
  obtain ⟨x4, e_3, hF⟩ := hF
  refine fg_iald X e_3 dX8_played_14 ?_
  refine fg_iadd X dX8_played_15 ?_
  replace hF := fg_oc_some hF
  obtain ⟨x6, G5, e_4, hF⟩ := hF
  refine fg_callS X (st := []) (mX8_within Ω.2.2.2.2.1 Ω.1 e_4) q1738 q1739 q105 q1740 hd_X8_within (by decide) rfl rfl (Nat.le_of_ble_eq_true rfl) dX8_played_16 ?_
  refine fg_if_ne X (tgt := 24) dX8_played_19 (by decide) (fun hc => ?_) (fun hc => ?_)
  · rw [if_neg hc] at hF
    refine fg_aload_n X (r := (some a0)) dX8_played_24 rfl 0 rfl ?_
    replace hF := fg_ob_some hF
    obtain ⟨r7, e_5, hF⟩ := hF
    refine fg_getr X ff_X8_s q1585 e_5 dX8_played_25 ?_
    refine fg_iconst X (v := (0 : Int32)) dX8_played_28 (by decide) ?_
    refine fg_aload_n X (r := (some a0)) dX8_played_29 rfl 0 rfl ?_
    replace hF := fg_ob_some hF
    obtain ⟨r8, e_6, hF⟩ := hF
    refine fg_getr X ff_X8_aside q1586 e_6 dX8_played_30 ?_
    refine fg_iconst X (v := (0 : Int32)) dX8_played_33 (by decide) ?_
    replace hF := fg_oc_some hF
    obtain ⟨u, G9, e_7, hF⟩ := hF
    refine fg_callS X (st := []) (mX8_copies Ω.2.2.2.2.1 Ω.1 e_7) q1965 q1966 q105 q1967 hd_X8_copies (by decide) rfl rfl (Nat.le_of_ble_eq_true rfl) dX8_played_34 ?_
    refine fg_aload_n X (r := (some a0)) dX8_played_37 rfl 0 rfl ?_
    replace hF := fg_gd_some hF
    obtain ⟨eg_8, hF⟩ := hF
    obtain ⟨fs_9, eo_10⟩ := fg_rc_get eg_8
    replace hF := fg_oc_some hF
    obtain ⟨u, G10, e_11, hF⟩ := hF
    refine fg_callV X (st := []) (mX8_plays Ω.2.2.2.2.1 Ω.1 e_11) q1968 q1970 qs88 q105 q1971 hd_X8_plays (by decide) rfl eo_10 (by decide) rfl rfl (Nat.le_of_ble_eq_true rfl) dX8_played_38 ?_
    refine fg_iload_n X dX8_played_41 rfl 1 rfl ?_
    refine fg_if_ne X (tgt := 52) dX8_played_42 (by decide) (fun hc => ?_) (fun hc => ?_)
    · rw [if_neg hc] at hF
      refine fg_iload_n X dX8_played_52 rfl 1 rfl ?_
      refine fg_iconst X (v := (1 : Int32)) dX8_played_53 (by decide) ?_
      refine fg_icmp_ne X (tgt := 72) dX8_played_54 (by decide) (fun hc => ?_) (fun hc => ?_)
      · rw [if_neg hc] at hF
        refine fg_aload_n X (r := (some a0)) dX8_played_72 rfl 0 rfl ?_
        replace hF := fg_ob_some hF
        obtain ⟨r11, e_12, hF⟩ := hF
        refine fg_getr X ff_X8_s q1585 e_12 dX8_played_73 ?_
        refine fg_bipush X (v := (12 : Int32)) dX8_played_76 (by decide) ?_
        refine fg_iload_n X dX8_played_78 rfl 1 rfl ?_
        refine fg_iadd X dX8_played_79 ?_
        refine fg_iconst X (v := (2 : Int32)) dX8_played_80 (by decide) ?_
        refine fg_isub X dX8_played_81 ?_
        replace hF := fg_ob_some hF
        obtain ⟨a12, rfl, hF⟩ := hF
        replace hF := fg_ob_some hF
        obtain ⟨x13, e_13, hF⟩ := hF
        refine fg_iald X e_13 dX8_played_82 ?_
        refine fg_sub [0] rfl ?_
        exact wX8_played_83 X hF hT
      · rw [if_pos hc] at hF
        refine fg_aload_n X (r := (some a0)) dX8_played_57 rfl 0 rfl ?_
        replace hF := fg_ob_some hF
        obtain ⟨x17, e_14, hF⟩ := hF
        refine fg_geti X ff_X8_isRest q1591 e_14 dX8_played_58 ?_
        refine fg_if_eq X (tgt := 68) dX8_played_61 (by decide) (fun hc => ?_) (fun hc => ?_)
        · rw [if_pos hc] at hF
          refine fg_iconst X (v := (0 : Int32)) dX8_played_68 (by decide) ?_
          refine fg_goto X (tgt := 83) dX8_played_69 (by decide) ?_
          refine fg_sub [0] rfl ?_
          exact wX8_played_83 X hF hT
        · rw [if_neg hc] at hF
          refine fg_iconst X (v := (1 : Int32)) dX8_played_64 (by decide) ?_
          refine fg_goto X (tgt := 83) dX8_played_65 (by decide) ?_
          refine fg_sub [0] rfl ?_
          exact wX8_played_83 X hF hT
    · rw [if_pos hc] at hF
      refine fg_aload_n X (r := (some a0)) dX8_played_45 rfl 0 rfl ?_
      replace hF := fg_ob_some hF
      obtain ⟨x18, e_15, hF⟩ := hF
      refine fg_geti X ff_X8_playedRounds q1590 e_15 dX8_played_46 ?_
      refine fg_goto X (tgt := 83) dX8_played_49 (by decide) ?_
      refine fg_sub [0] rfl ?_
      exact wX8_played_83 X hF hT
  · rw [if_pos hc] at hF
    refine fg_iconst X (v := (-1 : Int32)) dX8_played_22 (by decide) ?_
    cases hF
    exact fg_iret X dX8_played_23 (hT)
theorem mX8_played (l : Launch) (D : fg_D) {a0 : Nat} {i1 : Int32} {G : fg_H} {t : Int32 × fg_H} (hF : fX8_played a0 i1 G = some t) : fg_M l D yX8_played cX8_played 3 (some .int) 9 [.ref a0, .int i1] G (.returned (some (.int t.1))) t.2 :=
  fg_Mof (own := RX8) (nm := "played") (L := [(0, .ref a0), (1, .int i1)]) (plainFor_of_name pn_X8) rfl rfl rfl (Nat.le_of_ble_eq_true rfl) (fun Ω _ _ X hT => wX8_played X hF hT)

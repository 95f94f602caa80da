set_option maxRecDepth 100000
theorem hd_X8_bankOf : yX8_bankOf.cls ≠ "java/lang/invoke/MethodHandle" ∧ yX8_bankOf.cls ≠ "java/lang/invoke/VarHandle" ∧ (parseMethodDescriptor yX8_bankOf.desc).map (fun d => d.parameters.length) = some 4 := ⟨by decide +kernel, by decide +kernel, by decide +kernel⟩
set_option maxHeartbeats 4000000 in
theorem wX8_bankOf {Ω : fg_O} {a0 : Nat} {i1 : Int32} {i2 : Int32} {i3 : Int32} {i4 : Int32} {G : fg_H} {t : Int32 × fg_H} (X : fg_X Ω RX8 "bankOf" cX8_bankOf 6 (some .int) 3) (hF : fX8_bankOf a0 i1 i2 i3 i4 G = some t) (hT : fg_T Ω (.returned (some (.int t.1))) t.2) : fg_W Ω G 0 [(0, .ref a0), (1, .int i1), (2, .int i2), (3, .int i3), (4, .int i4)] [] := by
  unfold fX8_bankOf at hF
  refine fg_aload_n X (r := (some a0)) dX8_bankOf_0 rfl 0 rfl ?_
  replace hF := fg_ob_some hF
  obtain ⟨r1, e_1, hF⟩ := hF
  refine fg_getr X ff_X8_lineTo q1567 e_1 dX8_bankOf_1 ?_
  refine fg_iconst X (v := (1 : Int32)) dX8_bankOf_4 (by decide) ?_
  replace hF := fg_ob_some hF
  obtain ⟨a2, rfl, hF⟩ := hF
  replace hF := fg_ob_some hF
  obtain ⟨x3, e_2, hF⟩ := hF
  refine fg_iald X e_2 dX8_bankOf_5 ?_
  refine fg_aload_n X (r := (some a0)) dX8_bankOf_6 rfl 0 rfl ?_
  replace hF := fg_ob_some hF
  obtain ⟨r4, e_3, hF⟩ := hF
  refine fg_getr X ff_X8_lineFrom q1566 e_3 dX8_bankOf_7 ?_
  refine fg_iconst X (v := (1 : Int32)) dX8_bankOf_10 (by decide) ?_
  replace hF := fg_ob_some hF
  obtain ⟨a5, rfl, hF⟩ := hF
  replace hF := fg_ob_some hF
  obtain ⟨x6, e_4, hF⟩ := hF
  refine fg_iald X e_4 dX8_bankOf_11 ?_
  refine fg_icmp_ne X (tgt := 18) dX8_bankOf_12 (by decide) (fun hc => ?_) (fun hc => ?_)
  · rw [if_neg hc] at hF
    refine fg_aload_n X (r := (some a0)) dX8_bankOf_18 rfl 0 rfl ?_
    replace hF := fg_ob_some hF
    obtain ⟨r7, e_5, hF⟩ := hF
    refine fg_getr X ff_X8_valueOf q1583 e_5 dX8_bankOf_19 ?_
    refine fg_iconst X (v := (1 : Int32)) dX8_bankOf_22 (by decide) ?_
    refine fg_iload_n X dX8_bankOf_23 rfl 1 rfl ?_
    replace hF := fg_ob_some hF
    obtain ⟨a8, rfl, hF⟩ := hF
    replace hF := fg_ob_some hF
    obtain ⟨G9, e_6, hF⟩ := hF
    refine fg_iast X e_6 dX8_bankOf_24 ?_
    refine fg_aload_n X (r := (some a0)) dX8_bankOf_25 rfl 0 rfl ?_
    replace hF := fg_ob_some hF
    obtain ⟨r10, e_7, hF⟩ := hF
    refine fg_getr X ff_X8_valueOf q1583 e_7 dX8_bankOf_26 ?_
    refine fg_iconst X (v := (2 : Int32)) dX8_bankOf_29 (by decide) ?_
    refine fg_iload_n X dX8_bankOf_30 rfl 2 rfl ?_
    replace hF := fg_ob_some hF
    obtain ⟨a11, rfl, hF⟩ := hF
    replace hF := fg_ob_some hF
    obtain ⟨G12, e_8, hF⟩ := hF
    refine fg_iast X e_8 dX8_bankOf_31 ?_
    refine fg_aload_n X (r := (some a0)) dX8_bankOf_32 rfl 0 rfl ?_
    replace hF := fg_ob_some hF
    obtain ⟨r13, e_9, hF⟩ := hF
    refine fg_getr X ff_X8_valueOf q1583 e_9 dX8_bankOf_33 ?_
    refine fg_iconst X (v := (3 : Int32)) dX8_bankOf_36 (by decide) ?_
    refine fg_iload_n X dX8_bankOf_37 rfl 3 rfl ?_
    replace hF := fg_ob_some hF
    obtain ⟨a14, rfl, hF⟩ := hF
    replace hF := fg_ob_some hF
    obtain ⟨G15, e_10, hF⟩ := hF
    refine fg_iast X e_10 dX8_bankOf_38 ?_
    refine fg_aload_n X (r := (some a0)) dX8_bankOf_39 rfl 0 rfl ?_
    replace hF := fg_ob_some hF
    obtain ⟨r16, e_11, hF⟩ := hF
    refine fg_getr X ff_X8_valueOf q1583 e_11 dX8_bankOf_40 ?_
    refine fg_iconst X (v := (4 : Int32)) dX8_bankOf_43 (by decide) ?_
    refine fg_iload X dX8_bankOf_44 4 rfl ?_
    replace hF := fg_ob_some hF
    obtain ⟨a17, rfl, hF⟩ := hF
    replace hF := fg_ob_some hF
    obtain ⟨G18, e_12, hF⟩ := hF
    refine fg_iast X e_12 dX8_bankOf_46 ?_
    refine fg_aload_n X (r := (some a0)) dX8_bankOf_47 rfl 0 rfl ?_
    refine fg_iconst X (v := (1 : Int32)) dX8_bankOf_48 (by decide) ?_
    replace hF := fg_gd_some hF
    obtain ⟨eg_13, hF⟩ := hF
    obtain ⟨fs_14, eo_15⟩ := fg_rc_get eg_13
    replace hF := fg_oc_some hF
    obtain ⟨x20, G19, e_16, hF⟩ := hF
    refine fg_callV X (st := []) (mX8_worked Ω.2.2.2.2.1 Ω.1 e_16) q1856 q1858 qs69 q105 q1859 hd_X8_worked (by decide) rfl eo_15 (by decide) rfl rfl (Nat.le_of_ble_eq_true rfl) dX8_bankOf_49 ?_
    refine fg_istore X (L' := [(5, .int x20), (0, .ref a0), (1, .int i1), (2, .int i2), (3, .int i3), (4, .int i4)]) dX8_bankOf_52 (by decide) rfl ?_
    refine fg_iload X dX8_bankOf_54 0 rfl ?_
    refine fg_if_ge X (tgt := 63) dX8_bankOf_56 (by decide) (fun hc => ?_) (fun hc => ?_)
    · rw [if_pos hc] at hF
      refine fg_sipush X (v := (999 : Int32)) dX8_bankOf_63 (by decide) ?_
      refine fg_iload X dX8_bankOf_66 0 rfl ?_
      replace hF := fg_oc_some hF
      obtain ⟨x22, G21, e_17, hF⟩ := hF
      refine fg_callS X (st := []) (mJ7_min Ω.2.2.2.2.1 Ω.1 e_17) q1884 q562 q108 q563 hd_J7_min (by decide) rfl rfl (Nat.le_of_ble_eq_true rfl) dX8_bankOf_68 ?_
      cases hF
      exact fg_iret X dX8_bankOf_71 (hT)
    · rw [if_neg hc] at hF
      refine fg_iconst X (v := (0 : Int32)) dX8_bankOf_59 (by decide) ?_
      refine fg_goto X (tgt := 71) dX8_bankOf_60 (by decide) ?_
      cases hF
      exact fg_iret X dX8_bankOf_71 (hT)
  · rw [if_pos hc] at hF
    refine fg_bipush X (v := (20 : Int32)) dX8_bankOf_15 (by decide) ?_
    cases hF
    exact fg_iret X dX8_bankOf_17 (hT)
theorem mX8_bankOf (l : Launch) (D : fg_D) {a0 : Nat} {i1 : Int32} {i2 : Int32} {i3 : Int32} {i4 : Int32} {G : fg_H} {t : Int32 × fg_H} (hF : fX8_bankOf a0 i1 i2 i3 i4 G = some t) : fg_M l D yX8_bankOf cX8_bankOf 6 (some .int) 3 [.ref a0, .int i1, .int i2, .int i3, .int i4] G (.returned (some (.int t.1))) t.2 :=
  fg_Mof (own := RX8) (nm := "bankOf") (L := [(0, .ref a0), (1, .int i1), (2, .int i2), (3, .int i3), (4, .int i4)]) (plainFor_of_name pn_X8) rfl rfl rfl (Nat.le_of_ble_eq_true rfl) (fun Ω _ _ X hT => wX8_bankOf X hF hT)
theorem hd_X8_lines : yX8_lines.cls ≠ "java/lang/invoke/MethodHandle" ∧ yX8_lines.cls ≠ "java/lang/invoke/VarHandle" ∧ (parseMethodDescriptor yX8_lines.desc).map (fun d => d.parameters.length) = some 1 := ⟨by decide +kernel, by decide +kernel, by decide +kernel⟩
set_option maxHeartbeats 4000000 in
theorem wX8_lines {Ω : fg_O} {a0 : Nat} {i1 : Int32} {G : fg_H} {t : Int32 × fg_H} (X : fg_X Ω RX8 "lines" cX8_lines 2 (some .int) 0) (hF : fX8_lines a0 i1 G = some t) (hT : fg_T Ω (.returned (some (.int t.1))) t.2) : fg_W Ω G 0 [(0, .ref a0), (1, .int i1)] [] := by
  unfold fX8_lines at hF
  refine fg_iload_n X dX8_lines_0 rfl 1 rfl ?_
  refine fg_iconst X (v := (2 : Int32)) dX8_lines_1 (by decide) ?_
  refine fg_icmp_ge X (tgt := 14) dX8_lines_2 (by decide) (fun hc => ?_) (fun hc => ?_)
  · rw [if_pos hc] at hF
    refine fg_aload_n X (r := (some a0)) dX8_lines_14 rfl 0 rfl ?_
    replace hF := fg_ob_some hF
    obtain ⟨r1, e_1, hF⟩ := hF
    refine fg_getr X ff_X8_ridge q1558 e_1 dX8_lines_15 ?_
    refine fg_iconst X (v := (0 : Int32)) dX8_lines_18 (by decide) ?_
    replace hF := fg_ob_some hF
    obtain ⟨a2, rfl, hF⟩ := hF
    replace hF := fg_ob_some hF
    obtain ⟨x3, e_2, hF⟩ := hF
    refine fg_iald X e_2 dX8_lines_19 ?_
    cases hF
    exact fg_iret X dX8_lines_20 (hT)
  · rw [if_neg hc] at hF
    refine fg_aload_n X (r := (some a0)) dX8_lines_5 rfl 0 rfl ?_
    replace hF := fg_ob_some hF
    obtain ⟨r4, e_3, hF⟩ := hF
    refine fg_getr X ff_X8_ridge q1558 e_3 dX8_lines_6 ?_
    refine fg_iconst X (v := (1 : Int32)) dX8_lines_9 (by decide) ?_
    replace hF := fg_ob_some hF
    obtain ⟨a5, rfl, hF⟩ := hF
    replace hF := fg_ob_some hF
    obtain ⟨x6, e_4, hF⟩ := hF
    refine fg_iald X e_4 dX8_lines_10 ?_
    refine fg_goto X (tgt := 20) dX8_lines_11 (by decide) ?_
    cases hF
    exact fg_iret X dX8_lines_20 (hT)
theorem mX8_lines (l : Launch) (D : fg_D) {a0 : Nat} {i1 : Int32} {G : fg_H} {t : Int32 × fg_H} (hF : fX8_lines a0 i1 G = some t) : fg_M l D yX8_lines cX8_lines 2 (some .int) 0 [.ref a0, .int i1] G (.returned (some (.int t.1))) t.2 :=
  fg_Mof (own := RX8) (nm := "lines") (L := [(0, .ref a0), (1, .int i1)]) (plainFor_of_name pn_X8) rfl rfl rfl (Nat.le_of_ble_eq_true rfl) (fun Ω _ _ X hT => wX8_lines X hF hT)
theorem hd_X8_netAt : yX8_netAt.cls ≠ "java/lang/invoke/MethodHandle" ∧ yX8_netAt.cls ≠ "java/lang/invoke/VarHandle" ∧ (parseMethodDescriptor yX8_netAt.desc).map (fun d => d.parameters.length) = some 2 := ⟨by decide +kernel, by decide +kernel, by decide +kernel⟩
set_option maxHeartbeats 4000000 in
theorem wX8_netAt_2b {Ω : fg_O} {a0 : Nat} {i1 : Int32} {i2 : Int32} {i3 : Int32} {G : fg_H} {t : ((Nat × Int32 × Int32 × Int32 × fg_H) ⊕ (Int32 × fg_H))} (X : fg_X Ω RX8 "netAt" cX8_netAt 4 (some .int) 0) (hF : fX8_netAt_2b a0 i1 i2 i3 G = some t) (h2 : ∀ z, t = (.inl z) → fg_W Ω z.2.2.2.2 2 [(0, .ref z.1), (1, .int z.2.1), (2, .int z.2.2.1), (3, .int z.2.2.2.1)] []) (hT : ∀ u, t = (.inr u) → fg_T Ω (.returned (some (.int u.1))) u.2) : fg_W Ω G 2 [(0, .ref a0), (1, .int i1), (2, .int i2), (3, .int i3)] [] := by
  unfold fX8_netAt_2b at hF
  refine fg_iload_n X dX8_netAt_2 rfl 3 rfl ?_
  refine fg_bipush X (v := (13 : Int32)) dX8_netAt_3 (by decide) ?_
  refine fg_icmp_ge X (tgt := 38) dX8_netAt_5 (by decide) (fun hc => ?_) (fun hc => ?_)
  · rw [if_pos hc] at hF
    replace hF := fg_rt_some hF
    obtain ⟨t1, hF, ht_1⟩ := hF
    subst ht_1
    replace hT := hT _ rfl
    refine fg_iconst X (v := (-1 : Int32)) dX8_netAt_38 (by decide) ?_
    cases hF
    exact fg_iret X dX8_netAt_39 (hT)
  · rw [if_neg hc] at hF
    refine fg_iload_n X dX8_netAt_8 rfl 2 rfl ?_
    refine fg_iload_n X dX8_netAt_9 rfl 3 rfl ?_
    refine fg_ishr X dX8_netAt_10 ?_
    refine fg_iconst X (v := (1 : Int32)) dX8_netAt_11 (by decide) ?_
    refine fg_iand X dX8_netAt_12 ?_
    refine fg_iconst X (v := (1 : Int32)) dX8_netAt_13 (by decide) ?_
    refine fg_icmp_ne X (tgt := 32) dX8_netAt_14 (by decide) (fun hc => ?_) (fun hc => ?_)
    · rw [if_neg hc] at hF
      refine fg_iinc X (v := (i3 + (1 : Int32))) (L' := [(3, .int (i3 + (1 : Int32))), (0, .ref a0), (1, .int i1), (2, .int i2)]) dX8_netAt_32 3 rfl rfl (by decide) rfl ?_
      refine fg_goto X (tgt := 2) dX8_netAt_35 (by decide) ?_
      refine fg_sub [1, 2, 3, 0] rfl ?_
      exact h2 _ (Option.some.inj hF).symm
    · rw [if_pos hc] at hF
      refine fg_aload_n X (r := (some a0)) dX8_netAt_17 rfl 0 rfl ?_
      replace hF := fg_ob_some hF
      obtain ⟨r2, e_2, hF⟩ := hF
      refine fg_getr X ff_X8_s q1585 e_2 dX8_netAt_18 ?_
      refine fg_bipush X (v := (12 : Int32)) dX8_netAt_21 (by decide) ?_
      refine fg_iload_n X dX8_netAt_23 rfl 3 rfl ?_
      refine fg_iadd X dX8_netAt_24 ?_
      replace hF := fg_ob_some hF
      obtain ⟨a3, rfl, hF⟩ := hF
      replace hF := fg_ob_some hF
      obtain ⟨x4, e_3, hF⟩ := hF
      refine fg_iald X e_3 dX8_netAt_25 ?_
      refine fg_iload_n X dX8_netAt_26 rfl 1 rfl ?_
      refine fg_icmp_ne X (tgt := 32) dX8_netAt_27 (by decide) (fun hc => ?_) (fun hc => ?_)
      · rw [if_neg hc] at hF
        refine fg_iinc X (v := (i3 + (1 : Int32))) (L' := [(3, .int (i3 + (1 : Int32))), (0, .ref a0), (1, .int i1), (2, .int i2)]) dX8_netAt_32 3 rfl rfl (by decide) rfl ?_
        refine fg_goto X (tgt := 2) dX8_netAt_35 (by decide) ?_
        refine fg_sub [1, 2, 3, 0] rfl ?_
        exact h2 _ (Option.some.inj hF).symm
      · rw [if_pos hc] at hF
        replace hF := fg_rt_some hF
        obtain ⟨t5, hF, ht_4⟩ := hF
        subst ht_4
        replace hT := hT _ rfl
        refine fg_iload_n X dX8_netAt_30 rfl 3 rfl ?_
        cases hF
        exact fg_iret X dX8_netAt_31 (hT)
set_option maxHeartbeats 4000000 in
theorem wX8_netAt_2 {Ω : fg_O} {a0 : Nat} {i1 : Int32} {i2 : Int32} {i3 : Int32} {G : fg_H} {t : (Int32 × fg_H)} (X : fg_X Ω RX8 "netAt" cX8_netAt 4 (some .int) 0) (hF : fX8_netAt_2 a0 i1 i2 i3 G = some t) (hT : fg_T Ω (.returned (some (.int t.1))) t.2) : fg_W Ω G 2 [(0, .ref a0), (1, .int i1), (2, .int i2), (3, .int i3)] [] := by
  unfold fX8_netAt_2 at hF
  exact fg_lp_walk (P := fun z => fg_W Ω z.2.2.2.2 2 [(0, .ref z.1), (1, .int z.2.1), (2, .int z.2.2.1), (3, .int z.2.2.2.1)] []) (fun y o ho hl hr => wX8_netAt_2b X ho (fun z e => hl z e) (fun u e => by rw [hr _ e]; exact hT)) hF
set_option maxHeartbeats 4000000 in
theorem wX8_netAt {Ω : fg_O} {a0 : Nat} {i1 : Int32} {i2 : Int32} {G : fg_H} {t : Int32 × fg_H} (X : fg_X Ω RX8 "netAt" cX8_netAt 4 (some .int) 0) (hF : fX8_netAt a0 i1 i2 G = some t) (hT : fg_T Ω (.returned (some (.int t.1))) t.2) : fg_W Ω G 0 [(0, .ref a0), (1, .int i1), (2, .int i2)] [] := by
  unfold fX8_netAt at hF
  refine fg_iconst X (v := (0 : Int32)) dX8_netAt_0 (by decide) ?_
  refine fg_istore_n X (L' := [(3, .int (0 : Int32)), (0, .ref a0), (1, .int i1), (2, .int i2)]) dX8_netAt_1 rfl (by decide) rfl ?_
  refine fg_sub [1, 2, 3, 0] rfl ?_
  exact wX8_netAt_2 X hF hT
theorem mX8_netAt (l : Launch) (D : fg_D) {a0 : Nat} {i1 : Int32} {i2 : Int32} {G : fg_H} {t : Int32 × fg_H} (hF : fX8_netAt a0 i1 i2 G = some t) : fg_M l D yX8_netAt cX8_netAt 4 (some .int) 0 [.ref a0, .int i1, .int i2] G (.returned (some (.int t.1))) t.2 :=
  fg_Mof (own := RX8) (nm := "netAt") (L := [(0, .ref a0), (1, .int i1), (2, .int i2)]) (plainFor_of_name pn_X8) rfl rfl rfl (Nat.le_of_ble_eq_true rfl) (fun Ω _ _ X hT => wX8_netAt X hF hT)
theorem hd_X8_taken : yX8_taken.cls ≠ "java/lang/invoke/MethodHandle" ∧ yX8_taken.cls ≠ "java/lang/invoke/VarHandle" ∧ (parseMethodDescriptor yX8_taken.desc).map (fun d => d.parameters.length) = some 3 := ⟨by decide +kernel, by decide +kernel, by decide +kernel⟩
set_option maxHeartbeats 4000000 in
theorem wX8_taken_61 {Ω : fg_O} {a0 : Nat} {i1 : Int32} {i4 : Int32} {i5 : Int32} {G : fg_H} {t : (Int32 × fg_H)} (X : fg_X Ω RX8 "taken" cX8_taken 6 (some .int) 1) (hF : fX8_taken_61 a0 i1 i4 i5 G = some t) (hT : fg_T Ω (.returned (some (.int t.1))) t.2) : fg_W Ω G 61 [(0, .ref a0), (1, .int i1), (4, .int i4), (5, .int i5)] [] := by
  unfold fX8_taken_61 at hF
  refine fg_iload X dX8_taken_61 2 rfl ?_
  refine fg_iconst X (v := (3 : Int32)) dX8_taken_63 (by decide) ?_
  refine fg_icmp_ne X (tgt := 86) dX8_taken_64 (by decide) (fun hc => ?_) (fun hc => ?_)
  · rw [if_neg hc] at hF
    refine fg_iload X dX8_taken_86 3 rfl ?_
    cases hF
    exact fg_iret X dX8_taken_88 (hT)
  · rw [if_pos hc] at hF
    refine fg_aload_n X (r := (some a0)) dX8_taken_67 rfl 0 rfl ?_
    replace hF := fg_ob_some hF
    obtain ⟨r8, e_1, hF⟩ := hF
    refine fg_getr X ff_X8_s q1585 e_1 dX8_taken_68 ?_
    refine fg_bipush X (v := (25 : Int32)) dX8_taken_71 (by decide) ?_
    refine fg_iload_n X dX8_taken_73 rfl 1 rfl ?_
    refine fg_iadd X dX8_taken_74 ?_
    replace hF := fg_ob_some hF
    obtain ⟨a9, rfl, hF⟩ := hF
    replace hF := fg_ob_some hF
    obtain ⟨x10, e_2, hF⟩ := hF
    refine fg_iald X e_2 dX8_taken_75 ?_
    refine fg_if_ne X (tgt := 86) dX8_taken_76 (by decide) (fun hc => ?_) (fun hc => ?_)
    · rw [if_neg hc] at hF
      refine fg_iload X dX8_taken_86 3 rfl ?_
      cases hF
      exact fg_iret X dX8_taken_88 (hT)
    · rw [if_pos hc] at hF
      refine fg_iload X dX8_taken_79 3 rfl ?_
      refine fg_iconst X (v := (2 : Int32)) dX8_taken_81 (by decide) ?_
      refine fg_idiv X dX8_taken_82 (by decide) ?_
      refine fg_goto X (tgt := 88) dX8_taken_83 (by decide) ?_
      cases hF
      exact fg_iret X dX8_taken_88 (hT)
set_option maxHeartbeats 4000000 in
theorem wX8_taken_47 {Ω : fg_O} {a0 : Nat} {i1 : Int32} {i2 : Int32} {i4 : Int32} {i5 : Int32} {G : fg_H} {t : (Int32 × fg_H)} (X : fg_X Ω RX8 "taken" cX8_taken 6 (some .int) 1) (hF : fX8_taken_47 a0 i1 i2 i4 i5 G = some t) (hT : fg_T Ω (.returned (some (.int t.1))) t.2) : fg_W Ω G 47 [(0, .ref a0), (1, .int i1), (2, .int i2), (4, .int i4), (5, .int i5)] [] := by
  unfold fX8_taken_47 at hF
  refine fg_iload X dX8_taken_47 3 rfl ?_
  refine fg_iconst X (v := (5 : Int32)) dX8_taken_49 (by decide) ?_
  refine fg_icmp_ne X (tgt := 61) dX8_taken_50 (by decide) (fun hc => ?_) (fun hc => ?_)
  · rw [if_neg hc] at hF
    refine fg_sub [0, 1, 3, 4] rfl ?_
    exact wX8_taken_61 X hF hT
  · rw [if_pos hc] at hF
    refine fg_iload_n X dX8_taken_53 rfl 2 rfl ?_
    refine fg_bipush X (v := (10 : Int32)) dX8_taken_54 (by decide) ?_
    refine fg_icmp_ge X (tgt := 61) dX8_taken_56 (by decide) (fun hc => ?_) (fun hc => ?_)
    · rw [if_pos hc] at hF
      refine fg_sub [0, 1, 3, 4] rfl ?_
      exact wX8_taken_61 X hF hT
    · rw [if_neg hc] at hF
      refine fg_iconst X (v := (0 : Int32)) dX8_taken_59 (by decide) ?_
      cases hF
      exact fg_iret X dX8_taken_60 (hT)
set_option maxHeartbeats 4000000 in
theorem wX8_taken {Ω : fg_O} {a0 : Nat} {i1 : Int32} {i2 : Int32} {i3 : Int32} {G : fg_H} {t : Int32 × fg_H} (X : fg_X Ω RX8 "taken" cX8_taken 6 (some .int) 1) (hF : fX8_taken a0 i1 i2 i3 G = some t) (hT : fg_T Ω (.returned (some (.int t.1))) t.2) : fg_W Ω G 0 [(0, .ref a0), (1, .int i1), (2, .int i2), (3, .int i3)] [] := by
  unfold fX8_taken at hF
  refine fg_aload_n X (r := (some a0)) dX8_taken_0 rfl 0 rfl ?_
  replace hF := fg_ob_some hF
  obtain ⟨r1, e_1, hF⟩ := hF
  refine fg_getr X ff_X8_kind q1565 e_1 dX8_taken_1 ?_
  refine fg_iload_n X dX8_taken_4 rfl 1 rfl ?_
  replace hF := fg_ob_some hF
  obtain ⟨a2, rfl, hF⟩ := hF
  replace hF := fg_ob_some hF
  obtain ⟨x3, e_2, hF⟩ := hF
  refine fg_iald X e_2 dX8_taken_5 ?_
  refine fg_istore X (L' := [(4, .int x3), (0, .ref a0), (1, .int i1), (2, .int i2), (3, .int i3)]) dX8_taken_6 (by decide) rfl ?_
  refine fg_iload_n X dX8_taken_8 rfl 3 rfl ?_
  refine fg_aload_n X (r := (some a0)) dX8_taken_9 rfl 1 rfl ?_
  replace hF := fg_ob_some hF
  obtain ⟨r4, e_3, hF⟩ := hF
  refine fg_getr X ff_X8_mesh q1564 e_3 dX8_taken_10 ?_
  refine fg_iload_n X dX8_taken_13 rfl 2 rfl ?_
  replace hF := fg_ob_some hF
  obtain ⟨a5, rfl, hF⟩ := hF
  replace hF := fg_ob_some hF
  obtain ⟨x6, e_4, hF⟩ := hF
  refine fg_iald X e_4 dX8_taken_14 ?_
  refine fg_imul X dX8_taken_15 ?_
  refine fg_bipush X (v := (10 : Int32)) dX8_taken_16 (by decide) ?_
  refine fg_idiv X dX8_taken_18 (by decide) ?_
  replace hF := fg_ob_some hF
  obtain ⟨v7, ex_5, hF⟩ := hF
  refine fg_topi (Option.some.inj ex_5) ?_
  refine fg_istore X (L' := [(5, .int v7), (4, .int x3), (0, .ref a0), (1, .int i1), (2, .int i2), (3, .int i3)]) dX8_taken_19 (by decide) rfl ?_
  refine fg_iload X dX8_taken_21 1 rfl ?_
  refine fg_iconst X (v := (1 : Int32)) dX8_taken_23 (by decide) ?_
  refine fg_icmp_ne X (tgt := 34) dX8_taken_24 (by decide) (fun hc => ?_) (fun hc => ?_)
  · rw [if_neg hc] at hF
    refine fg_iload X dX8_taken_34 1 rfl ?_
    refine fg_iconst X (v := (2 : Int32)) dX8_taken_36 (by decide) ?_
    refine fg_icmp_ne X (tgt := 47) dX8_taken_37 (by decide) (fun hc => ?_) (fun hc => ?_)
    · rw [if_neg hc] at hF
      refine fg_sub [2, 3, 4, 1, 0] rfl ?_
      exact wX8_taken_47 X hF hT
    · rw [if_pos hc] at hF
      refine fg_iload_n X dX8_taken_40 rfl 5 rfl ?_
      refine fg_iconst X (v := (2 : Int32)) dX8_taken_41 (by decide) ?_
      refine fg_irem X dX8_taken_42 (by decide) ?_
      refine fg_iconst X (v := (1 : Int32)) dX8_taken_43 (by decide) ?_
      refine fg_icmp_eq X (tgt := 59) dX8_taken_44 (by decide) (fun hc => ?_) (fun hc => ?_)
      · rw [if_pos hc] at hF
        refine fg_iconst X (v := (0 : Int32)) dX8_taken_59 (by decide) ?_
        cases hF
        exact fg_iret X dX8_taken_60 (hT)
      · rw [if_neg hc] at hF
        refine fg_sub [2, 3, 4, 1, 0] rfl ?_
        exact wX8_taken_47 X hF hT
  · rw [if_pos hc] at hF
    refine fg_iconst X (v := (4 : Int32)) dX8_taken_27 (by decide) ?_
    refine fg_iload X dX8_taken_28 0 rfl ?_
    replace hF := fg_oc_some hF
    obtain ⟨x12, G11, e_6, hF⟩ := hF
    refine fg_callS X (st := []) (mJ7_min Ω.2.2.2.2.1 Ω.1 e_6) q1884 q562 q108 q563 hd_J7_min (by decide) rfl rfl (Nat.le_of_ble_eq_true rfl) dX8_taken_30 ?_
    cases hF
    exact fg_iret X dX8_taken_33 (hT)
theorem mX8_taken (l : Launch) (D : fg_D) {a0 : Nat} {i1 : Int32} {i2 : Int32} {i3 : Int32} {G : fg_H} {t : Int32 × fg_H} (hF : fX8_taken a0 i1 i2 i3 G = some t) : fg_M l D yX8_taken cX8_taken 6 (some .int) 1 [.ref a0, .int i1, .int i2, .int i3] G (.returned (some (.int t.1))) t.2 :=
  fg_Mof (own := RX8) (nm := "taken") (L := [(0, .ref a0), (1, .int i1), (2, .int i2), (3, .int i3)]) (plainFor_of_name pn_X8) rfl rfl rfl (Nat.le_of_ble_eq_true rfl) (fun Ω _ _ X hT => wX8_taken X hF hT)
theorem hd_X8_passes : yX8_passes.cls ≠ "java/lang/invoke/MethodHandle" ∧ yX8_passes.cls ≠ "java/lang/invoke/VarHandle" ∧ (parseMethodDescriptor yX8_passes.desc).map (fun d => d.parameters.length) = some 5 := ⟨by decide +kernel, by decide +kernel, by decide +kernel⟩
set_option maxHeartbeats 4000000 in
theorem wX8_passes_92 {Ω : fg_O} {a0 : Nat} {i1 : Int32} {i2 : Int32} {i4 : Int32} {i5 : Int32} {i6 : Int32} {i7 : Int32} {i8 : Int32} {s0 : Nat} {s1 : Int32} {G : fg_H} {t : ((Nat × Int32 × Int32 × Int32 × Int32 × Int32 × Int32 × Int32 × fg_H) ⊕ (Int32 × fg_H))} (X : fg_X Ω RX8 "passes" cX8_passes 12 (some .int) 4) (hF : fX8_passes_92 a0 i1 i2 i4 i5 i6 i7 i8 s0 s1 G = some t) (h38 : ∀ z, t = (.inl z) → fg_W Ω z.2.2.2.2.2.2.2.2 38 [(0, .ref z.1), (1, .int z.2.1), (2, .int z.2.2.1), (4, .int z.2.2.2.1), (5, .int z.2.2.2.2.1), (6, .int z.2.2.2.2.2.1), (7, .int z.2.2.2.2.2.2.1), (8, .int z.2.2.2.2.2.2.2.1)] []) (hT : ∀ u, t = (.inr u) → fg_T Ω (.returned (some (.int u.1))) u.2) : fg_W Ω G 92 [(0, .ref a0), (1, .int i1), (2, .int i2), (4, .int i4), (5, .int i5), (6, .int i6), (7, .int i7), (8, .int i8)] [.int s1, .ref s0] := by
  unfold fX8_passes_92 at hF
  refine fg_iload_n X dX8_passes_92 rfl 1 rfl ?_
  replace hF := fg_gd_some hF
  obtain ⟨eg_1, hF⟩ := hF
  obtain ⟨fs_2, eo_3⟩ := fg_rc_get eg_1
  replace hF := fg_oc_some hF
  obtain ⟨x8, G7, e_4, hF⟩ := hF
  refine fg_callV X (st := []) (mX8_netAt Ω.2.2.2.2.1 Ω.1 e_4) q1893 q1895 qs77 q105 q1896 hd_X8_netAt (by decide) rfl eo_3 (by decide) rfl rfl (Nat.le_of_ble_eq_true rfl) dX8_passes_93 ?_
  refine fg_istore X (L' := [(10, .int x8), (0, .ref a0), (1, .int i1), (2, .int i2), (4, .int i4), (5, .int i5), (6, .int i6), (7, .int i7), (8, .int i8)]) dX8_passes_96 (by decide) rfl ?_
  refine fg_iload X dX8_passes_98 0 rfl ?_
  refine fg_if_ge X (tgt := 106) dX8_passes_100 (by decide) (fun hc => ?_) (fun hc => ?_)
  · rw [if_pos hc] at hF
    refine fg_aload_n X (r := (some a0)) dX8_passes_106 rfl 1 rfl ?_
    refine fg_iload X dX8_passes_107 0 rfl ?_
    refine fg_iload X dX8_passes_109 6 rfl ?_
    refine fg_iload_n X dX8_passes_111 rfl 3 rfl ?_
    replace hF := fg_gd_some hF
    obtain ⟨eg_5, hF⟩ := hF
    obtain ⟨fs_6, eo_7⟩ := fg_rc_get eg_5
    replace hF := fg_oc_some hF
    obtain ⟨x10, G9, e_8, hF⟩ := hF
    refine fg_callV X (st := []) (mX8_taken Ω.2.2.2.2.1 Ω.1 e_8) q1897 q1899 qs78 q105 q1900 hd_X8_taken (by decide) rfl eo_7 (by decide) rfl rfl (Nat.le_of_ble_eq_true rfl) dX8_passes_112 ?_
    refine fg_istore X (L' := [(11, .int x10), (10, .int x8), (0, .ref a0), (1, .int i1), (2, .int i2), (4, .int i4), (5, .int i5), (6, .int i6), (7, .int i7), (8, .int i8)]) dX8_passes_115 (by decide) rfl ?_
    refine fg_aload_n X (r := (some a0)) dX8_passes_117 rfl 2 rfl ?_
    replace hF := fg_ob_some hF
    obtain ⟨r11, e_9, hF⟩ := hF
    refine fg_getr X ff_X8_takes q1588 e_9 dX8_passes_118 ?_
    refine fg_iload X dX8_passes_121 1 rfl ?_
    refine fg_dup2 X dX8_passes_123 rfl (fg_cat _) ?_
    replace hF := fg_ob_some hF
    obtain ⟨a12, rfl, hF⟩ := hF
    replace hF := fg_ob_some hF
    obtain ⟨x13, e_10, hF⟩ := hF
    refine fg_iald X e_10 dX8_passes_124 ?_
    refine fg_iload X dX8_passes_125 0 rfl ?_
    refine fg_iadd X dX8_passes_127 ?_
    replace hF := fg_ob_some hF
    obtain ⟨G14, e_11, hF⟩ := hF
    refine fg_iast X e_11 dX8_passes_128 ?_
    refine fg_iload X dX8_passes_129 7 rfl ?_
    refine fg_iload X dX8_passes_131 0 rfl ?_
    refine fg_isub X dX8_passes_133 ?_
    replace hF := fg_ob_some hF
    obtain ⟨v15, ex_12, hF⟩ := hF
    refine fg_topi (Option.some.inj ex_12) ?_
    refine fg_istore X (L' := [(6, .int v15), (11, .int x10), (10, .int x8), (0, .ref a0), (1, .int i1), (2, .int i2), (4, .int i4), (5, .int i5), (7, .int i7), (8, .int i8)]) dX8_passes_134 (by decide) rfl ?_
    refine fg_iinc X (v := (i8 + (1 : Int32))) (L' := [(8, .int (i8 + (1 : Int32))), (6, .int v15), (11, .int x10), (10, .int x8), (0, .ref a0), (1, .int i1), (2, .int i2), (4, .int i4), (5, .int i5), (7, .int i7)]) dX8_passes_136 9 rfl rfl (by decide) rfl ?_
    refine fg_goto X (tgt := 38) dX8_passes_139 (by decide) ?_
    refine fg_sub [4, 5, 6, 7, 8, 1, 9, 0] rfl ?_
    exact h38 _ (Option.some.inj hF).symm
  · rw [if_neg hc] at hF
    refine fg_goto X (tgt := 136) dX8_passes_103 (by decide) ?_
    refine fg_iinc X (v := (i8 + (1 : Int32))) (L' := [(8, .int (i8 + (1 : Int32))), (10, .int x8), (0, .ref a0), (1, .int i1), (2, .int i2), (4, .int i4), (5, .int i5), (6, .int i6), (7, .int i7)]) dX8_passes_136 8 rfl rfl (by decide) rfl ?_
    refine fg_goto X (tgt := 38) dX8_passes_139 (by decide) ?_
    refine fg_sub [2, 3, 4, 5, 6, 7, 8, 0] rfl ?_
    exact h38 _ (Option.some.inj hF).symm
set_option maxHeartbeats 4000000 in
theorem wX8_passes_64 {Ω : fg_O} {a0 : Nat} {i1 : Int32} {i2 : Int32} {i4 : Int32} {i5 : Int32} {i6 : Int32} {i7 : Int32} {i8 : Int32} {s0 : Int32} {G : fg_H} {t : ((Nat × Int32 × Int32 × Int32 × Int32 × Int32 × Int32 × Int32 × fg_H) ⊕ (Int32 × fg_H))} (X : fg_X Ω RX8 "passes" cX8_passes 12 (some .int) 4) (hF : fX8_passes_64 a0 i1 i2 i4 i5 i6 i7 i8 s0 G = some t) (h38 : ∀ z, t = (.inl z) → fg_W Ω z.2.2.2.2.2.2.2.2 38 [(0, .ref z.1), (1, .int z.2.1), (2, .int z.2.2.1), (4, .int z.2.2.2.1), (5, .int z.2.2.2.2.1), (6, .int z.2.2.2.2.2.1), (7, .int z.2.2.2.2.2.2.1), (8, .int z.2.2.2.2.2.2.2.1)] []) (hT : ∀ u, t = (.inr u) → fg_T Ω (.returned (some (.int u.1))) u.2) : fg_W Ω G 64 [(0, .ref a0), (1, .int i1), (2, .int i2), (4, .int i4), (5, .int i5), (6, .int i6), (7, .int i7), (8, .int i8)] [.int s0] := by
  unfold fX8_passes_64 at hF
  refine fg_istore X (L' := [(9, .int s0), (0, .ref a0), (1, .int i1), (2, .int i2), (4, .int i4), (5, .int i5), (6, .int i6), (7, .int i7), (8, .int i8)]) dX8_passes_64 (by decide) rfl ?_
  refine fg_aload_n X (r := (some a0)) dX8_passes_66 rfl 1 rfl ?_
  refine fg_iload X dX8_passes_67 5 rfl ?_
  refine fg_iconst X (v := (2 : Int32)) dX8_passes_69 (by decide) ?_
  refine fg_icmp_ge X (tgt := 84) dX8_passes_70 (by decide) (fun hc => ?_) (fun hc => ?_)
  · rw [if_pos hc] at hF
    refine fg_bipush X (v := (8 : Int32)) dX8_passes_84 (by decide) ?_
    refine fg_iload X dX8_passes_86 0 rfl ?_
    refine fg_imul X dX8_passes_88 ?_
    refine fg_iload X dX8_passes_89 4 rfl ?_
    refine fg_iadd X dX8_passes_91 ?_
    refine fg_sub [1, 2, 3, 4, 5, 6, 7, 8] rfl ?_
    exact wX8_passes_92 X hF h38 hT
  · rw [if_neg hc] at hF
    refine fg_bipush X (v := (8 : Int32)) dX8_passes_73 (by decide) ?_
    refine fg_iload X dX8_passes_75 4 rfl ?_
    refine fg_imul X dX8_passes_77 ?_
    refine fg_iload X dX8_passes_78 0 rfl ?_
    refine fg_iadd X dX8_passes_80 ?_
    refine fg_goto X (tgt := 92) dX8_passes_81 (by decide) ?_
    refine fg_sub [1, 2, 3, 4, 5, 6, 7, 8] rfl ?_
    exact wX8_passes_92 X hF h38 hT
set_option maxHeartbeats 4000000 in
theorem wX8_passes_38b {Ω : fg_O} {a0 : Nat} {i1 : Int32} {i2 : Int32} {i4 : Int32} {i5 : Int32} {i6 : Int32} {i7 : Int32} {i8 : Int32} {G : fg_H} {t : ((Nat × Int32 × Int32 × Int32 × Int32 × Int32 × Int32 × Int32 × fg_H) ⊕ (Int32 × fg_H))} (X : fg_X Ω RX8 "passes" cX8_passes 12 (some .int) 4) (hF : fX8_passes_38b a0 i1 i2 i4 i5 i6 i7 i8 G = some t) (h38 : ∀ z, t = (.inl z) → fg_W Ω z.2.2.2.2.2.2.2.2 38 [(0, .ref z.1), (1, .int z.2.1), (2, .int z.2.2.1), (4, .int z.2.2.2.1), (5, .int z.2.2.2.2.1), (6, .int z.2.2.2.2.2.1), (7, .int z.2.2.2.2.2.2.1), (8, .int z.2.2.2.2.2.2.2.1)] []) (hT : ∀ u, t = (.inr u) → fg_T Ω (.returned (some (.int u.1))) u.2) : fg_W Ω G 38 [(0, .ref a0), (1, .int i1), (2, .int i2), (4, .int i4), (5, .int i5), (6, .int i6), (7, .int i7), (8, .int i8)] [] := by
  unfold fX8_passes_38b at hF
  refine fg_iload X dX8_passes_38 7 rfl ?_
  refine fg_iload X dX8_passes_40 6 rfl ?_
  refine fg_icmp_ge X (tgt := 142) dX8_passes_42 (by decide) (fun hc => ?_) (fun hc => ?_)
  · rw [if_pos hc] at hF
    replace hF := fg_rt_some hF
    obtain ⟨t6, hF, ht_1⟩ := hF
    subst ht_1
    replace hT := hT _ rfl
    refine fg_iload X dX8_passes_142 5 rfl ?_
    cases hF
    exact fg_iret X dX8_passes_144 (hT)
  · rw [if_neg hc] at hF
    refine fg_iload X dX8_passes_45 4 rfl ?_
    refine fg_iconst X (v := (2 : Int32)) dX8_passes_47 (by decide) ?_
    refine fg_irem X dX8_passes_48 (by decide) ?_
    refine fg_if_ne X (tgt := 57) dX8_passes_49 (by decide) (fun hc => ?_) (fun hc => ?_)
    · rw [if_neg hc] at hF
      refine fg_iload X dX8_passes_57 6 rfl ?_
      refine fg_iconst X (v := (1 : Int32)) dX8_passes_59 (by decide) ?_
      refine fg_isub X dX8_passes_60 ?_
      refine fg_iload X dX8_passes_61 7 rfl ?_
      refine fg_isub X dX8_passes_63 ?_
      refine fg_sub [0, 1, 2, 3, 4, 5, 6, 7] rfl ?_
      exact wX8_passes_64 X hF h38 hT
    · rw [if_pos hc] at hF
      refine fg_iload X dX8_passes_52 7 rfl ?_
      refine fg_goto X (tgt := 64) dX8_passes_54 (by decide) ?_
      refine fg_sub [0, 1, 2, 3, 4, 5, 6, 7] rfl ?_
      exact wX8_passes_64 X hF h38 hT
set_option maxHeartbeats 4000000 in
theorem wX8_passes_38 {Ω : fg_O} {a0 : Nat} {i1 : Int32} {i2 : Int32} {i4 : Int32} {i5 : Int32} {i6 : Int32} {i7 : Int32} {i8 : Int32} {G : fg_H} {t : (Int32 × fg_H)} (X : fg_X Ω RX8 "passes" cX8_passes 12 (some .int) 4) (hF : fX8_passes_38 a0 i1 i2 i4 i5 i6 i7 i8 G = some t) (hT : fg_T Ω (.returned (some (.int t.1))) t.2) : fg_W Ω G 38 [(0, .ref a0), (1, .int i1), (2, .int i2), (4, .int i4), (5, .int i5), (6, .int i6), (7, .int i7), (8, .int i8)] [] := by
  unfold fX8_passes_38 at hF
  exact fg_lp_walk (P := fun z => fg_W Ω z.2.2.2.2.2.2.2.2 38 [(0, .ref z.1), (1, .int z.2.1), (2, .int z.2.2.1), (4, .int z.2.2.2.1), (5, .int z.2.2.2.2.1), (6, .int z.2.2.2.2.2.1), (7, .int z.2.2.2.2.2.2.1), (8, .int z.2.2.2.2.2.2.2.1)] []) (fun y o ho hl hr => wX8_passes_38b X ho (fun z e => hl z e) (fun u e => by rw [hr _ e]; exact hT)) hF
set_option maxHeartbeats 4000000 in
theorem wX8_passes {Ω : fg_O} {a0 : Nat} {i1 : Int32} {i2 : Int32} {i3 : Int32} {i4 : Int32} {i5 : Int32} {G : fg_H} {t : Int32 × fg_H} (X : fg_X Ω RX8 "passes" cX8_passes 12 (some .int) 4) (hF : fX8_passes a0 i1 i2 i3 i4 i5 G = some t) (hT : fg_T Ω (.returned (some (.int t.1))) t.2) : fg_W Ω G 0 [(0, .ref a0), (1, .int i1), (2, .int i2), (3, .int i3), (4, .int i4), (5, .int i5)] [] := by
  unfold fX8_passes at hF
  refine fg_aload_n X (r := (some a0)) dX8_passes_0 rfl 0 rfl ?_
  refine fg_iload_n X dX8_passes_1 rfl 2 rfl ?_
  refine fg_iload_n X dX8_passes_2 rfl 3 rfl ?_
  refine fg_iload X dX8_passes_3 4 rfl ?_
  refine fg_iload X dX8_passes_5 5 rfl ?_
  replace hF := fg_gd_some hF
  obtain ⟨eg_1, hF⟩ := hF
  obtain ⟨fs_2, eo_3⟩ := fg_rc_get eg_1
  replace hF := fg_oc_some hF
  obtain ⟨x2, G1, e_4, hF⟩ := hF
  refine fg_callV X (st := []) (mX8_bankOf Ω.2.2.2.2.1 Ω.1 e_4) q1880 q1882 qs74 q105 q1883 hd_X8_bankOf (by decide) rfl eo_3 (by decide) rfl rfl (Nat.le_of_ble_eq_true rfl) dX8_passes_7 ?_
  refine fg_istore X (L' := [(6, .int x2), (0, .ref a0), (1, .int i1), (2, .int i2), (3, .int i3), (4, .int i4), (5, .int i5)]) dX8_passes_10 (by decide) rfl ?_
  refine fg_iload X dX8_passes_12 6 rfl ?_
  refine fg_iconst X (v := (2 : Int32)) dX8_passes_14 (by decide) ?_
  refine fg_icmp_ge X (tgt := 27) dX8_passes_15 (by decide) (fun hc => ?_) (fun hc => ?_)
  · rw [if_pos hc] at hF
    refine fg_aload_n X (r := (some a0)) dX8_passes_27 rfl 1 rfl ?_
    replace hF := fg_ob_some hF
    obtain ⟨r3, e_5, hF⟩ := hF
    refine fg_getr X ff_X8_ridge q1558 e_5 dX8_passes_28 ?_
    refine fg_iconst X (v := (1 : Int32)) dX8_passes_31 (by decide) ?_
    replace hF := fg_ob_some hF
    obtain ⟨a4, rfl, hF⟩ := hF
    replace hF := fg_ob_some hF
    obtain ⟨x5, e_6, hF⟩ := hF
    refine fg_iald X e_6 dX8_passes_32 ?_
    refine fg_istore X (L' := [(7, .int x5), (6, .int x2), (0, .ref a0), (1, .int i1), (2, .int i2), (3, .int i3), (4, .int i4), (5, .int i5)]) dX8_passes_33 (by decide) rfl ?_
    refine fg_iconst X (v := (0 : Int32)) dX8_passes_35 (by decide) ?_
    refine fg_istore X (L' := [(8, .int (0 : Int32)), (7, .int x5), (6, .int x2), (0, .ref a0), (1, .int i1), (2, .int i2), (3, .int i3), (4, .int i4), (5, .int i5)]) dX8_passes_36 (by decide) rfl ?_
    refine fg_sub [3, 4, 5, 7, 8, 2, 1, 0] rfl ?_
    exact wX8_passes_38 X hF hT
  · rw [if_neg hc] at hF
    refine fg_aload_n X (r := (some a0)) dX8_passes_18 rfl 1 rfl ?_
    replace hF := fg_ob_some hF
    obtain ⟨r16, e_7, hF⟩ := hF
    refine fg_getr X ff_X8_ridge q1558 e_7 dX8_passes_19 ?_
    refine fg_iconst X (v := (0 : Int32)) dX8_passes_22 (by decide) ?_
    replace hF := fg_ob_some hF
    obtain ⟨a17, rfl, hF⟩ := hF
    replace hF := fg_ob_some hF
    obtain ⟨x18, e_8, hF⟩ := hF
    refine fg_iald X e_8 dX8_passes_23 ?_
    refine fg_goto X (tgt := 33) dX8_passes_24 (by decide) ?_
    refine fg_istore X (L' := [(7, .int x18), (6, .int x2), (0, .ref a0), (1, .int i1), (2, .int i2), (3, .int i3), (4, .int i4), (5, .int i5)]) dX8_passes_33 (by decide) rfl ?_
    refine fg_iconst X (v := (0 : Int32)) dX8_passes_35 (by decide) ?_
    refine fg_istore X (L' := [(8, .int (0 : Int32)), (7, .int x18), (6, .int x2), (0, .ref a0), (1, .int i1), (2, .int i2), (3, .int i3), (4, .int i4), (5, .int i5)]) dX8_passes_36 (by decide) rfl ?_
    refine fg_sub [3, 4, 5, 7, 8, 2, 1, 0] rfl ?_
    exact wX8_passes_38 X hF hT
theorem mX8_passes (l : Launch) (D : fg_D) {a0 : Nat} {i1 : Int32} {i2 : Int32} {i3 : Int32} {i4 : Int32} {i5 : Int32} {G : fg_H} {t : Int32 × fg_H} (hF : fX8_passes a0 i1 i2 i3 i4 i5 G = some t) : fg_M l D yX8_passes cX8_passes 12 (some .int) 4 [.ref a0, .int i1, .int i2, .int i3, .int i4, .int i5] G (.returned (some (.int t.1))) t.2 :=
  fg_Mof (own := RX8) (nm := "passes") (L := [(0, .ref a0), (1, .int i1), (2, .int i2), (3, .int i3), (4, .int i4), (5, .int i5)]) (plainFor_of_name pn_X8) rfl rfl rfl (Nat.le_of_ble_eq_true rfl) (fun Ω _ _ X hT => wX8_passes X hF hT)
theorem hd_X8_bank : yX8_bank.cls ≠ "java/lang/invoke/MethodHandle" ∧ yX8_bank.cls ≠ "java/lang/invoke/VarHandle" ∧ (parseMethodDescriptor yX8_bank.desc).map (fun d => d.parameters.length) = some 3 := ⟨by decide +kernel, by decide +kernel, by decide +kernel⟩
set_option maxHeartbeats 4000000 in
theorem wX8_bank {Ω : fg_O} {a0 : Nat} {i1 : Int32} {i2 : Int32} {i3 : Int32} {G : fg_H} {t : Int32 × fg_H} (X : fg_X Ω RX8 "bank" cX8_bank 5 (some .int) 5) (hF : fX8_bank a0 i1 i2 i3 G = some t) (hT : fg_T Ω (.returned (some (.int t.1))) t.2) : fg_W Ω G 0 [(0, .ref a0), (1, .int i1), (2, .int i2), (3, .int i3)] [] := by
  unfold fX8_bank at hF
  refine fg_aload_n X (r := (some a0)) dX8_bank_0 rfl 0 rfl ?_
  refine fg_iconst X (v := (0 : Int32)) dX8_bank_1 (by decide) ?_
  replace hF := fg_ob_some hF
  obtain ⟨G1, e_1, hF⟩ := hF
  refine fg_putv X (ty := .int) (v := .int (0 : Int32)) ff_X8_thrown q1548 rfl (Or.inl rfl) rfl rfl rfl e_1 dX8_bank_2 ?_
  refine fg_aload_n X (r := (some a0)) dX8_bank_5 rfl 0 rfl ?_
  refine fg_iload_n X dX8_bank_6 rfl 1 rfl ?_
  replace hF := fg_gd_some hF
  obtain ⟨eg_2, hF⟩ := hF
  obtain ⟨fs_3, eo_4⟩ := fg_rc_get eg_2
  replace hF := fg_oc_some hF
  obtain ⟨x3, G2, e_5, hF⟩ := hF
  refine fg_callV X (st := []) (mX8_isHour Ω.2.2.2.2.1 Ω.1 e_5) q1848 q1850 qs67 q105 q1851 hd_X8_isHour (by decide) rfl eo_4 (by decide) rfl rfl (Nat.le_of_ble_eq_true rfl) dX8_bank_7 ?_
  refine fg_if_eq X (tgt := 22) dX8_bank_10 (by decide) (fun hc => ?_) (fun hc => ?_)
  · rw [if_pos hc] at hF
    refine fg_iconst X (v := (-1 : Int32)) dX8_bank_22 (by decide) ?_
    cases hF
    exact fg_iret X dX8_bank_23 (hT)
  · rw [if_neg hc] at hF
    refine fg_iload_n X dX8_bank_13 rfl 3 rfl ?_
    refine fg_iconst X (v := (0 : Int32)) dX8_bank_14 (by decide) ?_
    refine fg_iconst X (v := (1 : Int32)) dX8_bank_15 (by decide) ?_
    replace hF := fg_oc_some hF
    obtain ⟨x5, G4, e_6, hF⟩ := hF
    refine fg_callS X (st := []) (mX8_within Ω.2.2.2.2.1 Ω.1 e_6) q1738 q1739 q105 q1740 hd_X8_within (by decide) rfl rfl (Nat.le_of_ble_eq_true rfl) dX8_bank_16 ?_
    refine fg_if_ne X (tgt := 24) dX8_bank_19 (by decide) (fun hc => ?_) (fun hc => ?_)
    · rw [if_neg hc] at hF
      refine fg_aload_n X (r := (some a0)) dX8_bank_24 rfl 0 rfl ?_
      refine fg_iload_n X dX8_bank_25 rfl 1 rfl ?_
      refine fg_aload_n X (r := (some a0)) dX8_bank_26 rfl 0 rfl ?_
      replace hF := fg_ob_some hF
      obtain ⟨r6, e_7, hF⟩ := hF
      refine fg_getr X ff_X8_s q1585 e_7 dX8_bank_27 ?_
      refine fg_bipush X (v := (50 : Int32)) dX8_bank_30 (by decide) ?_
      replace hF := fg_ob_some hF
      obtain ⟨a7, rfl, hF⟩ := hF
      replace hF := fg_ob_some hF
      obtain ⟨x8, e_8, hF⟩ := hF
      refine fg_iald X e_8 dX8_bank_32 ?_
      replace hF := fg_gd_some hF
      obtain ⟨eg_9, hF⟩ := hF
      obtain ⟨fs_10, eo_11⟩ := fg_rc_get eg_9
      replace hF := fg_oc_some hF
      obtain ⟨x10, G9, e_12, hF⟩ := hF
      refine fg_callV X (st := []) (mX8_windAt Ω.2.2.2.2.1 Ω.1 e_12) q1852 q1854 qs68 q105 q1855 hd_X8_windAt (by decide) rfl eo_11 (by decide) rfl rfl (Nat.le_of_ble_eq_true rfl) dX8_bank_33 ?_
      refine fg_istore X (L' := [(4, .int x10), (0, .ref a0), (1, .int i1), (2, .int i2), (3, .int i3)]) dX8_bank_36 (by decide) rfl ?_
      refine fg_iload_n X dX8_bank_38 rfl 3 rfl ?_
      refine fg_if_lt X (tgt := 52) dX8_bank_39 (by decide) (fun hc => ?_) (fun hc => ?_)
      · rw [if_pos hc] at hF
        refine fg_iconst X (v := (-1 : Int32)) dX8_bank_52 (by decide) ?_
        cases hF
        exact fg_iret X dX8_bank_53 (hT)
      · rw [if_neg hc] at hF
        refine fg_iload_n X dX8_bank_42 rfl 3 rfl ?_
        refine fg_aload_n X (r := (some a0)) dX8_bank_43 rfl 1 rfl ?_
        refine fg_iload X dX8_bank_44 0 rfl ?_
        replace hF := fg_gd_some hF
        obtain ⟨eg_13, hF⟩ := hF
        obtain ⟨fs_14, eo_15⟩ := fg_rc_get eg_13
        replace hF := fg_oc_some hF
        obtain ⟨x12, G11, e_16, hF⟩ := hF
        refine fg_callV X (st := [.int i2]) (mX8_lines Ω.2.2.2.2.1 Ω.1 e_16) q1876 q1878 qs73 q105 q1879 hd_X8_lines (by decide) rfl eo_15 (by decide) rfl rfl (Nat.le_of_ble_eq_true rfl) dX8_bank_46 ?_
        refine fg_icmp_lt X (tgt := 54) dX8_bank_49 (by decide) (fun hc => ?_) (fun hc => ?_)
        · rw [if_pos hc] at hF
          refine fg_iload_n X dX8_bank_54 rfl 4 rfl ?_
          refine fg_if_ne X (tgt := 76) dX8_bank_55 (by decide) (fun hc => ?_) (fun hc => ?_)
          · rw [if_neg hc] at hF
            refine fg_aload_n X (r := (some a0)) dX8_bank_76 rfl 1 rfl ?_
            refine fg_aload_n X (r := (some a0)) dX8_bank_77 rfl 1 rfl ?_
            replace hF := fg_gd_some hF
            obtain ⟨eg_17, hF⟩ := hF
            obtain ⟨fs_18, eo_19⟩ := fg_rc_get eg_17
            replace hF := fg_oc_some hF
            obtain ⟨x14, G13, e_20, hF⟩ := hF
            refine fg_callV X (st := [.ref a0]) (mX8_all Ω.2.2.2.2.1 Ω.1 e_20) q1885 q1887 qs75 q105 q1888 hd_X8_all (by decide) rfl eo_19 (by decide) rfl rfl (Nat.le_of_ble_eq_true rfl) dX8_bank_78 ?_
            refine fg_iload_n X dX8_bank_81 rfl 2 rfl ?_
            refine fg_aload_n X (r := (some a0)) dX8_bank_82 rfl 1 rfl ?_
            replace hF := fg_ob_some hF
            obtain ⟨r15, e_21, hF⟩ := hF
            refine fg_getr X ff_X8_s q1585 e_21 dX8_bank_83 ?_
            refine fg_bipush X (v := (50 : Int32)) dX8_bank_86 (by decide) ?_
            replace hF := fg_ob_some hF
            obtain ⟨a16, rfl, hF⟩ := hF
            replace hF := fg_ob_some hF
            obtain ⟨x17, e_22, hF⟩ := hF
            refine fg_iald X e_22 dX8_bank_88 ?_
            refine fg_iload_n X dX8_bank_89 rfl 3 rfl ?_
            refine fg_iload X dX8_bank_90 0 rfl ?_
            replace hF := fg_gd_some hF
            obtain ⟨eg_23, hF⟩ := hF
            obtain ⟨fs_24, eo_25⟩ := fg_rc_get eg_23
            replace hF := fg_oc_some hF
            obtain ⟨x19, G18, e_26, hF⟩ := hF
            refine fg_callV X (st := []) (mX8_passes Ω.2.2.2.2.1 Ω.1 e_26) q1889 q1891 qs76 q105 q1892 hd_X8_passes (by decide) rfl eo_25 (by decide) rfl rfl (Nat.le_of_ble_eq_true rfl) dX8_bank_92 ?_
            cases hF
            exact fg_iret X dX8_bank_95 (hT)
          · rw [if_pos hc] at hF
            refine fg_aload_n X (r := (some a0)) dX8_bank_58 rfl 1 rfl ?_
            refine fg_iload_n X dX8_bank_59 rfl 2 rfl ?_
            refine fg_aload_n X (r := (some a0)) dX8_bank_60 rfl 1 rfl ?_
            replace hF := fg_ob_some hF
            obtain ⟨r20, e_27, hF⟩ := hF
            refine fg_getr X ff_X8_s q1585 e_27 dX8_bank_61 ?_
            refine fg_bipush X (v := (50 : Int32)) dX8_bank_64 (by decide) ?_
            replace hF := fg_ob_some hF
            obtain ⟨a21, rfl, hF⟩ := hF
            replace hF := fg_ob_some hF
            obtain ⟨x22, e_28, hF⟩ := hF
            refine fg_iald X e_28 dX8_bank_66 ?_
            refine fg_iload_n X dX8_bank_67 rfl 3 rfl ?_
            refine fg_iload X dX8_bank_68 0 rfl ?_
            replace hF := fg_gd_some hF
            obtain ⟨eg_29, hF⟩ := hF
            obtain ⟨fs_30, eo_31⟩ := fg_rc_get eg_29
            replace hF := fg_oc_some hF
            obtain ⟨x24, G23, e_32, hF⟩ := hF
            refine fg_callV X (st := []) (mX8_bankOf Ω.2.2.2.2.1 Ω.1 e_32) q1880 q1882 qs74 q105 q1883 hd_X8_bankOf (by decide) rfl eo_31 (by decide) rfl rfl (Nat.le_of_ble_eq_true rfl) dX8_bank_70 ?_
            refine fg_goto X (tgt := 95) dX8_bank_73 (by decide) ?_
            cases hF
            exact fg_iret X dX8_bank_95 (hT)
        · rw [if_neg hc] at hF
          refine fg_iconst X (v := (-1 : Int32)) dX8_bank_52 (by decide) ?_
          cases hF
          exact fg_iret X dX8_bank_53 (hT)
    · rw [if_pos hc] at hF
      refine fg_iconst X (v := (-1 : Int32)) dX8_bank_22 (by decide) ?_
      cases hF
      exact fg_iret X dX8_bank_23 (hT)
theorem mX8_bank (l : Launch) (D : fg_D) {a0 : Nat} {i1 : Int32} {i2 : Int32} {i3 : Int32} {G : fg_H} {t : Int32 × fg_H} (hF : fX8_bank a0 i1 i2 i3 G = some t) : fg_M l D yX8_bank cX8_bank 5 (some .int) 5 [.ref a0, .int i1, .int i2, .int i3] G (.returned (some (.int t.1))) t.2 :=
  fg_Mof (own := RX8) (nm := "bank") (L := [(0, .ref a0), (1, .int i1), (2, .int i2), (3, .int i3)]) (plainFor_of_name pn_X8) rfl rfl rfl (Nat.le_of_ble_eq_true rfl) (fun Ω _ _ X hT => wX8_bank X hF hT)
theorem hd_X8_yielded : yX8_yielded.cls ≠ "java/lang/invoke/MethodHandle" ∧ yX8_yielded.cls ≠ "java/lang/invoke/VarHandle" ∧ (parseMethodDescriptor yX8_yielded.desc).map (fun d => d.parameters.length) = some 2 := ⟨by decide +kernel, by decide +kernel, by decide +kernel⟩
set_option maxHeartbeats 4000000 in
theorem wX8_yielded_58 {Ω : fg_O} {a0 : Nat} {i1 : Int32} {i2 : Int32} {i3 : Int32} {i4 : Int32} {s0 : Int32} {G : fg_H} {t : ((Nat × Int32 × Int32 × Int32 × Int32 × fg_H) ⊕ (Int32 × fg_H))} (X : fg_X Ω RX8 "yielded" cX8_yielded 6 (some .int) 0) (hF : fX8_yielded_58 a0 i1 i2 i3 i4 s0 G = some t) (h5 : ∀ z, t = (.inl z) → fg_W Ω z.2.2.2.2.2 5 [(0, .ref z.1), (1, .int z.2.1), (2, .int z.2.2.1), (3, .int z.2.2.2.1), (4, .int z.2.2.2.2.1)] []) (hT : ∀ u, t = (.inr u) → fg_T Ω (.returned (some (.int u.1))) u.2) : fg_W Ω G 58 [(0, .ref a0), (1, .int i1), (2, .int i2), (3, .int i3), (4, .int i4)] [.int s0] := by
  unfold fX8_yielded_58 at hF
  refine fg_istore X (L' := [(5, .int s0), (0, .ref a0), (1, .int i1), (2, .int i2), (3, .int i3), (4, .int i4)]) dX8_yielded_58 (by decide) rfl ?_
  refine fg_iload_n X dX8_yielded_60 rfl 4 rfl ?_
  refine fg_iload X dX8_yielded_61 0 rfl ?_
  refine fg_if_eq X (tgt := 76) dX8_yielded_63 (by decide) (fun hc => ?_) (fun hc => ?_)
  · rw [if_pos hc] at hF
    refine fg_iconst X (v := (0 : Int32)) dX8_yielded_76 (by decide) ?_
    refine fg_iadd X dX8_yielded_77 ?_
    replace hF := fg_ob_some hF
    obtain ⟨v5, ex_1, hF⟩ := hF
    refine fg_topi (Option.some.inj ex_1) ?_
    refine fg_istore_n X (L' := [(3, .int v5), (5, .int s0), (0, .ref a0), (1, .int i1), (2, .int i2), (4, .int i4)]) dX8_yielded_78 rfl (by decide) rfl ?_
    refine fg_iinc X (v := (i4 + (1 : Int32))) (L' := [(4, .int (i4 + (1 : Int32))), (3, .int v5), (5, .int s0), (0, .ref a0), (1, .int i1), (2, .int i2)]) dX8_yielded_79 5 rfl rfl (by decide) rfl ?_
    refine fg_goto X (tgt := 5) dX8_yielded_82 (by decide) ?_
    refine fg_sub [3, 4, 5, 1, 0] rfl ?_
    exact h5 _ (Option.some.inj hF).symm
  · rw [if_neg hc] at hF
    refine fg_aload_n X (r := (some a0)) dX8_yielded_66 rfl 1 rfl ?_
    replace hF := fg_ob_some hF
    obtain ⟨r6, e_2, hF⟩ := hF
    refine fg_getr X ff_X8_takes q1588 e_2 dX8_yielded_67 ?_
    refine fg_iload X dX8_yielded_70 5 rfl ?_
    replace hF := fg_ob_some hF
    obtain ⟨a7, rfl, hF⟩ := hF
    replace hF := fg_ob_some hF
    obtain ⟨x8, e_3, hF⟩ := hF
    refine fg_iald X e_3 dX8_yielded_72 ?_
    refine fg_goto X (tgt := 77) dX8_yielded_73 (by decide) ?_
    refine fg_iadd X dX8_yielded_77 ?_
    replace hF := fg_ob_some hF
    obtain ⟨v9, ex_4, hF⟩ := hF
    refine fg_topi (Option.some.inj ex_4) ?_
    refine fg_istore_n X (L' := [(3, .int v9), (5, .int s0), (0, .ref a0), (1, .int i1), (2, .int i2), (4, .int i4)]) dX8_yielded_78 rfl (by decide) rfl ?_
    refine fg_iinc X (v := (i4 + (1 : Int32))) (L' := [(4, .int (i4 + (1 : Int32))), (3, .int v9), (5, .int s0), (0, .ref a0), (1, .int i1), (2, .int i2)]) dX8_yielded_79 5 rfl rfl (by decide) rfl ?_
    refine fg_goto X (tgt := 5) dX8_yielded_82 (by decide) ?_
    refine fg_sub [3, 4, 5, 1, 0] rfl ?_
    exact h5 _ (Option.some.inj hF).symm
set_option maxHeartbeats 4000000 in
theorem wX8_yielded_57 {Ω : fg_O} {a0 : Nat} {i1 : Int32} {i2 : Int32} {i3 : Int32} {i4 : Int32} {G : fg_H} {t : ((Nat × Int32 × Int32 × Int32 × Int32 × fg_H) ⊕ (Int32 × fg_H))} (X : fg_X Ω RX8 "yielded" cX8_yielded 6 (some .int) 0) (hF : fX8_yielded_57 a0 i1 i2 i3 i4 G = some t) (h5 : ∀ z, t = (.inl z) → fg_W Ω z.2.2.2.2.2 5 [(0, .ref z.1), (1, .int z.2.1), (2, .int z.2.2.1), (3, .int z.2.2.2.1), (4, .int z.2.2.2.2.1)] []) (hT : ∀ u, t = (.inr u) → fg_T Ω (.returned (some (.int u.1))) u.2) : fg_W Ω G 57 [(0, .ref a0), (1, .int i1), (2, .int i2), (3, .int i3), (4, .int i4)] [] := by
  unfold fX8_yielded_57 at hF
  refine fg_iconst X (v := (0 : Int32)) dX8_yielded_57 (by decide) ?_
  refine fg_sub [0, 1, 2, 3, 4] rfl ?_
  exact wX8_yielded_58 X hF h5 hT
set_option maxHeartbeats 4000000 in
theorem wX8_yielded_53 {Ω : fg_O} {a0 : Nat} {i1 : Int32} {i2 : Int32} {i3 : Int32} {i4 : Int32} {G : fg_H} {t : ((Nat × Int32 × Int32 × Int32 × Int32 × fg_H) ⊕ (Int32 × fg_H))} (X : fg_X Ω RX8 "yielded" cX8_yielded 6 (some .int) 0) (hF : fX8_yielded_53 a0 i1 i2 i3 i4 G = some t) (h5 : ∀ z, t = (.inl z) → fg_W Ω z.2.2.2.2.2 5 [(0, .ref z.1), (1, .int z.2.1), (2, .int z.2.2.1), (3, .int z.2.2.2.1), (4, .int z.2.2.2.2.1)] []) (hT : ∀ u, t = (.inr u) → fg_T Ω (.returned (some (.int u.1))) u.2) : fg_W Ω G 53 [(0, .ref a0), (1, .int i1), (2, .int i2), (3, .int i3), (4, .int i4)] [] := by
  unfold fX8_yielded_53 at hF
  refine fg_iconst X (v := (1 : Int32)) dX8_yielded_53 (by decide) ?_
  refine fg_goto X (tgt := 58) dX8_yielded_54 (by decide) ?_
  refine fg_sub [0, 1, 2, 3, 4] rfl ?_
  exact wX8_yielded_58 X hF h5 hT
set_option maxHeartbeats 4000000 in
theorem wX8_yielded_38 {Ω : fg_O} {a0 : Nat} {i1 : Int32} {i2 : Int32} {i3 : Int32} {i4 : Int32} {G : fg_H} {t : ((Nat × Int32 × Int32 × Int32 × Int32 × fg_H) ⊕ (Int32 × fg_H))} (X : fg_X Ω RX8 "yielded" cX8_yielded 6 (some .int) 0) (hF : fX8_yielded_38 a0 i1 i2 i3 i4 G = some t) (h5 : ∀ z, t = (.inl z) → fg_W Ω z.2.2.2.2.2 5 [(0, .ref z.1), (1, .int z.2.1), (2, .int z.2.2.1), (3, .int z.2.2.2.1), (4, .int z.2.2.2.2.1)] []) (hT : ∀ u, t = (.inr u) → fg_T Ω (.returned (some (.int u.1))) u.2) : fg_W Ω G 38 [(0, .ref a0), (1, .int i1), (2, .int i2), (3, .int i3), (4, .int i4)] [] := by
  unfold fX8_yielded_38 at hF
  refine fg_iload_n X dX8_yielded_38 rfl 2 rfl ?_
  refine fg_if_lt X (tgt := 53) dX8_yielded_39 (by decide) (fun hc => ?_) (fun hc => ?_)
  · rw [if_pos hc] at hF
    refine fg_sub [0, 1, 2, 3, 4] rfl ?_
    exact wX8_yielded_53 X hF h5 hT
  · rw [if_neg hc] at hF
    refine fg_aload_n X (r := (some a0)) dX8_yielded_42 rfl 0 rfl ?_
    replace hF := fg_ob_some hF
    obtain ⟨r10, e_1, hF⟩ := hF
    refine fg_getr X ff_X8_villageOf q1562 e_1 dX8_yielded_43 ?_
    refine fg_iload X dX8_yielded_46 4 rfl ?_
    replace hF := fg_ob_some hF
    obtain ⟨a11, rfl, hF⟩ := hF
    replace hF := fg_ob_some hF
    obtain ⟨x12, e_2, hF⟩ := hF
    refine fg_iald X e_2 dX8_yielded_48 ?_
    refine fg_iload_n X dX8_yielded_49 rfl 2 rfl ?_
    refine fg_icmp_eq X (tgt := 57) dX8_yielded_50 (by decide) (fun hc => ?_) (fun hc => ?_)
    · rw [if_pos hc] at hF
      refine fg_sub [0, 1, 2, 3, 4] rfl ?_
      exact wX8_yielded_57 X hF h5 hT
    · rw [if_neg hc] at hF
      refine fg_sub [0, 1, 2, 3, 4] rfl ?_
      exact wX8_yielded_53 X hF h5 hT
set_option maxHeartbeats 4000000 in
theorem wX8_yielded_5b {Ω : fg_O} {a0 : Nat} {i1 : Int32} {i2 : Int32} {i3 : Int32} {i4 : Int32} {G : fg_H} {t : ((Nat × Int32 × Int32 × Int32 × Int32 × fg_H) ⊕ (Int32 × fg_H))} (X : fg_X Ω RX8 "yielded" cX8_yielded 6 (some .int) 0) (hF : fX8_yielded_5b a0 i1 i2 i3 i4 G = some t) (h5 : ∀ z, t = (.inl z) → fg_W Ω z.2.2.2.2.2 5 [(0, .ref z.1), (1, .int z.2.1), (2, .int z.2.2.1), (3, .int z.2.2.2.1), (4, .int z.2.2.2.2.1)] []) (hT : ∀ u, t = (.inr u) → fg_T Ω (.returned (some (.int u.1))) u.2) : fg_W Ω G 5 [(0, .ref a0), (1, .int i1), (2, .int i2), (3, .int i3), (4, .int i4)] [] := by
  unfold fX8_yielded_5b at hF
  refine fg_iload X dX8_yielded_5 4 rfl ?_
  refine fg_bipush X (v := (13 : Int32)) dX8_yielded_7 (by decide) ?_
  refine fg_icmp_ge X (tgt := 85) dX8_yielded_9 (by decide) (fun hc => ?_) (fun hc => ?_)
  · rw [if_pos hc] at hF
    replace hF := fg_rt_some hF
    obtain ⟨t1, hF, ht_1⟩ := hF
    subst ht_1
    replace hT := hT _ rfl
    refine fg_iload_n X dX8_yielded_85 rfl 3 rfl ?_
    cases hF
    exact fg_iret X dX8_yielded_86 (hT)
  · rw [if_neg hc] at hF
    refine fg_aload_n X (r := (some a0)) dX8_yielded_12 rfl 0 rfl ?_
    replace hF := fg_ob_some hF
    obtain ⟨r2, e_2, hF⟩ := hF
    refine fg_getr X ff_X8_kind q1565 e_2 dX8_yielded_13 ?_
    refine fg_iload X dX8_yielded_16 4 rfl ?_
    replace hF := fg_ob_some hF
    obtain ⟨a3, rfl, hF⟩ := hF
    replace hF := fg_ob_some hF
    obtain ⟨x4, e_3, hF⟩ := hF
    refine fg_iald X e_3 dX8_yielded_18 ?_
    refine fg_iconst X (v := (4 : Int32)) dX8_yielded_19 (by decide) ?_
    refine fg_icmp_eq X (tgt := 57) dX8_yielded_20 (by decide) (fun hc => ?_) (fun hc => ?_)
    · rw [if_pos hc] at hF
      refine fg_sub [0, 1, 2, 3, 4] rfl ?_
      exact wX8_yielded_57 X hF h5 hT
    · rw [if_neg hc] at hF
      refine fg_iload_n X dX8_yielded_23 rfl 1 rfl ?_
      refine fg_if_lt X (tgt := 38) dX8_yielded_24 (by decide) (fun hc => ?_) (fun hc => ?_)
      · rw [if_pos hc] at hF
        refine fg_sub [0, 1, 2, 3, 4] rfl ?_
        exact wX8_yielded_38 X hF h5 hT
      · rw [if_neg hc] at hF
        refine fg_aload_n X (r := (some a0)) dX8_yielded_27 rfl 0 rfl ?_
        replace hF := fg_ob_some hF
        obtain ⟨r13, e_4, hF⟩ := hF
        refine fg_getr X ff_X8_villageOf q1562 e_4 dX8_yielded_28 ?_
        refine fg_iload X dX8_yielded_31 4 rfl ?_
        replace hF := fg_ob_some hF
        obtain ⟨a14, rfl, hF⟩ := hF
        replace hF := fg_ob_some hF
        obtain ⟨x15, e_5, hF⟩ := hF
        refine fg_iald X e_5 dX8_yielded_33 ?_
        refine fg_iload_n X dX8_yielded_34 rfl 1 rfl ?_
        refine fg_icmp_ne X (tgt := 57) dX8_yielded_35 (by decide) (fun hc => ?_) (fun hc => ?_)
        · rw [if_neg hc] at hF
          refine fg_sub [0, 1, 2, 3, 4] rfl ?_
          exact wX8_yielded_57 X hF h5 hT
        · rw [if_pos hc] at hF
          refine fg_sub [0, 1, 2, 3, 4] rfl ?_
          exact wX8_yielded_38 X hF h5 hT
set_option maxHeartbeats 4000000 in
theorem wX8_yielded_5 {Ω : fg_O} {a0 : Nat} {i1 : Int32} {i2 : Int32} {i3 : Int32} {i4 : Int32} {G : fg_H} {t : (Int32 × fg_H)} (X : fg_X Ω RX8 "yielded" cX8_yielded 6 (some .int) 0) (hF : fX8_yielded_5 a0 i1 i2 i3 i4 G = some t) (hT : fg_T Ω (.returned (some (.int t.1))) t.2) : fg_W Ω G 5 [(0, .ref a0), (1, .int i1), (2, .int i2), (3, .int i3), (4, .int i4)] [] := by
  unfold fX8_yielded_5 at hF
  exact fg_lp_walk (P := fun z => fg_W Ω z.2.2.2.2.2 5 [(0, .ref z.1), (1, .int z.2.1), (2, .int z.2.2.1), (3, .int z.2.2.2.1), (4, .int z.2.2.2.2.1)] []) (fun y o ho hl hr => wX8_yielded_5b X ho (fun z e => hl z e) (fun u e => by rw [hr _ e]; exact hT)) hF
set_option maxHeartbeats 4000000 in
theorem wX8_yielded {Ω : fg_O} {a0 : Nat} {i1 : Int32} {i2 : Int32} {G : fg_H} {t : Int32 × fg_H} (X : fg_X Ω RX8 "yielded" cX8_yielded 6 (some .int) 0) (hF : fX8_yielded a0 i1 i2 G = some t) (hT : fg_T Ω (.returned (some (.int t.1))) t.2) : fg_W Ω G 0 [(0, .ref a0), (1, .int i1), (2, .int i2)] [] := by
  unfold fX8_yielded at hF
  refine fg_iconst X (v := (0 : Int32)) dX8_yielded_0 (by decide) ?_
  refine fg_istore_n X (L' := [(3, .int (0 : Int32)), (0, .ref a0), (1, .int i1), (2, .int i2)]) dX8_yielded_1 rfl (by decide) rfl ?_
  refine fg_iconst X (v := (0 : Int32)) dX8_yielded_2 (by decide) ?_
  refine fg_istore X (L' := [(4, .int (0 : Int32)), (3, .int (0 : Int32)), (0, .ref a0), (1, .int i1), (2, .int i2)]) dX8_yielded_3 (by decide) rfl ?_
  refine fg_sub [2, 3, 4, 1, 0] rfl ?_
  exact wX8_yielded_5 X hF hT
theorem mX8_yielded (l : Launch) (D : fg_D) {a0 : Nat} {i1 : Int32} {i2 : Int32} {G : fg_H} {t : Int32 × fg_H} (hF : fX8_yielded a0 i1 i2 G = some t) : fg_M l D yX8_yielded cX8_yielded 6 (some .int) 0 [.ref a0, .int i1, .int i2] G (.returned (some (.int t.1))) t.2 :=
  fg_Mof (own := RX8) (nm := "yielded") (L := [(0, .ref a0), (1, .int i1), (2, .int i2)]) (plainFor_of_name pn_X8) rfl rfl rfl (Nat.le_of_ble_eq_true rfl) (fun Ω _ _ X hT => wX8_yielded X hF hT)
theorem hd_X8_ends0 : yX8_ends0.cls ≠ "java/lang/invoke/MethodHandle" ∧ yX8_ends0.cls ≠ "java/lang/invoke/VarHandle" ∧ (parseMethodDescriptor yX8_ends0.desc).map (fun d => d.parameters.length) = some 0 := ⟨by decide +kernel, by decide +kernel, by decide +kernel⟩
set_option maxHeartbeats 4000000 in
theorem wX8_ends0_31b {Ω : fg_O} {a0 : Nat} {i1 : Int32} {G : fg_H} {t : ((Nat × Int32 × fg_H) ⊕ (Unit × fg_H))} (X : fg_X Ω RX8 "ends0" cX8_ends0 3 none 1) (hF : fX8_ends0_31b a0 i1 G = some t) (h31 : ∀ z, t = (.inl z) → fg_W Ω z.2.2 31 [(0, .ref z.1), (1, .int z.2.1)] []) (hT : ∀ u, t = (.inr u) → fg_T Ω (.returned none) u.2) : fg_W Ω G 31 [(0, .ref a0), (1, .int i1)] [] := by
  unfold fX8_ends0_31b at hF
  refine fg_iload_n X dX8_ends0_31 rfl 1 rfl ?_
  refine fg_aload_n X (r := (some a0)) dX8_ends0_32 rfl 0 rfl ?_
  replace hF := fg_ob_some hF
  obtain ⟨r2, e_1, hF⟩ := hF
  refine fg_getr X ff_X8_ridge q1558 e_1 dX8_ends0_33 ?_
  refine fg_iconst X (v := (5 : Int32)) dX8_ends0_36 (by decide) ?_
  replace hF := fg_ob_some hF
  obtain ⟨a3, rfl, hF⟩ := hF
  replace hF := fg_ob_some hF
  obtain ⟨x4, e_2, hF⟩ := hF
  refine fg_iald X e_2 dX8_ends0_37 ?_
  refine fg_icmp_ge X (tgt := 115) dX8_ends0_38 (by decide) (fun hc => ?_) (fun hc => ?_)
  · rw [if_pos hc] at hF
    replace hF := fg_rt_some hF
    obtain ⟨t5, hF, ht_3⟩ := hF
    subst ht_3
    replace hT := hT _ rfl
    refine fg_aload_n X (r := (some a0)) dX8_ends0_115 rfl 0 rfl ?_
    replace hF := fg_ob_some hF
    obtain ⟨r6, e_4, hF⟩ := hF
    refine fg_getr X ff_X8_s q1585 e_4 dX8_ends0_116 ?_
    refine fg_bipush X (v := (50 : Int32)) dX8_ends0_119 (by decide) ?_
    refine fg_dup2 X dX8_ends0_121 rfl (fg_cat _) ?_
    replace hF := fg_ob_some hF
    obtain ⟨a7, rfl, hF⟩ := hF
    replace hF := fg_ob_some hF
    obtain ⟨x8, e_5, hF⟩ := hF
    refine fg_iald X e_5 dX8_ends0_122 ?_
    refine fg_iconst X (v := (1 : Int32)) dX8_ends0_123 (by decide) ?_
    refine fg_iadd X dX8_ends0_124 ?_
    replace hF := fg_ob_some hF
    obtain ⟨G9, e_6, hF⟩ := hF
    refine fg_iast X e_6 dX8_ends0_125 ?_
    cases hF
    exact fg_vret X dX8_ends0_126 (hT)
  · rw [if_neg hc] at hF
    refine fg_aload_n X (r := (some a0)) dX8_ends0_41 rfl 0 rfl ?_
    replace hF := fg_ob_some hF
    obtain ⟨r10, e_7, hF⟩ := hF
    refine fg_getr X ff_X8_s q1585 e_7 dX8_ends0_42 ?_
    refine fg_iload_n X dX8_ends0_45 rfl 1 rfl ?_
    refine fg_dup2 X dX8_ends0_46 rfl (fg_cat _) ?_
    replace hF := fg_ob_some hF
    obtain ⟨a11, rfl, hF⟩ := hF
    replace hF := fg_ob_some hF
    obtain ⟨x12, e_8, hF⟩ := hF
    refine fg_iald X e_8 dX8_ends0_47 ?_
    refine fg_aload_n X (r := (some a0)) dX8_ends0_48 rfl 0 rfl ?_
    refine fg_iload_n X dX8_ends0_49 rfl 1 rfl ?_
    refine fg_iconst X (v := (-1 : Int32)) dX8_ends0_50 (by decide) ?_
    replace hF := fg_gd_some hF
    obtain ⟨eg_9, hF⟩ := hF
    obtain ⟨fs_10, eo_11⟩ := fg_rc_get eg_9
    replace hF := fg_oc_some hF
    obtain ⟨x14, G13, e_12, hF⟩ := hF
    refine fg_callV X (st := [.int x12, .int i1, .ref a11]) (mX8_yielded Ω.2.2.2.2.1 Ω.1 e_12) q1925 q1927 qs84 q105 q1928 hd_X8_yielded (by decide) rfl eo_11 (by decide) rfl rfl (Nat.le_of_ble_eq_true rfl) dX8_ends0_51 ?_
    refine fg_aload_n X (r := (some a0)) dX8_ends0_54 rfl 0 rfl ?_
    replace hF := fg_ob_some hF
    obtain ⟨r15, e_13, hF⟩ := hF
    refine fg_getr X ff_X8_ridge q1558 e_13 dX8_ends0_55 ?_
    refine fg_iconst X (v := (3 : Int32)) dX8_ends0_58 (by decide) ?_
    replace hF := fg_ob_some hF
    obtain ⟨a16, rfl, hF⟩ := hF
    replace hF := fg_ob_some hF
    obtain ⟨x17, e_14, hF⟩ := hF
    refine fg_iald X e_14 dX8_ends0_59 ?_
    refine fg_iadd X dX8_ends0_60 ?_
    refine fg_iadd X dX8_ends0_61 ?_
    replace hF := fg_ob_some hF
    obtain ⟨G18, e_15, hF⟩ := hF
    refine fg_iast X e_15 dX8_ends0_62 ?_
    refine fg_aload_n X (r := (some a0)) dX8_ends0_63 rfl 0 rfl ?_
    replace hF := fg_ob_some hF
    obtain ⟨r19, e_16, hF⟩ := hF
    refine fg_getr X ff_X8_s q1585 e_16 dX8_ends0_64 ?_
    refine fg_iload_n X dX8_ends0_67 rfl 1 rfl ?_
    replace hF := fg_ob_some hF
    obtain ⟨a20, rfl, hF⟩ := hF
    replace hF := fg_ob_some hF
    obtain ⟨x21, e_17, hF⟩ := hF
    refine fg_iald X e_17 dX8_ends0_68 ?_
    refine fg_aload_n X (r := (some a0)) dX8_ends0_69 rfl 0 rfl ?_
    replace hF := fg_ob_some hF
    obtain ⟨r22, e_18, hF⟩ := hF
    refine fg_getr X ff_X8_thirst q1559 e_18 dX8_ends0_70 ?_
    refine fg_iload_n X dX8_ends0_73 rfl 1 rfl ?_
    replace hF := fg_ob_some hF
    obtain ⟨a23, rfl, hF⟩ := hF
    replace hF := fg_ob_some hF
    obtain ⟨x24, e_19, hF⟩ := hF
    refine fg_iald X e_19 dX8_ends0_74 ?_
    replace hF := fg_oc_some hF
    obtain ⟨x26, G25, e_20, hF⟩ := hF
    refine fg_callS X (st := []) (mJ7_min Ω.2.2.2.2.1 Ω.1 e_20) q1884 q562 q108 q563 hd_J7_min (by decide) rfl rfl (Nat.le_of_ble_eq_true rfl) dX8_ends0_75 ?_
    refine fg_istore_n X (L' := [(2, .int x26), (0, .ref a0), (1, .int i1)]) dX8_ends0_78 rfl (by decide) rfl ?_
    refine fg_aload_n X (r := (some a0)) dX8_ends0_79 rfl 1 rfl ?_
    replace hF := fg_ob_some hF
    obtain ⟨r27, e_21, hF⟩ := hF
    refine fg_getr X ff_X8_s q1585 e_21 dX8_ends0_80 ?_
    refine fg_iload_n X dX8_ends0_83 rfl 2 rfl ?_
    refine fg_dup2 X dX8_ends0_84 rfl (fg_cat _) ?_
    replace hF := fg_ob_some hF
    obtain ⟨a28, rfl, hF⟩ := hF
    replace hF := fg_ob_some hF
    obtain ⟨x29, e_22, hF⟩ := hF
    refine fg_iald X e_22 dX8_ends0_85 ?_
    refine fg_iload_n X dX8_ends0_86 rfl 0 rfl ?_
    refine fg_isub X dX8_ends0_87 ?_
    replace hF := fg_ob_some hF
    obtain ⟨G30, e_23, hF⟩ := hF
    refine fg_iast X e_23 dX8_ends0_88 ?_
    refine fg_aload_n X (r := (some a0)) dX8_ends0_89 rfl 1 rfl ?_
    replace hF := fg_ob_some hF
    obtain ⟨r31, e_24, hF⟩ := hF
    refine fg_getr X ff_X8_s q1585 e_24 dX8_ends0_90 ?_
    refine fg_bipush X (v := (6 : Int32)) dX8_ends0_93 (by decide) ?_
    refine fg_iload_n X dX8_ends0_95 rfl 2 rfl ?_
    refine fg_iadd X dX8_ends0_96 ?_
    refine fg_dup2 X dX8_ends0_97 rfl (fg_cat _) ?_
    replace hF := fg_ob_some hF
    obtain ⟨a32, rfl, hF⟩ := hF
    replace hF := fg_ob_some hF
    obtain ⟨x33, e_25, hF⟩ := hF
    refine fg_iald X e_25 dX8_ends0_98 ?_
    refine fg_aload_n X (r := (some a0)) dX8_ends0_99 rfl 1 rfl ?_
    replace hF := fg_ob_some hF
    obtain ⟨r34, e_26, hF⟩ := hF
    refine fg_getr X ff_X8_thirst q1559 e_26 dX8_ends0_100 ?_
    refine fg_iload_n X dX8_ends0_103 rfl 2 rfl ?_
    replace hF := fg_ob_some hF
    obtain ⟨a35, rfl, hF⟩ := hF
    replace hF := fg_ob_some hF
    obtain ⟨x36, e_27, hF⟩ := hF
    refine fg_iald X e_27 dX8_ends0_104 ?_
    refine fg_iload_n X dX8_ends0_105 rfl 0 rfl ?_
    refine fg_isub X dX8_ends0_106 ?_
    refine fg_iadd X dX8_ends0_107 ?_
    replace hF := fg_ob_some hF
    obtain ⟨G37, e_28, hF⟩ := hF
    refine fg_iast X e_28 dX8_ends0_108 ?_
    refine fg_iinc X (v := (i1 + (1 : Int32))) (L' := [(1, .int (i1 + (1 : Int32))), (2, .int x26), (0, .ref a0)]) dX8_ends0_109 2 rfl rfl (by decide) rfl ?_
    refine fg_goto X (tgt := 31) dX8_ends0_112 (by decide) ?_
    refine fg_sub [2, 0] rfl ?_
    exact h31 _ (Option.some.inj hF).symm
set_option maxHeartbeats 4000000 in
theorem wX8_ends0_31 {Ω : fg_O} {a0 : Nat} {i1 : Int32} {G : fg_H} {t : (Unit × fg_H)} (X : fg_X Ω RX8 "ends0" cX8_ends0 3 none 1) (hF : fX8_ends0_31 a0 i1 G = some t) (hT : fg_T Ω (.returned none) t.2) : fg_W Ω G 31 [(0, .ref a0), (1, .int i1)] [] := by
  unfold fX8_ends0_31 at hF
  exact fg_lp_walk (P := fun z => fg_W Ω z.2.2 31 [(0, .ref z.1), (1, .int z.2.1)] []) (fun y o ho hl hr => wX8_ends0_31b X ho (fun z e => hl z e) (fun u e => by rw [hr _ e]; exact hT)) hF
set_option maxHeartbeats 4000000 in
theorem wX8_ends0_2b {Ω : fg_O} {a0 : Nat} {i1 : Int32} {G : fg_H} {t : ((Nat × Int32 × fg_H) ⊕ (Unit × fg_H))} (X : fg_X Ω RX8 "ends0" cX8_ends0 3 none 1) (hF : fX8_ends0_2b a0 i1 G = some t) (h2 : ∀ z, t = (.inl z) → fg_W Ω z.2.2 2 [(0, .ref z.1), (1, .int z.2.1)] []) (hT : ∀ u, t = (.inr u) → fg_T Ω (.returned none) u.2) : fg_W Ω G 2 [(0, .ref a0), (1, .int i1)] [] := by
  unfold fX8_ends0_2b at hF
  refine fg_iload_n X dX8_ends0_2 rfl 1 rfl ?_
  refine fg_bipush X (v := (12 : Int32)) dX8_ends0_3 (by decide) ?_
  refine fg_icmp_ge X (tgt := 29) dX8_ends0_5 (by decide) (fun hc => ?_) (fun hc => ?_)
  · rw [if_pos hc] at hF
    replace hF := fg_rt_some hF
    obtain ⟨t1, hF, ht_1⟩ := hF
    subst ht_1
    replace hT := hT _ rfl
    refine fg_iconst X (v := (0 : Int32)) dX8_ends0_29 (by decide) ?_
    refine fg_istore_n X (L' := [(1, .int (0 : Int32)), (0, .ref a0)]) dX8_ends0_30 rfl (by decide) rfl ?_
    refine fg_sub [1, 0] rfl ?_
    exact wX8_ends0_31 X hF hT
  · rw [if_neg hc] at hF
    refine fg_aload_n X (r := (some a0)) dX8_ends0_8 rfl 0 rfl ?_
    replace hF := fg_ob_some hF
    obtain ⟨r38, e_2, hF⟩ := hF
    refine fg_getr X ff_X8_s q1585 e_2 dX8_ends0_9 ?_
    refine fg_bipush X (v := (38 : Int32)) dX8_ends0_12 (by decide) ?_
    refine fg_iload_n X dX8_ends0_14 rfl 1 rfl ?_
    refine fg_iadd X dX8_ends0_15 ?_
    refine fg_aload_n X (r := (some a0)) dX8_ends0_16 rfl 0 rfl ?_
    replace hF := fg_ob_some hF
    obtain ⟨r39, e_3, hF⟩ := hF
    refine fg_getr X ff_X8_takes q1588 e_3 dX8_ends0_17 ?_
    refine fg_iload_n X dX8_ends0_20 rfl 1 rfl ?_
    replace hF := fg_ob_some hF
    obtain ⟨a40, rfl, hF⟩ := hF
    replace hF := fg_ob_some hF
    obtain ⟨x41, e_4, hF⟩ := hF
    refine fg_iald X e_4 dX8_ends0_21 ?_
    replace hF := fg_ob_some hF
    obtain ⟨a42, rfl, hF⟩ := hF
    replace hF := fg_ob_some hF
    obtain ⟨G43, e_5, hF⟩ := hF
    refine fg_iast X e_5 dX8_ends0_22 ?_
    refine fg_iinc X (v := (i1 + (1 : Int32))) (L' := [(1, .int (i1 + (1 : Int32))), (0, .ref a0)]) dX8_ends0_23 1 rfl rfl (by decide) rfl ?_
    refine fg_goto X (tgt := 2) dX8_ends0_26 (by decide) ?_
    refine fg_sub [1, 0] rfl ?_
    exact h2 _ (Option.some.inj hF).symm
set_option maxHeartbeats 4000000 in
theorem wX8_ends0_2 {Ω : fg_O} {a0 : Nat} {i1 : Int32} {G : fg_H} {t : (Unit × fg_H)} (X : fg_X Ω RX8 "ends0" cX8_ends0 3 none 1) (hF : fX8_ends0_2 a0 i1 G = some t) (hT : fg_T Ω (.returned none) t.2) : fg_W Ω G 2 [(0, .ref a0), (1, .int i1)] [] := by
  unfold fX8_ends0_2 at hF
  exact fg_lp_walk (P := fun z => fg_W Ω z.2.2 2 [(0, .ref z.1), (1, .int z.2.1)] []) (fun y o ho hl hr => wX8_ends0_2b X ho (fun z e => hl z e) (fun u e => by rw [hr _ e]; exact hT)) hF
set_option maxHeartbeats 4000000 in
theorem wX8_ends0 {Ω : fg_O} {a0 : Nat} {G : fg_H} {t : Unit × fg_H} (X : fg_X Ω RX8 "ends0" cX8_ends0 3 none 1) (hF : fX8_ends0 a0 G = some t) (hT : fg_T Ω (.returned none) t.2) : fg_W Ω G 0 [(0, .ref a0)] [] := by
  unfold fX8_ends0 at hF
  refine fg_iconst X (v := (0 : Int32)) dX8_ends0_0 (by decide) ?_
  refine fg_istore_n X (L' := [(1, .int (0 : Int32)), (0, .ref a0)]) dX8_ends0_1 rfl (by decide) rfl ?_
  refine fg_sub [1, 0] rfl ?_
  exact wX8_ends0_2 X hF hT
theorem mX8_ends0 (l : Launch) (D : fg_D) {a0 : Nat} {G : fg_H} {t : Unit × fg_H} (hF : fX8_ends0 a0 G = some t) : fg_M l D yX8_ends0 cX8_ends0 3 none 1 [.ref a0] G (.returned none) t.2 :=
  fg_Mof (own := RX8) (nm := "ends0") (L := [(0, .ref a0)]) (plainFor_of_name pn_X8) rfl rfl rfl (Nat.le_of_ble_eq_true rfl) (fun Ω _ _ X hT => wX8_ends0 X hF hT)
theorem hd_X8_blows : yX8_blows.cls ≠ "java/lang/invoke/MethodHandle" ∧ yX8_blows.cls ≠ "java/lang/invoke/VarHandle" ∧ (parseMethodDescriptor yX8_blows.desc).map (fun d => d.parameters.length) = some 4 := ⟨by decide +kernel, by decide +kernel, by decide +kernel⟩
set_option maxHeartbeats 4000000 in
theorem wX8_blows_3b {Ω : fg_O} {a0 : Nat} {i1 : Int32} {i2 : Int32} {i3 : Int32} {i4 : Int32} {i5 : Int32} {G : fg_H} {t : ((Nat × Int32 × Int32 × Int32 × Int32 × Int32 × fg_H) ⊕ (Unit × fg_H))} (X : fg_X Ω RX8 "blows" cX8_blows 6 none 5) (hF : fX8_blows_3b a0 i1 i2 i3 i4 i5 G = some t) (h3 : ∀ z, t = (.inl z) → fg_W Ω z.2.2.2.2.2.2 3 [(0, .ref z.1), (1, .int z.2.1), (2, .int z.2.2.1), (3, .int z.2.2.2.1), (4, .int z.2.2.2.2.1), (5, .int z.2.2.2.2.2.1)] []) (hT : ∀ u, t = (.inr u) → fg_T Ω (.returned none) u.2) : fg_W Ω G 3 [(0, .ref a0), (1, .int i1), (2, .int i2), (3, .int i3), (4, .int i4), (5, .int i5)] [] := by
  unfold fX8_blows_3b at hF
  refine fg_iload X dX8_blows_3 5 rfl ?_
  refine fg_aload_n X (r := (some a0)) dX8_blows_5 rfl 0 rfl ?_
  refine fg_iload X dX8_blows_6 4 rfl ?_
  replace hF := fg_gd_some hF
  obtain ⟨eg_1, hF⟩ := hF
  obtain ⟨fs_2, eo_3⟩ := fg_rc_get eg_1
  replace hF := fg_oc_some hF
  obtain ⟨x2, G1, e_4, hF⟩ := hF
  refine fg_callV X (st := [.int i5]) (mX8_lines Ω.2.2.2.2.1 Ω.1 e_4) q1876 q1878 qs73 q105 q1879 hd_X8_lines (by decide) rfl eo_3 (by decide) rfl rfl (Nat.le_of_ble_eq_true rfl) dX8_blows_8 ?_
  refine fg_icmp_ge X (tgt := 32) dX8_blows_11 (by decide) (fun hc => ?_) (fun hc => ?_)
  · rw [if_pos hc] at hF
    replace hF := fg_rt_some hF
    obtain ⟨t3, hF, ht_5⟩ := hF
    subst ht_5
    replace hT := hT _ rfl
    cases hF
    exact fg_vret X dX8_blows_32 (hT)
  · rw [if_neg hc] at hF
    refine fg_aload_n X (r := (some a0)) dX8_blows_14 rfl 0 rfl ?_
    refine fg_iload_n X dX8_blows_15 rfl 1 rfl ?_
    refine fg_iload_n X dX8_blows_16 rfl 2 rfl ?_
    refine fg_iload_n X dX8_blows_17 rfl 3 rfl ?_
    refine fg_iload X dX8_blows_18 5 rfl ?_
    refine fg_iload X dX8_blows_20 4 rfl ?_
    replace hF := fg_gd_some hF
    obtain ⟨eg_6, hF⟩ := hF
    obtain ⟨fs_7, eo_8⟩ := fg_rc_get eg_6
    replace hF := fg_oc_some hF
    obtain ⟨x5, G4, e_9, hF⟩ := hF
    refine fg_callV X (st := []) (mX8_passes Ω.2.2.2.2.1 Ω.1 e_9) q1889 q1891 qs76 q105 q1892 hd_X8_passes (by decide) rfl eo_8 (by decide) rfl rfl (Nat.le_of_ble_eq_true rfl) dX8_blows_22 ?_
    refine fg_pop X dX8_blows_25 rfl ?_
    refine fg_iinc X (v := (i5 + (1 : Int32))) (L' := [(5, .int (i5 + (1 : Int32))), (0, .ref a0), (1, .int i1), (2, .int i2), (3, .int i3), (4, .int i4)]) dX8_blows_26 5 rfl rfl (by decide) rfl ?_
    refine fg_goto X (tgt := 3) dX8_blows_29 (by decide) ?_
    refine fg_sub [1, 2, 3, 4, 5, 0] rfl ?_
    exact h3 _ (Option.some.inj hF).symm
set_option maxHeartbeats 4000000 in
theorem wX8_blows_3 {Ω : fg_O} {a0 : Nat} {i1 : Int32} {i2 : Int32} {i3 : Int32} {i4 : Int32} {i5 : Int32} {G : fg_H} {t : (Unit × fg_H)} (X : fg_X Ω RX8 "blows" cX8_blows 6 none 5) (hF : fX8_blows_3 a0 i1 i2 i3 i4 i5 G = some t) (hT : fg_T Ω (.returned none) t.2) : fg_W Ω G 3 [(0, .ref a0), (1, .int i1), (2, .int i2), (3, .int i3), (4, .int i4), (5, .int i5)] [] := by
  unfold fX8_blows_3 at hF
  exact fg_lp_walk (P := fun z => fg_W Ω z.2.2.2.2.2.2 3 [(0, .ref z.1), (1, .int z.2.1), (2, .int z.2.2.1), (3, .int z.2.2.2.1), (4, .int z.2.2.2.2.1), (5, .int z.2.2.2.2.2.1)] []) (fun y o ho hl hr => wX8_blows_3b X ho (fun z e => hl z e) (fun u e => by rw [hr _ e]; exact hT)) hF
set_option maxHeartbeats 4000000 in
theorem wX8_blows {Ω : fg_O} {a0 : Nat} {i1 : Int32} {i2 : Int32} {i3 : Int32} {i4 : Int32} {G : fg_H} {t : Unit × fg_H} (X : fg_X Ω RX8 "blows" cX8_blows 6 none 5) (hF : fX8_blows a0 i1 i2 i3 i4 G = some t) (hT : fg_T Ω (.returned none) t.2) : fg_W Ω G 0 [(0, .ref a0), (1, .int i1), (2, .int i2), (3, .int i3), (4, .int i4)] [] := by
  unfold fX8_blows at hF
  refine fg_iconst X (v := (0 : Int32)) dX8_blows_0 (by decide) ?_
  refine fg_istore X (L' := [(5, .int (0 : Int32)), (0, .ref a0), (1, .int i1), (2, .int i2), (3, .int i3), (4, .int i4)]) dX8_blows_1 (by decide) rfl ?_
  refine fg_sub [1, 2, 3, 4, 5, 0] rfl ?_
  exact wX8_blows_3 X hF hT
theorem mX8_blows (l : Launch) (D : fg_D) {a0 : Nat} {i1 : Int32} {i2 : Int32} {i3 : Int32} {i4 : Int32} {G : fg_H} {t : Unit × fg_H} (hF : fX8_blows a0 i1 i2 i3 i4 G = some t) : fg_M l D yX8_blows cX8_blows 6 none 5 [.ref a0, .int i1, .int i2, .int i3, .int i4] G (.returned none) t.2 :=
  fg_Mof (own := RX8) (nm := "blows") (L := [(0, .ref a0), (1, .int i1), (2, .int i2), (3, .int i3), (4, .int i4)]) (plainFor_of_name pn_X8) rfl rfl rfl (Nat.le_of_ble_eq_true rfl) (fun Ω _ _ X hT => wX8_blows X hF hT)
theorem hd_X8_clears : yX8_clears.cls ≠ "java/lang/invoke/MethodHandle" ∧ yX8_clears.cls ≠ "java/lang/invoke/VarHandle" ∧ (parseMethodDescriptor yX8_clears.desc).map (fun d => d.parameters.length) = some 0 := ⟨by decide +kernel, by decide +kernel, by decide +kernel⟩
set_option maxHeartbeats 4000000 in
theorem wX8_clears_2b {Ω : fg_O} {a0 : Nat} {i1 : Int32} {G : fg_H} {t : ((Nat × Int32 × fg_H) ⊕ (Unit × fg_H))} (X : fg_X Ω RX8 "clears" cX8_clears 2 none 0) (hF : fX8_clears_2b a0 i1 G = some t) (h2 : ∀ z, t = (.inl z) → fg_W Ω z.2.2 2 [(0, .ref z.1), (1, .int z.2.1)] []) (hT : ∀ u, t = (.inr u) → fg_T Ω (.returned none) u.2) : fg_W Ω G 2 [(0, .ref a0), (1, .int i1)] [] := by
  unfold fX8_clears_2b at hF
  refine fg_iload_n X dX8_clears_2 rfl 1 rfl ?_
  refine fg_bipush X (v := (13 : Int32)) dX8_clears_3 (by decide) ?_
  refine fg_icmp_ge X (tgt := 21) dX8_clears_5 (by decide) (fun hc => ?_) (fun hc => ?_)
  · rw [if_pos hc] at hF
    replace hF := fg_rt_some hF
    obtain ⟨t1, hF, ht_1⟩ := hF
    subst ht_1
    replace hT := hT _ rfl
    cases hF
    exact fg_vret X dX8_clears_21 (hT)
  · rw [if_neg hc] at hF
    refine fg_aload_n X (r := (some a0)) dX8_clears_8 rfl 0 rfl ?_
    replace hF := fg_ob_some hF
    obtain ⟨r2, e_2, hF⟩ := hF
    refine fg_getr X ff_X8_takes q1588 e_2 dX8_clears_9 ?_
    refine fg_iload_n X dX8_clears_12 rfl 1 rfl ?_
    refine fg_iconst X (v := (0 : Int32)) dX8_clears_13 (by decide) ?_
    replace hF := fg_ob_some hF
    obtain ⟨a3, rfl, hF⟩ := hF
    replace hF := fg_ob_some hF
    obtain ⟨G4, e_3, hF⟩ := hF
    refine fg_iast X e_3 dX8_clears_14 ?_
    refine fg_iinc X (v := (i1 + (1 : Int32))) (L' := [(1, .int (i1 + (1 : Int32))), (0, .ref a0)]) dX8_clears_15 1 rfl rfl (by decide) rfl ?_
    refine fg_goto X (tgt := 2) dX8_clears_18 (by decide) ?_
    refine fg_sub [1, 0] rfl ?_
    exact h2 _ (Option.some.inj hF).symm
set_option maxHeartbeats 4000000 in
theorem wX8_clears_2 {Ω : fg_O} {a0 : Nat} {i1 : Int32} {G : fg_H} {t : (Unit × fg_H)} (X : fg_X Ω RX8 "clears" cX8_clears 2 none 0) (hF : fX8_clears_2 a0 i1 G = some t) (hT : fg_T Ω (.returned none) t.2) : fg_W Ω G 2 [(0, .ref a0), (1, .int i1)] [] := by
  unfold fX8_clears_2 at hF
  exact fg_lp_walk (P := fun z => fg_W Ω z.2.2 2 [(0, .ref z.1), (1, .int z.2.1)] []) (fun y o ho hl hr => wX8_clears_2b X ho (fun z e => hl z e) (fun u e => by rw [hr _ e]; exact hT)) hF
set_option maxHeartbeats 4000000 in
theorem wX8_clears {Ω : fg_O} {a0 : Nat} {G : fg_H} {t : Unit × fg_H} (X : fg_X Ω RX8 "clears" cX8_clears 2 none 0) (hF : fX8_clears a0 G = some t) (hT : fg_T Ω (.returned none) t.2) : fg_W Ω G 0 [(0, .ref a0)] [] := by
  unfold fX8_clears at hF
  refine fg_iconst X (v := (0 : Int32)) dX8_clears_0 (by decide) ?_
  refine fg_istore_n X (L' := [(1, .int (0 : Int32)), (0, .ref a0)]) dX8_clears_1 rfl (by decide) rfl ?_
  refine fg_sub [1, 0] rfl ?_
  exact wX8_clears_2 X hF hT
theorem mX8_clears (l : Launch) (D : fg_D) {a0 : Nat} {G : fg_H} {t : Unit × fg_H} (hF : fX8_clears a0 G = some t) : fg_M l D yX8_clears cX8_clears 2 none 0 [.ref a0] G (.returned none) t.2 :=
  fg_Mof (own := RX8) (nm := "clears") (L := [(0, .ref a0)]) (plainFor_of_name pn_X8) rfl rfl rfl (Nat.le_of_ble_eq_true rfl) (fun Ω _ _ X hT => wX8_clears X hF hT)
theorem hd_X8_goes : yX8_goes.cls ≠ "java/lang/invoke/MethodHandle" ∧ yX8_goes.cls ≠ "java/lang/invoke/VarHandle" ∧ (parseMethodDescriptor yX8_goes.desc).map (fun d => d.parameters.length) = some 1 := ⟨by decide +kernel, by decide +kernel, by decide +kernel⟩
set_option maxHeartbeats 4000000 in
theorem wX8_goes_6b {Ω : fg_O} {a0 : Nat} {i1 : Int32} {i2 : Int32} {G : fg_H} {t : ((Nat × Int32 × Int32 × fg_H) ⊕ (Unit × fg_H))} (X : fg_X Ω RX8 "goes" cX8_goes 3 none 6) (hF : fX8_goes_6b a0 i1 i2 G = some t) (h6 : ∀ z, t = (.inl z) → fg_W Ω z.2.2.2 6 [(0, .ref z.1), (1, .int z.2.1), (2, .int z.2.2.1)] []) (hT : ∀ u, t = (.inr u) → fg_T Ω (.returned none) u.2) : fg_W Ω G 6 [(0, .ref a0), (1, .int i1), (2, .int i2)] [] := by
  unfold fX8_goes_6b at hF
  refine fg_iload_n X dX8_goes_6 rfl 2 rfl ?_
  refine fg_aload_n X (r := (some a0)) dX8_goes_7 rfl 0 rfl ?_
  replace hF := fg_ob_some hF
  obtain ⟨r2, e_1, hF⟩ := hF
  refine fg_getr X ff_X8_ridge q1558 e_1 dX8_goes_8 ?_
  refine fg_iconst X (v := (2 : Int32)) dX8_goes_11 (by decide) ?_
  replace hF := fg_ob_some hF
  obtain ⟨a3, rfl, hF⟩ := hF
  replace hF := fg_ob_some hF
  obtain ⟨x4, e_2, hF⟩ := hF
  refine fg_iald X e_2 dX8_goes_12 ?_
  refine fg_icmp_ge X (tgt := 47) dX8_goes_13 (by decide) (fun hc => ?_) (fun hc => ?_)
  · rw [if_pos hc] at hF
    replace hF := fg_rt_some hF
    obtain ⟨t5, hF, ht_3⟩ := hF
    subst ht_3
    replace hT := hT _ rfl
    cases hF
    exact fg_vret X dX8_goes_47 (hT)
  · rw [if_neg hc] at hF
    refine fg_aload_n X (r := (some a0)) dX8_goes_16 rfl 0 rfl ?_
    refine fg_iload_n X dX8_goes_17 rfl 1 rfl ?_
    refine fg_iload_n X dX8_goes_18 rfl 2 rfl ?_
    refine fg_aload_n X (r := (some a0)) dX8_goes_19 rfl 0 rfl ?_
    replace hF := fg_ob_some hF
    obtain ⟨r6, e_4, hF⟩ := hF
    refine fg_getr X ff_X8_s q1585 e_4 dX8_goes_20 ?_
    refine fg_bipush X (v := (50 : Int32)) dX8_goes_23 (by decide) ?_
    replace hF := fg_ob_some hF
    obtain ⟨a7, rfl, hF⟩ := hF
    replace hF := fg_ob_some hF
    obtain ⟨x8, e_5, hF⟩ := hF
    refine fg_iald X e_5 dX8_goes_25 ?_
    refine fg_aload_n X (r := (some a0)) dX8_goes_26 rfl 0 rfl ?_
    refine fg_iload_n X dX8_goes_27 rfl 2 rfl ?_
    refine fg_aload_n X (r := (some a0)) dX8_goes_28 rfl 0 rfl ?_
    replace hF := fg_ob_some hF
    obtain ⟨r9, e_6, hF⟩ := hF
    refine fg_getr X ff_X8_s q1585 e_6 dX8_goes_29 ?_
    refine fg_bipush X (v := (50 : Int32)) dX8_goes_32 (by decide) ?_
    replace hF := fg_ob_some hF
    obtain ⟨a10, rfl, hF⟩ := hF
    replace hF := fg_ob_some hF
    obtain ⟨x11, e_7, hF⟩ := hF
    refine fg_iald X e_7 dX8_goes_34 ?_
    replace hF := fg_gd_some hF
    obtain ⟨eg_8, hF⟩ := hF
    obtain ⟨fs_9, eo_10⟩ := fg_rc_get eg_8
    replace hF := fg_oc_some hF
    obtain ⟨x13, G12, e_11, hF⟩ := hF
    refine fg_callV X (st := [.int x8, .int i2, .int i1, .ref a0]) (mX8_windAt Ω.2.2.2.2.1 Ω.1 e_11) q1852 q1854 qs68 q105 q1855 hd_X8_windAt (by decide) rfl eo_10 (by decide) rfl rfl (Nat.le_of_ble_eq_true rfl) dX8_goes_35 ?_
    replace hF := fg_gd_some hF
    obtain ⟨eg_12, hF⟩ := hF
    obtain ⟨fs_13, eo_14⟩ := fg_rc_get eg_12
    replace hF := fg_oc_some hF
    obtain ⟨u, G14, e_15, hF⟩ := hF
    refine fg_callV X (st := []) (mX8_blows Ω.2.2.2.2.1 Ω.1 e_15) q1917 q1919 qs82 q105 q1920 hd_X8_blows (by decide) rfl eo_14 (by decide) rfl rfl (Nat.le_of_ble_eq_true rfl) dX8_goes_38 ?_
    refine fg_iinc X (v := (i2 + (1 : Int32))) (L' := [(2, .int (i2 + (1 : Int32))), (0, .ref a0), (1, .int i1)]) dX8_goes_41 2 rfl rfl (by decide) rfl ?_
    refine fg_goto X (tgt := 6) dX8_goes_44 (by decide) ?_
    refine fg_sub [1, 2, 0] rfl ?_
    exact h6 _ (Option.some.inj hF).symm
set_option maxHeartbeats 4000000 in
theorem wX8_goes_6 {Ω : fg_O} {a0 : Nat} {i1 : Int32} {i2 : Int32} {G : fg_H} {t : (Unit × fg_H)} (X : fg_X Ω RX8 "goes" cX8_goes 3 none 6) (hF : fX8_goes_6 a0 i1 i2 G = some t) (hT : fg_T Ω (.returned none) t.2) : fg_W Ω G 6 [(0, .ref a0), (1, .int i1), (2, .int i2)] [] := by
  unfold fX8_goes_6 at hF
  exact fg_lp_walk (P := fun z => fg_W Ω z.2.2.2 6 [(0, .ref z.1), (1, .int z.2.1), (2, .int z.2.2.1)] []) (fun y o ho hl hr => wX8_goes_6b X ho (fun z e => hl z e) (fun u e => by rw [hr _ e]; exact hT)) hF
set_option maxHeartbeats 4000000 in
theorem wX8_goes {Ω : fg_O} {a0 : Nat} {i1 : Int32} {G : fg_H} {t : Unit × fg_H} (X : fg_X Ω RX8 "goes" cX8_goes 3 none 6) (hF : fX8_goes a0 i1 G = some t) (hT : fg_T Ω (.returned none) t.2) : fg_W Ω G 0 [(0, .ref a0), (1, .int i1)] [] := by
  unfold fX8_goes at hF
  refine fg_aload_n X (r := (some a0)) dX8_goes_0 rfl 0 rfl ?_
  replace hF := fg_gd_some hF
  obtain ⟨eg_1, hF⟩ := hF
  obtain ⟨fs_2, eo_3⟩ := fg_rc_get eg_1
  replace hF := fg_oc_some hF
  obtain ⟨u, G1, e_4, hF⟩ := hF
  refine fg_callV X (st := []) (mX8_clears Ω.2.2.2.2.1 Ω.1 e_4) q1913 q1915 qs81 q105 q1916 hd_X8_clears (by decide) rfl eo_3 (by decide) rfl rfl (Nat.le_of_ble_eq_true rfl) dX8_goes_1 ?_
  refine fg_iconst X (v := (0 : Int32)) dX8_goes_4 (by decide) ?_
  refine fg_istore_n X (L' := [(2, .int (0 : Int32)), (0, .ref a0), (1, .int i1)]) dX8_goes_5 rfl (by decide) rfl ?_
  refine fg_sub [1, 2, 0] rfl ?_
  exact wX8_goes_6 X hF hT
theorem mX8_goes (l : Launch) (D : fg_D) {a0 : Nat} {i1 : Int32} {G : fg_H} {t : Unit × fg_H} (hF : fX8_goes a0 i1 G = some t) : fg_M l D yX8_goes cX8_goes 3 none 6 [.ref a0, .int i1] G (.returned none) t.2 :=
  fg_Mof (own := RX8) (nm := "goes") (L := [(0, .ref a0), (1, .int i1)]) (plainFor_of_name pn_X8) rfl rfl rfl (Nat.le_of_ble_eq_true rfl) (fun Ω _ _ X hT => wX8_goes X hF hT)
theorem hd_X8_night : yX8_night.cls ≠ "java/lang/invoke/MethodHandle" ∧ yX8_night.cls ≠ "java/lang/invoke/VarHandle" ∧ (parseMethodDescriptor yX8_night.desc).map (fun d => d.parameters.length) = some 0 := ⟨by decide +kernel, by decide +kernel, by decide +kernel⟩
set_option maxHeartbeats 4000000 in
theorem wX8_night {Ω : fg_O} {a0 : Nat} {G : fg_H} {t : Unit × fg_H} (X : fg_X Ω RX8 "night" cX8_night 1 none 7) (hF : fX8_night a0 G = some t) (hT : fg_T Ω (.returned none) t.2) : fg_W Ω G 0 [(0, .ref a0)] [] := by
  unfold fX8_night at hF
  refine fg_aload_n X (r := (some a0)) dX8_night_0 rfl 0 rfl ?_
  refine fg_aload_n X (r := (some a0)) dX8_night_1 rfl 0 rfl ?_
  replace hF := fg_gd_some hF
  obtain ⟨eg_1, hF⟩ := hF
  obtain ⟨fs_2, eo_3⟩ := fg_rc_get eg_1
  replace hF := fg_oc_some hF
  obtain ⟨x2, G1, e_4, hF⟩ := hF
  refine fg_callV X (st := [.ref a0]) (mX8_all Ω.2.2.2.2.1 Ω.1 e_4) q1885 q1887 qs75 q105 q1888 hd_X8_all (by decide) rfl eo_3 (by decide) rfl rfl (Nat.le_of_ble_eq_true rfl) dX8_night_2 ?_
  replace hF := fg_gd_some hF
  obtain ⟨eg_5, hF⟩ := hF
  obtain ⟨fs_6, eo_7⟩ := fg_rc_get eg_5
  replace hF := fg_oc_some hF
  obtain ⟨u, G3, e_8, hF⟩ := hF
  refine fg_callV X (st := []) (mX8_goes Ω.2.2.2.2.1 Ω.1 e_8) q1909 q1911 qs80 q105 q1912 hd_X8_goes (by decide) rfl eo_7 (by decide) rfl rfl (Nat.le_of_ble_eq_true rfl) dX8_night_5 ?_
  refine fg_aload_n X (r := (some a0)) dX8_night_8 rfl 0 rfl ?_
  replace hF := fg_gd_some hF
  obtain ⟨eg_9, hF⟩ := hF
  obtain ⟨fs_10, eo_11⟩ := fg_rc_get eg_9
  replace hF := fg_oc_some hF
  obtain ⟨u, G4, e_12, hF⟩ := hF
  refine fg_callV X (st := []) (mX8_ends0 Ω.2.2.2.2.1 Ω.1 e_12) q1921 q1923 qs83 q105 q1924 hd_X8_ends0 (by decide) rfl eo_11 (by decide) rfl rfl (Nat.le_of_ble_eq_true rfl) dX8_night_9 ?_
  cases hF
  exact fg_vret X dX8_night_12 (hT)
theorem mX8_night (l : Launch) (D : fg_D) {a0 : Nat} {G : fg_H} {t : Unit × fg_H} (hF : fX8_night a0 G = some t) : fg_M l D yX8_night cX8_night 1 none 7 [.ref a0] G (.returned none) t.2 :=
  fg_Mof (own := RX8) (nm := "night") (L := [(0, .ref a0)]) (plainFor_of_name pn_X8) rfl rfl rfl (Nat.le_of_ble_eq_true rfl) (fun Ω _ _ X hT => wX8_night X hF hT)
theorem hd_X8_nights : yX8_nights.cls ≠ "java/lang/invoke/MethodHandle" ∧ yX8_nights.cls ≠ "java/lang/invoke/VarHandle" ∧ (parseMethodDescriptor yX8_nights.desc).map (fun d => d.parameters.length) = some 1 := ⟨by decide +kernel, by decide +kernel, by decide +kernel⟩
set_option maxHeartbeats 4000000 in
theorem wX8_nights_19b {Ω : fg_O} {a0 : Nat} {i1 : Int32} {i2 : Int32} {G : fg_H} {t : ((Nat × Int32 × Int32 × fg_H) ⊕ (Int32 × fg_H))} (X : fg_X Ω RX8 "nights" cX8_nights 3 (some .int) 8) (hF : fX8_nights_19b a0 i1 i2 G = some t) (h19 : ∀ z, t = (.inl z) → fg_W Ω z.2.2.2 19 [(0, .ref z.1), (1, .int z.2.1), (2, .int z.2.2.1)] []) (hT : ∀ u, t = (.inr u) → fg_T Ω (.returned (some (.int u.1))) u.2) : fg_W Ω G 19 [(0, .ref a0), (1, .int i1), (2, .int i2)] [] := by
  unfold fX8_nights_19b at hF
  refine fg_iload_n X dX8_nights_19 rfl 2 rfl ?_
  refine fg_iload_n X dX8_nights_20 rfl 1 rfl ?_
  refine fg_icmp_ge X (tgt := 34) dX8_nights_21 (by decide) (fun hc => ?_) (fun hc => ?_)
  · rw [if_pos hc] at hF
    replace hF := fg_rt_some hF
    obtain ⟨t4, hF, ht_1⟩ := hF
    subst ht_1
    replace hT := hT _ rfl
    refine fg_aload_n X (r := (some a0)) dX8_nights_34 rfl 0 rfl ?_
    replace hF := fg_ob_some hF
    obtain ⟨r5, e_2, hF⟩ := hF
    refine fg_getr X ff_X8_s q1585 e_2 dX8_nights_35 ?_
    refine fg_bipush X (v := (50 : Int32)) dX8_nights_38 (by decide) ?_
    replace hF := fg_ob_some hF
    obtain ⟨a6, rfl, hF⟩ := hF
    replace hF := fg_ob_some hF
    obtain ⟨x7, e_3, hF⟩ := hF
    refine fg_iald X e_3 dX8_nights_40 ?_
    cases hF
    exact fg_iret X dX8_nights_41 (hT)
  · rw [if_neg hc] at hF
    refine fg_aload_n X (r := (some a0)) dX8_nights_24 rfl 0 rfl ?_
    replace hF := fg_gd_some hF
    obtain ⟨eg_4, hF⟩ := hF
    obtain ⟨fs_5, eo_6⟩ := fg_rc_get eg_4
    replace hF := fg_oc_some hF
    obtain ⟨u, G8, e_7, hF⟩ := hF
    refine fg_callV X (st := []) (mX8_night Ω.2.2.2.2.1 Ω.1 e_7) q1905 q1907 qs79 q105 q1908 hd_X8_night (by decide) rfl eo_6 (by decide) rfl rfl (Nat.le_of_ble_eq_true rfl) dX8_nights_25 ?_
    refine fg_iinc X (v := (i2 + (1 : Int32))) (L' := [(2, .int (i2 + (1 : Int32))), (0, .ref a0), (1, .int i1)]) dX8_nights_28 2 rfl rfl (by decide) rfl ?_
    refine fg_goto X (tgt := 19) dX8_nights_31 (by decide) ?_
    refine fg_sub [1, 2, 0] rfl ?_
    exact h19 _ (Option.some.inj hF).symm
set_option maxHeartbeats 4000000 in
theorem wX8_nights_19 {Ω : fg_O} {a0 : Nat} {i1 : Int32} {i2 : Int32} {G : fg_H} {t : (Int32 × fg_H)} (X : fg_X Ω RX8 "nights" cX8_nights 3 (some .int) 8) (hF : fX8_nights_19 a0 i1 i2 G = some t) (hT : fg_T Ω (.returned (some (.int t.1))) t.2) : fg_W Ω G 19 [(0, .ref a0), (1, .int i1), (2, .int i2)] [] := by
  unfold fX8_nights_19 at hF
  exact fg_lp_walk (P := fun z => fg_W Ω z.2.2.2 19 [(0, .ref z.1), (1, .int z.2.1), (2, .int z.2.2.1)] []) (fun y o ho hl hr => wX8_nights_19b X ho (fun z e => hl z e) (fun u e => by rw [hr _ e]; exact hT)) hF
set_option maxHeartbeats 4000000 in
theorem wX8_nights {Ω : fg_O} {a0 : Nat} {i1 : Int32} {G : fg_H} {t : Int32 × fg_H} (X : fg_X Ω RX8 "nights" cX8_nights 3 (some .int) 8) (hF : fX8_nights a0 i1 G = some t) (hT : fg_T Ω (.returned (some (.int t.1))) t.2) : fg_W Ω G 0 [(0, .ref a0), (1, .int i1)] [] := by
  unfold fX8_nights at hF
  refine fg_aload_n X (r := (some a0)) dX8_nights_0 rfl 0 rfl ?_
  refine fg_iconst X (v := (0 : Int32)) dX8_nights_1 (by decide) ?_
  replace hF := fg_ob_some hF
  obtain ⟨G1, e_1, hF⟩ := hF
  refine fg_putv X (ty := .int) (v := .int (0 : Int32)) ff_X8_thrown q1548 rfl (Or.inl rfl) rfl rfl rfl e_1 dX8_nights_2 ?_
  refine fg_iload_n X dX8_nights_5 rfl 1 rfl ?_
  refine fg_iconst X (v := (1 : Int32)) dX8_nights_6 (by decide) ?_
  refine fg_bipush X (v := (100 : Int32)) dX8_nights_7 (by decide) ?_
  replace hF := fg_oc_some hF
  obtain ⟨x3, G2, e_2, hF⟩ := hF
  refine fg_callS X (st := []) (mX8_within Ω.2.2.2.2.1 Ω.1 e_2) q1738 q1739 q105 q1740 hd_X8_within (by decide) rfl rfl (Nat.le_of_ble_eq_true rfl) dX8_nights_9 ?_
  refine fg_if_ne X (tgt := 17) dX8_nights_12 (by decide) (fun hc => ?_) (fun hc => ?_)
  · rw [if_neg hc] at hF
    refine fg_iconst X (v := (0 : Int32)) dX8_nights_17 (by decide) ?_
    refine fg_istore_n X (L' := [(2, .int (0 : Int32)), (0, .ref a0), (1, .int i1)]) dX8_nights_18 rfl (by decide) rfl ?_
    refine fg_sub [1, 2, 0] rfl ?_
    exact wX8_nights_19 X hF hT
  · rw [if_pos hc] at hF
    refine fg_iconst X (v := (-1 : Int32)) dX8_nights_15 (by decide) ?_
    cases hF
    exact fg_iret X dX8_nights_16 (hT)
theorem mX8_nights (l : Launch) (D : fg_D) {a0 : Nat} {i1 : Int32} {G : fg_H} {t : Int32 × fg_H} (hF : fX8_nights a0 i1 G = some t) : fg_M l D yX8_nights cX8_nights 3 (some .int) 8 [.ref a0, .int i1] G (.returned (some (.int t.1))) t.2 :=
  fg_Mof (own := RX8) (nm := "nights") (L := [(0, .ref a0), (1, .int i1)]) (plainFor_of_name pn_X8) rfl rfl rfl (Nat.le_of_ble_eq_true rfl) (fun Ω _ _ X hT => wX8_nights X hF hT)
theorem hd_X8_mend : yX8_mend.cls ≠ "java/lang/invoke/MethodHandle" ∧ yX8_mend.cls ≠ "java/lang/invoke/VarHandle" ∧ (parseMethodDescriptor yX8_mend.desc).map (fun d => d.parameters.length) = some 2 := ⟨by decide +kernel, by decide +kernel, by decide +kernel⟩
set_option maxHeartbeats 4000000 in
theorem wX8_mend_41 {Ω : fg_O} {a0 : Nat} {i1 : Int32} {i2 : Int32} {s0 : Int32} {G : fg_H} {t : (Int32 × fg_H)} (X : fg_X Ω RX8 "mend" cX8_mend 3 (some .boolean) 1) (hF : fX8_mend_41 a0 i1 i2 s0 G = some t) (hT : fg_T Ω (.returned (some (.int t.1))) t.2) : fg_W Ω G 41 [(0, .ref a0), (1, .int i1), (2, .int i2)] [.int s0] := by
  unfold fX8_mend_41 at hF
  refine fg_iload_n X dX8_mend_41 rfl 2 rfl ?_
  refine fg_icmp_ne X (tgt := 47) dX8_mend_42 (by decide) (fun hc => ?_) (fun hc => ?_)
  · rw [if_neg hc] at hF
    refine fg_aload_n X (r := (some a0)) dX8_mend_47 rfl 0 rfl ?_
    replace hF := fg_ob_some hF
    obtain ⟨r10, e_1, hF⟩ := hF
    refine fg_getr X ff_X8_s q1585 e_1 dX8_mend_48 ?_
    refine fg_bipush X (v := (25 : Int32)) dX8_mend_51 (by decide) ?_
    refine fg_iload_n X dX8_mend_53 rfl 1 rfl ?_
    refine fg_iadd X dX8_mend_54 ?_
    refine fg_iload_n X dX8_mend_55 rfl 2 rfl ?_
    refine fg_if_eq X (tgt := 63) dX8_mend_56 (by decide) (fun hc => ?_) (fun hc => ?_)
    · rw [if_pos hc] at hF
      refine fg_iconst X (v := (0 : Int32)) dX8_mend_63 (by decide) ?_
      replace hF := fg_ob_some hF
      obtain ⟨a11, rfl, hF⟩ := hF
      replace hF := fg_ob_some hF
      obtain ⟨G12, e_2, hF⟩ := hF
      refine fg_iast X e_2 dX8_mend_64 ?_
      refine fg_iconst X (v := (1 : Int32)) dX8_mend_65 (by decide) ?_
      cases hF
      exact fg_zret X (by decide) dX8_mend_66 (hT)
    · rw [if_neg hc] at hF
      refine fg_iconst X (v := (1 : Int32)) dX8_mend_59 (by decide) ?_
      refine fg_goto X (tgt := 64) dX8_mend_60 (by decide) ?_
      replace hF := fg_ob_some hF
      obtain ⟨a13, rfl, hF⟩ := hF
      replace hF := fg_ob_some hF
      obtain ⟨G14, e_3, hF⟩ := hF
      refine fg_iast X e_3 dX8_mend_64 ?_
      refine fg_iconst X (v := (1 : Int32)) dX8_mend_65 (by decide) ?_
      cases hF
      exact fg_zret X (by decide) dX8_mend_66 (hT)
  · rw [if_pos hc] at hF
    refine fg_iconst X (v := (0 : Int32)) dX8_mend_45 (by decide) ?_
    cases hF
    exact fg_zret X (by decide) dX8_mend_46 (hT)
set_option maxHeartbeats 4000000 in
theorem wX8_mend {Ω : fg_O} {a0 : Nat} {i1 : Int32} {i2 : Int32} {G : fg_H} {t : Int32 × fg_H} (X : fg_X Ω RX8 "mend" cX8_mend 3 (some .boolean) 1) (hF : fX8_mend a0 i1 i2 G = some t) (hT : fg_T Ω (.returned (some (.int t.1))) t.2) : fg_W Ω G 0 [(0, .ref a0), (1, .int i1), (2, .int i2)] [] := by
  unfold fX8_mend at hF
  refine fg_aload_n X (r := (some a0)) dX8_mend_0 rfl 0 rfl ?_
  refine fg_iconst X (v := (0 : Int32)) dX8_mend_1 (by decide) ?_
  replace hF := fg_ob_some hF
  obtain ⟨G1, e_1, hF⟩ := hF
  refine fg_putv X (ty := .int) (v := .int (0 : Int32)) ff_X8_thrown q1548 rfl (Or.inl rfl) rfl rfl rfl e_1 dX8_mend_2 ?_
  refine fg_aload_n X (r := (some a0)) dX8_mend_5 rfl 0 rfl ?_
  refine fg_iload_n X dX8_mend_6 rfl 1 rfl ?_
  replace hF := fg_gd_some hF
  obtain ⟨eg_2, hF⟩ := hF
  obtain ⟨fs_3, eo_4⟩ := fg_rc_get eg_2
  replace hF := fg_oc_some hF
  obtain ⟨x3, G2, e_5, hF⟩ := hF
  refine fg_callV X (st := []) (mX8_isNet Ω.2.2.2.2.1 Ω.1 e_5) q1828 q1830 qs64 q105 q1831 hd_X8_isNet (by decide) rfl eo_4 (by decide) rfl rfl (Nat.le_of_ble_eq_true rfl) dX8_mend_7 ?_
  refine fg_if_eq X (tgt := 45) dX8_mend_10 (by decide) (fun hc => ?_) (fun hc => ?_)
  · rw [if_pos hc] at hF
    refine fg_iconst X (v := (0 : Int32)) dX8_mend_45 (by decide) ?_
    cases hF
    exact fg_zret X (by decide) dX8_mend_46 (hT)
  · rw [if_neg hc] at hF
    refine fg_aload_n X (r := (some a0)) dX8_mend_13 rfl 0 rfl ?_
    replace hF := fg_ob_some hF
    obtain ⟨r4, e_6, hF⟩ := hF
    refine fg_getr X ff_X8_kind q1565 e_6 dX8_mend_14 ?_
    refine fg_iload_n X dX8_mend_17 rfl 1 rfl ?_
    replace hF := fg_ob_some hF
    obtain ⟨a5, rfl, hF⟩ := hF
    replace hF := fg_ob_some hF
    obtain ⟨x6, e_7, hF⟩ := hF
    refine fg_iald X e_7 dX8_mend_18 ?_
    refine fg_iconst X (v := (3 : Int32)) dX8_mend_19 (by decide) ?_
    refine fg_icmp_ne X (tgt := 45) dX8_mend_20 (by decide) (fun hc => ?_) (fun hc => ?_)
    · rw [if_neg hc] at hF
      refine fg_iconst X (v := (0 : Int32)) dX8_mend_45 (by decide) ?_
      cases hF
      exact fg_zret X (by decide) dX8_mend_46 (hT)
    · rw [if_pos hc] at hF
      refine fg_aload_n X (r := (some a0)) dX8_mend_23 rfl 0 rfl ?_
      replace hF := fg_ob_some hF
      obtain ⟨r7, e_8, hF⟩ := hF
      refine fg_getr X ff_X8_s q1585 e_8 dX8_mend_24 ?_
      refine fg_bipush X (v := (25 : Int32)) dX8_mend_27 (by decide) ?_
      refine fg_iload_n X dX8_mend_29 rfl 1 rfl ?_
      refine fg_iadd X dX8_mend_30 ?_
      replace hF := fg_ob_some hF
      obtain ⟨a8, rfl, hF⟩ := hF
      replace hF := fg_ob_some hF
      obtain ⟨x9, e_9, hF⟩ := hF
      refine fg_iald X e_9 dX8_mend_31 ?_
      refine fg_iconst X (v := (1 : Int32)) dX8_mend_32 (by decide) ?_
      refine fg_icmp_ne X (tgt := 40) dX8_mend_33 (by decide) (fun hc => ?_) (fun hc => ?_)
      · rw [if_neg hc] at hF
        refine fg_iconst X (v := (0 : Int32)) dX8_mend_40 (by decide) ?_
        refine fg_sub [0, 1, 2] rfl ?_
        exact wX8_mend_41 X hF hT
      · rw [if_pos hc] at hF
        refine fg_iconst X (v := (1 : Int32)) dX8_mend_36 (by decide) ?_
        refine fg_goto X (tgt := 41) dX8_mend_37 (by decide) ?_
        refine fg_sub [0, 1, 2] rfl ?_
        exact wX8_mend_41 X hF hT
theorem mX8_mend (l : Launch) (D : fg_D) {a0 : Nat} {i1 : Int32} {i2 : Int32} {G : fg_H} {t : Int32 × fg_H} (hF : fX8_mend a0 i1 i2 G = some t) : fg_M l D yX8_mend cX8_mend 3 (some .boolean) 1 [.ref a0, .int i1, .int i2] G (.returned (some (.int t.1))) t.2 :=
  fg_Mof (own := RX8) (nm := "mend") (L := [(0, .ref a0), (1, .int i1), (2, .int i2)]) (plainFor_of_name pn_X8) rfl rfl rfl (Nat.le_of_ble_eq_true rfl) (fun Ω _ _ X hT => wX8_mend X hF hT)

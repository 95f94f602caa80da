set_option maxRecDepth 100000
theorem hd_X8_kindAt : yX8_kindAt.cls ≠ "java/lang/invoke/MethodHandle" ∧ yX8_kindAt.cls ≠ "java/lang/invoke/VarHandle" ∧ (parseMethodDescriptor yX8_kindAt.desc).map (fun d => d.parameters.length) = some 0 := ⟨by decide +kernel, by decide +kernel, by decide +kernel⟩
set_option maxHeartbeats 4000000 in
theorem wX8_kindAt {Ω : fg_O} {a0 : Nat} {G : fg_H} {t : Int32 × fg_H} (X : fg_X Ω RX8 "kindAt" cX8_kindAt 1 (some .int) 1) (hF : fX8_kindAt a0 G = some t) (hT : fg_T Ω (.returned (some (.int t.1))) t.2) : fg_W Ω G 0 [(0, .ref a0)] [] := by
  unfold fX8_kindAt at hF
  refine fg_aload_n X (r := (some a0)) dX8_kindAt_0 rfl 0 rfl ?_
  refine fg_ldc2 X q1795 dX8_kindAt_1 ?_
  replace hF := fg_gd_some hF
  obtain ⟨eg_1, hF⟩ := hF
  obtain ⟨fs_2, eo_3⟩ := fg_rc_get eg_1
  replace hF := fg_oc_some hF
  obtain ⟨x2, G1, e_4, hF⟩ := hF
  refine fg_callV X (st := []) (mX8_isWord Ω.2.2.2.2.1 Ω.1 e_4) q1718 q1720 qs45 q105 q1721 hd_X8_isWord (by decide) rfl eo_3 (by decide) rfl rfl (Nat.le_of_ble_eq_true rfl) dX8_kindAt_4 ?_
  refine fg_if_eq X (tgt := 14) dX8_kindAt_7 (by decide) (fun hc => ?_) (fun hc => ?_)
  · rw [if_pos hc] at hF
    refine fg_aload_n X (r := (some a0)) dX8_kindAt_14 rfl 0 rfl ?_
    refine fg_ldc2 X q1796 dX8_kindAt_15 ?_
    replace hF := fg_gd_some hF
    obtain ⟨eg_5, hF⟩ := hF
    obtain ⟨fs_6, eo_7⟩ := fg_rc_get eg_5
    replace hF := fg_oc_some hF
    obtain ⟨x4, G3, e_8, hF⟩ := hF
    refine fg_callV X (st := []) (mX8_isWord Ω.2.2.2.2.1 Ω.1 e_8) q1718 q1720 qs45 q105 q1721 hd_X8_isWord (by decide) rfl eo_7 (by decide) rfl rfl (Nat.le_of_ble_eq_true rfl) dX8_kindAt_18 ?_
    refine fg_if_eq X (tgt := 28) dX8_kindAt_21 (by decide) (fun hc => ?_) (fun hc => ?_)
    · rw [if_pos hc] at hF
      refine fg_aload_n X (r := (some a0)) dX8_kindAt_28 rfl 0 rfl ?_
      refine fg_ldc2 X q1797 dX8_kindAt_29 ?_
      replace hF := fg_gd_some hF
      obtain ⟨eg_9, hF⟩ := hF
      obtain ⟨fs_10, eo_11⟩ := fg_rc_get eg_9
      replace hF := fg_oc_some hF
      obtain ⟨x6, G5, e_12, hF⟩ := hF
      refine fg_callV X (st := []) (mX8_isWord Ω.2.2.2.2.1 Ω.1 e_12) q1718 q1720 qs45 q105 q1721 hd_X8_isWord (by decide) rfl eo_11 (by decide) rfl rfl (Nat.le_of_ble_eq_true rfl) dX8_kindAt_32 ?_
      refine fg_if_eq X (tgt := 42) dX8_kindAt_35 (by decide) (fun hc => ?_) (fun hc => ?_)
      · rw [if_pos hc] at hF
        refine fg_aload_n X (r := (some a0)) dX8_kindAt_42 rfl 0 rfl ?_
        refine fg_ldc2 X q1798 dX8_kindAt_43 ?_
        replace hF := fg_gd_some hF
        obtain ⟨eg_13, hF⟩ := hF
        obtain ⟨fs_14, eo_15⟩ := fg_rc_get eg_13
        replace hF := fg_oc_some hF
        obtain ⟨x8, G7, e_16, hF⟩ := hF
        refine fg_callV X (st := []) (mX8_isWord Ω.2.2.2.2.1 Ω.1 e_16) q1718 q1720 qs45 q105 q1721 hd_X8_isWord (by decide) rfl eo_15 (by decide) rfl rfl (Nat.le_of_ble_eq_true rfl) dX8_kindAt_46 ?_
        refine fg_if_eq X (tgt := 56) dX8_kindAt_49 (by decide) (fun hc => ?_) (fun hc => ?_)
        · rw [if_pos hc] at hF
          refine fg_aload_n X (r := (some a0)) dX8_kindAt_56 rfl 0 rfl ?_
          refine fg_ldc2 X q1799 dX8_kindAt_57 ?_
          replace hF := fg_gd_some hF
          obtain ⟨eg_17, hF⟩ := hF
          obtain ⟨fs_18, eo_19⟩ := fg_rc_get eg_17
          replace hF := fg_oc_some hF
          obtain ⟨x10, G9, e_20, hF⟩ := hF
          refine fg_callV X (st := []) (mX8_isWord Ω.2.2.2.2.1 Ω.1 e_20) q1718 q1720 qs45 q105 q1721 hd_X8_isWord (by decide) rfl eo_19 (by decide) rfl rfl (Nat.le_of_ble_eq_true rfl) dX8_kindAt_60 ?_
          refine fg_if_eq X (tgt := 70) dX8_kindAt_63 (by decide) (fun hc => ?_) (fun hc => ?_)
          · rw [if_pos hc] at hF
            refine fg_aload_n X (r := (some a0)) dX8_kindAt_70 rfl 0 rfl ?_
            refine fg_ldc2 X q1800 dX8_kindAt_71 ?_
            replace hF := fg_gd_some hF
            obtain ⟨eg_21, hF⟩ := hF
            obtain ⟨fs_22, eo_23⟩ := fg_rc_get eg_21
            replace hF := fg_oc_some hF
            obtain ⟨x12, G11, e_24, hF⟩ := hF
            refine fg_callV X (st := []) (mX8_isWord Ω.2.2.2.2.1 Ω.1 e_24) q1718 q1720 qs45 q105 q1721 hd_X8_isWord (by decide) rfl eo_23 (by decide) rfl rfl (Nat.le_of_ble_eq_true rfl) dX8_kindAt_74 ?_
            refine fg_if_eq X (tgt := 84) dX8_kindAt_77 (by decide) (fun hc => ?_) (fun hc => ?_)
            · rw [if_pos hc] at hF
              refine fg_iconst X (v := (-1 : Int32)) dX8_kindAt_84 (by decide) ?_
              cases hF
              exact fg_iret X dX8_kindAt_85 (hT)
            · rw [if_neg hc] at hF
              refine fg_iconst X (v := (5 : Int32)) dX8_kindAt_80 (by decide) ?_
              refine fg_goto X (tgt := 85) dX8_kindAt_81 (by decide) ?_
              cases hF
              exact fg_iret X dX8_kindAt_85 (hT)
          · rw [if_neg hc] at hF
            refine fg_iconst X (v := (4 : Int32)) dX8_kindAt_66 (by decide) ?_
            refine fg_goto X (tgt := 85) dX8_kindAt_67 (by decide) ?_
            cases hF
            exact fg_iret X dX8_kindAt_85 (hT)
        · rw [if_neg hc] at hF
          refine fg_iconst X (v := (3 : Int32)) dX8_kindAt_52 (by decide) ?_
          refine fg_goto X (tgt := 85) dX8_kindAt_53 (by decide) ?_
          cases hF
          exact fg_iret X dX8_kindAt_85 (hT)
      · rw [if_neg hc] at hF
        refine fg_iconst X (v := (2 : Int32)) dX8_kindAt_38 (by decide) ?_
        refine fg_goto X (tgt := 85) dX8_kindAt_39 (by decide) ?_
        cases hF
        exact fg_iret X dX8_kindAt_85 (hT)
    · rw [if_neg hc] at hF
      refine fg_iconst X (v := (1 : Int32)) dX8_kindAt_24 (by decide) ?_
      refine fg_goto X (tgt := 85) dX8_kindAt_25 (by decide) ?_
      cases hF
      exact fg_iret X dX8_kindAt_85 (hT)
  · rw [if_neg hc] at hF
    refine fg_iconst X (v := (0 : Int32)) dX8_kindAt_10 (by decide) ?_
    refine fg_goto X (tgt := 85) dX8_kindAt_11 (by decide) ?_
    cases hF
    exact fg_iret X dX8_kindAt_85 (hT)
theorem mX8_kindAt (l : Launch) (D : fg_D) {a0 : Nat} {G : fg_H} {t : Int32 × fg_H} (hF : fX8_kindAt a0 G = some t) : fg_M l D yX8_kindAt cX8_kindAt 1 (some .int) 1 [.ref a0] G (.returned (some (.int t.1))) t.2 :=
  fg_Mof (own := RX8) (nm := "kindAt") (L := [(0, .ref a0)]) (plainFor_of_name pn_X8) rfl rfl rfl (Nat.le_of_ble_eq_true rfl) (fun Ω _ _ X hT => wX8_kindAt X hF hT)
theorem hd_X8_needsWord : yX8_needsWord.cls ≠ "java/lang/invoke/MethodHandle" ∧ yX8_needsWord.cls ≠ "java/lang/invoke/VarHandle" ∧ (parseMethodDescriptor yX8_needsWord.desc).map (fun d => d.parameters.length) = some 1 := ⟨by decide +kernel, by decide +kernel, by decide +kernel⟩
set_option maxHeartbeats 4000000 in
theorem wX8_needsWord {Ω : fg_O} {a0 : Nat} {l1 : Int64} {G : fg_H} {t : Int32 × fg_H} (X : fg_X Ω RX8 "needsWord" cX8_needsWord 3 (some .boolean) 2) (hF : fX8_needsWord a0 l1 G = some t) (hT : fg_T Ω (.returned (some (.int t.1))) t.2) : fg_W Ω G 0 [(0, .ref a0), (1, .long l1)] [] := by
  unfold fX8_needsWord at hF
  refine fg_aload_n X (r := (some a0)) dX8_needsWord_0 rfl 0 rfl ?_
  refine fg_lload_n X dX8_needsWord_1 rfl 1 rfl ?_
  replace hF := fg_gd_some hF
  obtain ⟨eg_1, hF⟩ := hF
  obtain ⟨fs_2, eo_3⟩ := fg_rc_get eg_1
  replace hF := fg_oc_some hF
  obtain ⟨x2, G1, e_4, hF⟩ := hF
  refine fg_callV X (st := []) (mX8_isWord Ω.2.2.2.2.1 Ω.1 e_4) q1718 q1720 qs45 q105 q1721 hd_X8_isWord (by decide) rfl eo_3 (by decide) rfl rfl (Nat.le_of_ble_eq_true rfl) dX8_needsWord_2 ?_
  refine fg_if_ne X (tgt := 14) dX8_needsWord_5 (by decide) (fun hc => ?_) (fun hc => ?_)
  · rw [if_neg hc] at hF
    refine fg_aload_n X (r := (some a0)) dX8_needsWord_14 rfl 0 rfl ?_
    replace hF := fg_gd_some hF
    obtain ⟨eg_5, hF⟩ := hF
    obtain ⟨fs_6, eo_7⟩ := fg_rc_get eg_5
    replace hF := fg_oc_some hF
    obtain ⟨u, G3, e_8, hF⟩ := hF
    refine fg_callV X (st := []) (mX8_nextToken Ω.2.2.2.2.1 Ω.1 e_8) q1707 q1709 qs43 q105 q1710 hd_X8_nextToken (by decide) rfl eo_7 (by decide) rfl rfl (Nat.le_of_ble_eq_true rfl) dX8_needsWord_15 ?_
    refine fg_iconst X (v := (1 : Int32)) dX8_needsWord_18 (by decide) ?_
    cases hF
    exact fg_zret X (by decide) dX8_needsWord_19 (hT)
  · rw [if_pos hc] at hF
    refine fg_aload_n X (r := (some a0)) dX8_needsWord_8 rfl 0 rfl ?_
    refine fg_iconst X (v := (1 : Int32)) dX8_needsWord_9 (by decide) ?_
    replace hF := fg_gd_some hF
    obtain ⟨eg_9, hF⟩ := hF
    obtain ⟨fs_10, eo_11⟩ := fg_rc_get eg_9
    replace hF := fg_oc_some hF
    obtain ⟨x5, G4, e_12, hF⟩ := hF
    refine fg_callV X (st := []) (mX8_fails Ω.2.2.2.2.1 Ω.1 e_12) q1730 q1732 qs48 q105 q1733 hd_X8_fails (by decide) rfl eo_11 (by decide) rfl rfl (Nat.le_of_ble_eq_true rfl) dX8_needsWord_10 ?_
    replace hF := fg_gd_some hF
    obtain ⟨eg_13, hF⟩ := hF
    cases hF
    exact fg_zret X (fg_b_or eg_13) dX8_needsWord_13 (hT)
theorem mX8_needsWord (l : Launch) (D : fg_D) {a0 : Nat} {l1 : Int64} {G : fg_H} {t : Int32 × fg_H} (hF : fX8_needsWord a0 l1 G = some t) : fg_M l D yX8_needsWord cX8_needsWord 3 (some .boolean) 2 [.ref a0, .long l1] G (.returned (some (.int t.1))) t.2 :=
  fg_Mof (own := RX8) (nm := "needsWord") (L := [(0, .ref a0), (1, .long l1)]) (plainFor_of_name pn_X8) rfl rfl rfl (Nat.le_of_ble_eq_true rfl) (fun Ω _ _ X hT => wX8_needsWord X hF hT)
theorem hd_X8_villageNamed : yX8_villageNamed.cls ≠ "java/lang/invoke/MethodHandle" ∧ yX8_villageNamed.cls ≠ "java/lang/invoke/VarHandle" ∧ (parseMethodDescriptor yX8_villageNamed.desc).map (fun d => d.parameters.length) = some 0 := ⟨by decide +kernel, by decide +kernel, by decide +kernel⟩
set_option maxHeartbeats 4000000 in
theorem wX8_villageNamed_2b {Ω : fg_O} {a0 : Nat} {i1 : Int32} {G : fg_H} {t : ((Nat × Int32 × fg_H) ⊕ (Int32 × fg_H))} (X : fg_X Ω RX8 "villageNamed" cX8_villageNamed 2 (some .int) 0) (hF : fX8_villageNamed_2b a0 i1 G = some t) (h2 : ∀ z, t = (.inl z) → fg_W Ω z.2.2 2 [(0, .ref z.1), (1, .int z.2.1)] []) (hT : ∀ u, t = (.inr u) → fg_T Ω (.returned (some (.int u.1))) u.2) : fg_W Ω G 2 [(0, .ref a0), (1, .int i1)] [] := by
  unfold fX8_villageNamed_2b at hF
  refine fg_iload_n X dX8_villageNamed_2 rfl 1 rfl ?_
  refine fg_aload_n X (r := (some a0)) dX8_villageNamed_3 rfl 0 rfl ?_
  replace hF := fg_ob_some hF
  obtain ⟨r1, e_1, hF⟩ := hF
  refine fg_getr X ff_X8_ridge q1558 e_1 dX8_villageNamed_4 ?_
  refine fg_bipush X (v := (12 : Int32)) dX8_villageNamed_7 (by decide) ?_
  replace hF := fg_ob_some hF
  obtain ⟨a2, rfl, hF⟩ := hF
  replace hF := fg_ob_some hF
  obtain ⟨x3, e_2, hF⟩ := hF
  refine fg_iald X e_2 dX8_villageNamed_9 ?_
  refine fg_icmp_ge X (tgt := 35) dX8_villageNamed_10 (by decide) (fun hc => ?_) (fun hc => ?_)
  · rw [if_pos hc] at hF
    replace hF := fg_rt_some hF
    obtain ⟨t4, hF, ht_3⟩ := hF
    subst ht_3
    replace hT := hT _ rfl
    refine fg_iconst X (v := (-1 : Int32)) dX8_villageNamed_35 (by decide) ?_
    cases hF
    exact fg_iret X dX8_villageNamed_36 (hT)
  · rw [if_neg hc] at hF
    refine fg_aload_n X (r := (some a0)) dX8_villageNamed_13 rfl 0 rfl ?_
    replace hF := fg_ob_some hF
    obtain ⟨r5, e_4, hF⟩ := hF
    refine fg_getr X ff_X8_names q1561 e_4 dX8_villageNamed_14 ?_
    refine fg_iload_n X dX8_villageNamed_17 rfl 1 rfl ?_
    replace hF := fg_ob_some hF
    obtain ⟨a6, rfl, hF⟩ := hF
    replace hF := fg_ob_some hF
    obtain ⟨y7, e_5, hF⟩ := hF
    refine fg_lald X e_5 dX8_villageNamed_18 ?_
    refine fg_aload_n X (r := (some a0)) dX8_villageNamed_19 rfl 0 rfl ?_
    replace hF := fg_ob_some hF
    obtain ⟨y8, e_6, hF⟩ := hF
    refine fg_getl X ff_X8_word q1555 e_6 dX8_villageNamed_20 ?_
    refine fg_lcmp X dX8_villageNamed_23 ?_
    refine fg_if_ne X (tgt := 29) dX8_villageNamed_24 (by decide) (fun hc => ?_) (fun hc => ?_)
    · rw [if_neg hc] at hF
      refine fg_iinc X (v := (i1 + (1 : Int32))) (L' := [(1, .int (i1 + (1 : Int32))), (0, .ref a0)]) dX8_villageNamed_29 1 rfl rfl (by decide) rfl ?_
      refine fg_goto X (tgt := 2) dX8_villageNamed_32 (by decide) ?_
      refine fg_sub [1, 0] rfl ?_
      exact h2 _ (Option.some.inj hF).symm
    · rw [if_pos hc] at hF
      replace hF := fg_rt_some hF
      obtain ⟨t9, hF, ht_7⟩ := hF
      subst ht_7
      replace hT := hT _ rfl
      refine fg_iload_n X dX8_villageNamed_27 rfl 1 rfl ?_
      cases hF
      exact fg_iret X dX8_villageNamed_28 (hT)
set_option maxHeartbeats 4000000 in
theorem wX8_villageNamed_2 {Ω : fg_O} {a0 : Nat} {i1 : Int32} {G : fg_H} {t : (Int32 × fg_H)} (X : fg_X Ω RX8 "villageNamed" cX8_villageNamed 2 (some .int) 0) (hF : fX8_villageNamed_2 a0 i1 G = some t) (hT : fg_T Ω (.returned (some (.int t.1))) t.2) : fg_W Ω G 2 [(0, .ref a0), (1, .int i1)] [] := by
  unfold fX8_villageNamed_2 at hF
  exact fg_lp_walk (P := fun z => fg_W Ω z.2.2 2 [(0, .ref z.1), (1, .int z.2.1)] []) (fun y o ho hl hr => wX8_villageNamed_2b X ho (fun z e => hl z e) (fun u e => by rw [hr _ e]; exact hT)) hF
set_option maxHeartbeats 4000000 in
theorem wX8_villageNamed {Ω : fg_O} {a0 : Nat} {G : fg_H} {t : Int32 × fg_H} (X : fg_X Ω RX8 "villageNamed" cX8_villageNamed 2 (some .int) 0) (hF : fX8_villageNamed a0 G = some t) (hT : fg_T Ω (.returned (some (.int t.1))) t.2) : fg_W Ω G 0 [(0, .ref a0)] [] := by
  unfold fX8_villageNamed at hF
  refine fg_iconst X (v := (0 : Int32)) dX8_villageNamed_0 (by decide) ?_
  refine fg_istore_n X (L' := [(1, .int (0 : Int32)), (0, .ref a0)]) dX8_villageNamed_1 rfl (by decide) rfl ?_
  refine fg_sub [1, 0] rfl ?_
  exact wX8_villageNamed_2 X hF hT
theorem mX8_villageNamed (l : Launch) (D : fg_D) {a0 : Nat} {G : fg_H} {t : Int32 × fg_H} (hF : fX8_villageNamed a0 G = some t) : fg_M l D yX8_villageNamed cX8_villageNamed 2 (some .int) 0 [.ref a0] G (.returned (some (.int t.1))) t.2 :=
  fg_Mof (own := RX8) (nm := "villageNamed") (L := [(0, .ref a0)]) (plainFor_of_name pn_X8) rfl rfl rfl (Nat.le_of_ble_eq_true rfl) (fun Ω _ _ X hT => wX8_villageNamed X hF hT)
theorem hd_X8_readsNet : yX8_readsNet.cls ≠ "java/lang/invoke/MethodHandle" ∧ yX8_readsNet.cls ≠ "java/lang/invoke/VarHandle" ∧ (parseMethodDescriptor yX8_readsNet.desc).map (fun d => d.parameters.length) = some 0 := ⟨by decide +kernel, by decide +kernel, by decide +kernel⟩
set_option maxHeartbeats 4000000 in
theorem wX8_readsNet_185 {Ω : fg_O} {a0 : Nat} {i1 : Int32} {G : fg_H} {t : (Int32 × fg_H)} (X : fg_X Ω RX8 "readsNet" cX8_readsNet 3 (some .boolean) 3) (hF : fX8_readsNet_185 a0 i1 G = some t) (hT : fg_T Ω (.returned (some (.int t.1))) t.2) : fg_W Ω G 185 [(0, .ref a0), (1, .int i1)] [] := by
  unfold fX8_readsNet_185 at hF
  refine fg_aload_n X (r := (some a0)) dX8_readsNet_185 rfl 0 rfl ?_
  refine fg_iconst X (v := (0 : Int32)) dX8_readsNet_186 (by decide) ?_
  refine fg_aload_n X (r := (some a0)) dX8_readsNet_187 rfl 0 rfl ?_
  replace hF := fg_ob_some hF
  obtain ⟨r32, e_1, hF⟩ := hF
  refine fg_getr X ff_X8_ridge q1558 e_1 dX8_readsNet_188 ?_
  refine fg_bipush X (v := (8 : Int32)) dX8_readsNet_191 (by decide) ?_
  replace hF := fg_ob_some hF
  obtain ⟨a33, rfl, hF⟩ := hF
  replace hF := fg_ob_some hF
  obtain ⟨x34, e_2, hF⟩ := hF
  refine fg_iald X e_2 dX8_readsNet_193 ?_
  refine fg_iconst X (v := (1 : Int32)) dX8_readsNet_194 (by decide) ?_
  refine fg_isub X dX8_readsNet_195 ?_
  replace hF := fg_gd_some hF
  obtain ⟨eg_3, hF⟩ := hF
  obtain ⟨fs_4, eo_5⟩ := fg_rc_get eg_3
  replace hF := fg_oc_some hF
  obtain ⟨x36, G35, e_6, hF⟩ := hF
  refine fg_callV X (st := []) (mX8_needsNumber Ω.2.2.2.2.1 Ω.1 e_6) q1734 q1736 qs49 q105 q1737 hd_X8_needsNumber (by decide) rfl eo_5 (by decide) rfl rfl (Nat.le_of_ble_eq_true rfl) dX8_readsNet_196 ?_
  refine fg_if_ne X (tgt := 204) dX8_readsNet_199 (by decide) (fun hc => ?_) (fun hc => ?_)
  · rw [if_neg hc] at hF
    refine fg_aload_n X (r := (some a0)) dX8_readsNet_204 rfl 0 rfl ?_
    replace hF := fg_ob_some hF
    obtain ⟨r37, e_7, hF⟩ := hF
    refine fg_getr X ff_X8_placeAt q1563 e_7 dX8_readsNet_205 ?_
    refine fg_iload_n X dX8_readsNet_208 rfl 1 rfl ?_
    refine fg_dup2 X dX8_readsNet_209 rfl (fg_cat _) ?_
    replace hF := fg_ob_some hF
    obtain ⟨a38, rfl, hF⟩ := hF
    replace hF := fg_ob_some hF
    obtain ⟨x39, e_8, hF⟩ := hF
    refine fg_iald X e_8 dX8_readsNet_210 ?_
    refine fg_bipush X (v := (8 : Int32)) dX8_readsNet_211 (by decide) ?_
    refine fg_aload_n X (r := (some a0)) dX8_readsNet_213 rfl 0 rfl ?_
    replace hF := fg_ob_some hF
    obtain ⟨x40, e_9, hF⟩ := hF
    refine fg_geti X ff_X8_given q1584 e_9 dX8_readsNet_214 ?_
    refine fg_imul X dX8_readsNet_217 ?_
    refine fg_iadd X dX8_readsNet_218 ?_
    replace hF := fg_ob_some hF
    obtain ⟨G41, e_10, hF⟩ := hF
    refine fg_iast X e_10 dX8_readsNet_219 ?_
    refine fg_aload_n X (r := (some a0)) dX8_readsNet_220 rfl 0 rfl ?_
    refine fg_ldc2 X q1794 dX8_readsNet_221 ?_
    replace hF := fg_gd_some hF
    obtain ⟨eg_11, hF⟩ := hF
    obtain ⟨fs_12, eo_13⟩ := fg_rc_get eg_11
    replace hF := fg_oc_some hF
    obtain ⟨x43, G42, e_14, hF⟩ := hF
    refine fg_callV X (st := []) (mX8_needsWord Ω.2.2.2.2.1 Ω.1 e_14) q1805 q1807 qs60 q105 q1808 hd_X8_needsWord (by decide) rfl eo_13 (by decide) rfl rfl (Nat.le_of_ble_eq_true rfl) dX8_readsNet_224 ?_
    refine fg_if_eq X (tgt := 240) dX8_readsNet_227 (by decide) (fun hc => ?_) (fun hc => ?_)
    · rw [if_pos hc] at hF
      refine fg_iconst X (v := (0 : Int32)) dX8_readsNet_240 (by decide) ?_
      cases hF
      exact fg_zret X (by decide) dX8_readsNet_241 (hT)
    · rw [if_neg hc] at hF
      refine fg_aload_n X (r := (some a0)) dX8_readsNet_230 rfl 0 rfl ?_
      refine fg_iconst X (v := (0 : Int32)) dX8_readsNet_231 (by decide) ?_
      refine fg_bipush X (v := (10 : Int32)) dX8_readsNet_232 (by decide) ?_
      replace hF := fg_gd_some hF
      obtain ⟨eg_15, hF⟩ := hF
      obtain ⟨fs_16, eo_17⟩ := fg_rc_get eg_15
      replace hF := fg_oc_some hF
      obtain ⟨x45, G44, e_18, hF⟩ := hF
      refine fg_callV X (st := []) (mX8_needsNumber Ω.2.2.2.2.1 Ω.1 e_18) q1734 q1736 qs49 q105 q1737 hd_X8_needsNumber (by decide) rfl eo_17 (by decide) rfl rfl (Nat.le_of_ble_eq_true rfl) dX8_readsNet_234 ?_
      refine fg_if_ne X (tgt := 242) dX8_readsNet_237 (by decide) (fun hc => ?_) (fun hc => ?_)
      · rw [if_neg hc] at hF
        refine fg_aload_n X (r := (some a0)) dX8_readsNet_242 rfl 0 rfl ?_
        replace hF := fg_ob_some hF
        obtain ⟨r46, e_19, hF⟩ := hF
        refine fg_getr X ff_X8_mesh q1564 e_19 dX8_readsNet_243 ?_
        refine fg_iload_n X dX8_readsNet_246 rfl 1 rfl ?_
        refine fg_aload_n X (r := (some a0)) dX8_readsNet_247 rfl 0 rfl ?_
        replace hF := fg_ob_some hF
        obtain ⟨x47, e_20, hF⟩ := hF
        refine fg_geti X ff_X8_given q1584 e_20 dX8_readsNet_248 ?_
        replace hF := fg_ob_some hF
        obtain ⟨a48, rfl, hF⟩ := hF
        replace hF := fg_ob_some hF
        obtain ⟨G49, e_21, hF⟩ := hF
        refine fg_iast X e_21 dX8_readsNet_251 ?_
        refine fg_aload_n X (r := (some a0)) dX8_readsNet_252 rfl 0 rfl ?_
        replace hF := fg_ob_some hF
        obtain ⟨r50, e_22, hF⟩ := hF
        refine fg_getr X ff_X8_kind q1565 e_22 dX8_readsNet_253 ?_
        refine fg_iload_n X dX8_readsNet_256 rfl 1 rfl ?_
        refine fg_aload_n X (r := (some a0)) dX8_readsNet_257 rfl 0 rfl ?_
        replace hF := fg_gd_some hF
        obtain ⟨eg_23, hF⟩ := hF
        obtain ⟨fs_24, eo_25⟩ := fg_rc_get eg_23
        replace hF := fg_oc_some hF
        obtain ⟨x52, G51, e_26, hF⟩ := hF
        refine fg_callV X (st := [.int i1, va_rf r50]) (mX8_kindAt Ω.2.2.2.2.1 Ω.1 e_26) q1813 q1815 qs62 q105 q1816 hd_X8_kindAt (by decide) rfl eo_25 (by decide) rfl rfl (by cases r50 <;> exact Nat.le_of_ble_eq_true rfl) dX8_readsNet_258 ?_
        replace hF := fg_ob_some hF
        obtain ⟨a53, rfl, hF⟩ := hF
        replace hF := fg_ob_some hF
        obtain ⟨G54, e_27, hF⟩ := hF
        refine fg_iast X e_27 dX8_readsNet_261 ?_
        refine fg_aload_n X (r := (some a0)) dX8_readsNet_262 rfl 0 rfl ?_
        replace hF := fg_ob_some hF
        obtain ⟨r55, e_28, hF⟩ := hF
        refine fg_getr X ff_X8_kind q1565 e_28 dX8_readsNet_263 ?_
        refine fg_iload_n X dX8_readsNet_266 rfl 1 rfl ?_
        replace hF := fg_ob_some hF
        obtain ⟨a56, rfl, hF⟩ := hF
        replace hF := fg_ob_some hF
        obtain ⟨x57, e_29, hF⟩ := hF
        refine fg_iald X e_29 dX8_readsNet_267 ?_
        refine fg_if_ge X (tgt := 277) dX8_readsNet_268 (by decide) (fun hc => ?_) (fun hc => ?_)
        · rw [if_pos hc] at hF
          refine fg_aload_n X (r := (some a0)) dX8_readsNet_277 rfl 0 rfl ?_
          replace hF := fg_gd_some hF
          obtain ⟨eg_30, hF⟩ := hF
          obtain ⟨fs_31, eo_32⟩ := fg_rc_get eg_30
          replace hF := fg_oc_some hF
          obtain ⟨u, G58, e_33, hF⟩ := hF
          refine fg_callV X (st := []) (mX8_nextToken Ω.2.2.2.2.1 Ω.1 e_33) q1707 q1709 qs43 q105 q1710 hd_X8_nextToken (by decide) rfl eo_32 (by decide) rfl rfl (Nat.le_of_ble_eq_true rfl) dX8_readsNet_278 ?_
          refine fg_aload_n X (r := (some a0)) dX8_readsNet_281 rfl 0 rfl ?_
          replace hF := fg_ob_some hF
          obtain ⟨r59, e_34, hF⟩ := hF
          refine fg_getr X ff_X8_ridge q1558 e_34 dX8_readsNet_282 ?_
          refine fg_bipush X (v := (13 : Int32)) dX8_readsNet_285 (by decide) ?_
          refine fg_dup2 X dX8_readsNet_287 rfl (fg_cat _) ?_
          replace hF := fg_ob_some hF
          obtain ⟨a60, rfl, hF⟩ := hF
          replace hF := fg_ob_some hF
          obtain ⟨x61, e_35, hF⟩ := hF
          refine fg_iald X e_35 dX8_readsNet_288 ?_
          refine fg_iconst X (v := (1 : Int32)) dX8_readsNet_289 (by decide) ?_
          refine fg_iadd X dX8_readsNet_290 ?_
          replace hF := fg_ob_some hF
          obtain ⟨G62, e_36, hF⟩ := hF
          refine fg_iast X e_36 dX8_readsNet_291 ?_
          refine fg_aload_n X (r := (some a0)) dX8_readsNet_292 rfl 0 rfl ?_
          replace hF := fg_gd_some hF
          obtain ⟨eg_37, hF⟩ := hF
          obtain ⟨fs_38, eo_39⟩ := fg_rc_get eg_37
          replace hF := fg_oc_some hF
          obtain ⟨x64, G63, e_40, hF⟩ := hF
          refine fg_callV X (st := []) (mX8_ends Ω.2.2.2.2.1 Ω.1 e_40) q1741 q1743 qs50 q105 q1744 hd_X8_ends (by decide) rfl eo_39 (by decide) rfl rfl (Nat.le_of_ble_eq_true rfl) dX8_readsNet_293 ?_
          replace hF := fg_gd_some hF
          obtain ⟨eg_41, hF⟩ := hF
          cases hF
          exact fg_zret X (fg_b_or eg_41) dX8_readsNet_296 (hT)
        · rw [if_neg hc] at hF
          refine fg_aload_n X (r := (some a0)) dX8_readsNet_271 rfl 0 rfl ?_
          refine fg_iconst X (v := (1 : Int32)) dX8_readsNet_272 (by decide) ?_
          replace hF := fg_gd_some hF
          obtain ⟨eg_42, hF⟩ := hF
          obtain ⟨fs_43, eo_44⟩ := fg_rc_get eg_42
          replace hF := fg_oc_some hF
          obtain ⟨x66, G65, e_45, hF⟩ := hF
          refine fg_callV X (st := []) (mX8_fails Ω.2.2.2.2.1 Ω.1 e_45) q1730 q1732 qs48 q105 q1733 hd_X8_fails (by decide) rfl eo_44 (by decide) rfl rfl (Nat.le_of_ble_eq_true rfl) dX8_readsNet_273 ?_
          replace hF := fg_gd_some hF
          obtain ⟨eg_46, hF⟩ := hF
          cases hF
          exact fg_zret X (fg_b_or eg_46) dX8_readsNet_276 (hT)
      · rw [if_pos hc] at hF
        refine fg_iconst X (v := (0 : Int32)) dX8_readsNet_240 (by decide) ?_
        cases hF
        exact fg_zret X (by decide) dX8_readsNet_241 (hT)
  · rw [if_pos hc] at hF
    refine fg_iconst X (v := (0 : Int32)) dX8_readsNet_202 (by decide) ?_
    cases hF
    exact fg_zret X (by decide) dX8_readsNet_203 (hT)
set_option maxHeartbeats 4000000 in
theorem wX8_readsNet_145b {Ω : fg_O} {a0 : Nat} {i1 : Int32} {i2 : Int32} {G : fg_H} {t : ((Nat × Int32 × Int32 × fg_H) ⊕ (Int32 × fg_H))} (X : fg_X Ω RX8 "readsNet" cX8_readsNet 3 (some .boolean) 3) (hF : fX8_readsNet_145b a0 i1 i2 G = some t) (h145 : ∀ z, t = (.inl z) → fg_W Ω z.2.2.2 145 [(0, .ref z.1), (1, .int z.2.1), (2, .int z.2.2.1)] []) (hT : ∀ u, t = (.inr u) → fg_T Ω (.returned (some (.int u.1))) u.2) : fg_W Ω G 145 [(0, .ref a0), (1, .int i1), (2, .int i2)] [] := by
  unfold fX8_readsNet_145b at hF
  refine fg_iload_n X dX8_readsNet_145 rfl 2 rfl ?_
  refine fg_iload_n X dX8_readsNet_146 rfl 1 rfl ?_
  refine fg_icmp_ge X (tgt := 185) dX8_readsNet_147 (by decide) (fun hc => ?_) (fun hc => ?_)
  · rw [if_pos hc] at hF
    replace hF := fg_rt_some hF
    obtain ⟨t73, hF, ht_1⟩ := hF
    subst ht_1
    replace hT := hT _ rfl
    refine fg_sub [0, 1] rfl ?_
    exact wX8_readsNet_185 X hF hT
  · rw [if_neg hc] at hF
    refine fg_aload_n X (r := (some a0)) dX8_readsNet_150 rfl 0 rfl ?_
    replace hF := fg_ob_some hF
    obtain ⟨r74, e_2, hF⟩ := hF
    refine fg_getr X ff_X8_placeAt q1563 e_2 dX8_readsNet_151 ?_
    refine fg_iload_n X dX8_readsNet_154 rfl 2 rfl ?_
    replace hF := fg_ob_some hF
    obtain ⟨a75, rfl, hF⟩ := hF
    replace hF := fg_ob_some hF
    obtain ⟨x76, e_3, hF⟩ := hF
    refine fg_iald X e_3 dX8_readsNet_155 ?_
    refine fg_bipush X (v := (8 : Int32)) dX8_readsNet_156 (by decide) ?_
    refine fg_aload_n X (r := (some a0)) dX8_readsNet_158 rfl 0 rfl ?_
    replace hF := fg_ob_some hF
    obtain ⟨x77, e_4, hF⟩ := hF
    refine fg_geti X ff_X8_told q1556 e_4 dX8_readsNet_159 ?_
    refine fg_imul X dX8_readsNet_162 ?_
    refine fg_aload_n X (r := (some a0)) dX8_readsNet_163 rfl 0 rfl ?_
    replace hF := fg_ob_some hF
    obtain ⟨r78, e_5, hF⟩ := hF
    refine fg_getr X ff_X8_placeAt q1563 e_5 dX8_readsNet_164 ?_
    refine fg_iload_n X dX8_readsNet_167 rfl 1 rfl ?_
    replace hF := fg_ob_some hF
    obtain ⟨a79, rfl, hF⟩ := hF
    replace hF := fg_ob_some hF
    obtain ⟨x80, e_6, hF⟩ := hF
    refine fg_iald X e_6 dX8_readsNet_168 ?_
    refine fg_iadd X dX8_readsNet_169 ?_
    refine fg_icmp_ne X (tgt := 179) dX8_readsNet_170 (by decide) (fun hc => ?_) (fun hc => ?_)
    · rw [if_neg hc] at hF
      refine fg_iinc X (v := (i2 + (1 : Int32))) (L' := [(2, .int (i2 + (1 : Int32))), (0, .ref a0), (1, .int i1)]) dX8_readsNet_179 2 rfl rfl (by decide) rfl ?_
      refine fg_goto X (tgt := 145) dX8_readsNet_182 (by decide) ?_
      refine fg_sub [1, 2, 0] rfl ?_
      exact h145 _ (Option.some.inj hF).symm
    · rw [if_pos hc] at hF
      replace hF := fg_rt_some hF
      obtain ⟨t81, hF, ht_7⟩ := hF
      subst ht_7
      replace hT := hT _ rfl
      refine fg_aload_n X (r := (some a0)) dX8_readsNet_173 rfl 0 rfl ?_
      refine fg_iconst X (v := (3 : Int32)) dX8_readsNet_174 (by decide) ?_
      replace hF := fg_gd_some hF
      obtain ⟨eg_8, hF⟩ := hF
      obtain ⟨fs_9, eo_10⟩ := fg_rc_get eg_8
      replace hF := fg_oc_some hF
      obtain ⟨x83, G82, e_11, hF⟩ := hF
      refine fg_callV X (st := []) (mX8_fails Ω.2.2.2.2.1 Ω.1 e_11) q1730 q1732 qs48 q105 q1733 hd_X8_fails (by decide) rfl eo_10 (by decide) rfl rfl (Nat.le_of_ble_eq_true rfl) dX8_readsNet_175 ?_
      replace hF := fg_gd_some hF
      obtain ⟨eg_12, hF⟩ := hF
      cases hF
      exact fg_zret X (fg_b_or eg_12) dX8_readsNet_178 (hT)
set_option maxHeartbeats 4000000 in
theorem wX8_readsNet_145 {Ω : fg_O} {a0 : Nat} {i1 : Int32} {i2 : Int32} {G : fg_H} {t : (Int32 × fg_H)} (X : fg_X Ω RX8 "readsNet" cX8_readsNet 3 (some .boolean) 3) (hF : fX8_readsNet_145 a0 i1 i2 G = some t) (hT : fg_T Ω (.returned (some (.int t.1))) t.2) : fg_W Ω G 145 [(0, .ref a0), (1, .int i1), (2, .int i2)] [] := by
  unfold fX8_readsNet_145 at hF
  exact fg_lp_walk (P := fun z => fg_W Ω z.2.2.2 145 [(0, .ref z.1), (1, .int z.2.1), (2, .int z.2.2.1)] []) (fun y o ho hl hr => wX8_readsNet_145b X ho (fun z e => hl z e) (fun u e => by rw [hr _ e]; exact hT)) hF
set_option maxHeartbeats 4000000 in
theorem wX8_readsNet {Ω : fg_O} {a0 : Nat} {G : fg_H} {t : Int32 × fg_H} (X : fg_X Ω RX8 "readsNet" cX8_readsNet 3 (some .boolean) 3) (hF : fX8_readsNet a0 G = some t) (hT : fg_T Ω (.returned (some (.int t.1))) t.2) : fg_W Ω G 0 [(0, .ref a0)] [] := by
  unfold fX8_readsNet at hF
  refine fg_bipush X (v := (13 : Int32)) dX8_readsNet_0 (by decide) ?_
  refine fg_aload_n X (r := (some a0)) dX8_readsNet_2 rfl 0 rfl ?_
  replace hF := fg_ob_some hF
  obtain ⟨r1, e_1, hF⟩ := hF
  refine fg_getr X ff_X8_ridge q1558 e_1 dX8_readsNet_3 ?_
  refine fg_bipush X (v := (13 : Int32)) dX8_readsNet_6 (by decide) ?_
  replace hF := fg_ob_some hF
  obtain ⟨a2, rfl, hF⟩ := hF
  replace hF := fg_ob_some hF
  obtain ⟨x3, e_2, hF⟩ := hF
  refine fg_iald X e_2 dX8_readsNet_8 ?_
  refine fg_iadd X dX8_readsNet_9 ?_
  replace hF := fg_ob_some hF
  obtain ⟨v4, ex_3, hF⟩ := hF
  refine fg_topi (Option.some.inj ex_3) ?_
  refine fg_istore_n X (L' := [(1, .int v4), (0, .ref a0)]) dX8_readsNet_10 rfl (by decide) rfl ?_
  refine fg_aload_n X (r := (some a0)) dX8_readsNet_11 rfl 1 rfl ?_
  replace hF := fg_ob_some hF
  obtain ⟨r5, e_4, hF⟩ := hF
  refine fg_getr X ff_X8_ridge q1558 e_4 dX8_readsNet_12 ?_
  refine fg_bipush X (v := (13 : Int32)) dX8_readsNet_15 (by decide) ?_
  replace hF := fg_ob_some hF
  obtain ⟨a6, rfl, hF⟩ := hF
  replace hF := fg_ob_some hF
  obtain ⟨x7, e_5, hF⟩ := hF
  refine fg_iald X e_5 dX8_readsNet_17 ?_
  refine fg_bipush X (v := (12 : Int32)) dX8_readsNet_18 (by decide) ?_
  refine fg_icmp_ne X (tgt := 29) dX8_readsNet_20 (by decide) (fun hc => ?_) (fun hc => ?_)
  · rw [if_neg hc] at hF
    refine fg_aload_n X (r := (some a0)) dX8_readsNet_29 rfl 1 rfl ?_
    replace hF := fg_gd_some hF
    obtain ⟨eg_6, hF⟩ := hF
    obtain ⟨fs_7, eo_8⟩ := fg_rc_get eg_6
    replace hF := fg_oc_some hF
    obtain ⟨u, G8, e_9, hF⟩ := hF
    refine fg_callV X (st := []) (mX8_nextToken Ω.2.2.2.2.1 Ω.1 e_9) q1707 q1709 qs43 q105 q1710 hd_X8_nextToken (by decide) rfl eo_8 (by decide) rfl rfl (Nat.le_of_ble_eq_true rfl) dX8_readsNet_30 ?_
    refine fg_aload_n X (r := (some a0)) dX8_readsNet_33 rfl 1 rfl ?_
    replace hF := fg_gd_some hF
    obtain ⟨eg_10, hF⟩ := hF
    obtain ⟨fs_11, eo_12⟩ := fg_rc_get eg_10
    replace hF := fg_oc_some hF
    obtain ⟨x10, G9, e_13, hF⟩ := hF
    refine fg_callV X (st := []) (mX8_isKept Ω.2.2.2.2.1 Ω.1 e_13) q1786 q1788 qs58 q105 q1789 hd_X8_isKept (by decide) rfl eo_12 (by decide) rfl rfl (Nat.le_of_ble_eq_true rfl) dX8_readsNet_34 ?_
    refine fg_if_eq X (tgt := 46) dX8_readsNet_37 (by decide) (fun hc => ?_) (fun hc => ?_)
    · rw [if_pos hc] at hF
      refine fg_aload_n X (r := (some a0)) dX8_readsNet_46 rfl 1 rfl ?_
      replace hF := fg_ob_some hF
      obtain ⟨r11, e_14, hF⟩ := hF
      refine fg_getr X ff_X8_villageOf q1562 e_14 dX8_readsNet_47 ?_
      refine fg_iload_n X dX8_readsNet_50 rfl 0 rfl ?_
      refine fg_aload_n X (r := (some a0)) dX8_readsNet_51 rfl 1 rfl ?_
      replace hF := fg_gd_some hF
      obtain ⟨eg_15, hF⟩ := hF
      obtain ⟨fs_16, eo_17⟩ := fg_rc_get eg_15
      replace hF := fg_oc_some hF
      obtain ⟨x13, G12, e_18, hF⟩ := hF
      refine fg_callV X (st := [.int v4, va_rf r11]) (mX8_villageNamed Ω.2.2.2.2.1 Ω.1 e_18) q1801 q1803 qs59 q105 q1804 hd_X8_villageNamed (by decide) rfl eo_17 (by decide) rfl rfl (by cases r11 <;> exact Nat.le_of_ble_eq_true rfl) dX8_readsNet_52 ?_
      replace hF := fg_ob_some hF
      obtain ⟨a14, rfl, hF⟩ := hF
      replace hF := fg_ob_some hF
      obtain ⟨G15, e_19, hF⟩ := hF
      refine fg_iast X e_19 dX8_readsNet_55 ?_
      refine fg_aload_n X (r := (some a0)) dX8_readsNet_56 rfl 1 rfl ?_
      replace hF := fg_ob_some hF
      obtain ⟨r16, e_20, hF⟩ := hF
      refine fg_getr X ff_X8_villageOf q1562 e_20 dX8_readsNet_57 ?_
      refine fg_iload_n X dX8_readsNet_60 rfl 0 rfl ?_
      replace hF := fg_ob_some hF
      obtain ⟨a17, rfl, hF⟩ := hF
      replace hF := fg_ob_some hF
      obtain ⟨x18, e_21, hF⟩ := hF
      refine fg_iald X e_21 dX8_readsNet_61 ?_
      refine fg_if_ge X (tgt := 71) dX8_readsNet_62 (by decide) (fun hc => ?_) (fun hc => ?_)
      · rw [if_pos hc] at hF
        refine fg_aload_n X (r := (some a0)) dX8_readsNet_71 rfl 1 rfl ?_
        replace hF := fg_gd_some hF
        obtain ⟨eg_22, hF⟩ := hF
        obtain ⟨fs_23, eo_24⟩ := fg_rc_get eg_22
        replace hF := fg_oc_some hF
        obtain ⟨u, G19, e_25, hF⟩ := hF
        refine fg_callV X (st := []) (mX8_nextToken Ω.2.2.2.2.1 Ω.1 e_25) q1707 q1709 qs43 q105 q1710 hd_X8_nextToken (by decide) rfl eo_24 (by decide) rfl rfl (Nat.le_of_ble_eq_true rfl) dX8_readsNet_72 ?_
        refine fg_aload_n X (r := (some a0)) dX8_readsNet_75 rfl 1 rfl ?_
        refine fg_ldc2 X q1793 dX8_readsNet_76 ?_
        replace hF := fg_gd_some hF
        obtain ⟨eg_26, hF⟩ := hF
        obtain ⟨fs_27, eo_28⟩ := fg_rc_get eg_26
        replace hF := fg_oc_some hF
        obtain ⟨x21, G20, e_29, hF⟩ := hF
        refine fg_callV X (st := []) (mX8_needsWord Ω.2.2.2.2.1 Ω.1 e_29) q1805 q1807 qs60 q105 q1808 hd_X8_needsWord (by decide) rfl eo_28 (by decide) rfl rfl (Nat.le_of_ble_eq_true rfl) dX8_readsNet_79 ?_
        refine fg_if_eq X (tgt := 102) dX8_readsNet_82 (by decide) (fun hc => ?_) (fun hc => ?_)
        · rw [if_pos hc] at hF
          refine fg_iconst X (v := (0 : Int32)) dX8_readsNet_102 (by decide) ?_
          cases hF
          exact fg_zret X (by decide) dX8_readsNet_103 (hT)
        · rw [if_neg hc] at hF
          refine fg_aload_n X (r := (some a0)) dX8_readsNet_85 rfl 1 rfl ?_
          refine fg_iconst X (v := (0 : Int32)) dX8_readsNet_86 (by decide) ?_
          refine fg_aload_n X (r := (some a0)) dX8_readsNet_87 rfl 1 rfl ?_
          replace hF := fg_ob_some hF
          obtain ⟨r22, e_30, hF⟩ := hF
          refine fg_getr X ff_X8_ridge q1558 e_30 dX8_readsNet_88 ?_
          refine fg_bipush X (v := (7 : Int32)) dX8_readsNet_91 (by decide) ?_
          replace hF := fg_ob_some hF
          obtain ⟨a23, rfl, hF⟩ := hF
          replace hF := fg_ob_some hF
          obtain ⟨x24, e_31, hF⟩ := hF
          refine fg_iald X e_31 dX8_readsNet_93 ?_
          refine fg_iconst X (v := (1 : Int32)) dX8_readsNet_94 (by decide) ?_
          refine fg_isub X dX8_readsNet_95 ?_
          replace hF := fg_gd_some hF
          obtain ⟨eg_32, hF⟩ := hF
          obtain ⟨fs_33, eo_34⟩ := fg_rc_get eg_32
          replace hF := fg_oc_some hF
          obtain ⟨x26, G25, e_35, hF⟩ := hF
          refine fg_callV X (st := []) (mX8_needsNumber Ω.2.2.2.2.1 Ω.1 e_35) q1734 q1736 qs49 q105 q1737 hd_X8_needsNumber (by decide) rfl eo_34 (by decide) rfl rfl (Nat.le_of_ble_eq_true rfl) dX8_readsNet_96 ?_
          refine fg_if_ne X (tgt := 104) dX8_readsNet_99 (by decide) (fun hc => ?_) (fun hc => ?_)
          · rw [if_neg hc] at hF
            refine fg_aload_n X (r := (some a0)) dX8_readsNet_104 rfl 1 rfl ?_
            replace hF := fg_ob_some hF
            obtain ⟨r27, e_36, hF⟩ := hF
            refine fg_getr X ff_X8_placeAt q1563 e_36 dX8_readsNet_105 ?_
            refine fg_iload_n X dX8_readsNet_108 rfl 0 rfl ?_
            refine fg_aload_n X (r := (some a0)) dX8_readsNet_109 rfl 1 rfl ?_
            replace hF := fg_ob_some hF
            obtain ⟨x28, e_37, hF⟩ := hF
            refine fg_geti X ff_X8_given q1584 e_37 dX8_readsNet_110 ?_
            replace hF := fg_ob_some hF
            obtain ⟨a29, rfl, hF⟩ := hF
            replace hF := fg_ob_some hF
            obtain ⟨G30, e_38, hF⟩ := hF
            refine fg_iast X e_38 dX8_readsNet_113 ?_
            refine fg_aload_n X (r := (some a0)) dX8_readsNet_114 rfl 1 rfl ?_
            replace hF := fg_ob_some hF
            obtain ⟨x31, e_39, hF⟩ := hF
            refine fg_geti X ff_X8_token q1554 e_39 dX8_readsNet_115 ?_
            refine fg_iconst X (v := (2 : Int32)) dX8_readsNet_118 (by decide) ?_
            refine fg_icmp_ne X (tgt := 185) dX8_readsNet_119 (by decide) (fun hc => ?_) (fun hc => ?_)
            · rw [if_neg hc] at hF
              refine fg_sub [1, 0] rfl ?_
              exact wX8_readsNet_185 X hF hT
            · rw [if_pos hc] at hF
              refine fg_aload_n X (r := (some a0)) dX8_readsNet_122 rfl 1 rfl ?_
              replace hF := fg_ob_some hF
              obtain ⟨x67, e_40, hF⟩ := hF
              refine fg_geti X ff_X8_told q1556 e_40 dX8_readsNet_123 ?_
              refine fg_iconst X (v := (0 : Int32)) dX8_readsNet_126 (by decide) ?_
              refine fg_aload_n X (r := (some a0)) dX8_readsNet_127 rfl 1 rfl ?_
              replace hF := fg_ob_some hF
              obtain ⟨r68, e_41, hF⟩ := hF
              refine fg_getr X ff_X8_ridge q1558 e_41 dX8_readsNet_128 ?_
              refine fg_bipush X (v := (8 : Int32)) dX8_readsNet_131 (by decide) ?_
              replace hF := fg_ob_some hF
              obtain ⟨a69, rfl, hF⟩ := hF
              replace hF := fg_ob_some hF
              obtain ⟨x70, e_42, hF⟩ := hF
              refine fg_iald X e_42 dX8_readsNet_133 ?_
              refine fg_iconst X (v := (1 : Int32)) dX8_readsNet_134 (by decide) ?_
              refine fg_isub X dX8_readsNet_135 ?_
              replace hF := fg_oc_some hF
              obtain ⟨x72, G71, e_43, hF⟩ := hF
              refine fg_callS X (st := []) (mX8_within Ω.2.2.2.2.1 Ω.1 e_43) q1738 q1739 q105 q1740 hd_X8_within (by decide) rfl rfl (Nat.le_of_ble_eq_true rfl) dX8_readsNet_136 ?_
              refine fg_if_eq X (tgt := 185) dX8_readsNet_139 (by decide) (fun hc => ?_) (fun hc => ?_)
              · rw [if_pos hc] at hF
                refine fg_sub [1, 0] rfl ?_
                exact wX8_readsNet_185 X hF hT
              · rw [if_neg hc] at hF
                refine fg_bipush X (v := (13 : Int32)) dX8_readsNet_142 (by decide) ?_
                refine fg_istore_n X (L' := [(2, .int (13 : Int32)), (1, .int v4), (0, .ref a0)]) dX8_readsNet_144 rfl (by decide) rfl ?_
                refine fg_sub [2, 1, 0] rfl ?_
                exact wX8_readsNet_145 X hF hT
          · rw [if_pos hc] at hF
            refine fg_iconst X (v := (0 : Int32)) dX8_readsNet_102 (by decide) ?_
            cases hF
            exact fg_zret X (by decide) dX8_readsNet_103 (hT)
      · rw [if_neg hc] at hF
        refine fg_aload_n X (r := (some a0)) dX8_readsNet_65 rfl 1 rfl ?_
        refine fg_iconst X (v := (2 : Int32)) dX8_readsNet_66 (by decide) ?_
        replace hF := fg_gd_some hF
        obtain ⟨eg_44, hF⟩ := hF
        obtain ⟨fs_45, eo_46⟩ := fg_rc_get eg_44
        replace hF := fg_oc_some hF
        obtain ⟨x85, G84, e_47, hF⟩ := hF
        refine fg_callV X (st := []) (mX8_fails Ω.2.2.2.2.1 Ω.1 e_47) q1730 q1732 qs48 q105 q1733 hd_X8_fails (by decide) rfl eo_46 (by decide) rfl rfl (Nat.le_of_ble_eq_true rfl) dX8_readsNet_67 ?_
        replace hF := fg_gd_some hF
        obtain ⟨eg_48, hF⟩ := hF
        cases hF
        exact fg_zret X (fg_b_or eg_48) dX8_readsNet_70 (hT)
    · rw [if_neg hc] at hF
      refine fg_aload_n X (r := (some a0)) dX8_readsNet_40 rfl 1 rfl ?_
      refine fg_iconst X (v := (1 : Int32)) dX8_readsNet_41 (by decide) ?_
      replace hF := fg_gd_some hF
      obtain ⟨eg_49, hF⟩ := hF
      obtain ⟨fs_50, eo_51⟩ := fg_rc_get eg_49
      replace hF := fg_oc_some hF
      obtain ⟨x87, G86, e_52, hF⟩ := hF
      refine fg_callV X (st := []) (mX8_fails Ω.2.2.2.2.1 Ω.1 e_52) q1730 q1732 qs48 q105 q1733 hd_X8_fails (by decide) rfl eo_51 (by decide) rfl rfl (Nat.le_of_ble_eq_true rfl) dX8_readsNet_42 ?_
      replace hF := fg_gd_some hF
      obtain ⟨eg_53, hF⟩ := hF
      cases hF
      exact fg_zret X (fg_b_or eg_53) dX8_readsNet_45 (hT)
  · rw [if_pos hc] at hF
    refine fg_aload_n X (r := (some a0)) dX8_readsNet_23 rfl 1 rfl ?_
    refine fg_iconst X (v := (5 : Int32)) dX8_readsNet_24 (by decide) ?_
    replace hF := fg_gd_some hF
    obtain ⟨eg_54, hF⟩ := hF
    obtain ⟨fs_55, eo_56⟩ := fg_rc_get eg_54
    replace hF := fg_oc_some hF
    obtain ⟨x89, G88, e_57, hF⟩ := hF
    refine fg_callV X (st := []) (mX8_fails Ω.2.2.2.2.1 Ω.1 e_57) q1730 q1732 qs48 q105 q1733 hd_X8_fails (by decide) rfl eo_56 (by decide) rfl rfl (Nat.le_of_ble_eq_true rfl) dX8_readsNet_25 ?_
    replace hF := fg_gd_some hF
    obtain ⟨eg_58, hF⟩ := hF
    cases hF
    exact fg_zret X (fg_b_or eg_58) dX8_readsNet_28 (hT)
theorem mX8_readsNet (l : Launch) (D : fg_D) {a0 : Nat} {G : fg_H} {t : Int32 × fg_H} (hF : fX8_readsNet a0 G = some t) : fg_M l D yX8_readsNet cX8_readsNet 3 (some .boolean) 3 [.ref a0] G (.returned (some (.int t.1))) t.2 :=
  fg_Mof (own := RX8) (nm := "readsNet") (L := [(0, .ref a0)]) (plainFor_of_name pn_X8) rfl rfl rfl (Nat.le_of_ble_eq_true rfl) (fun Ω _ _ X hT => wX8_readsNet X hF hT)
theorem hd_X8_readsOne : yX8_readsOne.cls ≠ "java/lang/invoke/MethodHandle" ∧ yX8_readsOne.cls ≠ "java/lang/invoke/VarHandle" ∧ (parseMethodDescriptor yX8_readsOne.desc).map (fun d => d.parameters.length) = some 3 := ⟨by decide +kernel, by decide +kernel, by decide +kernel⟩
set_option maxHeartbeats 4000000 in
theorem wX8_readsOne {Ω : fg_O} {a0 : Nat} {i1 : Int32} {i2 : Int32} {i3 : Int32} {G : fg_H} {t : Int32 × fg_H} (X : fg_X Ω RX8 "readsOne" cX8_readsOne 4 (some .boolean) 3) (hF : fX8_readsOne a0 i1 i2 i3 G = some t) (hT : fg_T Ω (.returned (some (.int t.1))) t.2) : fg_W Ω G 0 [(0, .ref a0), (1, .int i1), (2, .int i2), (3, .int i3)] [] := by
  unfold fX8_readsOne at hF
  refine fg_aload_n X (r := (some a0)) dX8_readsOne_0 rfl 0 rfl ?_
  refine fg_iload_n X dX8_readsOne_1 rfl 1 rfl ?_
  replace hF := fg_gd_some hF
  obtain ⟨eg_1, hF⟩ := hF
  obtain ⟨fs_2, eo_3⟩ := fg_rc_get eg_1
  replace hF := fg_oc_some hF
  obtain ⟨x2, G1, e_4, hF⟩ := hF
  refine fg_callV X (st := []) (mX8_isTwice Ω.2.2.2.2.1 Ω.1 e_4) q1726 q1728 qs47 q105 q1729 hd_X8_isTwice (by decide) rfl eo_3 (by decide) rfl rfl (Nat.le_of_ble_eq_true rfl) dX8_readsOne_2 ?_
  refine fg_if_eq X (tgt := 14) dX8_readsOne_5 (by decide) (fun hc => ?_) (fun hc => ?_)
  · rw [if_pos hc] at hF
    refine fg_aload_n X (r := (some a0)) dX8_readsOne_14 rfl 0 rfl ?_
    replace hF := fg_gd_some hF
    obtain ⟨eg_5, hF⟩ := hF
    obtain ⟨fs_6, eo_7⟩ := fg_rc_get eg_5
    replace hF := fg_oc_some hF
    obtain ⟨u, G3, e_8, hF⟩ := hF
    refine fg_callV X (st := []) (mX8_nextToken Ω.2.2.2.2.1 Ω.1 e_8) q1707 q1709 qs43 q105 q1710 hd_X8_nextToken (by decide) rfl eo_7 (by decide) rfl rfl (Nat.le_of_ble_eq_true rfl) dX8_readsOne_15 ?_
    refine fg_aload_n X (r := (some a0)) dX8_readsOne_18 rfl 0 rfl ?_
    refine fg_iload_n X dX8_readsOne_19 rfl 2 rfl ?_
    refine fg_iload_n X dX8_readsOne_20 rfl 3 rfl ?_
    replace hF := fg_gd_some hF
    obtain ⟨eg_9, hF⟩ := hF
    obtain ⟨fs_10, eo_11⟩ := fg_rc_get eg_9
    replace hF := fg_oc_some hF
    obtain ⟨x5, G4, e_12, hF⟩ := hF
    refine fg_callV X (st := []) (mX8_needsNumber Ω.2.2.2.2.1 Ω.1 e_12) q1734 q1736 qs49 q105 q1737 hd_X8_needsNumber (by decide) rfl eo_11 (by decide) rfl rfl (Nat.le_of_ble_eq_true rfl) dX8_readsOne_21 ?_
    refine fg_if_ne X (tgt := 29) dX8_readsOne_24 (by decide) (fun hc => ?_) (fun hc => ?_)
    · rw [if_neg hc] at hF
      refine fg_aload_n X (r := (some a0)) dX8_readsOne_29 rfl 0 rfl ?_
      replace hF := fg_ob_some hF
      obtain ⟨r6, e_13, hF⟩ := hF
      refine fg_getr X ff_X8_ridge q1558 e_13 dX8_readsOne_30 ?_
      refine fg_bipush X (v := (7 : Int32)) dX8_readsOne_33 (by decide) ?_
      refine fg_iload_n X dX8_readsOne_35 rfl 1 rfl ?_
      refine fg_iadd X dX8_readsOne_36 ?_
      refine fg_aload_n X (r := (some a0)) dX8_readsOne_37 rfl 0 rfl ?_
      replace hF := fg_ob_some hF
      obtain ⟨x7, e_14, hF⟩ := hF
      refine fg_geti X ff_X8_given q1584 e_14 dX8_readsOne_38 ?_
      replace hF := fg_ob_some hF
      obtain ⟨a8, rfl, hF⟩ := hF
      replace hF := fg_ob_some hF
      obtain ⟨G9, e_15, hF⟩ := hF
      refine fg_iast X e_15 dX8_readsOne_41 ?_
      refine fg_aload_n X (r := (some a0)) dX8_readsOne_42 rfl 0 rfl ?_
      replace hF := fg_gd_some hF
      obtain ⟨eg_16, hF⟩ := hF
      obtain ⟨fs_17, eo_18⟩ := fg_rc_get eg_16
      replace hF := fg_oc_some hF
      obtain ⟨x11, G10, e_19, hF⟩ := hF
      refine fg_callV X (st := []) (mX8_ends Ω.2.2.2.2.1 Ω.1 e_19) q1741 q1743 qs50 q105 q1744 hd_X8_ends (by decide) rfl eo_18 (by decide) rfl rfl (Nat.le_of_ble_eq_true rfl) dX8_readsOne_43 ?_
      replace hF := fg_gd_some hF
      obtain ⟨eg_20, hF⟩ := hF
      cases hF
      exact fg_zret X (fg_b_or eg_20) dX8_readsOne_46 (hT)
    · rw [if_pos hc] at hF
      refine fg_iconst X (v := (0 : Int32)) dX8_readsOne_27 (by decide) ?_
      cases hF
      exact fg_zret X (by decide) dX8_readsOne_28 (hT)
  · rw [if_neg hc] at hF
    refine fg_aload_n X (r := (some a0)) dX8_readsOne_8 rfl 0 rfl ?_
    refine fg_iconst X (v := (3 : Int32)) dX8_readsOne_9 (by decide) ?_
    replace hF := fg_gd_some hF
    obtain ⟨eg_21, hF⟩ := hF
    obtain ⟨fs_22, eo_23⟩ := fg_rc_get eg_21
    replace hF := fg_oc_some hF
    obtain ⟨x13, G12, e_24, hF⟩ := hF
    refine fg_callV X (st := []) (mX8_fails Ω.2.2.2.2.1 Ω.1 e_24) q1730 q1732 qs48 q105 q1733 hd_X8_fails (by decide) rfl eo_23 (by decide) rfl rfl (Nat.le_of_ble_eq_true rfl) dX8_readsOne_10 ?_
    replace hF := fg_gd_some hF
    obtain ⟨eg_25, hF⟩ := hF
    cases hF
    exact fg_zret X (fg_b_or eg_25) dX8_readsOne_13 (hT)
theorem mX8_readsOne (l : Launch) (D : fg_D) {a0 : Nat} {i1 : Int32} {i2 : Int32} {i3 : Int32} {G : fg_H} {t : Int32 × fg_H} (hF : fX8_readsOne a0 i1 i2 i3 G = some t) : fg_M l D yX8_readsOne cX8_readsOne 4 (some .boolean) 3 [.ref a0, .int i1, .int i2, .int i3] G (.returned (some (.int t.1))) t.2 :=
  fg_Mof (own := RX8) (nm := "readsOne") (L := [(0, .ref a0), (1, .int i1), (2, .int i2), (3, .int i3)]) (plainFor_of_name pn_X8) rfl rfl rfl (Nat.le_of_ble_eq_true rfl) (fun Ω _ _ X hT => wX8_readsOne X hF hT)
theorem hd_X8_readsVillage : yX8_readsVillage.cls ≠ "java/lang/invoke/MethodHandle" ∧ yX8_readsVillage.cls ≠ "java/lang/invoke/VarHandle" ∧ (parseMethodDescriptor yX8_readsVillage.desc).map (fun d => d.parameters.length) = some 0 := ⟨by decide +kernel, by decide +kernel, by decide +kernel⟩
set_option maxHeartbeats 4000000 in
theorem wX8_readsVillage {Ω : fg_O} {a0 : Nat} {G : fg_H} {t : Int32 × fg_H} (X : fg_X Ω RX8 "readsVillage" cX8_readsVillage 2 (some .boolean) 3) (hF : fX8_readsVillage a0 G = some t) (hT : fg_T Ω (.returned (some (.int t.1))) t.2) : fg_W Ω G 0 [(0, .ref a0)] [] := by
  unfold fX8_readsVillage at hF
  refine fg_aload_n X (r := (some a0)) dX8_readsVillage_0 rfl 0 rfl ?_
  replace hF := fg_ob_some hF
  obtain ⟨r1, e_1, hF⟩ := hF
  refine fg_getr X ff_X8_ridge q1558 e_1 dX8_readsVillage_1 ?_
  refine fg_bipush X (v := (12 : Int32)) dX8_readsVillage_4 (by decide) ?_
  replace hF := fg_ob_some hF
  obtain ⟨a2, rfl, hF⟩ := hF
  replace hF := fg_ob_some hF
  obtain ⟨x3, e_2, hF⟩ := hF
  refine fg_iald X e_2 dX8_readsVillage_6 ?_
  refine fg_istore_n X (L' := [(1, .int x3), (0, .ref a0)]) dX8_readsVillage_7 rfl (by decide) rfl ?_
  refine fg_iload_n X dX8_readsVillage_8 rfl 0 rfl ?_
  refine fg_bipush X (v := (6 : Int32)) dX8_readsVillage_9 (by decide) ?_
  refine fg_icmp_ne X (tgt := 20) dX8_readsVillage_11 (by decide) (fun hc => ?_) (fun hc => ?_)
  · rw [if_neg hc] at hF
    refine fg_aload_n X (r := (some a0)) dX8_readsVillage_20 rfl 1 rfl ?_
    replace hF := fg_gd_some hF
    obtain ⟨eg_3, hF⟩ := hF
    obtain ⟨fs_4, eo_5⟩ := fg_rc_get eg_3
    replace hF := fg_oc_some hF
    obtain ⟨u, G4, e_6, hF⟩ := hF
    refine fg_callV X (st := []) (mX8_nextToken Ω.2.2.2.2.1 Ω.1 e_6) q1707 q1709 qs43 q105 q1710 hd_X8_nextToken (by decide) rfl eo_5 (by decide) rfl rfl (Nat.le_of_ble_eq_true rfl) dX8_readsVillage_21 ?_
    refine fg_aload_n X (r := (some a0)) dX8_readsVillage_24 rfl 1 rfl ?_
    replace hF := fg_gd_some hF
    obtain ⟨eg_7, hF⟩ := hF
    obtain ⟨fs_8, eo_9⟩ := fg_rc_get eg_7
    replace hF := fg_oc_some hF
    obtain ⟨x6, G5, e_10, hF⟩ := hF
    refine fg_callV X (st := []) (mX8_isKept Ω.2.2.2.2.1 Ω.1 e_10) q1786 q1788 qs58 q105 q1789 hd_X8_isKept (by decide) rfl eo_9 (by decide) rfl rfl (Nat.le_of_ble_eq_true rfl) dX8_readsVillage_25 ?_
    refine fg_if_eq X (tgt := 37) dX8_readsVillage_28 (by decide) (fun hc => ?_) (fun hc => ?_)
    · rw [if_pos hc] at hF
      refine fg_aload_n X (r := (some a0)) dX8_readsVillage_37 rfl 1 rfl ?_
      replace hF := fg_gd_some hF
      obtain ⟨eg_11, hF⟩ := hF
      obtain ⟨fs_12, eo_13⟩ := fg_rc_get eg_11
      replace hF := fg_oc_some hF
      obtain ⟨x8, G7, e_14, hF⟩ := hF
      refine fg_callV X (st := []) (mX8_villageNamed Ω.2.2.2.2.1 Ω.1 e_14) q1801 q1803 qs59 q105 q1804 hd_X8_villageNamed (by decide) rfl eo_13 (by decide) rfl rfl (Nat.le_of_ble_eq_true rfl) dX8_readsVillage_38 ?_
      refine fg_if_lt X (tgt := 50) dX8_readsVillage_41 (by decide) (fun hc => ?_) (fun hc => ?_)
      · rw [if_pos hc] at hF
        refine fg_aload_n X (r := (some a0)) dX8_readsVillage_50 rfl 1 rfl ?_
        replace hF := fg_ob_some hF
        obtain ⟨r9, e_15, hF⟩ := hF
        refine fg_getr X ff_X8_names q1561 e_15 dX8_readsVillage_51 ?_
        refine fg_iload_n X dX8_readsVillage_54 rfl 0 rfl ?_
        refine fg_aload_n X (r := (some a0)) dX8_readsVillage_55 rfl 1 rfl ?_
        replace hF := fg_ob_some hF
        obtain ⟨y10, e_16, hF⟩ := hF
        refine fg_getl X ff_X8_word q1555 e_16 dX8_readsVillage_56 ?_
        replace hF := fg_ob_some hF
        obtain ⟨a11, rfl, hF⟩ := hF
        replace hF := fg_ob_some hF
        obtain ⟨G12, e_17, hF⟩ := hF
        refine fg_last X e_17 dX8_readsVillage_59 ?_
        refine fg_aload_n X (r := (some a0)) dX8_readsVillage_60 rfl 1 rfl ?_
        replace hF := fg_gd_some hF
        obtain ⟨eg_18, hF⟩ := hF
        obtain ⟨fs_19, eo_20⟩ := fg_rc_get eg_18
        replace hF := fg_oc_some hF
        obtain ⟨u, G13, e_21, hF⟩ := hF
        refine fg_callV X (st := []) (mX8_nextToken Ω.2.2.2.2.1 Ω.1 e_21) q1707 q1709 qs43 q105 q1710 hd_X8_nextToken (by decide) rfl eo_20 (by decide) rfl rfl (Nat.le_of_ble_eq_true rfl) dX8_readsVillage_61 ?_
        refine fg_aload_n X (r := (some a0)) dX8_readsVillage_64 rfl 1 rfl ?_
        refine fg_ldc2 X q1790 dX8_readsVillage_65 ?_
        replace hF := fg_gd_some hF
        obtain ⟨eg_22, hF⟩ := hF
        obtain ⟨fs_23, eo_24⟩ := fg_rc_get eg_22
        replace hF := fg_oc_some hF
        obtain ⟨x15, G14, e_25, hF⟩ := hF
        refine fg_callV X (st := []) (mX8_needsWord Ω.2.2.2.2.1 Ω.1 e_25) q1805 q1807 qs60 q105 q1808 hd_X8_needsWord (by decide) rfl eo_24 (by decide) rfl rfl (Nat.le_of_ble_eq_true rfl) dX8_readsVillage_68 ?_
        refine fg_if_eq X (tgt := 85) dX8_readsVillage_71 (by decide) (fun hc => ?_) (fun hc => ?_)
        · rw [if_pos hc] at hF
          refine fg_iconst X (v := (0 : Int32)) dX8_readsVillage_85 (by decide) ?_
          cases hF
          exact fg_zret X (by decide) dX8_readsVillage_86 (hT)
        · rw [if_neg hc] at hF
          refine fg_aload_n X (r := (some a0)) dX8_readsVillage_74 rfl 1 rfl ?_
          refine fg_iconst X (v := (0 : Int32)) dX8_readsVillage_75 (by decide) ?_
          refine fg_sipush X (v := (999 : Int32)) dX8_readsVillage_76 (by decide) ?_
          replace hF := fg_gd_some hF
          obtain ⟨eg_26, hF⟩ := hF
          obtain ⟨fs_27, eo_28⟩ := fg_rc_get eg_26
          replace hF := fg_oc_some hF
          obtain ⟨x17, G16, e_29, hF⟩ := hF
          refine fg_callV X (st := []) (mX8_needsNumber Ω.2.2.2.2.1 Ω.1 e_29) q1734 q1736 qs49 q105 q1737 hd_X8_needsNumber (by decide) rfl eo_28 (by decide) rfl rfl (Nat.le_of_ble_eq_true rfl) dX8_readsVillage_79 ?_
          refine fg_if_ne X (tgt := 87) dX8_readsVillage_82 (by decide) (fun hc => ?_) (fun hc => ?_)
          · rw [if_neg hc] at hF
            refine fg_aload_n X (r := (some a0)) dX8_readsVillage_87 rfl 1 rfl ?_
            replace hF := fg_ob_some hF
            obtain ⟨r18, e_30, hF⟩ := hF
            refine fg_getr X ff_X8_thirst q1559 e_30 dX8_readsVillage_88 ?_
            refine fg_bipush X (v := (6 : Int32)) dX8_readsVillage_91 (by decide) ?_
            refine fg_iload_n X dX8_readsVillage_93 rfl 0 rfl ?_
            refine fg_iadd X dX8_readsVillage_94 ?_
            refine fg_aload_n X (r := (some a0)) dX8_readsVillage_95 rfl 1 rfl ?_
            replace hF := fg_ob_some hF
            obtain ⟨x19, e_31, hF⟩ := hF
            refine fg_geti X ff_X8_given q1584 e_31 dX8_readsVillage_96 ?_
            replace hF := fg_ob_some hF
            obtain ⟨a20, rfl, hF⟩ := hF
            replace hF := fg_ob_some hF
            obtain ⟨G21, e_32, hF⟩ := hF
            refine fg_iast X e_32 dX8_readsVillage_99 ?_
            refine fg_aload_n X (r := (some a0)) dX8_readsVillage_100 rfl 1 rfl ?_
            refine fg_ldc2 X q1791 dX8_readsVillage_101 ?_
            replace hF := fg_gd_some hF
            obtain ⟨eg_33, hF⟩ := hF
            obtain ⟨fs_34, eo_35⟩ := fg_rc_get eg_33
            replace hF := fg_oc_some hF
            obtain ⟨x23, G22, e_36, hF⟩ := hF
            refine fg_callV X (st := []) (mX8_needsWord Ω.2.2.2.2.1 Ω.1 e_36) q1805 q1807 qs60 q105 q1808 hd_X8_needsWord (by decide) rfl eo_35 (by decide) rfl rfl (Nat.le_of_ble_eq_true rfl) dX8_readsVillage_104 ?_
            refine fg_if_eq X (tgt := 121) dX8_readsVillage_107 (by decide) (fun hc => ?_) (fun hc => ?_)
            · rw [if_pos hc] at hF
              refine fg_iconst X (v := (0 : Int32)) dX8_readsVillage_121 (by decide) ?_
              cases hF
              exact fg_zret X (by decide) dX8_readsVillage_122 (hT)
            · rw [if_neg hc] at hF
              refine fg_aload_n X (r := (some a0)) dX8_readsVillage_110 rfl 1 rfl ?_
              refine fg_iconst X (v := (0 : Int32)) dX8_readsVillage_111 (by decide) ?_
              refine fg_sipush X (v := (9999 : Int32)) dX8_readsVillage_112 (by decide) ?_
              replace hF := fg_gd_some hF
              obtain ⟨eg_37, hF⟩ := hF
              obtain ⟨fs_38, eo_39⟩ := fg_rc_get eg_37
              replace hF := fg_oc_some hF
              obtain ⟨x25, G24, e_40, hF⟩ := hF
              refine fg_callV X (st := []) (mX8_needsNumber Ω.2.2.2.2.1 Ω.1 e_40) q1734 q1736 qs49 q105 q1737 hd_X8_needsNumber (by decide) rfl eo_39 (by decide) rfl rfl (Nat.le_of_ble_eq_true rfl) dX8_readsVillage_115 ?_
              refine fg_if_ne X (tgt := 123) dX8_readsVillage_118 (by decide) (fun hc => ?_) (fun hc => ?_)
              · rw [if_neg hc] at hF
                refine fg_aload_n X (r := (some a0)) dX8_readsVillage_123 rfl 1 rfl ?_
                replace hF := fg_ob_some hF
                obtain ⟨r26, e_41, hF⟩ := hF
                refine fg_getr X ff_X8_tankAt q1560 e_41 dX8_readsVillage_124 ?_
                refine fg_bipush X (v := (6 : Int32)) dX8_readsVillage_127 (by decide) ?_
                refine fg_iload_n X dX8_readsVillage_129 rfl 0 rfl ?_
                refine fg_iadd X dX8_readsVillage_130 ?_
                refine fg_aload_n X (r := (some a0)) dX8_readsVillage_131 rfl 1 rfl ?_
                replace hF := fg_ob_some hF
                obtain ⟨x27, e_42, hF⟩ := hF
                refine fg_geti X ff_X8_given q1584 e_42 dX8_readsVillage_132 ?_
                replace hF := fg_ob_some hF
                obtain ⟨a28, rfl, hF⟩ := hF
                replace hF := fg_ob_some hF
                obtain ⟨G29, e_43, hF⟩ := hF
                refine fg_iast X e_43 dX8_readsVillage_135 ?_
                refine fg_aload_n X (r := (some a0)) dX8_readsVillage_136 rfl 1 rfl ?_
                replace hF := fg_ob_some hF
                obtain ⟨r30, e_44, hF⟩ := hF
                refine fg_getr X ff_X8_ridge q1558 e_44 dX8_readsVillage_137 ?_
                refine fg_bipush X (v := (12 : Int32)) dX8_readsVillage_140 (by decide) ?_
                refine fg_dup2 X dX8_readsVillage_142 rfl (fg_cat _) ?_
                replace hF := fg_ob_some hF
                obtain ⟨a31, rfl, hF⟩ := hF
                replace hF := fg_ob_some hF
                obtain ⟨x32, e_45, hF⟩ := hF
                refine fg_iald X e_45 dX8_readsVillage_143 ?_
                refine fg_iconst X (v := (1 : Int32)) dX8_readsVillage_144 (by decide) ?_
                refine fg_iadd X dX8_readsVillage_145 ?_
                replace hF := fg_ob_some hF
                obtain ⟨G33, e_46, hF⟩ := hF
                refine fg_iast X e_46 dX8_readsVillage_146 ?_
                refine fg_aload_n X (r := (some a0)) dX8_readsVillage_147 rfl 1 rfl ?_
                replace hF := fg_gd_some hF
                obtain ⟨eg_47, hF⟩ := hF
                obtain ⟨fs_48, eo_49⟩ := fg_rc_get eg_47
                replace hF := fg_oc_some hF
                obtain ⟨x35, G34, e_50, hF⟩ := hF
                refine fg_callV X (st := []) (mX8_ends Ω.2.2.2.2.1 Ω.1 e_50) q1741 q1743 qs50 q105 q1744 hd_X8_ends (by decide) rfl eo_49 (by decide) rfl rfl (Nat.le_of_ble_eq_true rfl) dX8_readsVillage_148 ?_
                replace hF := fg_gd_some hF
                obtain ⟨eg_51, hF⟩ := hF
                cases hF
                exact fg_zret X (fg_b_or eg_51) dX8_readsVillage_151 (hT)
              · rw [if_pos hc] at hF
                refine fg_iconst X (v := (0 : Int32)) dX8_readsVillage_121 (by decide) ?_
                cases hF
                exact fg_zret X (by decide) dX8_readsVillage_122 (hT)
          · rw [if_pos hc] at hF
            refine fg_iconst X (v := (0 : Int32)) dX8_readsVillage_85 (by decide) ?_
            cases hF
            exact fg_zret X (by decide) dX8_readsVillage_86 (hT)
      · rw [if_neg hc] at hF
        refine fg_aload_n X (r := (some a0)) dX8_readsVillage_44 rfl 1 rfl ?_
        refine fg_iconst X (v := (3 : Int32)) dX8_readsVillage_45 (by decide) ?_
        replace hF := fg_gd_some hF
        obtain ⟨eg_52, hF⟩ := hF
        obtain ⟨fs_53, eo_54⟩ := fg_rc_get eg_52
        replace hF := fg_oc_some hF
        obtain ⟨x37, G36, e_55, hF⟩ := hF
        refine fg_callV X (st := []) (mX8_fails Ω.2.2.2.2.1 Ω.1 e_55) q1730 q1732 qs48 q105 q1733 hd_X8_fails (by decide) rfl eo_54 (by decide) rfl rfl (Nat.le_of_ble_eq_true rfl) dX8_readsVillage_46 ?_
        replace hF := fg_gd_some hF
        obtain ⟨eg_56, hF⟩ := hF
        cases hF
        exact fg_zret X (fg_b_or eg_56) dX8_readsVillage_49 (hT)
    · rw [if_neg hc] at hF
      refine fg_aload_n X (r := (some a0)) dX8_readsVillage_31 rfl 1 rfl ?_
      refine fg_iconst X (v := (1 : Int32)) dX8_readsVillage_32 (by decide) ?_
      replace hF := fg_gd_some hF
      obtain ⟨eg_57, hF⟩ := hF
      obtain ⟨fs_58, eo_59⟩ := fg_rc_get eg_57
      replace hF := fg_oc_some hF
      obtain ⟨x39, G38, e_60, hF⟩ := hF
      refine fg_callV X (st := []) (mX8_fails Ω.2.2.2.2.1 Ω.1 e_60) q1730 q1732 qs48 q105 q1733 hd_X8_fails (by decide) rfl eo_59 (by decide) rfl rfl (Nat.le_of_ble_eq_true rfl) dX8_readsVillage_33 ?_
      replace hF := fg_gd_some hF
      obtain ⟨eg_61, hF⟩ := hF
      cases hF
      exact fg_zret X (fg_b_or eg_61) dX8_readsVillage_36 (hT)
  · rw [if_pos hc] at hF
    refine fg_aload_n X (r := (some a0)) dX8_readsVillage_14 rfl 1 rfl ?_
    refine fg_iconst X (v := (5 : Int32)) dX8_readsVillage_15 (by decide) ?_
    replace hF := fg_gd_some hF
    obtain ⟨eg_62, hF⟩ := hF
    obtain ⟨fs_63, eo_64⟩ := fg_rc_get eg_62
    replace hF := fg_oc_some hF
    obtain ⟨x41, G40, e_65, hF⟩ := hF
    refine fg_callV X (st := []) (mX8_fails Ω.2.2.2.2.1 Ω.1 e_65) q1730 q1732 qs48 q105 q1733 hd_X8_fails (by decide) rfl eo_64 (by decide) rfl rfl (Nat.le_of_ble_eq_true rfl) dX8_readsVillage_16 ?_
    replace hF := fg_gd_some hF
    obtain ⟨eg_66, hF⟩ := hF
    cases hF
    exact fg_zret X (fg_b_or eg_66) dX8_readsVillage_19 (hT)
theorem mX8_readsVillage (l : Launch) (D : fg_D) {a0 : Nat} {G : fg_H} {t : Int32 × fg_H} (hF : fX8_readsVillage a0 G = some t) : fg_M l D yX8_readsVillage cX8_readsVillage 2 (some .boolean) 3 [.ref a0] G (.returned (some (.int t.1))) t.2 :=
  fg_Mof (own := RX8) (nm := "readsVillage") (L := [(0, .ref a0)]) (plainFor_of_name pn_X8) rfl rfl rfl (Nat.le_of_ble_eq_true rfl) (fun Ω _ _ X hT => wX8_readsVillage X hF hT)
theorem hd_X8_readsAll : yX8_readsAll.cls ≠ "java/lang/invoke/MethodHandle" ∧ yX8_readsAll.cls ≠ "java/lang/invoke/VarHandle" ∧ (parseMethodDescriptor yX8_readsAll.desc).map (fun d => d.parameters.length) = some 0 := ⟨by decide +kernel, by decide +kernel, by decide +kernel⟩
set_option maxHeartbeats 4000000 in
theorem wX8_readsAll_201 {Ω : fg_O} {a0 : Nat} {s0 : Int32} {G : fg_H} {t : ((Nat × fg_H) ⊕ (Int32 × fg_H))} (X : fg_X Ω RX8 "readsAll" cX8_readsAll 2 (some .boolean) 4) (hF : fX8_readsAll_201 a0 s0 G = some t) (h39 : ∀ z, t = (.inl z) → fg_W Ω z.2 39 [(0, .ref z.1)] []) (hT : ∀ u, t = (.inr u) → fg_T Ω (.returned (some (.int u.1))) u.2) : fg_W Ω G 201 [(0, .ref a0)] [.int s0] := by
  unfold fX8_readsAll_201 at hF
  refine fg_istore_n X (L' := [(1, .int s0), (0, .ref a0)]) dX8_readsAll_201 rfl (by decide) rfl ?_
  refine fg_iload_n X dX8_readsAll_202 rfl 0 rfl ?_
  refine fg_if_ne X (tgt := 208) dX8_readsAll_203 (by decide) (fun hc => ?_) (fun hc => ?_)
  · rw [if_neg hc] at hF
    refine fg_goto X (tgt := 39) dX8_readsAll_208 (by decide) ?_
    refine fg_sub [1] rfl ?_
    exact h39 _ (Option.some.inj hF).symm
  · rw [if_pos hc] at hF
    replace hF := fg_rt_some hF
    obtain ⟨t29, hF, ht_1⟩ := hF
    subst ht_1
    replace hT := hT _ rfl
    refine fg_iconst X (v := (0 : Int32)) dX8_readsAll_206 (by decide) ?_
    cases hF
    exact fg_zret X (by decide) dX8_readsAll_207 (hT)
set_option maxHeartbeats 4000000 in
theorem wX8_readsAll_39b {Ω : fg_O} {a0 : Nat} {G : fg_H} {t : ((Nat × fg_H) ⊕ (Int32 × fg_H))} (X : fg_X Ω RX8 "readsAll" cX8_readsAll 2 (some .boolean) 4) (hF : fX8_readsAll_39b a0 G = some t) (h39 : ∀ z, t = (.inl z) → fg_W Ω z.2 39 [(0, .ref z.1)] []) (hT : ∀ u, t = (.inr u) → fg_T Ω (.returned (some (.int u.1))) u.2) : fg_W Ω G 39 [(0, .ref a0)] [] := by
  unfold fX8_readsAll_39b at hF
  refine fg_aload_n X (r := (some a0)) dX8_readsAll_39 rfl 0 rfl ?_
  replace hF := fg_ob_some hF
  obtain ⟨x9, e_1, hF⟩ := hF
  refine fg_geti X ff_X8_token q1554 e_1 dX8_readsAll_40 ?_
  refine fg_if_eq X (tgt := 211) dX8_readsAll_43 (by decide) (fun hc => ?_) (fun hc => ?_)
  · rw [if_pos hc] at hF
    replace hF := fg_rt_some hF
    obtain ⟨t10, hF, ht_2⟩ := hF
    subst ht_2
    replace hT := hT _ rfl
    refine fg_iconst X (v := (1 : Int32)) dX8_readsAll_211 (by decide) ?_
    cases hF
    exact fg_zret X (by decide) dX8_readsAll_212 (hT)
  · rw [if_neg hc] at hF
    refine fg_aload_n X (r := (some a0)) dX8_readsAll_46 rfl 0 rfl ?_
    refine fg_ldc2 X q1717 dX8_readsAll_47 ?_
    replace hF := fg_gd_some hF
    obtain ⟨eg_3, hF⟩ := hF
    obtain ⟨fs_4, eo_5⟩ := fg_rc_get eg_3
    replace hF := fg_oc_some hF
    obtain ⟨x12, G11, e_6, hF⟩ := hF
    refine fg_callV X (st := []) (mX8_isWord Ω.2.2.2.2.1 Ω.1 e_6) q1718 q1720 qs45 q105 q1721 hd_X8_isWord (by decide) rfl eo_5 (by decide) rfl rfl (Nat.le_of_ble_eq_true rfl) dX8_readsAll_50 ?_
    refine fg_if_eq X (tgt := 63) dX8_readsAll_53 (by decide) (fun hc => ?_) (fun hc => ?_)
    · rw [if_pos hc] at hF
      refine fg_aload_n X (r := (some a0)) dX8_readsAll_63 rfl 0 rfl ?_
      refine fg_ldc2 X q1749 dX8_readsAll_64 ?_
      replace hF := fg_gd_some hF
      obtain ⟨eg_7, hF⟩ := hF
      obtain ⟨fs_8, eo_9⟩ := fg_rc_get eg_7
      replace hF := fg_oc_some hF
      obtain ⟨x14, G13, e_10, hF⟩ := hF
      refine fg_callV X (st := []) (mX8_isWord Ω.2.2.2.2.1 Ω.1 e_10) q1718 q1720 qs45 q105 q1721 hd_X8_isWord (by decide) rfl eo_9 (by decide) rfl rfl (Nat.le_of_ble_eq_true rfl) dX8_readsAll_67 ?_
      refine fg_if_eq X (tgt := 84) dX8_readsAll_70 (by decide) (fun hc => ?_) (fun hc => ?_)
      · rw [if_pos hc] at hF
        refine fg_aload_n X (r := (some a0)) dX8_readsAll_84 rfl 0 rfl ?_
        refine fg_ldc2 X q1754 dX8_readsAll_85 ?_
        replace hF := fg_gd_some hF
        obtain ⟨eg_11, hF⟩ := hF
        obtain ⟨fs_12, eo_13⟩ := fg_rc_get eg_11
        replace hF := fg_oc_some hF
        obtain ⟨x16, G15, e_14, hF⟩ := hF
        refine fg_callV X (st := []) (mX8_isWord Ω.2.2.2.2.1 Ω.1 e_14) q1718 q1720 qs45 q105 q1721 hd_X8_isWord (by decide) rfl eo_13 (by decide) rfl rfl (Nat.le_of_ble_eq_true rfl) dX8_readsAll_88 ?_
        refine fg_if_eq X (tgt := 105) dX8_readsAll_91 (by decide) (fun hc => ?_) (fun hc => ?_)
        · rw [if_pos hc] at hF
          refine fg_aload_n X (r := (some a0)) dX8_readsAll_105 rfl 0 rfl ?_
          refine fg_ldc2 X q1755 dX8_readsAll_106 ?_
          replace hF := fg_gd_some hF
          obtain ⟨eg_15, hF⟩ := hF
          obtain ⟨fs_16, eo_17⟩ := fg_rc_get eg_15
          replace hF := fg_oc_some hF
          obtain ⟨x18, G17, e_18, hF⟩ := hF
          refine fg_callV X (st := []) (mX8_isWord Ω.2.2.2.2.1 Ω.1 e_18) q1718 q1720 qs45 q105 q1721 hd_X8_isWord (by decide) rfl eo_17 (by decide) rfl rfl (Nat.le_of_ble_eq_true rfl) dX8_readsAll_109 ?_
          refine fg_if_eq X (tgt := 126) dX8_readsAll_112 (by decide) (fun hc => ?_) (fun hc => ?_)
          · rw [if_pos hc] at hF
            refine fg_aload_n X (r := (some a0)) dX8_readsAll_126 rfl 0 rfl ?_
            refine fg_ldc2 X q1756 dX8_readsAll_127 ?_
            replace hF := fg_gd_some hF
            obtain ⟨eg_19, hF⟩ := hF
            obtain ⟨fs_20, eo_21⟩ := fg_rc_get eg_19
            replace hF := fg_oc_some hF
            obtain ⟨x20, G19, e_22, hF⟩ := hF
            refine fg_callV X (st := []) (mX8_isWord Ω.2.2.2.2.1 Ω.1 e_22) q1718 q1720 qs45 q105 q1721 hd_X8_isWord (by decide) rfl eo_21 (by decide) rfl rfl (Nat.le_of_ble_eq_true rfl) dX8_readsAll_130 ?_
            refine fg_if_eq X (tgt := 144) dX8_readsAll_133 (by decide) (fun hc => ?_) (fun hc => ?_)
            · rw [if_pos hc] at hF
              refine fg_aload_n X (r := (some a0)) dX8_readsAll_144 rfl 0 rfl ?_
              refine fg_ldc2 X q1780 dX8_readsAll_145 ?_
              replace hF := fg_gd_some hF
              obtain ⟨eg_23, hF⟩ := hF
              obtain ⟨fs_24, eo_25⟩ := fg_rc_get eg_23
              replace hF := fg_oc_some hF
              obtain ⟨x22, G21, e_26, hF⟩ := hF
              refine fg_callV X (st := []) (mX8_isWord Ω.2.2.2.2.1 Ω.1 e_26) q1718 q1720 qs45 q105 q1721 hd_X8_isWord (by decide) rfl eo_25 (by decide) rfl rfl (Nat.le_of_ble_eq_true rfl) dX8_readsAll_148 ?_
              refine fg_if_eq X (tgt := 162) dX8_readsAll_151 (by decide) (fun hc => ?_) (fun hc => ?_)
              · rw [if_pos hc] at hF
                refine fg_aload_n X (r := (some a0)) dX8_readsAll_162 rfl 0 rfl ?_
                refine fg_ldc2 X q1781 dX8_readsAll_163 ?_
                replace hF := fg_gd_some hF
                obtain ⟨eg_27, hF⟩ := hF
                obtain ⟨fs_28, eo_29⟩ := fg_rc_get eg_27
                replace hF := fg_oc_some hF
                obtain ⟨x24, G23, e_30, hF⟩ := hF
                refine fg_callV X (st := []) (mX8_isWord Ω.2.2.2.2.1 Ω.1 e_30) q1718 q1720 qs45 q105 q1721 hd_X8_isWord (by decide) rfl eo_29 (by decide) rfl rfl (Nat.le_of_ble_eq_true rfl) dX8_readsAll_166 ?_
                refine fg_if_eq X (tgt := 179) dX8_readsAll_169 (by decide) (fun hc => ?_) (fun hc => ?_)
                · rw [if_pos hc] at hF
                  refine fg_aload_n X (r := (some a0)) dX8_readsAll_179 rfl 0 rfl ?_
                  refine fg_ldc2 X q1792 dX8_readsAll_180 ?_
                  replace hF := fg_gd_some hF
                  obtain ⟨eg_31, hF⟩ := hF
                  obtain ⟨fs_32, eo_33⟩ := fg_rc_get eg_31
                  replace hF := fg_oc_some hF
                  obtain ⟨x26, G25, e_34, hF⟩ := hF
                  refine fg_callV X (st := []) (mX8_isWord Ω.2.2.2.2.1 Ω.1 e_34) q1718 q1720 qs45 q105 q1721 hd_X8_isWord (by decide) rfl eo_33 (by decide) rfl rfl (Nat.le_of_ble_eq_true rfl) dX8_readsAll_183 ?_
                  refine fg_if_eq X (tgt := 196) dX8_readsAll_186 (by decide) (fun hc => ?_) (fun hc => ?_)
                  · rw [if_pos hc] at hF
                    refine fg_aload_n X (r := (some a0)) dX8_readsAll_196 rfl 0 rfl ?_
                    refine fg_iconst X (v := (1 : Int32)) dX8_readsAll_197 (by decide) ?_
                    replace hF := fg_gd_some hF
                    obtain ⟨eg_35, hF⟩ := hF
                    obtain ⟨fs_36, eo_37⟩ := fg_rc_get eg_35
                    replace hF := fg_oc_some hF
                    obtain ⟨x28, G27, e_38, hF⟩ := hF
                    refine fg_callV X (st := []) (mX8_fails Ω.2.2.2.2.1 Ω.1 e_38) q1730 q1732 qs48 q105 q1733 hd_X8_fails (by decide) rfl eo_37 (by decide) rfl rfl (Nat.le_of_ble_eq_true rfl) dX8_readsAll_198 ?_
                    refine fg_sub [0] rfl ?_
                    exact wX8_readsAll_201 X hF h39 hT
                  · rw [if_neg hc] at hF
                    refine fg_aload_n X (r := (some a0)) dX8_readsAll_189 rfl 0 rfl ?_
                    replace hF := fg_gd_some hF
                    obtain ⟨eg_39, hF⟩ := hF
                    obtain ⟨fs_40, eo_41⟩ := fg_rc_get eg_39
                    replace hF := fg_oc_some hF
                    obtain ⟨x31, G30, e_42, hF⟩ := hF
                    refine fg_callV X (st := []) (mX8_readsNet Ω.2.2.2.2.1 Ω.1 e_42) q1809 q1811 qs61 q105 q1812 hd_X8_readsNet (by decide) rfl eo_41 (by decide) rfl rfl (Nat.le_of_ble_eq_true rfl) dX8_readsAll_190 ?_
                    refine fg_goto X (tgt := 201) dX8_readsAll_193 (by decide) ?_
                    refine fg_sub [0] rfl ?_
                    exact wX8_readsAll_201 X hF h39 hT
                · rw [if_neg hc] at hF
                  refine fg_aload_n X (r := (some a0)) dX8_readsAll_172 rfl 0 rfl ?_
                  replace hF := fg_gd_some hF
                  obtain ⟨eg_43, hF⟩ := hF
                  obtain ⟨fs_44, eo_45⟩ := fg_rc_get eg_43
                  replace hF := fg_oc_some hF
                  obtain ⟨x33, G32, e_46, hF⟩ := hF
                  refine fg_callV X (st := []) (mX8_readsVillage Ω.2.2.2.2.1 Ω.1 e_46) q1782 q1784 qs57 q105 q1785 hd_X8_readsVillage (by decide) rfl eo_45 (by decide) rfl rfl (Nat.le_of_ble_eq_true rfl) dX8_readsAll_173 ?_
                  refine fg_goto X (tgt := 201) dX8_readsAll_176 (by decide) ?_
                  refine fg_sub [0] rfl ?_
                  exact wX8_readsAll_201 X hF h39 hT
              · rw [if_neg hc] at hF
                refine fg_aload_n X (r := (some a0)) dX8_readsAll_154 rfl 0 rfl ?_
                refine fg_iconst X (v := (1 : Int32)) dX8_readsAll_155 (by decide) ?_
                replace hF := fg_gd_some hF
                obtain ⟨eg_47, hF⟩ := hF
                obtain ⟨fs_48, eo_49⟩ := fg_rc_get eg_47
                replace hF := fg_oc_some hF
                obtain ⟨x35, G34, e_50, hF⟩ := hF
                refine fg_callV X (st := []) (mX8_readsLaw Ω.2.2.2.2.1 Ω.1 e_50) q1757 q1759 qs53 q105 q1760 hd_X8_readsLaw (by decide) rfl eo_49 (by decide) rfl rfl (Nat.le_of_ble_eq_true rfl) dX8_readsAll_156 ?_
                refine fg_goto X (tgt := 201) dX8_readsAll_159 (by decide) ?_
                refine fg_sub [0] rfl ?_
                exact wX8_readsAll_201 X hF h39 hT
            · rw [if_neg hc] at hF
              refine fg_aload_n X (r := (some a0)) dX8_readsAll_136 rfl 0 rfl ?_
              refine fg_iconst X (v := (0 : Int32)) dX8_readsAll_137 (by decide) ?_
              replace hF := fg_gd_some hF
              obtain ⟨eg_51, hF⟩ := hF
              obtain ⟨fs_52, eo_53⟩ := fg_rc_get eg_51
              replace hF := fg_oc_some hF
              obtain ⟨x37, G36, e_54, hF⟩ := hF
              refine fg_callV X (st := []) (mX8_readsLaw Ω.2.2.2.2.1 Ω.1 e_54) q1757 q1759 qs53 q105 q1760 hd_X8_readsLaw (by decide) rfl eo_53 (by decide) rfl rfl (Nat.le_of_ble_eq_true rfl) dX8_readsAll_138 ?_
              refine fg_goto X (tgt := 201) dX8_readsAll_141 (by decide) ?_
              refine fg_sub [0] rfl ?_
              exact wX8_readsAll_201 X hF h39 hT
          · rw [if_neg hc] at hF
            refine fg_aload_n X (r := (some a0)) dX8_readsAll_115 rfl 0 rfl ?_
            refine fg_iconst X (v := (4 : Int32)) dX8_readsAll_116 (by decide) ?_
            refine fg_iconst X (v := (0 : Int32)) dX8_readsAll_117 (by decide) ?_
            refine fg_bipush X (v := (10 : Int32)) dX8_readsAll_118 (by decide) ?_
            replace hF := fg_gd_some hF
            obtain ⟨eg_55, hF⟩ := hF
            obtain ⟨fs_56, eo_57⟩ := fg_rc_get eg_55
            replace hF := fg_oc_some hF
            obtain ⟨x39, G38, e_58, hF⟩ := hF
            refine fg_callV X (st := []) (mX8_readsOne Ω.2.2.2.2.1 Ω.1 e_58) q1750 q1752 qs52 q105 q1753 hd_X8_readsOne (by decide) rfl eo_57 (by decide) rfl rfl (Nat.le_of_ble_eq_true rfl) dX8_readsAll_120 ?_
            refine fg_goto X (tgt := 201) dX8_readsAll_123 (by decide) ?_
            refine fg_sub [0] rfl ?_
            exact wX8_readsAll_201 X hF h39 hT
        · rw [if_neg hc] at hF
          refine fg_aload_n X (r := (some a0)) dX8_readsAll_94 rfl 0 rfl ?_
          refine fg_iconst X (v := (3 : Int32)) dX8_readsAll_95 (by decide) ?_
          refine fg_iconst X (v := (0 : Int32)) dX8_readsAll_96 (by decide) ?_
          refine fg_bipush X (v := (99 : Int32)) dX8_readsAll_97 (by decide) ?_
          replace hF := fg_gd_some hF
          obtain ⟨eg_59, hF⟩ := hF
          obtain ⟨fs_60, eo_61⟩ := fg_rc_get eg_59
          replace hF := fg_oc_some hF
          obtain ⟨x41, G40, e_62, hF⟩ := hF
          refine fg_callV X (st := []) (mX8_readsOne Ω.2.2.2.2.1 Ω.1 e_62) q1750 q1752 qs52 q105 q1753 hd_X8_readsOne (by decide) rfl eo_61 (by decide) rfl rfl (Nat.le_of_ble_eq_true rfl) dX8_readsAll_99 ?_
          refine fg_goto X (tgt := 201) dX8_readsAll_102 (by decide) ?_
          refine fg_sub [0] rfl ?_
          exact wX8_readsAll_201 X hF h39 hT
      · rw [if_neg hc] at hF
        refine fg_aload_n X (r := (some a0)) dX8_readsAll_73 rfl 0 rfl ?_
        refine fg_iconst X (v := (2 : Int32)) dX8_readsAll_74 (by decide) ?_
        refine fg_iconst X (v := (1 : Int32)) dX8_readsAll_75 (by decide) ?_
        refine fg_bipush X (v := (12 : Int32)) dX8_readsAll_76 (by decide) ?_
        replace hF := fg_gd_some hF
        obtain ⟨eg_63, hF⟩ := hF
        obtain ⟨fs_64, eo_65⟩ := fg_rc_get eg_63
        replace hF := fg_oc_some hF
        obtain ⟨x43, G42, e_66, hF⟩ := hF
        refine fg_callV X (st := []) (mX8_readsOne Ω.2.2.2.2.1 Ω.1 e_66) q1750 q1752 qs52 q105 q1753 hd_X8_readsOne (by decide) rfl eo_65 (by decide) rfl rfl (Nat.le_of_ble_eq_true rfl) dX8_readsAll_78 ?_
        refine fg_goto X (tgt := 201) dX8_readsAll_81 (by decide) ?_
        refine fg_sub [0] rfl ?_
        exact wX8_readsAll_201 X hF h39 hT
    · rw [if_neg hc] at hF
      refine fg_aload_n X (r := (some a0)) dX8_readsAll_56 rfl 0 rfl ?_
      replace hF := fg_gd_some hF
      obtain ⟨eg_67, hF⟩ := hF
      obtain ⟨fs_68, eo_69⟩ := fg_rc_get eg_67
      replace hF := fg_oc_some hF
      obtain ⟨x45, G44, e_70, hF⟩ := hF
      refine fg_callV X (st := []) (mX8_readsField Ω.2.2.2.2.1 Ω.1 e_70) q1722 q1724 qs46 q105 q1725 hd_X8_readsField (by decide) rfl eo_69 (by decide) rfl rfl (Nat.le_of_ble_eq_true rfl) dX8_readsAll_57 ?_
      refine fg_goto X (tgt := 201) dX8_readsAll_60 (by decide) ?_
      refine fg_sub [0] rfl ?_
      exact wX8_readsAll_201 X hF h39 hT
set_option maxHeartbeats 4000000 in
theorem wX8_readsAll_39 {Ω : fg_O} {a0 : Nat} {G : fg_H} {t : (Int32 × fg_H)} (X : fg_X Ω RX8 "readsAll" cX8_readsAll 2 (some .boolean) 4) (hF : fX8_readsAll_39 a0 G = some t) (hT : fg_T Ω (.returned (some (.int t.1))) t.2) : fg_W Ω G 39 [(0, .ref a0)] [] := by
  unfold fX8_readsAll_39 at hF
  exact fg_lp_walk (P := fun z => fg_W Ω z.2 39 [(0, .ref z.1)] []) (fun y o ho hl hr => wX8_readsAll_39b X ho (fun z e => hl z e) (fun u e => by rw [hr _ e]; exact hT)) hF
set_option maxHeartbeats 4000000 in
theorem wX8_readsAll {Ω : fg_O} {a0 : Nat} {G : fg_H} {t : Int32 × fg_H} (X : fg_X Ω RX8 "readsAll" cX8_readsAll 2 (some .boolean) 4) (hF : fX8_readsAll a0 G = some t) (hT : fg_T Ω (.returned (some (.int t.1))) t.2) : fg_W Ω G 0 [(0, .ref a0)] [] := by
  unfold fX8_readsAll at hF
  refine fg_aload_n X (r := (some a0)) dX8_readsAll_0 rfl 0 rfl ?_
  refine fg_iconst X (v := (1 : Int32)) dX8_readsAll_1 (by decide) ?_
  replace hF := fg_gd_some hF
  obtain ⟨eg_1, hF⟩ := hF
  obtain ⟨fs_2, eo_3⟩ := fg_rc_get eg_1
  replace hF := fg_oc_some hF
  obtain ⟨u, G1, e_4, hF⟩ := hF
  refine fg_callV X (st := []) (mX8_plain Ω.2.2.2.2.1 Ω.1 e_4) q1544 q1546 qs41 q105 q1547 hd_X8_plain (by decide) rfl eo_3 (by decide) rfl rfl (Nat.le_of_ble_eq_true rfl) dX8_readsAll_2 ?_
  refine fg_aload_n X (r := (some a0)) dX8_readsAll_5 rfl 0 rfl ?_
  refine fg_iconst X (v := (0 : Int32)) dX8_readsAll_6 (by decide) ?_
  replace hF := fg_ob_some hF
  obtain ⟨G2, e_5, hF⟩ := hF
  refine fg_putv X (ty := .int) (v := .int (0 : Int32)) ff_X8_isTold q1570 rfl (Or.inl rfl) rfl rfl rfl e_5 dX8_readsAll_7 ?_
  refine fg_aload_n X (r := (some a0)) dX8_readsAll_10 rfl 0 rfl ?_
  refine fg_sipush X (v := (1000 : Int32)) dX8_readsAll_11 (by decide) ?_
  replace hF := fg_ob_some hF
  obtain ⟨G3, e_6, hF⟩ := hF
  refine fg_putv X (ty := .int) (v := .int (1000 : Int32)) ff_X8_code q1569 rfl (Or.inl rfl) rfl rfl rfl e_6 dX8_readsAll_14 ?_
  refine fg_aload_n X (r := (some a0)) dX8_readsAll_17 rfl 0 rfl ?_
  refine fg_aload_n X (r := (some a0)) dX8_readsAll_18 rfl 0 rfl ?_
  replace hF := fg_ob_some hF
  obtain ⟨x4, e_7, hF⟩ := hF
  refine fg_geti X ff_X8_taped q1549 e_7 dX8_readsAll_19 ?_
  replace hF := fg_ob_some hF
  obtain ⟨G5, e_8, hF⟩ := hF
  refine fg_putv X (ty := .int) (v := .int x4) ff_X8_size q1551 rfl (Or.inl rfl) rfl rfl rfl e_8 dX8_readsAll_22 ?_
  refine fg_aload_n X (r := (some a0)) dX8_readsAll_25 rfl 0 rfl ?_
  refine fg_iconst X (v := (0 : Int32)) dX8_readsAll_26 (by decide) ?_
  replace hF := fg_ob_some hF
  obtain ⟨G6, e_9, hF⟩ := hF
  refine fg_putv X (ty := .int) (v := .int (0 : Int32)) ff_X8_taped q1549 rfl (Or.inl rfl) rfl rfl rfl e_9 dX8_readsAll_27 ?_
  refine fg_aload_n X (r := (some a0)) dX8_readsAll_30 rfl 0 rfl ?_
  refine fg_iconst X (v := (0 : Int32)) dX8_readsAll_31 (by decide) ?_
  replace hF := fg_ob_some hF
  obtain ⟨G7, e_10, hF⟩ := hF
  refine fg_putv X (ty := .int) (v := .int (0 : Int32)) ff_X8_place q1552 rfl (Or.inl rfl) rfl rfl rfl e_10 dX8_readsAll_32 ?_
  refine fg_aload_n X (r := (some a0)) dX8_readsAll_35 rfl 0 rfl ?_
  replace hF := fg_gd_some hF
  obtain ⟨eg_11, hF⟩ := hF
  obtain ⟨fs_12, eo_13⟩ := fg_rc_get eg_11
  replace hF := fg_oc_some hF
  obtain ⟨u, G8, e_14, hF⟩ := hF
  refine fg_callV X (st := []) (mX8_nextToken Ω.2.2.2.2.1 Ω.1 e_14) q1707 q1709 qs43 q105 q1710 hd_X8_nextToken (by decide) rfl eo_13 (by decide) rfl rfl (Nat.le_of_ble_eq_true rfl) dX8_readsAll_36 ?_
  refine fg_sub [0] rfl ?_
  exact wX8_readsAll_39 X hF hT
theorem mX8_readsAll (l : Launch) (D : fg_D) {a0 : Nat} {G : fg_H} {t : Int32 × fg_H} (hF : fX8_readsAll a0 G = some t) : fg_M l D yX8_readsAll cX8_readsAll 2 (some .boolean) 4 [.ref a0] G (.returned (some (.int t.1))) t.2 :=
  fg_Mof (own := RX8) (nm := "readsAll") (L := [(0, .ref a0)]) (plainFor_of_name pn_X8) rfl rfl rfl (Nat.le_of_ble_eq_true rfl) (fun Ω _ _ X hT => wX8_readsAll X hF hT)
theorem hd_X8_ridge : yX8_ridge.cls ≠ "java/lang/invoke/MethodHandle" ∧ yX8_ridge.cls ≠ "java/lang/invoke/VarHandle" ∧ (parseMethodDescriptor yX8_ridge.desc).map (fun d => d.parameters.length) = some 0 := ⟨by decide +kernel, by decide +kernel, by decide +kernel⟩
set_option maxHeartbeats 4000000 in
theorem wX8_ridge_76b {Ω : fg_O} {a0 : Nat} {i1 : Int32} {G : fg_H} {t : ((Nat × Int32 × fg_H) ⊕ (Int32 × fg_H))} (X : fg_X Ω RX8 "ridge" cX8_ridge 2 (some .int) 5) (hF : fX8_ridge_76b a0 i1 G = some t) (h76 : ∀ z, t = (.inl z) → fg_W Ω z.2.2 76 [(0, .ref z.1), (1, .int z.2.1)] []) (hT : ∀ u, t = (.inr u) → fg_T Ω (.returned (some (.int u.1))) u.2) : fg_W Ω G 76 [(0, .ref a0), (1, .int i1)] [] := by
  unfold fX8_ridge_76b at hF
  refine fg_iload_n X dX8_ridge_76 rfl 1 rfl ?_
  refine fg_aload_n X (r := (some a0)) dX8_ridge_77 rfl 0 rfl ?_
  replace hF := fg_ob_some hF
  obtain ⟨r10, e_1, hF⟩ := hF
  refine fg_getr X ff_X8_ridge q1558 e_1 dX8_ridge_78 ?_
  refine fg_bipush X (v := (6 : Int32)) dX8_ridge_81 (by decide) ?_
  replace hF := fg_ob_some hF
  obtain ⟨a11, rfl, hF⟩ := hF
  replace hF := fg_ob_some hF
  obtain ⟨x12, e_2, hF⟩ := hF
  refine fg_iald X e_2 dX8_ridge_83 ?_
  refine fg_icmp_ge X (tgt := 108) dX8_ridge_84 (by decide) (fun hc => ?_) (fun hc => ?_)
  · rw [if_pos hc] at hF
    replace hF := fg_rt_some hF
    obtain ⟨t13, hF, ht_3⟩ := hF
    subst ht_3
    replace hT := hT _ rfl
    refine fg_iconst X (v := (0 : Int32)) dX8_ridge_108 (by decide) ?_
    cases hF
    exact fg_iret X dX8_ridge_109 (hT)
  · rw [if_neg hc] at hF
    refine fg_aload_n X (r := (some a0)) dX8_ridge_87 rfl 0 rfl ?_
    replace hF := fg_ob_some hF
    obtain ⟨r14, e_4, hF⟩ := hF
    refine fg_getr X ff_X8_s q1585 e_4 dX8_ridge_88 ?_
    refine fg_bipush X (v := (12 : Int32)) dX8_ridge_91 (by decide) ?_
    refine fg_iload_n X dX8_ridge_93 rfl 1 rfl ?_
    refine fg_iadd X dX8_ridge_94 ?_
    refine fg_aload_n X (r := (some a0)) dX8_ridge_95 rfl 0 rfl ?_
    replace hF := fg_ob_some hF
    obtain ⟨r15, e_5, hF⟩ := hF
    refine fg_getr X ff_X8_placeAt q1563 e_5 dX8_ridge_96 ?_
    refine fg_iload_n X dX8_ridge_99 rfl 1 rfl ?_
    replace hF := fg_ob_some hF
    obtain ⟨a16, rfl, hF⟩ := hF
    replace hF := fg_ob_some hF
    obtain ⟨x17, e_6, hF⟩ := hF
    refine fg_iald X e_6 dX8_ridge_100 ?_
    replace hF := fg_ob_some hF
    obtain ⟨a18, rfl, hF⟩ := hF
    replace hF := fg_ob_some hF
    obtain ⟨G19, e_7, hF⟩ := hF
    refine fg_iast X e_7 dX8_ridge_101 ?_
    refine fg_iinc X (v := (i1 + (1 : Int32))) (L' := [(1, .int (i1 + (1 : Int32))), (0, .ref a0)]) dX8_ridge_102 1 rfl rfl (by decide) rfl ?_
    refine fg_goto X (tgt := 76) dX8_ridge_105 (by decide) ?_
    refine fg_sub [1, 0] rfl ?_
    exact h76 _ (Option.some.inj hF).symm
set_option maxHeartbeats 4000000 in
theorem wX8_ridge_76 {Ω : fg_O} {a0 : Nat} {i1 : Int32} {G : fg_H} {t : (Int32 × fg_H)} (X : fg_X Ω RX8 "ridge" cX8_ridge 2 (some .int) 5) (hF : fX8_ridge_76 a0 i1 G = some t) (hT : fg_T Ω (.returned (some (.int t.1))) t.2) : fg_W Ω G 76 [(0, .ref a0), (1, .int i1)] [] := by
  unfold fX8_ridge_76 at hF
  exact fg_lp_walk (P := fun z => fg_W Ω z.2.2 76 [(0, .ref z.1), (1, .int z.2.1)] []) (fun y o ho hl hr => wX8_ridge_76b X ho (fun z e => hl z e) (fun u e => by rw [hr _ e]; exact hT)) hF
set_option maxHeartbeats 4000000 in
theorem wX8_ridge_46b {Ω : fg_O} {a0 : Nat} {i1 : Int32} {G : fg_H} {t : ((Nat × Int32 × fg_H) ⊕ (Int32 × fg_H))} (X : fg_X Ω RX8 "ridge" cX8_ridge 2 (some .int) 5) (hF : fX8_ridge_46b a0 i1 G = some t) (h46 : ∀ z, t = (.inl z) → fg_W Ω z.2.2 46 [(0, .ref z.1), (1, .int z.2.1)] []) (hT : ∀ u, t = (.inr u) → fg_T Ω (.returned (some (.int u.1))) u.2) : fg_W Ω G 46 [(0, .ref a0), (1, .int i1)] [] := by
  unfold fX8_ridge_46b at hF
  refine fg_iload_n X dX8_ridge_46 rfl 1 rfl ?_
  refine fg_aload_n X (r := (some a0)) dX8_ridge_47 rfl 0 rfl ?_
  replace hF := fg_ob_some hF
  obtain ⟨r6, e_1, hF⟩ := hF
  refine fg_getr X ff_X8_ridge q1558 e_1 dX8_ridge_48 ?_
  refine fg_iconst X (v := (5 : Int32)) dX8_ridge_51 (by decide) ?_
  replace hF := fg_ob_some hF
  obtain ⟨a7, rfl, hF⟩ := hF
  replace hF := fg_ob_some hF
  obtain ⟨x8, e_2, hF⟩ := hF
  refine fg_iald X e_2 dX8_ridge_52 ?_
  refine fg_icmp_ge X (tgt := 74) dX8_ridge_53 (by decide) (fun hc => ?_) (fun hc => ?_)
  · rw [if_pos hc] at hF
    replace hF := fg_rt_some hF
    obtain ⟨t9, hF, ht_3⟩ := hF
    subst ht_3
    replace hT := hT _ rfl
    refine fg_iconst X (v := (0 : Int32)) dX8_ridge_74 (by decide) ?_
    refine fg_istore_n X (L' := [(1, .int (0 : Int32)), (0, .ref a0)]) dX8_ridge_75 rfl (by decide) rfl ?_
    refine fg_sub [1, 0] rfl ?_
    exact wX8_ridge_76 X hF hT
  · rw [if_neg hc] at hF
    refine fg_aload_n X (r := (some a0)) dX8_ridge_56 rfl 0 rfl ?_
    replace hF := fg_ob_some hF
    obtain ⟨r20, e_4, hF⟩ := hF
    refine fg_getr X ff_X8_s q1585 e_4 dX8_ridge_57 ?_
    refine fg_iload_n X dX8_ridge_60 rfl 1 rfl ?_
    refine fg_aload_n X (r := (some a0)) dX8_ridge_61 rfl 0 rfl ?_
    replace hF := fg_ob_some hF
    obtain ⟨r21, e_5, hF⟩ := hF
    refine fg_getr X ff_X8_tankAt q1560 e_5 dX8_ridge_62 ?_
    refine fg_iload_n X dX8_ridge_65 rfl 1 rfl ?_
    replace hF := fg_ob_some hF
    obtain ⟨a22, rfl, hF⟩ := hF
    replace hF := fg_ob_some hF
    obtain ⟨x23, e_6, hF⟩ := hF
    refine fg_iald X e_6 dX8_ridge_66 ?_
    replace hF := fg_ob_some hF
    obtain ⟨a24, rfl, hF⟩ := hF
    replace hF := fg_ob_some hF
    obtain ⟨G25, e_7, hF⟩ := hF
    refine fg_iast X e_7 dX8_ridge_67 ?_
    refine fg_iinc X (v := (i1 + (1 : Int32))) (L' := [(1, .int (i1 + (1 : Int32))), (0, .ref a0)]) dX8_ridge_68 1 rfl rfl (by decide) rfl ?_
    refine fg_goto X (tgt := 46) dX8_ridge_71 (by decide) ?_
    refine fg_sub [1, 0] rfl ?_
    exact h46 _ (Option.some.inj hF).symm
set_option maxHeartbeats 4000000 in
theorem wX8_ridge_46 {Ω : fg_O} {a0 : Nat} {i1 : Int32} {G : fg_H} {t : (Int32 × fg_H)} (X : fg_X Ω RX8 "ridge" cX8_ridge 2 (some .int) 5) (hF : fX8_ridge_46 a0 i1 G = some t) (hT : fg_T Ω (.returned (some (.int t.1))) t.2) : fg_W Ω G 46 [(0, .ref a0), (1, .int i1)] [] := by
  unfold fX8_ridge_46 at hF
  exact fg_lp_walk (P := fun z => fg_W Ω z.2.2 46 [(0, .ref z.1), (1, .int z.2.1)] []) (fun y o ho hl hr => wX8_ridge_46b X ho (fun z e => hl z e) (fun u e => by rw [hr _ e]; exact hT)) hF
set_option maxHeartbeats 4000000 in
theorem wX8_ridge_25b {Ω : fg_O} {a0 : Nat} {i1 : Int32} {G : fg_H} {t : ((Nat × Int32 × fg_H) ⊕ (Int32 × fg_H))} (X : fg_X Ω RX8 "ridge" cX8_ridge 2 (some .int) 5) (hF : fX8_ridge_25b a0 i1 G = some t) (h25 : ∀ z, t = (.inl z) → fg_W Ω z.2.2 25 [(0, .ref z.1), (1, .int z.2.1)] []) (hT : ∀ u, t = (.inr u) → fg_T Ω (.returned (some (.int u.1))) u.2) : fg_W Ω G 25 [(0, .ref a0), (1, .int i1)] [] := by
  unfold fX8_ridge_25b at hF
  refine fg_iload_n X dX8_ridge_25 rfl 1 rfl ?_
  refine fg_bipush X (v := (80 : Int32)) dX8_ridge_26 (by decide) ?_
  refine fg_icmp_ge X (tgt := 44) dX8_ridge_28 (by decide) (fun hc => ?_) (fun hc => ?_)
  · rw [if_pos hc] at hF
    replace hF := fg_rt_some hF
    obtain ⟨t5, hF, ht_1⟩ := hF
    subst ht_1
    replace hT := hT _ rfl
    refine fg_iconst X (v := (0 : Int32)) dX8_ridge_44 (by decide) ?_
    refine fg_istore_n X (L' := [(1, .int (0 : Int32)), (0, .ref a0)]) dX8_ridge_45 rfl (by decide) rfl ?_
    refine fg_sub [1, 0] rfl ?_
    exact wX8_ridge_46 X hF hT
  · rw [if_neg hc] at hF
    refine fg_aload_n X (r := (some a0)) dX8_ridge_31 rfl 0 rfl ?_
    replace hF := fg_ob_some hF
    obtain ⟨r26, e_2, hF⟩ := hF
    refine fg_getr X ff_X8_s q1585 e_2 dX8_ridge_32 ?_
    refine fg_iload_n X dX8_ridge_35 rfl 1 rfl ?_
    refine fg_iconst X (v := (0 : Int32)) dX8_ridge_36 (by decide) ?_
    replace hF := fg_ob_some hF
    obtain ⟨a27, rfl, hF⟩ := hF
    replace hF := fg_ob_some hF
    obtain ⟨G28, e_3, hF⟩ := hF
    refine fg_iast X e_3 dX8_ridge_37 ?_
    refine fg_iinc X (v := (i1 + (1 : Int32))) (L' := [(1, .int (i1 + (1 : Int32))), (0, .ref a0)]) dX8_ridge_38 1 rfl rfl (by decide) rfl ?_
    refine fg_goto X (tgt := 25) dX8_ridge_41 (by decide) ?_
    refine fg_sub [1, 0] rfl ?_
    exact h25 _ (Option.some.inj hF).symm
set_option maxHeartbeats 4000000 in
theorem wX8_ridge_25 {Ω : fg_O} {a0 : Nat} {i1 : Int32} {G : fg_H} {t : (Int32 × fg_H)} (X : fg_X Ω RX8 "ridge" cX8_ridge 2 (some .int) 5) (hF : fX8_ridge_25 a0 i1 G = some t) (hT : fg_T Ω (.returned (some (.int t.1))) t.2) : fg_W Ω G 25 [(0, .ref a0), (1, .int i1)] [] := by
  unfold fX8_ridge_25 at hF
  exact fg_lp_walk (P := fun z => fg_W Ω z.2.2 25 [(0, .ref z.1), (1, .int z.2.1)] []) (fun y o ho hl hr => wX8_ridge_25b X ho (fun z e => hl z e) (fun u e => by rw [hr _ e]; exact hT)) hF
set_option maxHeartbeats 4000000 in
theorem wX8_ridge {Ω : fg_O} {a0 : Nat} {G : fg_H} {t : Int32 × fg_H} (X : fg_X Ω RX8 "ridge" cX8_ridge 2 (some .int) 5) (hF : fX8_ridge a0 G = some t) (hT : fg_T Ω (.returned (some (.int t.1))) t.2) : fg_W Ω G 0 [(0, .ref a0)] [] := by
  unfold fX8_ridge at hF
  refine fg_aload_n X (r := (some a0)) dX8_ridge_0 rfl 0 rfl ?_
  refine fg_iconst X (v := (0 : Int32)) dX8_ridge_1 (by decide) ?_
  replace hF := fg_ob_some hF
  obtain ⟨G1, e_1, hF⟩ := hF
  refine fg_putv X (ty := .int) (v := .int (0 : Int32)) ff_X8_thrown q1548 rfl (Or.inl rfl) rfl rfl rfl e_1 dX8_ridge_2 ?_
  refine fg_aload_n X (r := (some a0)) dX8_ridge_5 rfl 0 rfl ?_
  replace hF := fg_gd_some hF
  obtain ⟨eg_2, hF⟩ := hF
  obtain ⟨fs_3, eo_4⟩ := fg_rc_get eg_2
  replace hF := fg_oc_some hF
  obtain ⟨x3, G2, e_5, hF⟩ := hF
  refine fg_callV X (st := []) (mX8_readsAll Ω.2.2.2.2.1 Ω.1 e_5) q1703 q1705 qs42 q105 q1706 hd_X8_readsAll (by decide) rfl eo_4 (by decide) rfl rfl (Nat.le_of_ble_eq_true rfl) dX8_ridge_6 ?_
  refine fg_if_ne X (tgt := 17) dX8_ridge_9 (by decide) (fun hc => ?_) (fun hc => ?_)
  · rw [if_neg hc] at hF
    refine fg_aload_n X (r := (some a0)) dX8_ridge_17 rfl 0 rfl ?_
    refine fg_iconst X (v := (1 : Int32)) dX8_ridge_18 (by decide) ?_
    refine fg_iconst X (v := (0 : Int32)) dX8_ridge_19 (by decide) ?_
    replace hF := fg_gd_some hF
    obtain ⟨eg_6, hF⟩ := hF
    obtain ⟨fs_7, eo_8⟩ := fg_rc_get eg_6
    replace hF := fg_oc_some hF
    obtain ⟨u, G4, e_9, hF⟩ := hF
    refine fg_callV X (st := []) (mX8_lays Ω.2.2.2.2.1 Ω.1 e_9) q1817 q1819 qs63 q105 q1820 hd_X8_lays (by decide) rfl eo_8 (by decide) rfl rfl (Nat.le_of_ble_eq_true rfl) dX8_ridge_20 ?_
    refine fg_iconst X (v := (0 : Int32)) dX8_ridge_23 (by decide) ?_
    refine fg_istore_n X (L' := [(1, .int (0 : Int32)), (0, .ref a0)]) dX8_ridge_24 rfl (by decide) rfl ?_
    refine fg_sub [1, 0] rfl ?_
    exact wX8_ridge_25 X hF hT
  · rw [if_pos hc] at hF
    refine fg_aload_n X (r := (some a0)) dX8_ridge_12 rfl 0 rfl ?_
    replace hF := fg_ob_some hF
    obtain ⟨x29, e_10, hF⟩ := hF
    refine fg_geti X ff_X8_wrong q1557 e_10 dX8_ridge_13 ?_
    cases hF
    exact fg_iret X dX8_ridge_16 (hT)
theorem mX8_ridge (l : Launch) (D : fg_D) {a0 : Nat} {G : fg_H} {t : Int32 × fg_H} (hF : fX8_ridge a0 G = some t) : fg_M l D yX8_ridge cX8_ridge 2 (some .int) 5 [.ref a0] G (.returned (some (.int t.1))) t.2 :=
  fg_Mof (own := RX8) (nm := "ridge") (L := [(0, .ref a0)]) (plainFor_of_name pn_X8) rfl rfl rfl (Nat.le_of_ble_eq_true rfl) (fun Ω _ _ X hT => wX8_ridge X hF hT)
theorem hd_X8_isNet : yX8_isNet.cls ≠ "java/lang/invoke/MethodHandle" ∧ yX8_isNet.cls ≠ "java/lang/invoke/VarHandle" ∧ (parseMethodDescriptor yX8_isNet.desc).map (fun d => d.parameters.length) = some 1 := ⟨by decide +kernel, by decide +kernel, by decide +kernel⟩
set_option maxHeartbeats 4000000 in
theorem wX8_isNet {Ω : fg_O} {a0 : Nat} {i1 : Int32} {G : fg_H} {t : Int32 × fg_H} (X : fg_X Ω RX8 "isNet" cX8_isNet 2 (some .boolean) 0) (hF : fX8_isNet a0 i1 G = some t) (hT : fg_T Ω (.returned (some (.int t.1))) t.2) : fg_W Ω G 0 [(0, .ref a0), (1, .int i1)] [] := by
  unfold fX8_isNet at hF
  refine fg_iload_n X dX8_isNet_0 rfl 1 rfl ?_
  refine fg_if_lt X (tgt := 19) dX8_isNet_1 (by decide) (fun hc => ?_) (fun hc => ?_)
  · rw [if_pos hc] at hF
    refine fg_iconst X (v := (0 : Int32)) dX8_isNet_19 (by decide) ?_
    cases hF
    exact fg_zret X (by decide) dX8_isNet_20 (hT)
  · rw [if_neg hc] at hF
    refine fg_iload_n X dX8_isNet_4 rfl 1 rfl ?_
    refine fg_aload_n X (r := (some a0)) dX8_isNet_5 rfl 0 rfl ?_
    replace hF := fg_ob_some hF
    obtain ⟨r1, e_1, hF⟩ := hF
    refine fg_getr X ff_X8_ridge q1558 e_1 dX8_isNet_6 ?_
    refine fg_bipush X (v := (6 : Int32)) dX8_isNet_9 (by decide) ?_
    replace hF := fg_ob_some hF
    obtain ⟨a2, rfl, hF⟩ := hF
    replace hF := fg_ob_some hF
    obtain ⟨x3, e_2, hF⟩ := hF
    refine fg_iald X e_2 dX8_isNet_11 ?_
    refine fg_icmp_ge X (tgt := 19) dX8_isNet_12 (by decide) (fun hc => ?_) (fun hc => ?_)
    · rw [if_pos hc] at hF
      refine fg_iconst X (v := (0 : Int32)) dX8_isNet_19 (by decide) ?_
      cases hF
      exact fg_zret X (by decide) dX8_isNet_20 (hT)
    · rw [if_neg hc] at hF
      refine fg_iconst X (v := (1 : Int32)) dX8_isNet_15 (by decide) ?_
      refine fg_goto X (tgt := 20) dX8_isNet_16 (by decide) ?_
      cases hF
      exact fg_zret X (by decide) dX8_isNet_20 (hT)
theorem mX8_isNet (l : Launch) (D : fg_D) {a0 : Nat} {i1 : Int32} {G : fg_H} {t : Int32 × fg_H} (hF : fX8_isNet a0 i1 G = some t) : fg_M l D yX8_isNet cX8_isNet 2 (some .boolean) 0 [.ref a0, .int i1] G (.returned (some (.int t.1))) t.2 :=
  fg_Mof (own := RX8) (nm := "isNet") (L := [(0, .ref a0), (1, .int i1)]) (plainFor_of_name pn_X8) rfl rfl rfl (Nat.le_of_ble_eq_true rfl) (fun Ω _ _ X hT => wX8_isNet X hF hT)

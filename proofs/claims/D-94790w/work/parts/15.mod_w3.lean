set_option maxRecDepth 100000
theorem hd_X8_net : yX8_net.cls ≠ "java/lang/invoke/MethodHandle" ∧ yX8_net.cls ≠ "java/lang/invoke/VarHandle" ∧ (parseMethodDescriptor yX8_net.desc).map (fun d => d.parameters.length) = some 2 := ⟨by decide +kernel, by decide +kernel, by decide +kernel⟩
set_option maxHeartbeats 4000000 in
theorem wX8_net {Ω : fg_O} {a0 : Nat} {i1 : Int32} {i2 : Int32} {G : fg_H} {t : Int32 × fg_H} (X : fg_X Ω RX8 "net" cX8_net 3 (some .int) 1) (hF : fX8_net a0 i1 i2 G = some t) (hT : fg_T Ω (.returned (some (.int t.1))) t.2) : fg_W Ω G 0 [(0, .ref a0), (1, .int i1), (2, .int i2)] [] := by
  unfold fX8_net at hF
  refine fg_aload_n X (r := (some a0)) dX8_net_0 rfl 0 rfl ?_
  refine fg_iconst X (v := (0 : Int32)) dX8_net_1 (by decide) ?_
  replace hF := fg_ob_some hF
  obtain ⟨G1, e_1, hF⟩ := hF
  refine fg_putv X (ty := .int) (v := .int (0 : Int32)) ff_X8_thrown q1548 rfl (Or.inl rfl) rfl rfl rfl e_1 dX8_net_2 ?_
  refine fg_aload_n X (r := (some a0)) dX8_net_5 rfl 0 rfl ?_
  refine fg_iload_n X dX8_net_6 rfl 1 rfl ?_
  replace hF := fg_gd_some hF
  obtain ⟨eg_2, hF⟩ := hF
  obtain ⟨fs_3, eo_4⟩ := fg_rc_get eg_2
  replace hF := fg_oc_some hF
  obtain ⟨x3, G2, e_5, hF⟩ := hF
  refine fg_callV X (st := []) (mX8_isNet Ω.2.2.2.2.1 Ω.1 e_5) q1828 q1830 qs64 q105 q1831 hd_X8_isNet (by decide) rfl eo_4 (by decide) rfl rfl (Nat.le_of_ble_eq_true rfl) dX8_net_7 ?_
  refine fg_if_eq X (tgt := 22) dX8_net_10 (by decide) (fun hc => ?_) (fun hc => ?_)
  · rw [if_pos hc] at hF
    refine fg_iconst X (v := (-1 : Int32)) dX8_net_22 (by decide) ?_
    cases hF
    exact fg_iret X dX8_net_23 (hT)
  · rw [if_neg hc] at hF
    refine fg_iload_n X dX8_net_13 rfl 2 rfl ?_
    refine fg_iconst X (v := (0 : Int32)) dX8_net_14 (by decide) ?_
    refine fg_iconst X (v := (5 : Int32)) dX8_net_15 (by decide) ?_
    replace hF := fg_oc_some hF
    obtain ⟨x5, G4, e_6, hF⟩ := hF
    refine fg_callS X (st := []) (mX8_within Ω.2.2.2.2.1 Ω.1 e_6) q1738 q1739 q105 q1740 hd_X8_within (by decide) rfl rfl (Nat.le_of_ble_eq_true rfl) dX8_net_16 ?_
    refine fg_if_ne X (tgt := 24) dX8_net_19 (by decide) (fun hc => ?_) (fun hc => ?_)
    · rw [if_neg hc] at hF
      refine fg_iload_n X dX8_net_24 rfl 2 rfl ?_
      refine fg_iconst X (v := (3 : Int32)) dX8_net_25 (by decide) ?_
      refine fg_icmp_ge X (tgt := 66) dX8_net_26 (by decide) (fun hc => ?_) (fun hc => ?_)
      · rw [if_pos hc] at hF
        refine fg_iload_n X dX8_net_66 rfl 2 rfl ?_
        refine fg_iconst X (v := (3 : Int32)) dX8_net_67 (by decide) ?_
        refine fg_icmp_ne X (tgt := 80) dX8_net_68 (by decide) (fun hc => ?_) (fun hc => ?_)
        · rw [if_neg hc] at hF
          refine fg_iload_n X dX8_net_80 rfl 2 rfl ?_
          refine fg_iconst X (v := (4 : Int32)) dX8_net_81 (by decide) ?_
          refine fg_icmp_ne X (tgt := 97) dX8_net_82 (by decide) (fun hc => ?_) (fun hc => ?_)
          · rw [if_neg hc] at hF
            refine fg_aload_n X (r := (some a0)) dX8_net_97 rfl 0 rfl ?_
            replace hF := fg_ob_some hF
            obtain ⟨r6, e_7, hF⟩ := hF
            refine fg_getr X ff_X8_s q1585 e_7 dX8_net_98 ?_
            refine fg_bipush X (v := (38 : Int32)) dX8_net_101 (by decide) ?_
            refine fg_iload_n X dX8_net_103 rfl 1 rfl ?_
            refine fg_iadd X dX8_net_104 ?_
            replace hF := fg_ob_some hF
            obtain ⟨a7, rfl, hF⟩ := hF
            replace hF := fg_ob_some hF
            obtain ⟨x8, e_8, hF⟩ := hF
            refine fg_iald X e_8 dX8_net_105 ?_
            cases hF
            exact fg_iret X dX8_net_106 (hT)
          · rw [if_pos hc] at hF
            refine fg_aload_n X (r := (some a0)) dX8_net_85 rfl 0 rfl ?_
            replace hF := fg_ob_some hF
            obtain ⟨r9, e_9, hF⟩ := hF
            refine fg_getr X ff_X8_s q1585 e_9 dX8_net_86 ?_
            refine fg_bipush X (v := (25 : Int32)) dX8_net_89 (by decide) ?_
            refine fg_iload_n X dX8_net_91 rfl 1 rfl ?_
            refine fg_iadd X dX8_net_92 ?_
            replace hF := fg_ob_some hF
            obtain ⟨a10, rfl, hF⟩ := hF
            replace hF := fg_ob_some hF
            obtain ⟨x11, e_10, hF⟩ := hF
            refine fg_iald X e_10 dX8_net_93 ?_
            refine fg_goto X (tgt := 106) dX8_net_94 (by decide) ?_
            cases hF
            exact fg_iret X dX8_net_106 (hT)
        · rw [if_pos hc] at hF
          refine fg_aload_n X (r := (some a0)) dX8_net_71 rfl 0 rfl ?_
          replace hF := fg_ob_some hF
          obtain ⟨r12, e_11, hF⟩ := hF
          refine fg_getr X ff_X8_kind q1565 e_11 dX8_net_72 ?_
          refine fg_iload_n X dX8_net_75 rfl 1 rfl ?_
          replace hF := fg_ob_some hF
          obtain ⟨a13, rfl, hF⟩ := hF
          replace hF := fg_ob_some hF
          obtain ⟨x14, e_12, hF⟩ := hF
          refine fg_iald X e_12 dX8_net_76 ?_
          refine fg_goto X (tgt := 106) dX8_net_77 (by decide) ?_
          cases hF
          exact fg_iret X dX8_net_106 (hT)
      · rw [if_neg hc] at hF
        refine fg_iload_n X dX8_net_29 rfl 2 rfl ?_
        refine fg_if_ne X (tgt := 42) dX8_net_30 (by decide) (fun hc => ?_) (fun hc => ?_)
        · rw [if_neg hc] at hF
          refine fg_iload_n X dX8_net_42 rfl 2 rfl ?_
          refine fg_iconst X (v := (1 : Int32)) dX8_net_43 (by decide) ?_
          refine fg_icmp_ne X (tgt := 59) dX8_net_44 (by decide) (fun hc => ?_) (fun hc => ?_)
          · rw [if_neg hc] at hF
            refine fg_aload_n X (r := (some a0)) dX8_net_59 rfl 0 rfl ?_
            replace hF := fg_ob_some hF
            obtain ⟨r15, e_13, hF⟩ := hF
            refine fg_getr X ff_X8_mesh q1564 e_13 dX8_net_60 ?_
            refine fg_iload_n X dX8_net_63 rfl 1 rfl ?_
            replace hF := fg_ob_some hF
            obtain ⟨a16, rfl, hF⟩ := hF
            replace hF := fg_ob_some hF
            obtain ⟨x17, e_14, hF⟩ := hF
            refine fg_iald X e_14 dX8_net_64 ?_
            cases hF
            exact fg_iret X dX8_net_65 (hT)
          · rw [if_pos hc] at hF
            refine fg_aload_n X (r := (some a0)) dX8_net_47 rfl 0 rfl ?_
            replace hF := fg_ob_some hF
            obtain ⟨r18, e_15, hF⟩ := hF
            refine fg_getr X ff_X8_s q1585 e_15 dX8_net_48 ?_
            refine fg_bipush X (v := (12 : Int32)) dX8_net_51 (by decide) ?_
            refine fg_iload_n X dX8_net_53 rfl 1 rfl ?_
            refine fg_iadd X dX8_net_54 ?_
            replace hF := fg_ob_some hF
            obtain ⟨a19, rfl, hF⟩ := hF
            replace hF := fg_ob_some hF
            obtain ⟨x20, e_16, hF⟩ := hF
            refine fg_iald X e_16 dX8_net_55 ?_
            refine fg_goto X (tgt := 65) dX8_net_56 (by decide) ?_
            cases hF
            exact fg_iret X dX8_net_65 (hT)
        · rw [if_pos hc] at hF
          refine fg_aload_n X (r := (some a0)) dX8_net_33 rfl 0 rfl ?_
          replace hF := fg_ob_some hF
          obtain ⟨r21, e_17, hF⟩ := hF
          refine fg_getr X ff_X8_villageOf q1562 e_17 dX8_net_34 ?_
          refine fg_iload_n X dX8_net_37 rfl 1 rfl ?_
          replace hF := fg_ob_some hF
          obtain ⟨a22, rfl, hF⟩ := hF
          replace hF := fg_ob_some hF
          obtain ⟨x23, e_18, hF⟩ := hF
          refine fg_iald X e_18 dX8_net_38 ?_
          refine fg_goto X (tgt := 65) dX8_net_39 (by decide) ?_
          cases hF
          exact fg_iret X dX8_net_65 (hT)
    · rw [if_pos hc] at hF
      refine fg_iconst X (v := (-1 : Int32)) dX8_net_22 (by decide) ?_
      cases hF
      exact fg_iret X dX8_net_23 (hT)
theorem mX8_net (l : Launch) (D : fg_D) {a0 : Nat} {i1 : Int32} {i2 : Int32} {G : fg_H} {t : Int32 × fg_H} (hF : fX8_net a0 i1 i2 G = some t) : fg_M l D yX8_net cX8_net 3 (some .int) 1 [.ref a0, .int i1, .int i2] G (.returned (some (.int t.1))) t.2 :=
  fg_Mof (own := RX8) (nm := "net") (L := [(0, .ref a0), (1, .int i1), (2, .int i2)]) (plainFor_of_name pn_X8) rfl rfl rfl (Nat.le_of_ble_eq_true rfl) (fun Ω _ _ X hT => wX8_net X hF hT)
theorem hd_X8_isVillage : yX8_isVillage.cls ≠ "java/lang/invoke/MethodHandle" ∧ yX8_isVillage.cls ≠ "java/lang/invoke/VarHandle" ∧ (parseMethodDescriptor yX8_isVillage.desc).map (fun d => d.parameters.length) = some 1 := ⟨by decide +kernel, by decide +kernel, by decide +kernel⟩
set_option maxHeartbeats 4000000 in
theorem wX8_isVillage {Ω : fg_O} {a0 : Nat} {i1 : Int32} {G : fg_H} {t : Int32 × fg_H} (X : fg_X Ω RX8 "isVillage" cX8_isVillage 2 (some .boolean) 0) (hF : fX8_isVillage a0 i1 G = some t) (hT : fg_T Ω (.returned (some (.int t.1))) t.2) : fg_W Ω G 0 [(0, .ref a0), (1, .int i1)] [] := by
  unfold fX8_isVillage at hF
  refine fg_iload_n X dX8_isVillage_0 rfl 1 rfl ?_
  refine fg_if_lt X (tgt := 18) dX8_isVillage_1 (by decide) (fun hc => ?_) (fun hc => ?_)
  · rw [if_pos hc] at hF
    refine fg_iconst X (v := (0 : Int32)) dX8_isVillage_18 (by decide) ?_
    cases hF
    exact fg_zret X (by decide) dX8_isVillage_19 (hT)
  · rw [if_neg hc] at hF
    refine fg_iload_n X dX8_isVillage_4 rfl 1 rfl ?_
    refine fg_aload_n X (r := (some a0)) dX8_isVillage_5 rfl 0 rfl ?_
    replace hF := fg_ob_some hF
    obtain ⟨r1, e_1, hF⟩ := hF
    refine fg_getr X ff_X8_ridge q1558 e_1 dX8_isVillage_6 ?_
    refine fg_iconst X (v := (5 : Int32)) dX8_isVillage_9 (by decide) ?_
    replace hF := fg_ob_some hF
    obtain ⟨a2, rfl, hF⟩ := hF
    replace hF := fg_ob_some hF
    obtain ⟨x3, e_2, hF⟩ := hF
    refine fg_iald X e_2 dX8_isVillage_10 ?_
    refine fg_icmp_ge X (tgt := 18) dX8_isVillage_11 (by decide) (fun hc => ?_) (fun hc => ?_)
    · rw [if_pos hc] at hF
      refine fg_iconst X (v := (0 : Int32)) dX8_isVillage_18 (by decide) ?_
      cases hF
      exact fg_zret X (by decide) dX8_isVillage_19 (hT)
    · rw [if_neg hc] at hF
      refine fg_iconst X (v := (1 : Int32)) dX8_isVillage_14 (by decide) ?_
      refine fg_goto X (tgt := 19) dX8_isVillage_15 (by decide) ?_
      cases hF
      exact fg_zret X (by decide) dX8_isVillage_19 (hT)
theorem mX8_isVillage (l : Launch) (D : fg_D) {a0 : Nat} {i1 : Int32} {G : fg_H} {t : Int32 × fg_H} (hF : fX8_isVillage a0 i1 G = some t) : fg_M l D yX8_isVillage cX8_isVillage 2 (some .boolean) 0 [.ref a0, .int i1] G (.returned (some (.int t.1))) t.2 :=
  fg_Mof (own := RX8) (nm := "isVillage") (L := [(0, .ref a0), (1, .int i1)]) (plainFor_of_name pn_X8) rfl rfl rfl (Nat.le_of_ble_eq_true rfl) (fun Ω _ _ X hT => wX8_isVillage X hF hT)
theorem hd_X8_netsOf : yX8_netsOf.cls ≠ "java/lang/invoke/MethodHandle" ∧ yX8_netsOf.cls ≠ "java/lang/invoke/VarHandle" ∧ (parseMethodDescriptor yX8_netsOf.desc).map (fun d => d.parameters.length) = some 1 := ⟨by decide +kernel, by decide +kernel, by decide +kernel⟩
set_option maxHeartbeats 4000000 in
theorem wX8_netsOf_4b {Ω : fg_O} {a0 : Nat} {i1 : Int32} {i2 : Int32} {i3 : Int32} {G : fg_H} {t : ((Nat × Int32 × Int32 × Int32 × fg_H) ⊕ (Int32 × fg_H))} (X : fg_X Ω RX8 "netsOf" cX8_netsOf 4 (some .int) 0) (hF : fX8_netsOf_4b a0 i1 i2 i3 G = some t) (h4 : ∀ z, t = (.inl z) → fg_W Ω z.2.2.2.2 4 [(0, .ref z.1), (1, .int z.2.1), (2, .int z.2.2.1), (3, .int z.2.2.2.1)] []) (hT : ∀ u, t = (.inr u) → fg_T Ω (.returned (some (.int u.1))) u.2) : fg_W Ω G 4 [(0, .ref a0), (1, .int i1), (2, .int i2), (3, .int i3)] [] := by
  unfold fX8_netsOf_4b at hF
  refine fg_iload_n X dX8_netsOf_4 rfl 3 rfl ?_
  refine fg_aload_n X (r := (some a0)) dX8_netsOf_5 rfl 0 rfl ?_
  replace hF := fg_ob_some hF
  obtain ⟨r1, e_1, hF⟩ := hF
  refine fg_getr X ff_X8_ridge q1558 e_1 dX8_netsOf_6 ?_
  refine fg_bipush X (v := (6 : Int32)) dX8_netsOf_9 (by decide) ?_
  replace hF := fg_ob_some hF
  obtain ⟨a2, rfl, hF⟩ := hF
  replace hF := fg_ob_some hF
  obtain ⟨x3, e_2, hF⟩ := hF
  refine fg_iald X e_2 dX8_netsOf_11 ?_
  refine fg_icmp_ge X (tgt := 41) dX8_netsOf_12 (by decide) (fun hc => ?_) (fun hc => ?_)
  · rw [if_pos hc] at hF
    replace hF := fg_rt_some hF
    obtain ⟨t4, hF, ht_3⟩ := hF
    subst ht_3
    replace hT := hT _ rfl
    refine fg_iload_n X dX8_netsOf_41 rfl 2 rfl ?_
    cases hF
    exact fg_iret X dX8_netsOf_42 (hT)
  · rw [if_neg hc] at hF
    refine fg_iload_n X dX8_netsOf_15 rfl 2 rfl ?_
    refine fg_aload_n X (r := (some a0)) dX8_netsOf_16 rfl 0 rfl ?_
    replace hF := fg_ob_some hF
    obtain ⟨r5, e_4, hF⟩ := hF
    refine fg_getr X ff_X8_villageOf q1562 e_4 dX8_netsOf_17 ?_
    refine fg_iload_n X dX8_netsOf_20 rfl 3 rfl ?_
    replace hF := fg_ob_some hF
    obtain ⟨a6, rfl, hF⟩ := hF
    replace hF := fg_ob_some hF
    obtain ⟨x7, e_5, hF⟩ := hF
    refine fg_iald X e_5 dX8_netsOf_21 ?_
    refine fg_iload_n X dX8_netsOf_22 rfl 1 rfl ?_
    refine fg_icmp_ne X (tgt := 32) dX8_netsOf_23 (by decide) (fun hc => ?_) (fun hc => ?_)
    · rw [if_neg hc] at hF
      refine fg_iconst X (v := (0 : Int32)) dX8_netsOf_32 (by decide) ?_
      refine fg_ior X dX8_netsOf_33 ?_
      replace hF := fg_ob_some hF
      obtain ⟨v8, ex_6, hF⟩ := hF
      refine fg_topi (Option.some.inj ex_6) ?_
      refine fg_istore_n X (L' := [(2, .int v8), (0, .ref a0), (1, .int i1), (3, .int i3)]) dX8_netsOf_34 rfl (by decide) rfl ?_
      refine fg_iinc X (v := (i3 + (1 : Int32))) (L' := [(3, .int (i3 + (1 : Int32))), (2, .int v8), (0, .ref a0), (1, .int i1)]) dX8_netsOf_35 3 rfl rfl (by decide) rfl ?_
      refine fg_goto X (tgt := 4) dX8_netsOf_38 (by decide) ?_
      refine fg_sub [2, 3, 1, 0] rfl ?_
      exact h4 _ (Option.some.inj hF).symm
    · rw [if_pos hc] at hF
      refine fg_iconst X (v := (1 : Int32)) dX8_netsOf_26 (by decide) ?_
      refine fg_iload_n X dX8_netsOf_27 rfl 3 rfl ?_
      refine fg_ishl X dX8_netsOf_28 ?_
      refine fg_goto X (tgt := 33) dX8_netsOf_29 (by decide) ?_
      refine fg_ior X dX8_netsOf_33 ?_
      replace hF := fg_ob_some hF
      obtain ⟨v9, ex_7, hF⟩ := hF
      refine fg_topi (Option.some.inj ex_7) ?_
      refine fg_istore_n X (L' := [(2, .int v9), (0, .ref a0), (1, .int i1), (3, .int i3)]) dX8_netsOf_34 rfl (by decide) rfl ?_
      refine fg_iinc X (v := (i3 + (1 : Int32))) (L' := [(3, .int (i3 + (1 : Int32))), (2, .int v9), (0, .ref a0), (1, .int i1)]) dX8_netsOf_35 3 rfl rfl (by decide) rfl ?_
      refine fg_goto X (tgt := 4) dX8_netsOf_38 (by decide) ?_
      refine fg_sub [2, 3, 1, 0] rfl ?_
      exact h4 _ (Option.some.inj hF).symm
set_option maxHeartbeats 4000000 in
theorem wX8_netsOf_4 {Ω : fg_O} {a0 : Nat} {i1 : Int32} {i2 : Int32} {i3 : Int32} {G : fg_H} {t : (Int32 × fg_H)} (X : fg_X Ω RX8 "netsOf" cX8_netsOf 4 (some .int) 0) (hF : fX8_netsOf_4 a0 i1 i2 i3 G = some t) (hT : fg_T Ω (.returned (some (.int t.1))) t.2) : fg_W Ω G 4 [(0, .ref a0), (1, .int i1), (2, .int i2), (3, .int i3)] [] := by
  unfold fX8_netsOf_4 at hF
  exact fg_lp_walk (P := fun z => fg_W Ω z.2.2.2.2 4 [(0, .ref z.1), (1, .int z.2.1), (2, .int z.2.2.1), (3, .int z.2.2.2.1)] []) (fun y o ho hl hr => wX8_netsOf_4b X ho (fun z e => hl z e) (fun u e => by rw [hr _ e]; exact hT)) hF
set_option maxHeartbeats 4000000 in
theorem wX8_netsOf {Ω : fg_O} {a0 : Nat} {i1 : Int32} {G : fg_H} {t : Int32 × fg_H} (X : fg_X Ω RX8 "netsOf" cX8_netsOf 4 (some .int) 0) (hF : fX8_netsOf a0 i1 G = some t) (hT : fg_T Ω (.returned (some (.int t.1))) t.2) : fg_W Ω G 0 [(0, .ref a0), (1, .int i1)] [] := by
  unfold fX8_netsOf at hF
  refine fg_iconst X (v := (0 : Int32)) dX8_netsOf_0 (by decide) ?_
  refine fg_istore_n X (L' := [(2, .int (0 : Int32)), (0, .ref a0), (1, .int i1)]) dX8_netsOf_1 rfl (by decide) rfl ?_
  refine fg_iconst X (v := (0 : Int32)) dX8_netsOf_2 (by decide) ?_
  refine fg_istore_n X (L' := [(3, .int (0 : Int32)), (2, .int (0 : Int32)), (0, .ref a0), (1, .int i1)]) dX8_netsOf_3 rfl (by decide) rfl ?_
  refine fg_sub [2, 3, 1, 0] rfl ?_
  exact wX8_netsOf_4 X hF hT
theorem mX8_netsOf (l : Launch) (D : fg_D) {a0 : Nat} {i1 : Int32} {G : fg_H} {t : Int32 × fg_H} (hF : fX8_netsOf a0 i1 G = some t) : fg_M l D yX8_netsOf cX8_netsOf 4 (some .int) 0 [.ref a0, .int i1] G (.returned (some (.int t.1))) t.2 :=
  fg_Mof (own := RX8) (nm := "netsOf") (L := [(0, .ref a0), (1, .int i1)]) (plainFor_of_name pn_X8) rfl rfl rfl (Nat.le_of_ble_eq_true rfl) (fun Ω _ _ X hT => wX8_netsOf X hF hT)
theorem hd_X8_village : yX8_village.cls ≠ "java/lang/invoke/MethodHandle" ∧ yX8_village.cls ≠ "java/lang/invoke/VarHandle" ∧ (parseMethodDescriptor yX8_village.desc).map (fun d => d.parameters.length) = some 2 := ⟨by decide +kernel, by decide +kernel, by decide +kernel⟩
set_option maxHeartbeats 4000000 in
theorem wX8_village {Ω : fg_O} {a0 : Nat} {i1 : Int32} {i2 : Int32} {G : fg_H} {t : Int32 × fg_H} (X : fg_X Ω RX8 "village" cX8_village 3 (some .int) 1) (hF : fX8_village a0 i1 i2 G = some t) (hT : fg_T Ω (.returned (some (.int t.1))) t.2) : fg_W Ω G 0 [(0, .ref a0), (1, .int i1), (2, .int i2)] [] := by
  unfold fX8_village at hF
  refine fg_aload_n X (r := (some a0)) dX8_village_0 rfl 0 rfl ?_
  refine fg_iconst X (v := (0 : Int32)) dX8_village_1 (by decide) ?_
  replace hF := fg_ob_some hF
  obtain ⟨G1, e_1, hF⟩ := hF
  refine fg_putv X (ty := .int) (v := .int (0 : Int32)) ff_X8_thrown q1548 rfl (Or.inl rfl) rfl rfl rfl e_1 dX8_village_2 ?_
  refine fg_aload_n X (r := (some a0)) dX8_village_5 rfl 0 rfl ?_
  refine fg_iload_n X dX8_village_6 rfl 1 rfl ?_
  replace hF := fg_gd_some hF
  obtain ⟨eg_2, hF⟩ := hF
  obtain ⟨fs_3, eo_4⟩ := fg_rc_get eg_2
  replace hF := fg_oc_some hF
  obtain ⟨x3, G2, e_5, hF⟩ := hF
  refine fg_callV X (st := []) (mX8_isVillage Ω.2.2.2.2.1 Ω.1 e_5) q1836 q1838 qs65 q105 q1839 hd_X8_isVillage (by decide) rfl eo_4 (by decide) rfl rfl (Nat.le_of_ble_eq_true rfl) dX8_village_7 ?_
  refine fg_if_eq X (tgt := 22) dX8_village_10 (by decide) (fun hc => ?_) (fun hc => ?_)
  · rw [if_pos hc] at hF
    refine fg_iconst X (v := (-1 : Int32)) dX8_village_22 (by decide) ?_
    cases hF
    exact fg_iret X dX8_village_23 (hT)
  · rw [if_neg hc] at hF
    refine fg_iload_n X dX8_village_13 rfl 2 rfl ?_
    refine fg_iconst X (v := (0 : Int32)) dX8_village_14 (by decide) ?_
    refine fg_iconst X (v := (3 : Int32)) dX8_village_15 (by decide) ?_
    replace hF := fg_oc_some hF
    obtain ⟨x5, G4, e_6, hF⟩ := hF
    refine fg_callS X (st := []) (mX8_within Ω.2.2.2.2.1 Ω.1 e_6) q1738 q1739 q105 q1740 hd_X8_within (by decide) rfl rfl (Nat.le_of_ble_eq_true rfl) dX8_village_16 ?_
    refine fg_if_ne X (tgt := 24) dX8_village_19 (by decide) (fun hc => ?_) (fun hc => ?_)
    · rw [if_neg hc] at hF
      refine fg_iload_n X dX8_village_24 rfl 2 rfl ?_
      refine fg_if_ne X (tgt := 37) dX8_village_25 (by decide) (fun hc => ?_) (fun hc => ?_)
      · rw [if_neg hc] at hF
        refine fg_iload_n X dX8_village_37 rfl 2 rfl ?_
        refine fg_iconst X (v := (1 : Int32)) dX8_village_38 (by decide) ?_
        refine fg_icmp_ne X (tgt := 51) dX8_village_39 (by decide) (fun hc => ?_) (fun hc => ?_)
        · rw [if_neg hc] at hF
          refine fg_iload_n X dX8_village_51 rfl 2 rfl ?_
          refine fg_iconst X (v := (2 : Int32)) dX8_village_52 (by decide) ?_
          refine fg_icmp_ne X (tgt := 68) dX8_village_53 (by decide) (fun hc => ?_) (fun hc => ?_)
          · rw [if_neg hc] at hF
            refine fg_aload_n X (r := (some a0)) dX8_village_68 rfl 0 rfl ?_
            refine fg_iload_n X dX8_village_69 rfl 1 rfl ?_
            replace hF := fg_gd_some hF
            obtain ⟨eg_7, hF⟩ := hF
            obtain ⟨fs_8, eo_9⟩ := fg_rc_get eg_7
            replace hF := fg_oc_some hF
            obtain ⟨x7, G6, e_10, hF⟩ := hF
            refine fg_callV X (st := []) (mX8_netsOf Ω.2.2.2.2.1 Ω.1 e_10) q1840 q1842 qs66 q105 q1843 hd_X8_netsOf (by decide) rfl eo_9 (by decide) rfl rfl (Nat.le_of_ble_eq_true rfl) dX8_village_70 ?_
            cases hF
            exact fg_iret X dX8_village_73 (hT)
          · rw [if_pos hc] at hF
            refine fg_aload_n X (r := (some a0)) dX8_village_56 rfl 0 rfl ?_
            replace hF := fg_ob_some hF
            obtain ⟨r8, e_11, hF⟩ := hF
            refine fg_getr X ff_X8_s q1585 e_11 dX8_village_57 ?_
            refine fg_bipush X (v := (6 : Int32)) dX8_village_60 (by decide) ?_
            refine fg_iload_n X dX8_village_62 rfl 1 rfl ?_
            refine fg_iadd X dX8_village_63 ?_
            replace hF := fg_ob_some hF
            obtain ⟨a9, rfl, hF⟩ := hF
            replace hF := fg_ob_some hF
            obtain ⟨x10, e_12, hF⟩ := hF
            refine fg_iald X e_12 dX8_village_64 ?_
            refine fg_goto X (tgt := 73) dX8_village_65 (by decide) ?_
            cases hF
            exact fg_iret X dX8_village_73 (hT)
        · rw [if_pos hc] at hF
          refine fg_aload_n X (r := (some a0)) dX8_village_42 rfl 0 rfl ?_
          replace hF := fg_ob_some hF
          obtain ⟨r11, e_13, hF⟩ := hF
          refine fg_getr X ff_X8_s q1585 e_13 dX8_village_43 ?_
          refine fg_iload_n X dX8_village_46 rfl 1 rfl ?_
          replace hF := fg_ob_some hF
          obtain ⟨a12, rfl, hF⟩ := hF
          replace hF := fg_ob_some hF
          obtain ⟨x13, e_14, hF⟩ := hF
          refine fg_iald X e_14 dX8_village_47 ?_
          refine fg_goto X (tgt := 73) dX8_village_48 (by decide) ?_
          cases hF
          exact fg_iret X dX8_village_73 (hT)
      · rw [if_pos hc] at hF
        refine fg_aload_n X (r := (some a0)) dX8_village_28 rfl 0 rfl ?_
        replace hF := fg_ob_some hF
        obtain ⟨r14, e_15, hF⟩ := hF
        refine fg_getr X ff_X8_thirst q1559 e_15 dX8_village_29 ?_
        refine fg_iload_n X dX8_village_32 rfl 1 rfl ?_
        replace hF := fg_ob_some hF
        obtain ⟨a15, rfl, hF⟩ := hF
        replace hF := fg_ob_some hF
        obtain ⟨x16, e_16, hF⟩ := hF
        refine fg_iald X e_16 dX8_village_33 ?_
        refine fg_goto X (tgt := 73) dX8_village_34 (by decide) ?_
        cases hF
        exact fg_iret X dX8_village_73 (hT)
    · rw [if_pos hc] at hF
      refine fg_iconst X (v := (-1 : Int32)) dX8_village_22 (by decide) ?_
      cases hF
      exact fg_iret X dX8_village_23 (hT)
theorem mX8_village (l : Launch) (D : fg_D) {a0 : Nat} {i1 : Int32} {i2 : Int32} {G : fg_H} {t : Int32 × fg_H} (hF : fX8_village a0 i1 i2 G = some t) : fg_M l D yX8_village cX8_village 3 (some .int) 1 [.ref a0, .int i1, .int i2] G (.returned (some (.int t.1))) t.2 :=
  fg_Mof (own := RX8) (nm := "village") (L := [(0, .ref a0), (1, .int i1), (2, .int i2)]) (plainFor_of_name pn_X8) rfl rfl rfl (Nat.le_of_ble_eq_true rfl) (fun Ω _ _ X hT => wX8_village X hF hT)
theorem hd_X8_isHour : yX8_isHour.cls ≠ "java/lang/invoke/MethodHandle" ∧ yX8_isHour.cls ≠ "java/lang/invoke/VarHandle" ∧ (parseMethodDescriptor yX8_isHour.desc).map (fun d => d.parameters.length) = some 1 := ⟨by decide +kernel, by decide +kernel, by decide +kernel⟩
set_option maxHeartbeats 4000000 in
theorem wX8_isHour {Ω : fg_O} {a0 : Nat} {i1 : Int32} {G : fg_H} {t : Int32 × fg_H} (X : fg_X Ω RX8 "isHour" cX8_isHour 2 (some .boolean) 0) (hF : fX8_isHour a0 i1 G = some t) (hT : fg_T Ω (.returned (some (.int t.1))) t.2) : fg_W Ω G 0 [(0, .ref a0), (1, .int i1)] [] := by
  unfold fX8_isHour at hF
  refine fg_iload_n X dX8_isHour_0 rfl 1 rfl ?_
  refine fg_if_lt X (tgt := 18) dX8_isHour_1 (by decide) (fun hc => ?_) (fun hc => ?_)
  · rw [if_pos hc] at hF
    refine fg_iconst X (v := (0 : Int32)) dX8_isHour_18 (by decide) ?_
    cases hF
    exact fg_zret X (by decide) dX8_isHour_19 (hT)
  · rw [if_neg hc] at hF
    refine fg_iload_n X dX8_isHour_4 rfl 1 rfl ?_
    refine fg_aload_n X (r := (some a0)) dX8_isHour_5 rfl 0 rfl ?_
    replace hF := fg_ob_some hF
    obtain ⟨r1, e_1, hF⟩ := hF
    refine fg_getr X ff_X8_ridge q1558 e_1 dX8_isHour_6 ?_
    refine fg_iconst X (v := (2 : Int32)) dX8_isHour_9 (by decide) ?_
    replace hF := fg_ob_some hF
    obtain ⟨a2, rfl, hF⟩ := hF
    replace hF := fg_ob_some hF
    obtain ⟨x3, e_2, hF⟩ := hF
    refine fg_iald X e_2 dX8_isHour_10 ?_
    refine fg_icmp_ge X (tgt := 18) dX8_isHour_11 (by decide) (fun hc => ?_) (fun hc => ?_)
    · rw [if_pos hc] at hF
      refine fg_iconst X (v := (0 : Int32)) dX8_isHour_18 (by decide) ?_
      cases hF
      exact fg_zret X (by decide) dX8_isHour_19 (hT)
    · rw [if_neg hc] at hF
      refine fg_iconst X (v := (1 : Int32)) dX8_isHour_14 (by decide) ?_
      refine fg_goto X (tgt := 19) dX8_isHour_15 (by decide) ?_
      cases hF
      exact fg_zret X (by decide) dX8_isHour_19 (hT)
theorem mX8_isHour (l : Launch) (D : fg_D) {a0 : Nat} {i1 : Int32} {G : fg_H} {t : Int32 × fg_H} (hF : fX8_isHour a0 i1 G = some t) : fg_M l D yX8_isHour cX8_isHour 2 (some .boolean) 0 [.ref a0, .int i1] G (.returned (some (.int t.1))) t.2 :=
  fg_Mof (own := RX8) (nm := "isHour") (L := [(0, .ref a0), (1, .int i1)]) (plainFor_of_name pn_X8) rfl rfl rfl (Nat.le_of_ble_eq_true rfl) (fun Ω _ _ X hT => wX8_isHour X hF hT)
theorem hd_X8_opens : yX8_opens.cls ≠ "java/lang/invoke/MethodHandle" ∧ yX8_opens.cls ≠ "java/lang/invoke/VarHandle" ∧ (parseMethodDescriptor yX8_opens.desc).map (fun d => d.parameters.length) = some 1 := ⟨by decide +kernel, by decide +kernel, by decide +kernel⟩
set_option maxHeartbeats 4000000 in
theorem wX8_opens {Ω : fg_O} {a0 : Nat} {i1 : Int32} {G : fg_H} {t : Unit × fg_H} (X : fg_X Ω RX8 "opens" cX8_opens 2 none 0) (hF : fX8_opens a0 i1 G = some t) (hT : fg_T Ω (.returned none) t.2) : fg_W Ω G 0 [(0, .ref a0), (1, .int i1)] [] := by
  unfold fX8_opens at hF
  refine fg_aload_n X (r := (some a0)) dX8_opens_0 rfl 0 rfl ?_
  replace hF := fg_ob_some hF
  obtain ⟨r1, e_1, hF⟩ := hF
  refine fg_getr X ff_X8_keptBy q1575 e_1 dX8_opens_1 ?_
  refine fg_iload_n X dX8_opens_4 rfl 1 rfl ?_
  refine fg_iconst X (v := (0 : Int32)) dX8_opens_5 (by decide) ?_
  replace hF := fg_ob_some hF
  obtain ⟨a2, rfl, hF⟩ := hF
  replace hF := fg_ob_some hF
  obtain ⟨G3, e_2, hF⟩ := hF
  refine fg_iast X e_2 dX8_opens_6 ?_
  refine fg_aload_n X (r := (some a0)) dX8_opens_7 rfl 0 rfl ?_
  replace hF := fg_ob_some hF
  obtain ⟨r4, e_3, hF⟩ := hF
  refine fg_getr X ff_X8_against q1577 e_3 dX8_opens_8 ?_
  refine fg_iload_n X dX8_opens_11 rfl 1 rfl ?_
  refine fg_iconst X (v := (0 : Int32)) dX8_opens_12 (by decide) ?_
  replace hF := fg_ob_some hF
  obtain ⟨a5, rfl, hF⟩ := hF
  replace hF := fg_ob_some hF
  obtain ⟨G6, e_4, hF⟩ := hF
  refine fg_iast X e_4 dX8_opens_13 ?_
  refine fg_aload_n X (r := (some a0)) dX8_opens_14 rfl 0 rfl ?_
  replace hF := fg_ob_some hF
  obtain ⟨r7, e_5, hF⟩ := hF
  refine fg_getr X ff_X8_sum q1578 e_5 dX8_opens_15 ?_
  refine fg_iload_n X dX8_opens_18 rfl 1 rfl ?_
  refine fg_iconst X (v := (0 : Int32)) dX8_opens_19 (by decide) ?_
  replace hF := fg_ob_some hF
  obtain ⟨a8, rfl, hF⟩ := hF
  replace hF := fg_ob_some hF
  obtain ⟨G9, e_6, hF⟩ := hF
  refine fg_iast X e_6 dX8_opens_20 ?_
  refine fg_aload_n X (r := (some a0)) dX8_opens_21 rfl 0 rfl ?_
  replace hF := fg_ob_some hF
  obtain ⟨r10, e_7, hF⟩ := hF
  refine fg_getr X ff_X8_sumBy q1579 e_7 dX8_opens_22 ?_
  refine fg_iload_n X dX8_opens_25 rfl 1 rfl ?_
  refine fg_bipush X (v := (20 : Int32)) dX8_opens_26 (by decide) ?_
  replace hF := fg_ob_some hF
  obtain ⟨a11, rfl, hF⟩ := hF
  replace hF := fg_ob_some hF
  obtain ⟨G12, e_8, hF⟩ := hF
  refine fg_iast X e_8 dX8_opens_28 ?_
  refine fg_aload_n X (r := (some a0)) dX8_opens_29 rfl 0 rfl ?_
  replace hF := fg_ob_some hF
  obtain ⟨r13, e_9, hF⟩ := hF
  refine fg_getr X ff_X8_termBy q1581 e_9 dX8_opens_30 ?_
  refine fg_iload_n X dX8_opens_33 rfl 1 rfl ?_
  refine fg_iconst X (v := (0 : Int32)) dX8_opens_34 (by decide) ?_
  replace hF := fg_ob_some hF
  obtain ⟨a14, rfl, hF⟩ := hF
  replace hF := fg_ob_some hF
  obtain ⟨G15, e_10, hF⟩ := hF
  refine fg_iast X e_10 dX8_opens_35 ?_
  cases hF
  exact fg_vret X dX8_opens_36 (hT)
theorem mX8_opens (l : Launch) (D : fg_D) {a0 : Nat} {i1 : Int32} {G : fg_H} {t : Unit × fg_H} (hF : fX8_opens a0 i1 G = some t) : fg_M l D yX8_opens cX8_opens 2 none 0 [.ref a0, .int i1] G (.returned none) t.2 :=
  fg_Mof (own := RX8) (nm := "opens") (L := [(0, .ref a0), (1, .int i1)]) (plainFor_of_name pn_X8) rfl rfl rfl (Nat.le_of_ble_eq_true rfl) (fun Ω _ _ X hT => wX8_opens X hF hT)
theorem hd_X8_sums : yX8_sums.cls ≠ "java/lang/invoke/MethodHandle" ∧ yX8_sums.cls ≠ "java/lang/invoke/VarHandle" ∧ (parseMethodDescriptor yX8_sums.desc).map (fun d => d.parameters.length) = some 1 := ⟨by decide +kernel, by decide +kernel, by decide +kernel⟩
set_option maxHeartbeats 4000000 in
theorem wX8_sums_45 {Ω : fg_O} {a0 : Nat} {i1 : Int32} {s0 : Option Nat} {s1 : Int32} {s2 : Int32} {G : fg_H} {t : (Unit × fg_H)} (X : fg_X Ω RX8 "sums" cX8_sums 2 none 0) (hF : fX8_sums_45 a0 i1 s0 s1 s2 G = some t) (hT : fg_T Ω (.returned none) t.2) : fg_W Ω G 45 [(0, .ref a0), (1, .int i1)] [.int s2, .int s1, va_rf s0] := by
  unfold fX8_sums_45 at hF
  replace hF := fg_ob_some hF
  obtain ⟨a11, rfl, hF⟩ := hF
  replace hF := fg_ob_some hF
  obtain ⟨G12, e_1, hF⟩ := hF
  refine fg_iast X e_1 dX8_sums_45 ?_
  refine fg_aload_n X (r := (some a0)) dX8_sums_46 rfl 0 rfl ?_
  replace hF := fg_ob_some hF
  obtain ⟨r13, e_2, hF⟩ := hF
  refine fg_getr X ff_X8_termBy q1581 e_2 dX8_sums_47 ?_
  refine fg_iload_n X dX8_sums_50 rfl 1 rfl ?_
  refine fg_iconst X (v := (0 : Int32)) dX8_sums_51 (by decide) ?_
  replace hF := fg_ob_some hF
  obtain ⟨a14, rfl, hF⟩ := hF
  replace hF := fg_ob_some hF
  obtain ⟨G15, e_3, hF⟩ := hF
  refine fg_iast X e_3 dX8_sums_52 ?_
  cases hF
  exact fg_vret X dX8_sums_53 (hT)
set_option maxHeartbeats 4000000 in
theorem wX8_sums {Ω : fg_O} {a0 : Nat} {i1 : Int32} {G : fg_H} {t : Unit × fg_H} (X : fg_X Ω RX8 "sums" cX8_sums 2 none 0) (hF : fX8_sums a0 i1 G = some t) (hT : fg_T Ω (.returned none) t.2) : fg_W Ω G 0 [(0, .ref a0), (1, .int i1)] [] := by
  unfold fX8_sums at hF
  refine fg_aload_n X (r := (some a0)) dX8_sums_0 rfl 0 rfl ?_
  replace hF := fg_ob_some hF
  obtain ⟨r1, e_1, hF⟩ := hF
  refine fg_getr X ff_X8_sum q1578 e_1 dX8_sums_1 ?_
  refine fg_iload_n X dX8_sums_4 rfl 1 rfl ?_
  refine fg_aload_n X (r := (some a0)) dX8_sums_5 rfl 0 rfl ?_
  replace hF := fg_ob_some hF
  obtain ⟨r2, e_2, hF⟩ := hF
  refine fg_getr X ff_X8_sumBy q1579 e_2 dX8_sums_6 ?_
  refine fg_iload_n X dX8_sums_9 rfl 1 rfl ?_
  replace hF := fg_ob_some hF
  obtain ⟨a3, rfl, hF⟩ := hF
  replace hF := fg_ob_some hF
  obtain ⟨x4, e_3, hF⟩ := hF
  refine fg_iald X e_3 dX8_sums_10 ?_
  refine fg_bipush X (v := (21 : Int32)) dX8_sums_11 (by decide) ?_
  refine fg_icmp_ne X (tgt := 32) dX8_sums_13 (by decide) (fun hc => ?_) (fun hc => ?_)
  · rw [if_neg hc] at hF
    refine fg_aload_n X (r := (some a0)) dX8_sums_32 rfl 0 rfl ?_
    replace hF := fg_ob_some hF
    obtain ⟨r5, e_4, hF⟩ := hF
    refine fg_getr X ff_X8_sum q1578 e_4 dX8_sums_33 ?_
    refine fg_iload_n X dX8_sums_36 rfl 1 rfl ?_
    replace hF := fg_ob_some hF
    obtain ⟨a6, rfl, hF⟩ := hF
    replace hF := fg_ob_some hF
    obtain ⟨x7, e_5, hF⟩ := hF
    refine fg_iald X e_5 dX8_sums_37 ?_
    refine fg_aload_n X (r := (some a0)) dX8_sums_38 rfl 0 rfl ?_
    replace hF := fg_ob_some hF
    obtain ⟨r8, e_6, hF⟩ := hF
    refine fg_getr X ff_X8_term q1580 e_6 dX8_sums_39 ?_
    refine fg_iload_n X dX8_sums_42 rfl 1 rfl ?_
    replace hF := fg_ob_some hF
    obtain ⟨a9, rfl, hF⟩ := hF
    replace hF := fg_ob_some hF
    obtain ⟨x10, e_7, hF⟩ := hF
    refine fg_iald X e_7 dX8_sums_43 ?_
    refine fg_iadd X dX8_sums_44 ?_
    refine fg_sub [0, 1] rfl ?_
    exact wX8_sums_45 X hF hT
  · rw [if_pos hc] at hF
    refine fg_aload_n X (r := (some a0)) dX8_sums_16 rfl 0 rfl ?_
    replace hF := fg_ob_some hF
    obtain ⟨r16, e_8, hF⟩ := hF
    refine fg_getr X ff_X8_sum q1578 e_8 dX8_sums_17 ?_
    refine fg_iload_n X dX8_sums_20 rfl 1 rfl ?_
    replace hF := fg_ob_some hF
    obtain ⟨a17, rfl, hF⟩ := hF
    replace hF := fg_ob_some hF
    obtain ⟨x18, e_9, hF⟩ := hF
    refine fg_iald X e_9 dX8_sums_21 ?_
    refine fg_aload_n X (r := (some a0)) dX8_sums_22 rfl 0 rfl ?_
    replace hF := fg_ob_some hF
    obtain ⟨r19, e_10, hF⟩ := hF
    refine fg_getr X ff_X8_term q1580 e_10 dX8_sums_23 ?_
    refine fg_iload_n X dX8_sums_26 rfl 1 rfl ?_
    replace hF := fg_ob_some hF
    obtain ⟨a20, rfl, hF⟩ := hF
    replace hF := fg_ob_some hF
    obtain ⟨x21, e_11, hF⟩ := hF
    refine fg_iald X e_11 dX8_sums_27 ?_
    refine fg_isub X dX8_sums_28 ?_
    refine fg_goto X (tgt := 45) dX8_sums_29 (by decide) ?_
    refine fg_sub [0, 1] rfl ?_
    exact wX8_sums_45 X hF hT
theorem mX8_sums (l : Launch) (D : fg_D) {a0 : Nat} {i1 : Int32} {G : fg_H} {t : Unit × fg_H} (hF : fX8_sums a0 i1 G = some t) : fg_M l D yX8_sums cX8_sums 2 none 0 [.ref a0, .int i1] G (.returned none) t.2 :=
  fg_Mof (own := RX8) (nm := "sums") (L := [(0, .ref a0), (1, .int i1)]) (plainFor_of_name pn_X8) rfl rfl rfl (Nat.le_of_ble_eq_true rfl) (fun Ω _ _ X hT => wX8_sums X hF hT)
theorem hd_X8_tests : yX8_tests.cls ≠ "java/lang/invoke/MethodHandle" ∧ yX8_tests.cls ≠ "java/lang/invoke/VarHandle" ∧ (parseMethodDescriptor yX8_tests.desc).map (fun d => d.parameters.length) = some 1 := ⟨by decide +kernel, by decide +kernel, by decide +kernel⟩
set_option maxHeartbeats 4000000 in
theorem wX8_tests_136 {Ω : fg_O} {a0 : Nat} {i1 : Int32} {i2 : Int32} {G : fg_H} {t : (Unit × fg_H)} (X : fg_X Ω RX8 "tests" cX8_tests 3 none 1) (hF : fX8_tests_136 a0 i1 i2 G = some t) (hT : fg_T Ω (.returned none) t.2) : fg_W Ω G 136 [(0, .ref a0), (1, .int i1), (2, .int i2)] [] := by
  unfold fX8_tests_136 at hF
  refine fg_aload_n X (r := (some a0)) dX8_tests_136 rfl 0 rfl ?_
  replace hF := fg_ob_some hF
  obtain ⟨r17, e_1, hF⟩ := hF
  refine fg_getr X ff_X8_kept q1574 e_1 dX8_tests_137 ?_
  refine fg_iload_n X dX8_tests_140 rfl 1 rfl ?_
  refine fg_iload_n X dX8_tests_141 rfl 2 rfl ?_
  replace hF := fg_ob_some hF
  obtain ⟨a18, rfl, hF⟩ := hF
  replace hF := fg_ob_some hF
  obtain ⟨G19, e_2, hF⟩ := hF
  refine fg_iast X e_2 dX8_tests_142 ?_
  refine fg_aload_n X (r := (some a0)) dX8_tests_143 rfl 0 rfl ?_
  replace hF := fg_ob_some hF
  obtain ⟨r20, e_3, hF⟩ := hF
  refine fg_getr X ff_X8_against q1577 e_3 dX8_tests_144 ?_
  refine fg_iload_n X dX8_tests_147 rfl 1 rfl ?_
  refine fg_iconst X (v := (0 : Int32)) dX8_tests_148 (by decide) ?_
  replace hF := fg_ob_some hF
  obtain ⟨a21, rfl, hF⟩ := hF
  replace hF := fg_ob_some hF
  obtain ⟨G22, e_4, hF⟩ := hF
  refine fg_iast X e_4 dX8_tests_149 ?_
  refine fg_aload_n X (r := (some a0)) dX8_tests_150 rfl 0 rfl ?_
  replace hF := fg_ob_some hF
  obtain ⟨r23, e_5, hF⟩ := hF
  refine fg_getr X ff_X8_sum q1578 e_5 dX8_tests_151 ?_
  refine fg_iload_n X dX8_tests_154 rfl 1 rfl ?_
  refine fg_iconst X (v := (0 : Int32)) dX8_tests_155 (by decide) ?_
  replace hF := fg_ob_some hF
  obtain ⟨a24, rfl, hF⟩ := hF
  replace hF := fg_ob_some hF
  obtain ⟨G25, e_6, hF⟩ := hF
  refine fg_iast X e_6 dX8_tests_156 ?_
  refine fg_aload_n X (r := (some a0)) dX8_tests_157 rfl 0 rfl ?_
  replace hF := fg_ob_some hF
  obtain ⟨r26, e_7, hF⟩ := hF
  refine fg_getr X ff_X8_sumBy q1579 e_7 dX8_tests_158 ?_
  refine fg_iload_n X dX8_tests_161 rfl 1 rfl ?_
  refine fg_bipush X (v := (20 : Int32)) dX8_tests_162 (by decide) ?_
  replace hF := fg_ob_some hF
  obtain ⟨a27, rfl, hF⟩ := hF
  replace hF := fg_ob_some hF
  obtain ⟨G28, e_8, hF⟩ := hF
  refine fg_iast X e_8 dX8_tests_164 ?_
  cases hF
  exact fg_vret X dX8_tests_165 (hT)
set_option maxHeartbeats 4000000 in
theorem wX8_tests_135 {Ω : fg_O} {a0 : Nat} {i1 : Int32} {s0 : Int32} {G : fg_H} {t : (Unit × fg_H)} (X : fg_X Ω RX8 "tests" cX8_tests 3 none 1) (hF : fX8_tests_135 a0 i1 s0 G = some t) (hT : fg_T Ω (.returned none) t.2) : fg_W Ω G 135 [(0, .ref a0), (1, .int i1)] [.int s0] := by
  unfold fX8_tests_135 at hF
  refine fg_istore_n X (L' := [(2, .int s0), (0, .ref a0), (1, .int i1)]) dX8_tests_135 rfl (by decide) rfl ?_
  refine fg_sub [1, 2, 0] rfl ?_
  exact wX8_tests_136 X hF hT
set_option maxHeartbeats 4000000 in
theorem wX8_tests_130 {Ω : fg_O} {a0 : Nat} {i1 : Int32} {G : fg_H} {t : (Unit × fg_H)} (X : fg_X Ω RX8 "tests" cX8_tests 3 none 1) (hF : fX8_tests_130 a0 i1 G = some t) (hT : fg_T Ω (.returned none) t.2) : fg_W Ω G 130 [(0, .ref a0), (1, .int i1)] [] := by
  unfold fX8_tests_130 at hF
  refine fg_iconst X (v := (1 : Int32)) dX8_tests_130 (by decide) ?_
  refine fg_goto X (tgt := 135) dX8_tests_131 (by decide) ?_
  refine fg_sub [0, 1] rfl ?_
  exact wX8_tests_135 X hF hT
set_option maxHeartbeats 4000000 in
theorem wX8_tests_106 {Ω : fg_O} {a0 : Nat} {i1 : Int32} {i2 : Int32} {G : fg_H} {t : (Unit × fg_H)} (X : fg_X Ω RX8 "tests" cX8_tests 3 none 1) (hF : fX8_tests_106 a0 i1 i2 G = some t) (hT : fg_T Ω (.returned none) t.2) : fg_W Ω G 106 [(0, .ref a0), (1, .int i1), (2, .int i2)] [] := by
  unfold fX8_tests_106 at hF
  refine fg_aload_n X (r := (some a0)) dX8_tests_106 rfl 0 rfl ?_
  replace hF := fg_ob_some hF
  obtain ⟨r14, e_1, hF⟩ := hF
  refine fg_getr X ff_X8_keptBy q1575 e_1 dX8_tests_107 ?_
  refine fg_iload_n X dX8_tests_110 rfl 1 rfl ?_
  replace hF := fg_ob_some hF
  obtain ⟨a15, rfl, hF⟩ := hF
  replace hF := fg_ob_some hF
  obtain ⟨x16, e_2, hF⟩ := hF
  refine fg_iald X e_2 dX8_tests_111 ?_
  refine fg_bipush X (v := (27 : Int32)) dX8_tests_112 (by decide) ?_
  refine fg_icmp_ne X (tgt := 136) dX8_tests_114 (by decide) (fun hc => ?_) (fun hc => ?_)
  · rw [if_neg hc] at hF
    refine fg_sub [0, 1, 2] rfl ?_
    exact wX8_tests_136 X hF hT
  · rw [if_pos hc] at hF
    refine fg_aload_n X (r := (some a0)) dX8_tests_117 rfl 0 rfl ?_
    replace hF := fg_ob_some hF
    obtain ⟨r29, e_3, hF⟩ := hF
    refine fg_getr X ff_X8_kept q1574 e_3 dX8_tests_118 ?_
    refine fg_iload_n X dX8_tests_121 rfl 1 rfl ?_
    replace hF := fg_ob_some hF
    obtain ⟨a30, rfl, hF⟩ := hF
    replace hF := fg_ob_some hF
    obtain ⟨x31, e_4, hF⟩ := hF
    refine fg_iald X e_4 dX8_tests_122 ?_
    refine fg_if_ne X (tgt := 130) dX8_tests_123 (by decide) (fun hc => ?_) (fun hc => ?_)
    · rw [if_neg hc] at hF
      refine fg_sub [0, 1] rfl ?_
      exact wX8_tests_130 X hF hT
    · rw [if_pos hc] at hF
      refine fg_iload_n X dX8_tests_126 rfl 2 rfl ?_
      refine fg_if_eq X (tgt := 134) dX8_tests_127 (by decide) (fun hc => ?_) (fun hc => ?_)
      · rw [if_pos hc] at hF
        refine fg_iconst X (v := (0 : Int32)) dX8_tests_134 (by decide) ?_
        refine fg_sub [0, 1] rfl ?_
        exact wX8_tests_135 X hF hT
      · rw [if_neg hc] at hF
        refine fg_sub [0, 1] rfl ?_
        exact wX8_tests_130 X hF hT
set_option maxHeartbeats 4000000 in
theorem wX8_tests_105 {Ω : fg_O} {a0 : Nat} {i1 : Int32} {s0 : Int32} {G : fg_H} {t : (Unit × fg_H)} (X : fg_X Ω RX8 "tests" cX8_tests 3 none 1) (hF : fX8_tests_105 a0 i1 s0 G = some t) (hT : fg_T Ω (.returned none) t.2) : fg_W Ω G 105 [(0, .ref a0), (1, .int i1)] [.int s0] := by
  unfold fX8_tests_105 at hF
  refine fg_istore_n X (L' := [(2, .int s0), (0, .ref a0), (1, .int i1)]) dX8_tests_105 rfl (by decide) rfl ?_
  refine fg_sub [1, 2, 0] rfl ?_
  exact wX8_tests_106 X hF hT
set_option maxHeartbeats 4000000 in
theorem wX8_tests_104 {Ω : fg_O} {a0 : Nat} {i1 : Int32} {G : fg_H} {t : (Unit × fg_H)} (X : fg_X Ω RX8 "tests" cX8_tests 3 none 1) (hF : fX8_tests_104 a0 i1 G = some t) (hT : fg_T Ω (.returned none) t.2) : fg_W Ω G 104 [(0, .ref a0), (1, .int i1)] [] := by
  unfold fX8_tests_104 at hF
  refine fg_iconst X (v := (0 : Int32)) dX8_tests_104 (by decide) ?_
  refine fg_sub [0, 1] rfl ?_
  exact wX8_tests_105 X hF hT
set_option maxHeartbeats 4000000 in
theorem wX8_tests_76 {Ω : fg_O} {a0 : Nat} {i1 : Int32} {i2 : Int32} {G : fg_H} {t : (Unit × fg_H)} (X : fg_X Ω RX8 "tests" cX8_tests 3 none 1) (hF : fX8_tests_76 a0 i1 i2 G = some t) (hT : fg_T Ω (.returned none) t.2) : fg_W Ω G 76 [(0, .ref a0), (1, .int i1), (2, .int i2)] [] := by
  unfold fX8_tests_76 at hF
  refine fg_aload_n X (r := (some a0)) dX8_tests_76 rfl 0 rfl ?_
  replace hF := fg_ob_some hF
  obtain ⟨r11, e_1, hF⟩ := hF
  refine fg_getr X ff_X8_keptBy q1575 e_1 dX8_tests_77 ?_
  refine fg_iload_n X dX8_tests_80 rfl 1 rfl ?_
  replace hF := fg_ob_some hF
  obtain ⟨a12, rfl, hF⟩ := hF
  replace hF := fg_ob_some hF
  obtain ⟨x13, e_2, hF⟩ := hF
  refine fg_iald X e_2 dX8_tests_81 ?_
  refine fg_bipush X (v := (26 : Int32)) dX8_tests_82 (by decide) ?_
  refine fg_icmp_ne X (tgt := 106) dX8_tests_84 (by decide) (fun hc => ?_) (fun hc => ?_)
  · rw [if_neg hc] at hF
    refine fg_sub [0, 1, 2] rfl ?_
    exact wX8_tests_106 X hF hT
  · rw [if_pos hc] at hF
    refine fg_aload_n X (r := (some a0)) dX8_tests_87 rfl 0 rfl ?_
    replace hF := fg_ob_some hF
    obtain ⟨r32, e_3, hF⟩ := hF
    refine fg_getr X ff_X8_kept q1574 e_3 dX8_tests_88 ?_
    refine fg_iload_n X dX8_tests_91 rfl 1 rfl ?_
    replace hF := fg_ob_some hF
    obtain ⟨a33, rfl, hF⟩ := hF
    replace hF := fg_ob_some hF
    obtain ⟨x34, e_4, hF⟩ := hF
    refine fg_iald X e_4 dX8_tests_92 ?_
    refine fg_if_eq X (tgt := 104) dX8_tests_93 (by decide) (fun hc => ?_) (fun hc => ?_)
    · rw [if_pos hc] at hF
      refine fg_sub [0, 1] rfl ?_
      exact wX8_tests_104 X hF hT
    · rw [if_neg hc] at hF
      refine fg_iload_n X dX8_tests_96 rfl 2 rfl ?_
      refine fg_if_eq X (tgt := 104) dX8_tests_97 (by decide) (fun hc => ?_) (fun hc => ?_)
      · rw [if_pos hc] at hF
        refine fg_sub [0, 1] rfl ?_
        exact wX8_tests_104 X hF hT
      · rw [if_neg hc] at hF
        refine fg_iconst X (v := (1 : Int32)) dX8_tests_100 (by decide) ?_
        refine fg_goto X (tgt := 105) dX8_tests_101 (by decide) ?_
        refine fg_sub [0, 1] rfl ?_
        exact wX8_tests_105 X hF hT
set_option maxHeartbeats 4000000 in
theorem wX8_tests_75 {Ω : fg_O} {a0 : Nat} {i1 : Int32} {s0 : Int32} {G : fg_H} {t : (Unit × fg_H)} (X : fg_X Ω RX8 "tests" cX8_tests 3 none 1) (hF : fX8_tests_75 a0 i1 s0 G = some t) (hT : fg_T Ω (.returned none) t.2) : fg_W Ω G 75 [(0, .ref a0), (1, .int i1)] [.int s0] := by
  unfold fX8_tests_75 at hF
  refine fg_istore_n X (L' := [(2, .int s0), (0, .ref a0), (1, .int i1)]) dX8_tests_75 rfl (by decide) rfl ?_
  refine fg_sub [1, 2, 0] rfl ?_
  exact wX8_tests_76 X hF hT
set_option maxHeartbeats 4000000 in
theorem wX8_tests_44 {Ω : fg_O} {a0 : Nat} {i1 : Int32} {i2 : Int32} {G : fg_H} {t : (Unit × fg_H)} (X : fg_X Ω RX8 "tests" cX8_tests 3 none 1) (hF : fX8_tests_44 a0 i1 i2 G = some t) (hT : fg_T Ω (.returned none) t.2) : fg_W Ω G 44 [(0, .ref a0), (1, .int i1), (2, .int i2)] [] := by
  unfold fX8_tests_44 at hF
  refine fg_aload_n X (r := (some a0)) dX8_tests_44 rfl 0 rfl ?_
  replace hF := fg_ob_some hF
  obtain ⟨r8, e_1, hF⟩ := hF
  refine fg_getr X ff_X8_against q1577 e_1 dX8_tests_45 ?_
  refine fg_iload_n X dX8_tests_48 rfl 1 rfl ?_
  replace hF := fg_ob_some hF
  obtain ⟨a9, rfl, hF⟩ := hF
  replace hF := fg_ob_some hF
  obtain ⟨x10, e_2, hF⟩ := hF
  refine fg_iald X e_2 dX8_tests_49 ?_
  refine fg_bipush X (v := (25 : Int32)) dX8_tests_50 (by decide) ?_
  refine fg_icmp_ne X (tgt := 76) dX8_tests_52 (by decide) (fun hc => ?_) (fun hc => ?_)
  · rw [if_neg hc] at hF
    refine fg_sub [0, 1, 2] rfl ?_
    exact wX8_tests_76 X hF hT
  · rw [if_pos hc] at hF
    refine fg_aload_n X (r := (some a0)) dX8_tests_55 rfl 0 rfl ?_
    replace hF := fg_ob_some hF
    obtain ⟨r35, e_3, hF⟩ := hF
    refine fg_getr X ff_X8_ahead q1576 e_3 dX8_tests_56 ?_
    refine fg_iload_n X dX8_tests_59 rfl 1 rfl ?_
    replace hF := fg_ob_some hF
    obtain ⟨a36, rfl, hF⟩ := hF
    replace hF := fg_ob_some hF
    obtain ⟨x37, e_4, hF⟩ := hF
    refine fg_iald X e_4 dX8_tests_60 ?_
    refine fg_aload_n X (r := (some a0)) dX8_tests_61 rfl 0 rfl ?_
    replace hF := fg_ob_some hF
    obtain ⟨r38, e_5, hF⟩ := hF
    refine fg_getr X ff_X8_sum q1578 e_5 dX8_tests_62 ?_
    refine fg_iload_n X dX8_tests_65 rfl 1 rfl ?_
    replace hF := fg_ob_some hF
    obtain ⟨a39, rfl, hF⟩ := hF
    replace hF := fg_ob_some hF
    obtain ⟨x40, e_6, hF⟩ := hF
    refine fg_iald X e_6 dX8_tests_66 ?_
    refine fg_icmp_ne X (tgt := 74) dX8_tests_67 (by decide) (fun hc => ?_) (fun hc => ?_)
    · rw [if_neg hc] at hF
      refine fg_iconst X (v := (0 : Int32)) dX8_tests_74 (by decide) ?_
      refine fg_sub [0, 1] rfl ?_
      exact wX8_tests_75 X hF hT
    · rw [if_pos hc] at hF
      refine fg_iconst X (v := (1 : Int32)) dX8_tests_70 (by decide) ?_
      refine fg_goto X (tgt := 75) dX8_tests_71 (by decide) ?_
      refine fg_sub [0, 1] rfl ?_
      exact wX8_tests_75 X hF hT
set_option maxHeartbeats 4000000 in
theorem wX8_tests_43 {Ω : fg_O} {a0 : Nat} {i1 : Int32} {s0 : Int32} {G : fg_H} {t : (Unit × fg_H)} (X : fg_X Ω RX8 "tests" cX8_tests 3 none 1) (hF : fX8_tests_43 a0 i1 s0 G = some t) (hT : fg_T Ω (.returned none) t.2) : fg_W Ω G 43 [(0, .ref a0), (1, .int i1)] [.int s0] := by
  unfold fX8_tests_43 at hF
  refine fg_istore_n X (L' := [(2, .int s0), (0, .ref a0), (1, .int i1)]) dX8_tests_43 rfl (by decide) rfl ?_
  refine fg_sub [1, 2, 0] rfl ?_
  exact wX8_tests_44 X hF hT
set_option maxHeartbeats 4000000 in
theorem wX8_tests {Ω : fg_O} {a0 : Nat} {i1 : Int32} {G : fg_H} {t : Unit × fg_H} (X : fg_X Ω RX8 "tests" cX8_tests 3 none 1) (hF : fX8_tests a0 i1 G = some t) (hT : fg_T Ω (.returned none) t.2) : fg_W Ω G 0 [(0, .ref a0), (1, .int i1)] [] := by
  unfold fX8_tests at hF
  refine fg_aload_n X (r := (some a0)) dX8_tests_0 rfl 0 rfl ?_
  refine fg_iload_n X dX8_tests_1 rfl 1 rfl ?_
  replace hF := fg_gd_some hF
  obtain ⟨eg_1, hF⟩ := hF
  obtain ⟨fs_2, eo_3⟩ := fg_rc_get eg_1
  replace hF := fg_oc_some hF
  obtain ⟨u, G1, e_4, hF⟩ := hF
  refine fg_callV X (st := []) (mX8_sums Ω.2.2.2.2.1 Ω.1 e_4) q1864 q1866 qs71 q105 q1867 hd_X8_sums (by decide) rfl eo_3 (by decide) rfl rfl (Nat.le_of_ble_eq_true rfl) dX8_tests_2 ?_
  refine fg_aload_n X (r := (some a0)) dX8_tests_5 rfl 0 rfl ?_
  replace hF := fg_ob_some hF
  obtain ⟨r2, e_5, hF⟩ := hF
  refine fg_getr X ff_X8_sum q1578 e_5 dX8_tests_6 ?_
  refine fg_iload_n X dX8_tests_9 rfl 1 rfl ?_
  replace hF := fg_ob_some hF
  obtain ⟨a3, rfl, hF⟩ := hF
  replace hF := fg_ob_some hF
  obtain ⟨x4, e_6, hF⟩ := hF
  refine fg_iald X e_6 dX8_tests_10 ?_
  refine fg_istore_n X (L' := [(2, .int x4), (0, .ref a0), (1, .int i1)]) dX8_tests_11 rfl (by decide) rfl ?_
  refine fg_aload_n X (r := (some a0)) dX8_tests_12 rfl 1 rfl ?_
  replace hF := fg_ob_some hF
  obtain ⟨r5, e_7, hF⟩ := hF
  refine fg_getr X ff_X8_against q1577 e_7 dX8_tests_13 ?_
  refine fg_iload_n X dX8_tests_16 rfl 2 rfl ?_
  replace hF := fg_ob_some hF
  obtain ⟨a6, rfl, hF⟩ := hF
  replace hF := fg_ob_some hF
  obtain ⟨x7, e_8, hF⟩ := hF
  refine fg_iald X e_8 dX8_tests_17 ?_
  refine fg_bipush X (v := (24 : Int32)) dX8_tests_18 (by decide) ?_
  refine fg_icmp_ne X (tgt := 44) dX8_tests_20 (by decide) (fun hc => ?_) (fun hc => ?_)
  · rw [if_neg hc] at hF
    refine fg_sub [1, 2, 0] rfl ?_
    exact wX8_tests_44 X hF hT
  · rw [if_pos hc] at hF
    refine fg_aload_n X (r := (some a0)) dX8_tests_23 rfl 1 rfl ?_
    replace hF := fg_ob_some hF
    obtain ⟨r41, e_9, hF⟩ := hF
    refine fg_getr X ff_X8_ahead q1576 e_9 dX8_tests_24 ?_
    refine fg_iload_n X dX8_tests_27 rfl 2 rfl ?_
    replace hF := fg_ob_some hF
    obtain ⟨a42, rfl, hF⟩ := hF
    replace hF := fg_ob_some hF
    obtain ⟨x43, e_10, hF⟩ := hF
    refine fg_iald X e_10 dX8_tests_28 ?_
    refine fg_aload_n X (r := (some a0)) dX8_tests_29 rfl 1 rfl ?_
    replace hF := fg_ob_some hF
    obtain ⟨r44, e_11, hF⟩ := hF
    refine fg_getr X ff_X8_sum q1578 e_11 dX8_tests_30 ?_
    refine fg_iload_n X dX8_tests_33 rfl 2 rfl ?_
    replace hF := fg_ob_some hF
    obtain ⟨a45, rfl, hF⟩ := hF
    replace hF := fg_ob_some hF
    obtain ⟨x46, e_12, hF⟩ := hF
    refine fg_iald X e_12 dX8_tests_34 ?_
    refine fg_icmp_ge X (tgt := 42) dX8_tests_35 (by decide) (fun hc => ?_) (fun hc => ?_)
    · rw [if_pos hc] at hF
      refine fg_iconst X (v := (0 : Int32)) dX8_tests_42 (by decide) ?_
      refine fg_sub [1, 2] rfl ?_
      exact wX8_tests_43 X hF hT
    · rw [if_neg hc] at hF
      refine fg_iconst X (v := (1 : Int32)) dX8_tests_38 (by decide) ?_
      refine fg_goto X (tgt := 43) dX8_tests_39 (by decide) ?_
      refine fg_sub [1, 2] rfl ?_
      exact wX8_tests_43 X hF hT
theorem mX8_tests (l : Launch) (D : fg_D) {a0 : Nat} {i1 : Int32} {G : fg_H} {t : Unit × fg_H} (hF : fX8_tests a0 i1 G = some t) : fg_M l D yX8_tests cX8_tests 3 none 1 [.ref a0, .int i1] G (.returned none) t.2 :=
  fg_Mof (own := RX8) (nm := "tests") (L := [(0, .ref a0), (1, .int i1)]) (plainFor_of_name pn_X8) rfl rfl rfl (Nat.le_of_ble_eq_true rfl) (fun Ω _ _ X hT => wX8_tests X hF hT)
theorem hd_X8_worked : yX8_worked.cls ≠ "java/lang/invoke/MethodHandle" ∧ yX8_worked.cls ≠ "java/lang/invoke/VarHandle" ∧ (parseMethodDescriptor yX8_worked.desc).map (fun d => d.parameters.length) = some 1 := ⟨by decide +kernel, by decide +kernel, by decide +kernel⟩
set_option maxHeartbeats 4000000 in
theorem wX8_worked_66 {Ω : fg_O} {a0 : Nat} {i1 : Int32} {i2 : Int32} {i3 : Int32} {s0 : Option Nat} {s1 : Int32} {s2 : Int32} {G : fg_H} {t : ((Nat × Int32 × Int32 × Int32 × fg_H) ⊕ (Int32 × fg_H))} (X : fg_X Ω RX8 "worked" cX8_worked 6 (some .int) 2) (hF : fX8_worked_66 a0 i1 i2 i3 s0 s1 s2 G = some t) (h14 : ∀ z, t = (.inl z) → fg_W Ω z.2.2.2.2 14 [(0, .ref z.1), (1, .int z.2.1), (2, .int z.2.2.1), (3, .int z.2.2.2.1)] []) (hT : ∀ u, t = (.inr u) → fg_T Ω (.returned (some (.int u.1))) u.2) : fg_W Ω G 66 [(0, .ref a0), (1, .int i1), (2, .int i2), (3, .int i3)] [.int s2, .int s1, va_rf s0] := by
  unfold fX8_worked_66 at hF
  replace hF := fg_ob_some hF
  obtain ⟨a17, rfl, hF⟩ := hF
  replace hF := fg_ob_some hF
  obtain ⟨G18, e_1, hF⟩ := hF
  refine fg_iast X e_1 dX8_worked_66 ?_
  refine fg_aload_n X (r := (some a0)) dX8_worked_67 rfl 0 rfl ?_
  refine fg_iload_n X dX8_worked_68 rfl 2 rfl ?_
  replace hF := fg_gd_some hF
  obtain ⟨eg_2, hF⟩ := hF
  obtain ⟨fs_3, eo_4⟩ := fg_rc_get eg_2
  replace hF := fg_oc_some hF
  obtain ⟨u, G19, e_5, hF⟩ := hF
  refine fg_callV X (st := []) (mX8_opens Ω.2.2.2.2.1 Ω.1 e_5) q1860 q1862 qs70 q105 q1863 hd_X8_opens (by decide) rfl eo_4 (by decide) rfl rfl (Nat.le_of_ble_eq_true rfl) dX8_worked_69 ?_
  refine fg_goto X (tgt := 329) dX8_worked_72 (by decide) ?_
  refine fg_iinc X (v := (i3 + (1 : Int32))) (L' := [(3, .int (i3 + (1 : Int32))), (0, .ref a0), (1, .int i1), (2, .int i2)]) dX8_worked_329 3 rfl rfl (by decide) rfl ?_
  refine fg_goto X (tgt := 14) dX8_worked_332 (by decide) ?_
  refine fg_sub [1, 2, 3, 0] rfl ?_
  exact h14 _ (Option.some.inj hF).symm
set_option maxHeartbeats 4000000 in
theorem wX8_worked_46 {Ω : fg_O} {a0 : Nat} {i1 : Int32} {i2 : Int32} {i3 : Int32} {i4 : Int32} {G : fg_H} {t : ((Nat × Int32 × Int32 × Int32 × fg_H) ⊕ (Int32 × fg_H))} (X : fg_X Ω RX8 "worked" cX8_worked 6 (some .int) 2) (hF : fX8_worked_46 a0 i1 i2 i3 i4 G = some t) (h14 : ∀ z, t = (.inl z) → fg_W Ω z.2.2.2.2 14 [(0, .ref z.1), (1, .int z.2.1), (2, .int z.2.2.1), (3, .int z.2.2.2.1)] []) (hT : ∀ u, t = (.inr u) → fg_T Ω (.returned (some (.int u.1))) u.2) : fg_W Ω G 46 [(0, .ref a0), (1, .int i1), (2, .int i2), (3, .int i3), (4, .int i4)] [] := by
  unfold fX8_worked_46 at hF
  refine fg_iinc X (v := (i2 + (1 : Int32))) (L' := [(2, .int (i2 + (1 : Int32))), (0, .ref a0), (1, .int i1), (3, .int i3), (4, .int i4)]) dX8_worked_46 2 rfl rfl (by decide) rfl ?_
  refine fg_aload_n X (r := (some a0)) dX8_worked_49 rfl 1 rfl ?_
  replace hF := fg_ob_some hF
  obtain ⟨r16, e_1, hF⟩ := hF
  refine fg_getr X ff_X8_byNot q1582 e_1 dX8_worked_50 ?_
  refine fg_iload_n X dX8_worked_53 rfl 0 rfl ?_
  refine fg_iload X dX8_worked_54 4 rfl ?_
  refine fg_bipush X (v := (30 : Int32)) dX8_worked_56 (by decide) ?_
  refine fg_icmp_ne X (tgt := 65) dX8_worked_58 (by decide) (fun hc => ?_) (fun hc => ?_)
  · rw [if_neg hc] at hF
    refine fg_iconst X (v := (0 : Int32)) dX8_worked_65 (by decide) ?_
    refine fg_sub [1, 2, 0, 3] rfl ?_
    exact wX8_worked_66 X hF h14 hT
  · rw [if_pos hc] at hF
    refine fg_iconst X (v := (1 : Int32)) dX8_worked_61 (by decide) ?_
    refine fg_goto X (tgt := 66) dX8_worked_62 (by decide) ?_
    refine fg_sub [1, 2, 0, 3] rfl ?_
    exact wX8_worked_66 X hF h14 hT
set_option maxHeartbeats 4000000 in
theorem wX8_worked_89 {Ω : fg_O} {a0 : Nat} {i1 : Int32} {i2 : Int32} {i3 : Int32} {i4 : Int32} {G : fg_H} {t : ((Nat × Int32 × Int32 × Int32 × fg_H) ⊕ (Int32 × fg_H))} (X : fg_X Ω RX8 "worked" cX8_worked 6 (some .int) 2) (hF : fX8_worked_89 a0 i1 i2 i3 i4 G = some t) (h14 : ∀ z, t = (.inl z) → fg_W Ω z.2.2.2.2 14 [(0, .ref z.1), (1, .int z.2.1), (2, .int z.2.2.1), (3, .int z.2.2.2.1)] []) (hT : ∀ u, t = (.inr u) → fg_T Ω (.returned (some (.int u.1))) u.2) : fg_W Ω G 89 [(0, .ref a0), (1, .int i1), (2, .int i2), (3, .int i3), (4, .int i4)] [] := by
  unfold fX8_worked_89 at hF
  refine fg_aload_n X (r := (some a0)) dX8_worked_89 rfl 0 rfl ?_
  refine fg_iload_n X dX8_worked_90 rfl 2 rfl ?_
  replace hF := fg_gd_some hF
  obtain ⟨eg_1, hF⟩ := hF
  obtain ⟨fs_2, eo_3⟩ := fg_rc_get eg_1
  replace hF := fg_oc_some hF
  obtain ⟨u, G20, e_4, hF⟩ := hF
  refine fg_callV X (st := []) (mX8_sums Ω.2.2.2.2.1 Ω.1 e_4) q1864 q1866 qs71 q105 q1867 hd_X8_sums (by decide) rfl eo_3 (by decide) rfl rfl (Nat.le_of_ble_eq_true rfl) dX8_worked_91 ?_
  refine fg_aload_n X (r := (some a0)) dX8_worked_94 rfl 0 rfl ?_
  replace hF := fg_ob_some hF
  obtain ⟨r21, e_5, hF⟩ := hF
  refine fg_getr X ff_X8_sumBy q1579 e_5 dX8_worked_95 ?_
  refine fg_iload_n X dX8_worked_98 rfl 2 rfl ?_
  refine fg_iload X dX8_worked_99 4 rfl ?_
  replace hF := fg_ob_some hF
  obtain ⟨a22, rfl, hF⟩ := hF
  replace hF := fg_ob_some hF
  obtain ⟨G23, e_6, hF⟩ := hF
  refine fg_iast X e_6 dX8_worked_101 ?_
  refine fg_goto X (tgt := 329) dX8_worked_102 (by decide) ?_
  refine fg_iinc X (v := (i3 + (1 : Int32))) (L' := [(3, .int (i3 + (1 : Int32))), (0, .ref a0), (1, .int i1), (2, .int i2), (4, .int i4)]) dX8_worked_329 3 rfl rfl (by decide) rfl ?_
  refine fg_goto X (tgt := 14) dX8_worked_332 (by decide) ?_
  refine fg_sub [1, 2, 3, 0] rfl ?_
  exact h14 _ (Option.some.inj hF).symm
set_option maxHeartbeats 4000000 in
theorem wX8_worked_137 {Ω : fg_O} {a0 : Nat} {i1 : Int32} {i2 : Int32} {i3 : Int32} {i4 : Int32} {G : fg_H} {t : ((Nat × Int32 × Int32 × Int32 × fg_H) ⊕ (Int32 × fg_H))} (X : fg_X Ω RX8 "worked" cX8_worked 6 (some .int) 2) (hF : fX8_worked_137 a0 i1 i2 i3 i4 G = some t) (h14 : ∀ z, t = (.inl z) → fg_W Ω z.2.2.2.2 14 [(0, .ref z.1), (1, .int z.2.1), (2, .int z.2.2.1), (3, .int z.2.2.2.1)] []) (hT : ∀ u, t = (.inr u) → fg_T Ω (.returned (some (.int u.1))) u.2) : fg_W Ω G 137 [(0, .ref a0), (1, .int i1), (2, .int i2), (3, .int i3), (4, .int i4)] [] := by
  unfold fX8_worked_137 at hF
  refine fg_aload_n X (r := (some a0)) dX8_worked_137 rfl 0 rfl ?_
  refine fg_iload_n X dX8_worked_138 rfl 2 rfl ?_
  replace hF := fg_gd_some hF
  obtain ⟨eg_1, hF⟩ := hF
  obtain ⟨fs_2, eo_3⟩ := fg_rc_get eg_1
  replace hF := fg_oc_some hF
  obtain ⟨u, G24, e_4, hF⟩ := hF
  refine fg_callV X (st := []) (mX8_sums Ω.2.2.2.2.1 Ω.1 e_4) q1864 q1866 qs71 q105 q1867 hd_X8_sums (by decide) rfl eo_3 (by decide) rfl rfl (Nat.le_of_ble_eq_true rfl) dX8_worked_139 ?_
  refine fg_aload_n X (r := (some a0)) dX8_worked_142 rfl 0 rfl ?_
  replace hF := fg_ob_some hF
  obtain ⟨r25, e_5, hF⟩ := hF
  refine fg_getr X ff_X8_ahead q1576 e_5 dX8_worked_143 ?_
  refine fg_iload_n X dX8_worked_146 rfl 2 rfl ?_
  refine fg_aload_n X (r := (some a0)) dX8_worked_147 rfl 0 rfl ?_
  replace hF := fg_ob_some hF
  obtain ⟨r26, e_6, hF⟩ := hF
  refine fg_getr X ff_X8_sum q1578 e_6 dX8_worked_148 ?_
  refine fg_iload_n X dX8_worked_151 rfl 2 rfl ?_
  replace hF := fg_ob_some hF
  obtain ⟨a27, rfl, hF⟩ := hF
  replace hF := fg_ob_some hF
  obtain ⟨x28, e_7, hF⟩ := hF
  refine fg_iald X e_7 dX8_worked_152 ?_
  replace hF := fg_ob_some hF
  obtain ⟨a29, rfl, hF⟩ := hF
  replace hF := fg_ob_some hF
  obtain ⟨G30, e_8, hF⟩ := hF
  refine fg_iast X e_8 dX8_worked_153 ?_
  refine fg_aload_n X (r := (some a0)) dX8_worked_154 rfl 0 rfl ?_
  replace hF := fg_ob_some hF
  obtain ⟨r31, e_9, hF⟩ := hF
  refine fg_getr X ff_X8_against q1577 e_9 dX8_worked_155 ?_
  refine fg_iload_n X dX8_worked_158 rfl 2 rfl ?_
  refine fg_iload X dX8_worked_159 4 rfl ?_
  replace hF := fg_ob_some hF
  obtain ⟨a32, rfl, hF⟩ := hF
  replace hF := fg_ob_some hF
  obtain ⟨G33, e_10, hF⟩ := hF
  refine fg_iast X e_10 dX8_worked_161 ?_
  refine fg_aload_n X (r := (some a0)) dX8_worked_162 rfl 0 rfl ?_
  replace hF := fg_ob_some hF
  obtain ⟨r34, e_11, hF⟩ := hF
  refine fg_getr X ff_X8_sum q1578 e_11 dX8_worked_163 ?_
  refine fg_iload_n X dX8_worked_166 rfl 2 rfl ?_
  refine fg_iconst X (v := (0 : Int32)) dX8_worked_167 (by decide) ?_
  replace hF := fg_ob_some hF
  obtain ⟨a35, rfl, hF⟩ := hF
  replace hF := fg_ob_some hF
  obtain ⟨G36, e_12, hF⟩ := hF
  refine fg_iast X e_12 dX8_worked_168 ?_
  refine fg_aload_n X (r := (some a0)) dX8_worked_169 rfl 0 rfl ?_
  replace hF := fg_ob_some hF
  obtain ⟨r37, e_13, hF⟩ := hF
  refine fg_getr X ff_X8_sumBy q1579 e_13 dX8_worked_170 ?_
  refine fg_iload_n X dX8_worked_173 rfl 2 rfl ?_
  refine fg_bipush X (v := (20 : Int32)) dX8_worked_174 (by decide) ?_
  replace hF := fg_ob_some hF
  obtain ⟨a38, rfl, hF⟩ := hF
  replace hF := fg_ob_some hF
  obtain ⟨G39, e_14, hF⟩ := hF
  refine fg_iast X e_14 dX8_worked_176 ?_
  refine fg_goto X (tgt := 329) dX8_worked_177 (by decide) ?_
  refine fg_iinc X (v := (i3 + (1 : Int32))) (L' := [(3, .int (i3 + (1 : Int32))), (0, .ref a0), (1, .int i1), (2, .int i2), (4, .int i4)]) dX8_worked_329 3 rfl rfl (by decide) rfl ?_
  refine fg_goto X (tgt := 14) dX8_worked_332 (by decide) ?_
  refine fg_sub [1, 2, 3, 0] rfl ?_
  exact h14 _ (Option.some.inj hF).symm
set_option maxHeartbeats 4000000 in
theorem wX8_worked_194 {Ω : fg_O} {a0 : Nat} {i1 : Int32} {i2 : Int32} {i3 : Int32} {i4 : Int32} {G : fg_H} {t : ((Nat × Int32 × Int32 × Int32 × fg_H) ⊕ (Int32 × fg_H))} (X : fg_X Ω RX8 "worked" cX8_worked 6 (some .int) 2) (hF : fX8_worked_194 a0 i1 i2 i3 i4 G = some t) (h14 : ∀ z, t = (.inl z) → fg_W Ω z.2.2.2.2 14 [(0, .ref z.1), (1, .int z.2.1), (2, .int z.2.2.1), (3, .int z.2.2.2.1)] []) (hT : ∀ u, t = (.inr u) → fg_T Ω (.returned (some (.int u.1))) u.2) : fg_W Ω G 194 [(0, .ref a0), (1, .int i1), (2, .int i2), (3, .int i3), (4, .int i4)] [] := by
  unfold fX8_worked_194 at hF
  refine fg_aload_n X (r := (some a0)) dX8_worked_194 rfl 0 rfl ?_
  refine fg_iload_n X dX8_worked_195 rfl 2 rfl ?_
  replace hF := fg_gd_some hF
  obtain ⟨eg_1, hF⟩ := hF
  obtain ⟨fs_2, eo_3⟩ := fg_rc_get eg_1
  replace hF := fg_oc_some hF
  obtain ⟨u, G40, e_4, hF⟩ := hF
  refine fg_callV X (st := []) (mX8_tests Ω.2.2.2.2.1 Ω.1 e_4) q1868 q1870 qs72 q105 q1871 hd_X8_tests (by decide) rfl eo_3 (by decide) rfl rfl (Nat.le_of_ble_eq_true rfl) dX8_worked_196 ?_
  refine fg_aload_n X (r := (some a0)) dX8_worked_199 rfl 0 rfl ?_
  replace hF := fg_ob_some hF
  obtain ⟨r41, e_5, hF⟩ := hF
  refine fg_getr X ff_X8_keptBy q1575 e_5 dX8_worked_200 ?_
  refine fg_iload_n X dX8_worked_203 rfl 2 rfl ?_
  refine fg_iload X dX8_worked_204 4 rfl ?_
  replace hF := fg_ob_some hF
  obtain ⟨a42, rfl, hF⟩ := hF
  replace hF := fg_ob_some hF
  obtain ⟨G43, e_6, hF⟩ := hF
  refine fg_iast X e_6 dX8_worked_206 ?_
  refine fg_goto X (tgt := 329) dX8_worked_207 (by decide) ?_
  refine fg_iinc X (v := (i3 + (1 : Int32))) (L' := [(3, .int (i3 + (1 : Int32))), (0, .ref a0), (1, .int i1), (2, .int i2), (4, .int i4)]) dX8_worked_329 3 rfl rfl (by decide) rfl ?_
  refine fg_goto X (tgt := 14) dX8_worked_332 (by decide) ?_
  refine fg_sub [1, 2, 3, 0] rfl ?_
  exact h14 _ (Option.some.inj hF).symm
set_option maxHeartbeats 4000000 in
theorem wX8_worked_300 {Ω : fg_O} {a0 : Nat} {i1 : Int32} {i2 : Int32} {i3 : Int32} {i5 : Int32} {G : fg_H} {t : ((Nat × Int32 × Int32 × Int32 × fg_H) ⊕ (Int32 × fg_H))} (X : fg_X Ω RX8 "worked" cX8_worked 6 (some .int) 2) (hF : fX8_worked_300 a0 i1 i2 i3 i5 G = some t) (h14 : ∀ z, t = (.inl z) → fg_W Ω z.2.2.2.2 14 [(0, .ref z.1), (1, .int z.2.1), (2, .int z.2.2.1), (3, .int z.2.2.2.1)] []) (hT : ∀ u, t = (.inr u) → fg_T Ω (.returned (some (.int u.1))) u.2) : fg_W Ω G 300 [(0, .ref a0), (1, .int i1), (2, .int i2), (3, .int i3), (5, .int i5)] [] := by
  unfold fX8_worked_300 at hF
  refine fg_aload_n X (r := (some a0)) dX8_worked_300 rfl 0 rfl ?_
  replace hF := fg_ob_some hF
  obtain ⟨r45, e_1, hF⟩ := hF
  refine fg_getr X ff_X8_term q1580 e_1 dX8_worked_301 ?_
  refine fg_iload_n X dX8_worked_304 rfl 2 rfl ?_
  refine fg_aload_n X (r := (some a0)) dX8_worked_305 rfl 0 rfl ?_
  replace hF := fg_ob_some hF
  obtain ⟨r46, e_2, hF⟩ := hF
  refine fg_getr X ff_X8_termBy q1581 e_2 dX8_worked_306 ?_
  refine fg_iload_n X dX8_worked_309 rfl 2 rfl ?_
  replace hF := fg_ob_some hF
  obtain ⟨a47, rfl, hF⟩ := hF
  replace hF := fg_ob_some hF
  obtain ⟨x48, e_3, hF⟩ := hF
  refine fg_iald X e_3 dX8_worked_310 ?_
  refine fg_if_ne X (tgt := 319) dX8_worked_311 (by decide) (fun hc => ?_) (fun hc => ?_)
  · rw [if_neg hc] at hF
    refine fg_aload_n X (r := (some a0)) dX8_worked_319 rfl 0 rfl ?_
    replace hF := fg_ob_some hF
    obtain ⟨r49, e_4, hF⟩ := hF
    refine fg_getr X ff_X8_term q1580 e_4 dX8_worked_320 ?_
    refine fg_iload_n X dX8_worked_323 rfl 2 rfl ?_
    replace hF := fg_ob_some hF
    obtain ⟨a50, rfl, hF⟩ := hF
    replace hF := fg_ob_some hF
    obtain ⟨x51, e_5, hF⟩ := hF
    refine fg_iald X e_5 dX8_worked_324 ?_
    refine fg_iload X dX8_worked_325 4 rfl ?_
    refine fg_imul X dX8_worked_327 ?_
    replace hF := fg_ob_some hF
    obtain ⟨a52, rfl, hF⟩ := hF
    replace hF := fg_ob_some hF
    obtain ⟨G53, e_6, hF⟩ := hF
    refine fg_iast X e_6 dX8_worked_328 ?_
    refine fg_iinc X (v := (i3 + (1 : Int32))) (L' := [(3, .int (i3 + (1 : Int32))), (0, .ref a0), (1, .int i1), (2, .int i2), (5, .int i5)]) dX8_worked_329 3 rfl rfl (by decide) rfl ?_
    refine fg_goto X (tgt := 14) dX8_worked_332 (by decide) ?_
    refine fg_sub [1, 2, 3, 0] rfl ?_
    exact h14 _ (Option.some.inj hF).symm
  · rw [if_pos hc] at hF
    refine fg_iload X dX8_worked_314 4 rfl ?_
    refine fg_goto X (tgt := 328) dX8_worked_316 (by decide) ?_
    replace hF := fg_ob_some hF
    obtain ⟨a54, rfl, hF⟩ := hF
    replace hF := fg_ob_some hF
    obtain ⟨G55, e_7, hF⟩ := hF
    refine fg_iast X e_7 dX8_worked_328 ?_
    refine fg_iinc X (v := (i3 + (1 : Int32))) (L' := [(3, .int (i3 + (1 : Int32))), (0, .ref a0), (1, .int i1), (2, .int i2), (5, .int i5)]) dX8_worked_329 3 rfl rfl (by decide) rfl ?_
    refine fg_goto X (tgt := 14) dX8_worked_332 (by decide) ?_
    refine fg_sub [1, 2, 3, 0] rfl ?_
    exact h14 _ (Option.some.inj hF).symm
set_option maxHeartbeats 4000000 in
theorem wX8_worked_268b {Ω : fg_O} {a0 : Nat} {i1 : Int32} {i2 : Int32} {i3 : Int32} {i5 : Int32} {G : fg_H} {t : ((Nat × Int32 × Int32 × Int32 × Int32 × fg_H) ⊕ ((Nat × Int32 × Int32 × Int32 × fg_H) ⊕ (Int32 × fg_H)))} (X : fg_X Ω RX8 "worked" cX8_worked 6 (some .int) 2) (hF : fX8_worked_268b a0 i1 i2 i3 i5 G = some t) (h14 : ∀ z, t = (.inr (.inl z)) → fg_W Ω z.2.2.2.2 14 [(0, .ref z.1), (1, .int z.2.1), (2, .int z.2.2.1), (3, .int z.2.2.2.1)] []) (h268 : ∀ z, t = (.inl z) → fg_W Ω z.2.2.2.2.2 268 [(0, .ref z.1), (1, .int z.2.1), (2, .int z.2.2.1), (3, .int z.2.2.2.1), (5, .int z.2.2.2.2.1)] []) (hT : ∀ u, t = (.inr (.inr u)) → fg_T Ω (.returned (some (.int u.1))) u.2) : fg_W Ω G 268 [(0, .ref a0), (1, .int i1), (2, .int i2), (3, .int i3), (5, .int i5)] [] := by
  unfold fX8_worked_268b at hF
  refine fg_iload_n X dX8_worked_268 rfl 2 rfl ?_
  refine fg_if_le X (tgt := 300) dX8_worked_269 (by decide) (fun hc => ?_) (fun hc => ?_)
  · rw [if_pos hc] at hF
    replace hF := fg_rt_some hF
    obtain ⟨t44, hF, ht_1⟩ := hF
    subst ht_1
    replace h14 := fun z q => h14 z (congrArg Sum.inr q)
    replace hT := fun u q => hT u (congrArg Sum.inr q)
    refine fg_sub [0, 1, 2, 3, 4] rfl ?_
    exact wX8_worked_300 X hF h14 hT
  · rw [if_neg hc] at hF
    refine fg_aload_n X (r := (some a0)) dX8_worked_272 rfl 0 rfl ?_
    replace hF := fg_ob_some hF
    obtain ⟨r56, e_2, hF⟩ := hF
    refine fg_getr X ff_X8_byNot q1582 e_2 dX8_worked_273 ?_
    refine fg_iload_n X dX8_worked_276 rfl 2 rfl ?_
    replace hF := fg_ob_some hF
    obtain ⟨a57, rfl, hF⟩ := hF
    replace hF := fg_ob_some hF
    obtain ⟨x58, e_3, hF⟩ := hF
    refine fg_iald X e_3 dX8_worked_277 ?_
    refine fg_iconst X (v := (1 : Int32)) dX8_worked_278 (by decide) ?_
    refine fg_icmp_ne X (tgt := 300) dX8_worked_279 (by decide) (fun hc => ?_) (fun hc => ?_)
    · rw [if_neg hc] at hF
      replace hF := fg_rt_some hF
      obtain ⟨t59, hF, ht_4⟩ := hF
      subst ht_4
      replace h14 := fun z q => h14 z (congrArg Sum.inr q)
      replace hT := fun u q => hT u (congrArg Sum.inr q)
      refine fg_sub [0, 1, 2, 3, 4] rfl ?_
      exact wX8_worked_300 X hF h14 hT
    · rw [if_pos hc] at hF
      refine fg_iload X dX8_worked_282 4 rfl ?_
      refine fg_if_ne X (tgt := 291) dX8_worked_284 (by decide) (fun hc => ?_) (fun hc => ?_)
      · rw [if_neg hc] at hF
        refine fg_iconst X (v := (0 : Int32)) dX8_worked_291 (by decide) ?_
        refine fg_istore X (L' := [(5, .int (0 : Int32)), (0, .ref a0), (1, .int i1), (2, .int i2), (3, .int i3)]) dX8_worked_292 (by decide) rfl ?_
        refine fg_iinc X (v := (i2 + (-1 : Int32))) (L' := [(2, .int (i2 + (-1 : Int32))), (5, .int (0 : Int32)), (0, .ref a0), (1, .int i1), (3, .int i3)]) dX8_worked_294 3 rfl rfl (by decide) rfl ?_
        refine fg_goto X (tgt := 268) dX8_worked_297 (by decide) ?_
        refine fg_sub [2, 3, 0, 4, 1] rfl ?_
        exact h268 _ (Option.some.inj hF).symm
      · rw [if_pos hc] at hF
        refine fg_iconst X (v := (1 : Int32)) dX8_worked_287 (by decide) ?_
        refine fg_goto X (tgt := 292) dX8_worked_288 (by decide) ?_
        refine fg_istore X (L' := [(5, .int (1 : Int32)), (0, .ref a0), (1, .int i1), (2, .int i2), (3, .int i3)]) dX8_worked_292 (by decide) rfl ?_
        refine fg_iinc X (v := (i2 + (-1 : Int32))) (L' := [(2, .int (i2 + (-1 : Int32))), (5, .int (1 : Int32)), (0, .ref a0), (1, .int i1), (3, .int i3)]) dX8_worked_294 3 rfl rfl (by decide) rfl ?_
        refine fg_goto X (tgt := 268) dX8_worked_297 (by decide) ?_
        refine fg_sub [2, 3, 0, 4, 1] rfl ?_
        exact h268 _ (Option.some.inj hF).symm
set_option maxHeartbeats 4000000 in
theorem wX8_worked_268 {Ω : fg_O} {a0 : Nat} {i1 : Int32} {i2 : Int32} {i3 : Int32} {i5 : Int32} {G : fg_H} {t : ((Nat × Int32 × Int32 × Int32 × fg_H) ⊕ (Int32 × fg_H))} (X : fg_X Ω RX8 "worked" cX8_worked 6 (some .int) 2) (hF : fX8_worked_268 a0 i1 i2 i3 i5 G = some t) (h14 : ∀ z, t = (.inl z) → fg_W Ω z.2.2.2.2 14 [(0, .ref z.1), (1, .int z.2.1), (2, .int z.2.2.1), (3, .int z.2.2.2.1)] []) (hT : ∀ u, t = (.inr u) → fg_T Ω (.returned (some (.int u.1))) u.2) : fg_W Ω G 268 [(0, .ref a0), (1, .int i1), (2, .int i2), (3, .int i3), (5, .int i5)] [] := by
  unfold fX8_worked_268 at hF
  exact fg_lp_walk (P := fun z => fg_W Ω z.2.2.2.2.2 268 [(0, .ref z.1), (1, .int z.2.1), (2, .int z.2.2.1), (3, .int z.2.2.2.1), (5, .int z.2.2.2.2.1)] []) (fun y o ho hl hr => wX8_worked_268b X ho (fun z e => h14 z (hr _ e).symm) (fun z e => hl z e) (fun u e => hT u (hr _ e).symm)) hF
set_option maxHeartbeats 4000000 in
theorem wX8_worked_243 {Ω : fg_O} {a0 : Nat} {i1 : Int32} {i2 : Int32} {i3 : Int32} {i4 : Int32} {s0 : Int32} {G : fg_H} {t : ((Nat × Int32 × Int32 × Int32 × fg_H) ⊕ (Int32 × fg_H))} (X : fg_X Ω RX8 "worked" cX8_worked 6 (some .int) 2) (hF : fX8_worked_243 a0 i1 i2 i3 i4 s0 G = some t) (h14 : ∀ z, t = (.inl z) → fg_W Ω z.2.2.2.2 14 [(0, .ref z.1), (1, .int z.2.1), (2, .int z.2.2.1), (3, .int z.2.2.2.1)] []) (hT : ∀ u, t = (.inr u) → fg_T Ω (.returned (some (.int u.1))) u.2) : fg_W Ω G 243 [(0, .ref a0), (1, .int i1), (2, .int i2), (3, .int i3), (4, .int i4)] [.int s0] := by
  unfold fX8_worked_243 at hF
  refine fg_istore X (L' := [(5, .int s0), (0, .ref a0), (1, .int i1), (2, .int i2), (3, .int i3), (4, .int i4)]) dX8_worked_243 (by decide) rfl ?_
  refine fg_iload X dX8_worked_245 5 rfl ?_
  refine fg_bipush X (v := (29 : Int32)) dX8_worked_247 (by decide) ?_
  refine fg_icmp_ne X (tgt := 268) dX8_worked_249 (by decide) (fun hc => ?_) (fun hc => ?_)
  · rw [if_neg hc] at hF
    refine fg_sub [1, 2, 3, 4, 0] rfl ?_
    exact wX8_worked_268 X hF h14 hT
  · rw [if_pos hc] at hF
    refine fg_aload_n X (r := (some a0)) dX8_worked_252 rfl 1 rfl ?_
    refine fg_iload_n X dX8_worked_253 rfl 3 rfl ?_
    replace hF := fg_gd_some hF
    obtain ⟨eg_1, hF⟩ := hF
    obtain ⟨fs_2, eo_3⟩ := fg_rc_get eg_1
    replace hF := fg_oc_some hF
    obtain ⟨u, G60, e_4, hF⟩ := hF
    refine fg_callV X (st := []) (mX8_tests Ω.2.2.2.2.1 Ω.1 e_4) q1868 q1870 qs72 q105 q1871 hd_X8_tests (by decide) rfl eo_3 (by decide) rfl rfl (Nat.le_of_ble_eq_true rfl) dX8_worked_254 ?_
    refine fg_aload_n X (r := (some a0)) dX8_worked_257 rfl 1 rfl ?_
    replace hF := fg_ob_some hF
    obtain ⟨r61, e_5, hF⟩ := hF
    refine fg_getr X ff_X8_kept q1574 e_5 dX8_worked_258 ?_
    refine fg_iload_n X dX8_worked_261 rfl 3 rfl ?_
    replace hF := fg_ob_some hF
    obtain ⟨a62, rfl, hF⟩ := hF
    replace hF := fg_ob_some hF
    obtain ⟨x63, e_6, hF⟩ := hF
    refine fg_iald X e_6 dX8_worked_262 ?_
    refine fg_istore X (L' := [(5, .int x63), (0, .ref a0), (1, .int i1), (2, .int i2), (3, .int i3), (4, .int i4)]) dX8_worked_263 (by decide) rfl ?_
    refine fg_iinc X (v := (i2 + (-1 : Int32))) (L' := [(2, .int (i2 + (-1 : Int32))), (5, .int x63), (0, .ref a0), (1, .int i1), (3, .int i3), (4, .int i4)]) dX8_worked_265 3 rfl rfl (by decide) rfl ?_
    refine fg_sub [2, 3, 0, 4, 1] rfl ?_
    exact wX8_worked_268 X hF h14 hT
set_option maxHeartbeats 4000000 in
theorem wX8_worked_14b {Ω : fg_O} {a0 : Nat} {i1 : Int32} {i2 : Int32} {i3 : Int32} {G : fg_H} {t : ((Nat × Int32 × Int32 × Int32 × fg_H) ⊕ (Int32 × fg_H))} (X : fg_X Ω RX8 "worked" cX8_worked 6 (some .int) 2) (hF : fX8_worked_14b a0 i1 i2 i3 G = some t) (h14 : ∀ z, t = (.inl z) → fg_W Ω z.2.2.2.2 14 [(0, .ref z.1), (1, .int z.2.1), (2, .int z.2.2.1), (3, .int z.2.2.2.1)] []) (hT : ∀ u, t = (.inr u) → fg_T Ω (.returned (some (.int u.1))) u.2) : fg_W Ω G 14 [(0, .ref a0), (1, .int i1), (2, .int i2), (3, .int i3)] [] := by
  unfold fX8_worked_14b at hF
  refine fg_iload_n X dX8_worked_14 rfl 3 rfl ?_
  refine fg_aload_n X (r := (some a0)) dX8_worked_15 rfl 0 rfl ?_
  replace hF := fg_ob_some hF
  obtain ⟨r5, e_1, hF⟩ := hF
  refine fg_getr X ff_X8_lineTo q1567 e_1 dX8_worked_16 ?_
  refine fg_iload_n X dX8_worked_19 rfl 1 rfl ?_
  replace hF := fg_ob_some hF
  obtain ⟨a6, rfl, hF⟩ := hF
  replace hF := fg_ob_some hF
  obtain ⟨x7, e_2, hF⟩ := hF
  refine fg_iald X e_2 dX8_worked_20 ?_
  refine fg_icmp_ge X (tgt := 335) dX8_worked_21 (by decide) (fun hc => ?_) (fun hc => ?_)
  · rw [if_pos hc] at hF
    replace hF := fg_rt_some hF
    obtain ⟨t8, hF, ht_3⟩ := hF
    subst ht_3
    replace hT := hT _ rfl
    refine fg_aload_n X (r := (some a0)) dX8_worked_335 rfl 0 rfl ?_
    refine fg_iconst X (v := (0 : Int32)) dX8_worked_336 (by decide) ?_
    replace hF := fg_gd_some hF
    obtain ⟨eg_4, hF⟩ := hF
    obtain ⟨fs_5, eo_6⟩ := fg_rc_get eg_4
    replace hF := fg_oc_some hF
    obtain ⟨u, G9, e_7, hF⟩ := hF
    refine fg_callV X (st := []) (mX8_tests Ω.2.2.2.2.1 Ω.1 e_7) q1868 q1870 qs72 q105 q1871 hd_X8_tests (by decide) rfl eo_6 (by decide) rfl rfl (Nat.le_of_ble_eq_true rfl) dX8_worked_337 ?_
    refine fg_aload_n X (r := (some a0)) dX8_worked_340 rfl 0 rfl ?_
    replace hF := fg_ob_some hF
    obtain ⟨r10, e_8, hF⟩ := hF
    refine fg_getr X ff_X8_kept q1574 e_8 dX8_worked_341 ?_
    refine fg_iconst X (v := (0 : Int32)) dX8_worked_344 (by decide) ?_
    replace hF := fg_ob_some hF
    obtain ⟨a11, rfl, hF⟩ := hF
    replace hF := fg_ob_some hF
    obtain ⟨x12, e_9, hF⟩ := hF
    refine fg_iald X e_9 dX8_worked_345 ?_
    cases hF
    exact fg_iret X dX8_worked_346 (hT)
  · rw [if_neg hc] at hF
    refine fg_aload_n X (r := (some a0)) dX8_worked_24 rfl 0 rfl ?_
    replace hF := fg_ob_some hF
    obtain ⟨r13, e_10, hF⟩ := hF
    refine fg_getr X ff_X8_codes q1568 e_10 dX8_worked_25 ?_
    refine fg_iload_n X dX8_worked_28 rfl 3 rfl ?_
    replace hF := fg_ob_some hF
    obtain ⟨a14, rfl, hF⟩ := hF
    replace hF := fg_ob_some hF
    obtain ⟨x15, e_11, hF⟩ := hF
    refine fg_iald X e_11 dX8_worked_29 ?_
    refine fg_istore X (L' := [(4, .int x15), (0, .ref a0), (1, .int i1), (2, .int i2), (3, .int i3)]) dX8_worked_30 (by decide) rfl ?_
    refine fg_iload X dX8_worked_32 0 rfl ?_
    refine fg_bipush X (v := (28 : Int32)) dX8_worked_34 (by decide) ?_
    refine fg_icmp_eq X (tgt := 46) dX8_worked_36 (by decide) (fun hc => ?_) (fun hc => ?_)
    · rw [if_pos hc] at hF
      refine fg_sub [1, 2, 3, 4, 0] rfl ?_
      exact wX8_worked_46 X hF h14 hT
    · rw [if_neg hc] at hF
      refine fg_iload X dX8_worked_39 0 rfl ?_
      refine fg_bipush X (v := (30 : Int32)) dX8_worked_41 (by decide) ?_
      refine fg_icmp_ne X (tgt := 75) dX8_worked_43 (by decide) (fun hc => ?_) (fun hc => ?_)
      · rw [if_neg hc] at hF
        refine fg_iload X dX8_worked_75 0 rfl ?_
        refine fg_bipush X (v := (20 : Int32)) dX8_worked_77 (by decide) ?_
        refine fg_icmp_eq X (tgt := 89) dX8_worked_79 (by decide) (fun hc => ?_) (fun hc => ?_)
        · rw [if_pos hc] at hF
          refine fg_sub [1, 2, 3, 4, 0] rfl ?_
          exact wX8_worked_89 X hF h14 hT
        · rw [if_neg hc] at hF
          refine fg_iload X dX8_worked_82 0 rfl ?_
          refine fg_bipush X (v := (21 : Int32)) dX8_worked_84 (by decide) ?_
          refine fg_icmp_ne X (tgt := 105) dX8_worked_86 (by decide) (fun hc => ?_) (fun hc => ?_)
          · rw [if_neg hc] at hF
            refine fg_iload X dX8_worked_105 0 rfl ?_
            refine fg_bipush X (v := (22 : Int32)) dX8_worked_107 (by decide) ?_
            refine fg_icmp_ne X (tgt := 123) dX8_worked_109 (by decide) (fun hc => ?_) (fun hc => ?_)
            · rw [if_neg hc] at hF
              refine fg_iload X dX8_worked_123 0 rfl ?_
              refine fg_bipush X (v := (24 : Int32)) dX8_worked_125 (by decide) ?_
              refine fg_icmp_eq X (tgt := 137) dX8_worked_127 (by decide) (fun hc => ?_) (fun hc => ?_)
              · rw [if_pos hc] at hF
                refine fg_sub [1, 2, 3, 4, 0] rfl ?_
                exact wX8_worked_137 X hF h14 hT
              · rw [if_neg hc] at hF
                refine fg_iload X dX8_worked_130 0 rfl ?_
                refine fg_bipush X (v := (25 : Int32)) dX8_worked_132 (by decide) ?_
                refine fg_icmp_ne X (tgt := 180) dX8_worked_134 (by decide) (fun hc => ?_) (fun hc => ?_)
                · rw [if_neg hc] at hF
                  refine fg_iload X dX8_worked_180 0 rfl ?_
                  refine fg_bipush X (v := (26 : Int32)) dX8_worked_182 (by decide) ?_
                  refine fg_icmp_eq X (tgt := 194) dX8_worked_184 (by decide) (fun hc => ?_) (fun hc => ?_)
                  · rw [if_pos hc] at hF
                    refine fg_sub [1, 2, 3, 4, 0] rfl ?_
                    exact wX8_worked_194 X hF h14 hT
                  · rw [if_neg hc] at hF
                    refine fg_iload X dX8_worked_187 0 rfl ?_
                    refine fg_bipush X (v := (27 : Int32)) dX8_worked_189 (by decide) ?_
                    refine fg_icmp_ne X (tgt := 210) dX8_worked_191 (by decide) (fun hc => ?_) (fun hc => ?_)
                    · rw [if_neg hc] at hF
                      refine fg_iload X dX8_worked_210 0 rfl ?_
                      refine fg_bipush X (v := (100 : Int32)) dX8_worked_212 (by decide) ?_
                      refine fg_icmp_lt X (tgt := 225) dX8_worked_214 (by decide) (fun hc => ?_) (fun hc => ?_)
                      · rw [if_pos hc] at hF
                        refine fg_iload X dX8_worked_225 0 rfl ?_
                        refine fg_bipush X (v := (20 : Int32)) dX8_worked_227 (by decide) ?_
                        refine fg_icmp_ge X (tgt := 242) dX8_worked_229 (by decide) (fun hc => ?_) (fun hc => ?_)
                        · rw [if_pos hc] at hF
                          refine fg_iconst X (v := (0 : Int32)) dX8_worked_242 (by decide) ?_
                          refine fg_sub [1, 2, 3, 4, 0] rfl ?_
                          exact wX8_worked_243 X hF h14 hT
                        · rw [if_neg hc] at hF
                          refine fg_aload_n X (r := (some a0)) dX8_worked_232 rfl 1 rfl ?_
                          replace hF := fg_ob_some hF
                          obtain ⟨r64, e_12, hF⟩ := hF
                          refine fg_getr X ff_X8_valueOf q1583 e_12 dX8_worked_233 ?_
                          refine fg_iload X dX8_worked_236 0 rfl ?_
                          replace hF := fg_ob_some hF
                          obtain ⟨a65, rfl, hF⟩ := hF
                          replace hF := fg_ob_some hF
                          obtain ⟨x66, e_13, hF⟩ := hF
                          refine fg_iald X e_13 dX8_worked_238 ?_
                          refine fg_goto X (tgt := 243) dX8_worked_239 (by decide) ?_
                          refine fg_sub [1, 2, 3, 4, 0] rfl ?_
                          exact wX8_worked_243 X hF h14 hT
                      · rw [if_neg hc] at hF
                        refine fg_iload X dX8_worked_217 0 rfl ?_
                        refine fg_bipush X (v := (100 : Int32)) dX8_worked_219 (by decide) ?_
                        refine fg_isub X dX8_worked_221 ?_
                        refine fg_goto X (tgt := 243) dX8_worked_222 (by decide) ?_
                        refine fg_sub [1, 2, 3, 4, 0] rfl ?_
                        exact wX8_worked_243 X hF h14 hT
                    · rw [if_pos hc] at hF
                      refine fg_sub [1, 2, 3, 4, 0] rfl ?_
                      exact wX8_worked_194 X hF h14 hT
                · rw [if_pos hc] at hF
                  refine fg_sub [1, 2, 3, 4, 0] rfl ?_
                  exact wX8_worked_137 X hF h14 hT
            · rw [if_pos hc] at hF
              refine fg_aload_n X (r := (some a0)) dX8_worked_112 rfl 1 rfl ?_
              replace hF := fg_ob_some hF
              obtain ⟨r67, e_14, hF⟩ := hF
              refine fg_getr X ff_X8_termBy q1581 e_14 dX8_worked_113 ?_
              refine fg_iload_n X dX8_worked_116 rfl 3 rfl ?_
              refine fg_iload X dX8_worked_117 0 rfl ?_
              replace hF := fg_ob_some hF
              obtain ⟨a68, rfl, hF⟩ := hF
              replace hF := fg_ob_some hF
              obtain ⟨G69, e_15, hF⟩ := hF
              refine fg_iast X e_15 dX8_worked_119 ?_
              refine fg_goto X (tgt := 329) dX8_worked_120 (by decide) ?_
              refine fg_iinc X (v := (i3 + (1 : Int32))) (L' := [(3, .int (i3 + (1 : Int32))), (4, .int x15), (0, .ref a0), (1, .int i1), (2, .int i2)]) dX8_worked_329 4 rfl rfl (by decide) rfl ?_
              refine fg_goto X (tgt := 14) dX8_worked_332 (by decide) ?_
              refine fg_sub [2, 3, 4, 0] rfl ?_
              exact h14 _ (Option.some.inj hF).symm
          · rw [if_pos hc] at hF
            refine fg_sub [1, 2, 3, 4, 0] rfl ?_
            exact wX8_worked_89 X hF h14 hT
      · rw [if_pos hc] at hF
        refine fg_sub [1, 2, 3, 4, 0] rfl ?_
        exact wX8_worked_46 X hF h14 hT
set_option maxHeartbeats 4000000 in
theorem wX8_worked_14 {Ω : fg_O} {a0 : Nat} {i1 : Int32} {i2 : Int32} {i3 : Int32} {G : fg_H} {t : (Int32 × fg_H)} (X : fg_X Ω RX8 "worked" cX8_worked 6 (some .int) 2) (hF : fX8_worked_14 a0 i1 i2 i3 G = some t) (hT : fg_T Ω (.returned (some (.int t.1))) t.2) : fg_W Ω G 14 [(0, .ref a0), (1, .int i1), (2, .int i2), (3, .int i3)] [] := by
  unfold fX8_worked_14 at hF
  exact fg_lp_walk (P := fun z => fg_W Ω z.2.2.2.2 14 [(0, .ref z.1), (1, .int z.2.1), (2, .int z.2.2.1), (3, .int z.2.2.2.1)] []) (fun y o ho hl hr => wX8_worked_14b X ho (fun z e => hl z e) (fun u e => by rw [hr _ e]; exact hT)) hF
set_option maxHeartbeats 4000000 in
theorem wX8_worked {Ω : fg_O} {a0 : Nat} {i1 : Int32} {G : fg_H} {t : Int32 × fg_H} (X : fg_X Ω RX8 "worked" cX8_worked 6 (some .int) 2) (hF : fX8_worked a0 i1 G = some t) (hT : fg_T Ω (.returned (some (.int t.1))) t.2) : fg_W Ω G 0 [(0, .ref a0), (1, .int i1)] [] := by
  unfold fX8_worked at hF
  refine fg_iconst X (v := (0 : Int32)) dX8_worked_0 (by decide) ?_
  refine fg_istore_n X (L' := [(2, .int (0 : Int32)), (0, .ref a0), (1, .int i1)]) dX8_worked_1 rfl (by decide) rfl ?_
  refine fg_aload_n X (r := (some a0)) dX8_worked_2 rfl 1 rfl ?_
  refine fg_iconst X (v := (0 : Int32)) dX8_worked_3 (by decide) ?_
  replace hF := fg_gd_some hF
  obtain ⟨eg_1, hF⟩ := hF
  obtain ⟨fs_2, eo_3⟩ := fg_rc_get eg_1
  replace hF := fg_oc_some hF
  obtain ⟨u, G1, e_4, hF⟩ := hF
  refine fg_callV X (st := []) (mX8_opens Ω.2.2.2.2.1 Ω.1 e_4) q1860 q1862 qs70 q105 q1863 hd_X8_opens (by decide) rfl eo_3 (by decide) rfl rfl (Nat.le_of_ble_eq_true rfl) dX8_worked_4 ?_
  refine fg_aload_n X (r := (some a0)) dX8_worked_7 rfl 1 rfl ?_
  replace hF := fg_ob_some hF
  obtain ⟨r2, e_5, hF⟩ := hF
  refine fg_getr X ff_X8_lineFrom q1566 e_5 dX8_worked_8 ?_
  refine fg_iload_n X dX8_worked_11 rfl 2 rfl ?_
  replace hF := fg_ob_some hF
  obtain ⟨a3, rfl, hF⟩ := hF
  replace hF := fg_ob_some hF
  obtain ⟨x4, e_6, hF⟩ := hF
  refine fg_iald X e_6 dX8_worked_12 ?_
  refine fg_istore_n X (L' := [(3, .int x4), (2, .int (0 : Int32)), (0, .ref a0), (1, .int i1)]) dX8_worked_13 rfl (by decide) rfl ?_
  refine fg_sub [2, 3, 1, 0] rfl ?_
  exact wX8_worked_14 X hF hT
theorem mX8_worked (l : Launch) (D : fg_D) {a0 : Nat} {i1 : Int32} {G : fg_H} {t : Int32 × fg_H} (hF : fX8_worked a0 i1 G = some t) : fg_M l D yX8_worked cX8_worked 6 (some .int) 2 [.ref a0, .int i1] G (.returned (some (.int t.1))) t.2 :=
  fg_Mof (own := RX8) (nm := "worked") (L := [(0, .ref a0), (1, .int i1)]) (plainFor_of_name pn_X8) rfl rfl rfl (Nat.le_of_ble_eq_true rfl) (fun Ω _ _ X hT => wX8_worked X hF hT)
theorem hd_X8_windAt : yX8_windAt.cls ≠ "java/lang/invoke/MethodHandle" ∧ yX8_windAt.cls ≠ "java/lang/invoke/VarHandle" ∧ (parseMethodDescriptor yX8_windAt.desc).map (fun d => d.parameters.length) = some 2 := ⟨by decide +kernel, by decide +kernel, by decide +kernel⟩
set_option maxHeartbeats 4000000 in
theorem wX8_windAt {Ω : fg_O} {a0 : Nat} {i1 : Int32} {i2 : Int32} {G : fg_H} {t : Int32 × fg_H} (X : fg_X Ω RX8 "windAt" cX8_windAt 3 (some .int) 3) (hF : fX8_windAt a0 i1 i2 G = some t) (hT : fg_T Ω (.returned (some (.int t.1))) t.2) : fg_W Ω G 0 [(0, .ref a0), (1, .int i1), (2, .int i2)] [] := by
  unfold fX8_windAt at hF
  refine fg_aload_n X (r := (some a0)) dX8_windAt_0 rfl 0 rfl ?_
  replace hF := fg_ob_some hF
  obtain ⟨r1, e_1, hF⟩ := hF
  refine fg_getr X ff_X8_lineTo q1567 e_1 dX8_windAt_1 ?_
  refine fg_iconst X (v := (0 : Int32)) dX8_windAt_4 (by decide) ?_
  replace hF := fg_ob_some hF
  obtain ⟨a2, rfl, hF⟩ := hF
  replace hF := fg_ob_some hF
  obtain ⟨x3, e_2, hF⟩ := hF
  refine fg_iald X e_2 dX8_windAt_5 ?_
  refine fg_aload_n X (r := (some a0)) dX8_windAt_6 rfl 0 rfl ?_
  replace hF := fg_ob_some hF
  obtain ⟨r4, e_3, hF⟩ := hF
  refine fg_getr X ff_X8_lineFrom q1566 e_3 dX8_windAt_7 ?_
  refine fg_iconst X (v := (0 : Int32)) dX8_windAt_10 (by decide) ?_
  replace hF := fg_ob_some hF
  obtain ⟨a5, rfl, hF⟩ := hF
  replace hF := fg_ob_some hF
  obtain ⟨x6, e_4, hF⟩ := hF
  refine fg_iald X e_4 dX8_windAt_11 ?_
  refine fg_icmp_ne X (tgt := 17) dX8_windAt_12 (by decide) (fun hc => ?_) (fun hc => ?_)
  · rw [if_neg hc] at hF
    refine fg_aload_n X (r := (some a0)) dX8_windAt_17 rfl 0 rfl ?_
    replace hF := fg_ob_some hF
    obtain ⟨r7, e_5, hF⟩ := hF
    refine fg_getr X ff_X8_valueOf q1583 e_5 dX8_windAt_18 ?_
    refine fg_iconst X (v := (1 : Int32)) dX8_windAt_21 (by decide) ?_
    refine fg_iload_n X dX8_windAt_22 rfl 1 rfl ?_
    replace hF := fg_ob_some hF
    obtain ⟨a8, rfl, hF⟩ := hF
    replace hF := fg_ob_some hF
    obtain ⟨G9, e_6, hF⟩ := hF
    refine fg_iast X e_6 dX8_windAt_23 ?_
    refine fg_aload_n X (r := (some a0)) dX8_windAt_24 rfl 0 rfl ?_
    replace hF := fg_ob_some hF
    obtain ⟨r10, e_7, hF⟩ := hF
    refine fg_getr X ff_X8_valueOf q1583 e_7 dX8_windAt_25 ?_
    refine fg_iconst X (v := (2 : Int32)) dX8_windAt_28 (by decide) ?_
    refine fg_iload_n X dX8_windAt_29 rfl 2 rfl ?_
    replace hF := fg_ob_some hF
    obtain ⟨a11, rfl, hF⟩ := hF
    replace hF := fg_ob_some hF
    obtain ⟨G12, e_8, hF⟩ := hF
    refine fg_iast X e_8 dX8_windAt_30 ?_
    refine fg_aload_n X (r := (some a0)) dX8_windAt_31 rfl 0 rfl ?_
    refine fg_iconst X (v := (0 : Int32)) dX8_windAt_32 (by decide) ?_
    replace hF := fg_gd_some hF
    obtain ⟨eg_9, hF⟩ := hF
    obtain ⟨fs_10, eo_11⟩ := fg_rc_get eg_9
    replace hF := fg_oc_some hF
    obtain ⟨x14, G13, e_12, hF⟩ := hF
    refine fg_callV X (st := []) (mX8_worked Ω.2.2.2.2.1 Ω.1 e_12) q1856 q1858 qs69 q105 q1859 hd_X8_worked (by decide) rfl eo_11 (by decide) rfl rfl (Nat.le_of_ble_eq_true rfl) dX8_windAt_33 ?_
    refine fg_iconst X (v := (3 : Int32)) dX8_windAt_36 (by decide) ?_
    refine fg_iand X dX8_windAt_37 ?_
    cases hF
    exact fg_iret X dX8_windAt_38 (hT)
  · rw [if_pos hc] at hF
    refine fg_iconst X (v := (0 : Int32)) dX8_windAt_15 (by decide) ?_
    cases hF
    exact fg_iret X dX8_windAt_16 (hT)
theorem mX8_windAt (l : Launch) (D : fg_D) {a0 : Nat} {i1 : Int32} {i2 : Int32} {G : fg_H} {t : Int32 × fg_H} (hF : fX8_windAt a0 i1 i2 G = some t) : fg_M l D yX8_windAt cX8_windAt 3 (some .int) 3 [.ref a0, .int i1, .int i2] G (.returned (some (.int t.1))) t.2 :=
  fg_Mof (own := RX8) (nm := "windAt") (L := [(0, .ref a0), (1, .int i1), (2, .int i2)]) (plainFor_of_name pn_X8) rfl rfl rfl (Nat.le_of_ble_eq_true rfl) (fun Ω _ _ X hT => wX8_windAt X hF hT)
theorem hd_X8_wind : yX8_wind.cls ≠ "java/lang/invoke/MethodHandle" ∧ yX8_wind.cls ≠ "java/lang/invoke/VarHandle" ∧ (parseMethodDescriptor yX8_wind.desc).map (fun d => d.parameters.length) = some 1 := ⟨by decide +kernel, by decide +kernel, by decide +kernel⟩
set_option maxHeartbeats 4000000 in
theorem wX8_wind {Ω : fg_O} {a0 : Nat} {i1 : Int32} {G : fg_H} {t : Int32 × fg_H} (X : fg_X Ω RX8 "wind" cX8_wind 2 (some .int) 4) (hF : fX8_wind a0 i1 G = some t) (hT : fg_T Ω (.returned (some (.int t.1))) t.2) : fg_W Ω G 0 [(0, .ref a0), (1, .int i1)] [] := by
  unfold fX8_wind at hF
  refine fg_aload_n X (r := (some a0)) dX8_wind_0 rfl 0 rfl ?_
  refine fg_iconst X (v := (0 : Int32)) dX8_wind_1 (by decide) ?_
  replace hF := fg_ob_some hF
  obtain ⟨G1, e_1, hF⟩ := hF
  refine fg_putv X (ty := .int) (v := .int (0 : Int32)) ff_X8_thrown q1548 rfl (Or.inl rfl) rfl rfl rfl e_1 dX8_wind_2 ?_
  refine fg_aload_n X (r := (some a0)) dX8_wind_5 rfl 0 rfl ?_
  refine fg_iload_n X dX8_wind_6 rfl 1 rfl ?_
  replace hF := fg_gd_some hF
  obtain ⟨eg_2, hF⟩ := hF
  obtain ⟨fs_3, eo_4⟩ := fg_rc_get eg_2
  replace hF := fg_oc_some hF
  obtain ⟨x3, G2, e_5, hF⟩ := hF
  refine fg_callV X (st := []) (mX8_isHour Ω.2.2.2.2.1 Ω.1 e_5) q1848 q1850 qs67 q105 q1851 hd_X8_isHour (by decide) rfl eo_4 (by decide) rfl rfl (Nat.le_of_ble_eq_true rfl) dX8_wind_7 ?_
  refine fg_if_eq X (tgt := 28) dX8_wind_10 (by decide) (fun hc => ?_) (fun hc => ?_)
  · rw [if_pos hc] at hF
    refine fg_iconst X (v := (-1 : Int32)) dX8_wind_28 (by decide) ?_
    cases hF
    exact fg_iret X dX8_wind_29 (hT)
  · rw [if_neg hc] at hF
    refine fg_aload_n X (r := (some a0)) dX8_wind_13 rfl 0 rfl ?_
    refine fg_iload_n X dX8_wind_14 rfl 1 rfl ?_
    refine fg_aload_n X (r := (some a0)) dX8_wind_15 rfl 0 rfl ?_
    replace hF := fg_ob_some hF
    obtain ⟨r4, e_6, hF⟩ := hF
    refine fg_getr X ff_X8_s q1585 e_6 dX8_wind_16 ?_
    refine fg_bipush X (v := (50 : Int32)) dX8_wind_19 (by decide) ?_
    replace hF := fg_ob_some hF
    obtain ⟨a5, rfl, hF⟩ := hF
    replace hF := fg_ob_some hF
    obtain ⟨x6, e_7, hF⟩ := hF
    refine fg_iald X e_7 dX8_wind_21 ?_
    replace hF := fg_gd_some hF
    obtain ⟨eg_8, hF⟩ := hF
    obtain ⟨fs_9, eo_10⟩ := fg_rc_get eg_8
    replace hF := fg_oc_some hF
    obtain ⟨x8, G7, e_11, hF⟩ := hF
    refine fg_callV X (st := []) (mX8_windAt Ω.2.2.2.2.1 Ω.1 e_11) q1852 q1854 qs68 q105 q1855 hd_X8_windAt (by decide) rfl eo_10 (by decide) rfl rfl (Nat.le_of_ble_eq_true rfl) dX8_wind_22 ?_
    refine fg_goto X (tgt := 29) dX8_wind_25 (by decide) ?_
    cases hF
    exact fg_iret X dX8_wind_29 (hT)
theorem mX8_wind (l : Launch) (D : fg_D) {a0 : Nat} {i1 : Int32} {G : fg_H} {t : Int32 × fg_H} (hF : fX8_wind a0 i1 G = some t) : fg_M l D yX8_wind cX8_wind 2 (some .int) 4 [.ref a0, .int i1] G (.returned (some (.int t.1))) t.2 :=
  fg_Mof (own := RX8) (nm := "wind") (L := [(0, .ref a0), (1, .int i1)]) (plainFor_of_name pn_X8) rfl rfl rfl (Nat.le_of_ble_eq_true rfl) (fun Ω _ _ X hT => wX8_wind X hF hT)
theorem hd_X8_all : yX8_all.cls ≠ "java/lang/invoke/MethodHandle" ∧ yX8_all.cls ≠ "java/lang/invoke/VarHandle" ∧ (parseMethodDescriptor yX8_all.desc).map (fun d => d.parameters.length) = some 0 := ⟨by decide +kernel, by decide +kernel, by decide +kernel⟩
set_option maxHeartbeats 4000000 in
theorem wX8_all {Ω : fg_O} {a0 : Nat} {G : fg_H} {t : Int32 × fg_H} (X : fg_X Ω RX8 "all" cX8_all 1 (some .int) 0) (hF : fX8_all a0 G = some t) (hT : fg_T Ω (.returned (some (.int t.1))) t.2) : fg_W Ω G 0 [(0, .ref a0)] [] := by
  unfold fX8_all at hF
  refine fg_iconst X (v := (1 : Int32)) dX8_all_0 (by decide) ?_
  refine fg_aload_n X (r := (some a0)) dX8_all_1 rfl 0 rfl ?_
  replace hF := fg_ob_some hF
  obtain ⟨r1, e_1, hF⟩ := hF
  refine fg_getr X ff_X8_ridge q1558 e_1 dX8_all_2 ?_
  refine fg_bipush X (v := (6 : Int32)) dX8_all_5 (by decide) ?_
  replace hF := fg_ob_some hF
  obtain ⟨a2, rfl, hF⟩ := hF
  replace hF := fg_ob_some hF
  obtain ⟨x3, e_2, hF⟩ := hF
  refine fg_iald X e_2 dX8_all_7 ?_
  refine fg_ishl X dX8_all_8 ?_
  refine fg_iconst X (v := (1 : Int32)) dX8_all_9 (by decide) ?_
  refine fg_isub X dX8_all_10 ?_
  cases hF
  exact fg_iret X dX8_all_11 (hT)
theorem mX8_all (l : Launch) (D : fg_D) {a0 : Nat} {G : fg_H} {t : Int32 × fg_H} (hF : fX8_all a0 G = some t) : fg_M l D yX8_all cX8_all 1 (some .int) 0 [.ref a0] G (.returned (some (.int t.1))) t.2 :=
  fg_Mof (own := RX8) (nm := "all") (L := [(0, .ref a0)]) (plainFor_of_name pn_X8) rfl rfl rfl (Nat.le_of_ble_eq_true rfl) (fun Ω _ _ X hT => wX8_all X hF hT)
theorem hd_J7_min : yJ7_min.cls ≠ "java/lang/invoke/MethodHandle" ∧ yJ7_min.cls ≠ "java/lang/invoke/VarHandle" ∧ (parseMethodDescriptor yJ7_min.desc).map (fun d => d.parameters.length) = some 2 := ⟨by decide +kernel, by decide +kernel, by decide +kernel⟩
set_option maxHeartbeats 4000000 in
theorem wJ7_min {Ω : fg_O} {i0 : Int32} {i1 : Int32} {G : fg_H} {t : Int32 × fg_H} (X : fg_X Ω RJ7 "min" cJ7_min 2 (some .int) 0) (hF : fJ7_min i0 i1 G = some t) (hT : fg_T Ω (.returned (some (.int t.1))) t.2) : fg_W Ω G 0 [(0, .int i0), (1, .int i1)] [] := by
  unfold fJ7_min at hF
  refine fg_iload_n X dJ7_min_0 rfl 0 rfl ?_
  refine fg_iload_n X dJ7_min_1 rfl 1 rfl ?_
  refine fg_icmp_gt X (tgt := 9) dJ7_min_2 (by decide) (fun hc => ?_) (fun hc => ?_)
  · rw [if_pos hc] at hF
    refine fg_iload_n X dJ7_min_9 rfl 1 rfl ?_
    cases hF
    exact fg_iret X dJ7_min_10 (hT)
  · rw [if_neg hc] at hF
    refine fg_iload_n X dJ7_min_5 rfl 0 rfl ?_
    refine fg_goto X (tgt := 10) dJ7_min_6 (by decide) ?_
    cases hF
    exact fg_iret X dJ7_min_10 (hT)
theorem mJ7_min (l : Launch) (D : fg_D) {i0 : Int32} {i1 : Int32} {G : fg_H} {t : Int32 × fg_H} (hF : fJ7_min i0 i1 G = some t) : fg_M l D yJ7_min cJ7_min 2 (some .int) 0 [.int i0, .int i1] G (.returned (some (.int t.1))) t.2 :=
  fg_Mof (own := RJ7) (nm := "min") (L := [(0, .int i0), (1, .int i1)]) (by decide +kernel) rfl rfl rfl (Nat.le_of_ble_eq_true rfl) (fun Ω _ _ X hT => wJ7_min X hF hT)

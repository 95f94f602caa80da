set_option maxRecDepth 100000
theorem hd_X8_plain : yX8_plain.cls ≠ "java/lang/invoke/MethodHandle" ∧ yX8_plain.cls ≠ "java/lang/invoke/VarHandle" ∧ (parseMethodDescriptor yX8_plain.desc).map (fun d => d.parameters.length) = some 1 := ⟨by decide +kernel, by decide +kernel, by decide +kernel⟩
set_option maxHeartbeats 4000000 in
theorem wX8_plain_89b {Ω : fg_O} {a0 : Nat} {i1 : Int32} {i2 : Int32} {G : fg_H} {t : ((Nat × Int32 × Int32 × fg_H) ⊕ (Unit × fg_H))} (X : fg_X Ω RX8 "plain" cX8_plain 3 none 0) (hF : fX8_plain_89b a0 i1 i2 G = some t) (h89 : ∀ z, t = (.inl z) → fg_W Ω z.2.2.2 89 [(0, .ref z.1), (1, .int z.2.1), (2, .int z.2.2.1)] []) (hT : ∀ u, t = (.inr u) → fg_T Ω (.returned none) u.2) : fg_W Ω G 89 [(0, .ref a0), (1, .int i1), (2, .int i2)] [] := by
  unfold fX8_plain_89b at hF
  refine fg_iload_n X dX8_plain_89 rfl 2 rfl ?_
  refine fg_iconst X (v := (2 : Int32)) dX8_plain_90 (by decide) ?_
  refine fg_icmp_ge X (tgt := 130) dX8_plain_91 (by decide) (fun hc => ?_) (fun hc => ?_)
  · rw [if_pos hc] at hF
    replace hF := fg_rt_some hF
    obtain ⟨t22, hF, ht_1⟩ := hF
    subst ht_1
    replace hT := hT _ rfl
    cases hF
    exact fg_vret X dX8_plain_130 (hT)
  · rw [if_neg hc] at hF
    refine fg_aload_n X (r := (some a0)) dX8_plain_94 rfl 0 rfl ?_
    replace hF := fg_ob_some hF
    obtain ⟨r23, e_2, hF⟩ := hF
    refine fg_getr X ff_X8_lineFrom q1566 e_2 dX8_plain_95 ?_
    refine fg_iconst X (v := (2 : Int32)) dX8_plain_98 (by decide) ?_
    refine fg_iload_n X dX8_plain_99 rfl 1 rfl ?_
    refine fg_imul X dX8_plain_100 ?_
    refine fg_iload_n X dX8_plain_101 rfl 2 rfl ?_
    refine fg_iadd X dX8_plain_102 ?_
    refine fg_sipush X (v := (1000 : Int32)) dX8_plain_103 (by decide) ?_
    refine fg_iload_n X dX8_plain_106 rfl 1 rfl ?_
    refine fg_imul X dX8_plain_107 ?_
    replace hF := fg_ob_some hF
    obtain ⟨a24, rfl, hF⟩ := hF
    replace hF := fg_ob_some hF
    obtain ⟨G25, e_3, hF⟩ := hF
    refine fg_iast X e_3 dX8_plain_108 ?_
    refine fg_aload_n X (r := (some a0)) dX8_plain_109 rfl 0 rfl ?_
    replace hF := fg_ob_some hF
    obtain ⟨r26, e_4, hF⟩ := hF
    refine fg_getr X ff_X8_lineTo q1567 e_4 dX8_plain_110 ?_
    refine fg_iconst X (v := (2 : Int32)) dX8_plain_113 (by decide) ?_
    refine fg_iload_n X dX8_plain_114 rfl 1 rfl ?_
    refine fg_imul X dX8_plain_115 ?_
    refine fg_iload_n X dX8_plain_116 rfl 2 rfl ?_
    refine fg_iadd X dX8_plain_117 ?_
    refine fg_sipush X (v := (1000 : Int32)) dX8_plain_118 (by decide) ?_
    refine fg_iload_n X dX8_plain_121 rfl 1 rfl ?_
    refine fg_imul X dX8_plain_122 ?_
    replace hF := fg_ob_some hF
    obtain ⟨a27, rfl, hF⟩ := hF
    replace hF := fg_ob_some hF
    obtain ⟨G28, e_5, hF⟩ := hF
    refine fg_iast X e_5 dX8_plain_123 ?_
    refine fg_iinc X (v := (i2 + (1 : Int32))) (L' := [(2, .int (i2 + (1 : Int32))), (0, .ref a0), (1, .int i1)]) dX8_plain_124 2 rfl rfl (by decide) rfl ?_
    refine fg_goto X (tgt := 89) dX8_plain_127 (by decide) ?_
    refine fg_sub [1, 2, 0] rfl ?_
    exact h89 _ (Option.some.inj hF).symm
set_option maxHeartbeats 4000000 in
theorem wX8_plain_89 {Ω : fg_O} {a0 : Nat} {i1 : Int32} {i2 : Int32} {G : fg_H} {t : (Unit × fg_H)} (X : fg_X Ω RX8 "plain" cX8_plain 3 none 0) (hF : fX8_plain_89 a0 i1 i2 G = some t) (hT : fg_T Ω (.returned none) t.2) : fg_W Ω G 89 [(0, .ref a0), (1, .int i1), (2, .int i2)] [] := by
  unfold fX8_plain_89 at hF
  exact fg_lp_walk (P := fun z => fg_W Ω z.2.2.2 89 [(0, .ref z.1), (1, .int z.2.1), (2, .int z.2.2.1)] []) (fun y o ho hl hr => wX8_plain_89b X ho (fun z e => hl z e) (fun u e => by rw [hr _ e]; exact hT)) hF
set_option maxHeartbeats 4000000 in
theorem wX8_plain {Ω : fg_O} {a0 : Nat} {i1 : Int32} {G : fg_H} {t : Unit × fg_H} (X : fg_X Ω RX8 "plain" cX8_plain 3 none 0) (hF : fX8_plain a0 i1 G = some t) (hT : fg_T Ω (.returned none) t.2) : fg_W Ω G 0 [(0, .ref a0), (1, .int i1)] [] := by
  unfold fX8_plain at hF
  refine fg_aload_n X (r := (some a0)) dX8_plain_0 rfl 0 rfl ?_
  replace hF := fg_ob_some hF
  obtain ⟨r1, e_1, hF⟩ := hF
  refine fg_getr X ff_X8_ridge q1558 e_1 dX8_plain_1 ?_
  refine fg_bipush X (v := (7 : Int32)) dX8_plain_4 (by decide) ?_
  refine fg_iload_n X dX8_plain_6 rfl 1 rfl ?_
  refine fg_imul X dX8_plain_7 ?_
  refine fg_iconst X (v := (0 : Int32)) dX8_plain_8 (by decide) ?_
  refine fg_iadd X dX8_plain_9 ?_
  refine fg_bipush X (v := (6 : Int32)) dX8_plain_10 (by decide) ?_
  replace hF := fg_ob_some hF
  obtain ⟨a2, rfl, hF⟩ := hF
  replace hF := fg_ob_some hF
  obtain ⟨G3, e_2, hF⟩ := hF
  refine fg_iast X e_2 dX8_plain_12 ?_
  refine fg_aload_n X (r := (some a0)) dX8_plain_13 rfl 0 rfl ?_
  replace hF := fg_ob_some hF
  obtain ⟨r4, e_3, hF⟩ := hF
  refine fg_getr X ff_X8_ridge q1558 e_3 dX8_plain_14 ?_
  refine fg_bipush X (v := (7 : Int32)) dX8_plain_17 (by decide) ?_
  refine fg_iload_n X dX8_plain_19 rfl 1 rfl ?_
  refine fg_imul X dX8_plain_20 ?_
  refine fg_iconst X (v := (1 : Int32)) dX8_plain_21 (by decide) ?_
  refine fg_iadd X dX8_plain_22 ?_
  refine fg_iconst X (v := (4 : Int32)) dX8_plain_23 (by decide) ?_
  replace hF := fg_ob_some hF
  obtain ⟨a5, rfl, hF⟩ := hF
  replace hF := fg_ob_some hF
  obtain ⟨G6, e_4, hF⟩ := hF
  refine fg_iast X e_4 dX8_plain_24 ?_
  refine fg_aload_n X (r := (some a0)) dX8_plain_25 rfl 0 rfl ?_
  replace hF := fg_ob_some hF
  obtain ⟨r7, e_5, hF⟩ := hF
  refine fg_getr X ff_X8_ridge q1558 e_5 dX8_plain_26 ?_
  refine fg_bipush X (v := (7 : Int32)) dX8_plain_29 (by decide) ?_
  refine fg_iload_n X dX8_plain_31 rfl 1 rfl ?_
  refine fg_imul X dX8_plain_32 ?_
  refine fg_iconst X (v := (2 : Int32)) dX8_plain_33 (by decide) ?_
  refine fg_iadd X dX8_plain_34 ?_
  refine fg_bipush X (v := (6 : Int32)) dX8_plain_35 (by decide) ?_
  replace hF := fg_ob_some hF
  obtain ⟨a8, rfl, hF⟩ := hF
  replace hF := fg_ob_some hF
  obtain ⟨G9, e_6, hF⟩ := hF
  refine fg_iast X e_6 dX8_plain_37 ?_
  refine fg_aload_n X (r := (some a0)) dX8_plain_38 rfl 0 rfl ?_
  replace hF := fg_ob_some hF
  obtain ⟨r10, e_7, hF⟩ := hF
  refine fg_getr X ff_X8_ridge q1558 e_7 dX8_plain_39 ?_
  refine fg_bipush X (v := (7 : Int32)) dX8_plain_42 (by decide) ?_
  refine fg_iload_n X dX8_plain_44 rfl 1 rfl ?_
  refine fg_imul X dX8_plain_45 ?_
  refine fg_iconst X (v := (3 : Int32)) dX8_plain_46 (by decide) ?_
  refine fg_iadd X dX8_plain_47 ?_
  refine fg_iconst X (v := (0 : Int32)) dX8_plain_48 (by decide) ?_
  replace hF := fg_ob_some hF
  obtain ⟨a11, rfl, hF⟩ := hF
  replace hF := fg_ob_some hF
  obtain ⟨G12, e_8, hF⟩ := hF
  refine fg_iast X e_8 dX8_plain_49 ?_
  refine fg_aload_n X (r := (some a0)) dX8_plain_50 rfl 0 rfl ?_
  replace hF := fg_ob_some hF
  obtain ⟨r13, e_9, hF⟩ := hF
  refine fg_getr X ff_X8_ridge q1558 e_9 dX8_plain_51 ?_
  refine fg_bipush X (v := (7 : Int32)) dX8_plain_54 (by decide) ?_
  refine fg_iload_n X dX8_plain_56 rfl 1 rfl ?_
  refine fg_imul X dX8_plain_57 ?_
  refine fg_iconst X (v := (4 : Int32)) dX8_plain_58 (by decide) ?_
  refine fg_iadd X dX8_plain_59 ?_
  refine fg_iconst X (v := (0 : Int32)) dX8_plain_60 (by decide) ?_
  replace hF := fg_ob_some hF
  obtain ⟨a14, rfl, hF⟩ := hF
  replace hF := fg_ob_some hF
  obtain ⟨G15, e_10, hF⟩ := hF
  refine fg_iast X e_10 dX8_plain_61 ?_
  refine fg_aload_n X (r := (some a0)) dX8_plain_62 rfl 0 rfl ?_
  replace hF := fg_ob_some hF
  obtain ⟨r16, e_11, hF⟩ := hF
  refine fg_getr X ff_X8_ridge q1558 e_11 dX8_plain_63 ?_
  refine fg_bipush X (v := (7 : Int32)) dX8_plain_66 (by decide) ?_
  refine fg_iload_n X dX8_plain_68 rfl 1 rfl ?_
  refine fg_imul X dX8_plain_69 ?_
  refine fg_iconst X (v := (5 : Int32)) dX8_plain_70 (by decide) ?_
  refine fg_iadd X dX8_plain_71 ?_
  refine fg_iconst X (v := (0 : Int32)) dX8_plain_72 (by decide) ?_
  replace hF := fg_ob_some hF
  obtain ⟨a17, rfl, hF⟩ := hF
  replace hF := fg_ob_some hF
  obtain ⟨G18, e_12, hF⟩ := hF
  refine fg_iast X e_12 dX8_plain_73 ?_
  refine fg_aload_n X (r := (some a0)) dX8_plain_74 rfl 0 rfl ?_
  replace hF := fg_ob_some hF
  obtain ⟨r19, e_13, hF⟩ := hF
  refine fg_getr X ff_X8_ridge q1558 e_13 dX8_plain_75 ?_
  refine fg_bipush X (v := (7 : Int32)) dX8_plain_78 (by decide) ?_
  refine fg_iload_n X dX8_plain_80 rfl 1 rfl ?_
  refine fg_imul X dX8_plain_81 ?_
  refine fg_bipush X (v := (6 : Int32)) dX8_plain_82 (by decide) ?_
  refine fg_iadd X dX8_plain_84 ?_
  refine fg_iconst X (v := (0 : Int32)) dX8_plain_85 (by decide) ?_
  replace hF := fg_ob_some hF
  obtain ⟨a20, rfl, hF⟩ := hF
  replace hF := fg_ob_some hF
  obtain ⟨G21, e_14, hF⟩ := hF
  refine fg_iast X e_14 dX8_plain_86 ?_
  refine fg_iconst X (v := (0 : Int32)) dX8_plain_87 (by decide) ?_
  refine fg_istore_n X (L' := [(2, .int (0 : Int32)), (0, .ref a0), (1, .int i1)]) dX8_plain_88 rfl (by decide) rfl ?_
  refine fg_sub [1, 2, 0] rfl ?_
  exact wX8_plain_89 X hF hT
theorem mX8_plain (l : Launch) (D : fg_D) {a0 : Nat} {i1 : Int32} {G : fg_H} {t : Unit × fg_H} (hF : fX8_plain a0 i1 G = some t) : fg_M l D yX8_plain cX8_plain 3 none 0 [.ref a0, .int i1] G (.returned none) t.2 :=
  fg_Mof (own := RX8) (nm := "plain") (L := [(0, .ref a0), (1, .int i1)]) (plainFor_of_name pn_X8) rfl rfl rfl (Nat.le_of_ble_eq_true rfl) (fun Ω _ _ X hT => wX8_plain X hF hT)
theorem hd_X8_init : yX8_init.cls ≠ "java/lang/invoke/MethodHandle" ∧ yX8_init.cls ≠ "java/lang/invoke/VarHandle" ∧ (parseMethodDescriptor yX8_init.desc).map (fun d => d.parameters.length) = some 0 := ⟨by decide +kernel, by decide +kernel, by decide +kernel⟩
set_option maxHeartbeats 4000000 in
theorem wX8_init {Ω : fg_O} {a0 : Nat} {G : fg_H} {t : Unit × fg_H} (X : fg_X Ω RX8 "<init>" cX8_init 1 none 1) (hF : fX8_init a0 G = some t) (hT : fg_T Ω (.returned none) t.2) : fg_W Ω G 0 [(0, .ref a0)] [] := by
  unfold fX8_init at hF
  refine fg_aload_n X (r := (some a0)) dX8_init_0 rfl 0 rfl ?_
  refine fg_objInit X q1543 q148 q149 (by decide) (Nat.le_of_ble_eq_true rfl) dX8_init_1 ?_
  refine fg_aload_n X (r := (some a0)) dX8_init_4 rfl 0 rfl ?_
  refine fg_sipush X (v := (1000 : Int32)) dX8_init_5 (by decide) ?_
  replace hF := fg_oc_some hF
  obtain ⟨a1, G2, e_1, hF⟩ := hF
  refine fg_newa X (kd := 0) (atype := .int) q232 (by decide) rfl (by decide) (fun _ _ => rfl) e_1 dX8_init_8 ?_
  replace hF := fg_ob_some hF
  obtain ⟨G3, e_2, hF⟩ := hF
  refine fg_putv X (ty := (.array .int)) (v := .ref a1) ff_X8_tape q1550 rfl (Or.inr ⟨rfl, rfl⟩) rfl rfl rfl e_2 dX8_init_10 ?_
  refine fg_aload_n X (r := (some a0)) dX8_init_13 rfl 0 rfl ?_
  refine fg_bipush X (v := (42 : Int32)) dX8_init_14 (by decide) ?_
  replace hF := fg_oc_some hF
  obtain ⟨a4, G5, e_3, hF⟩ := hF
  refine fg_newa X (kd := 0) (atype := .int) q232 (by decide) rfl (by decide) (fun _ _ => rfl) e_3 dX8_init_16 ?_
  replace hF := fg_ob_some hF
  obtain ⟨G6, e_4, hF⟩ := hF
  refine fg_putv X (ty := (.array .int)) (v := .ref a4) ff_X8_ridge q1558 rfl (Or.inr ⟨rfl, rfl⟩) rfl rfl rfl e_4 dX8_init_18 ?_
  refine fg_aload_n X (r := (some a0)) dX8_init_21 rfl 0 rfl ?_
  refine fg_bipush X (v := (36 : Int32)) dX8_init_22 (by decide) ?_
  replace hF := fg_oc_some hF
  obtain ⟨a7, G8, e_5, hF⟩ := hF
  refine fg_newa X (kd := 0) (atype := .int) q232 (by decide) rfl (by decide) (fun _ _ => rfl) e_5 dX8_init_24 ?_
  replace hF := fg_ob_some hF
  obtain ⟨G9, e_6, hF⟩ := hF
  refine fg_putv X (ty := (.array .int)) (v := .ref a7) ff_X8_thirst q1559 rfl (Or.inr ⟨rfl, rfl⟩) rfl rfl rfl e_6 dX8_init_26 ?_
  refine fg_aload_n X (r := (some a0)) dX8_init_29 rfl 0 rfl ?_
  refine fg_bipush X (v := (36 : Int32)) dX8_init_30 (by decide) ?_
  replace hF := fg_oc_some hF
  obtain ⟨a10, G11, e_7, hF⟩ := hF
  refine fg_newa X (kd := 0) (atype := .int) q232 (by decide) rfl (by decide) (fun _ _ => rfl) e_7 dX8_init_32 ?_
  replace hF := fg_ob_some hF
  obtain ⟨G12, e_8, hF⟩ := hF
  refine fg_putv X (ty := (.array .int)) (v := .ref a10) ff_X8_tankAt q1560 rfl (Or.inr ⟨rfl, rfl⟩) rfl rfl rfl e_8 dX8_init_34 ?_
  refine fg_aload_n X (r := (some a0)) dX8_init_37 rfl 0 rfl ?_
  refine fg_bipush X (v := (6 : Int32)) dX8_init_38 (by decide) ?_
  replace hF := fg_oc_some hF
  obtain ⟨a13, G14, e_9, hF⟩ := hF
  refine fg_newa X (kd := 1) (atype := .long) q233 (by decide) rfl (by decide) (fun _ _ => rfl) e_9 dX8_init_40 ?_
  replace hF := fg_ob_some hF
  obtain ⟨G15, e_10, hF⟩ := hF
  refine fg_putv X (ty := (.array .long)) (v := .ref a13) ff_X8_names q1561 rfl (Or.inr ⟨rfl, rfl⟩) rfl rfl rfl e_10 dX8_init_42 ?_
  refine fg_aload_n X (r := (some a0)) dX8_init_45 rfl 0 rfl ?_
  refine fg_bipush X (v := (78 : Int32)) dX8_init_46 (by decide) ?_
  replace hF := fg_oc_some hF
  obtain ⟨a16, G17, e_11, hF⟩ := hF
  refine fg_newa X (kd := 0) (atype := .int) q232 (by decide) rfl (by decide) (fun _ _ => rfl) e_11 dX8_init_48 ?_
  replace hF := fg_ob_some hF
  obtain ⟨G18, e_12, hF⟩ := hF
  refine fg_putv X (ty := (.array .int)) (v := .ref a16) ff_X8_villageOf q1562 rfl (Or.inr ⟨rfl, rfl⟩) rfl rfl rfl e_12 dX8_init_50 ?_
  refine fg_aload_n X (r := (some a0)) dX8_init_53 rfl 0 rfl ?_
  refine fg_bipush X (v := (78 : Int32)) dX8_init_54 (by decide) ?_
  replace hF := fg_oc_some hF
  obtain ⟨a19, G20, e_13, hF⟩ := hF
  refine fg_newa X (kd := 0) (atype := .int) q232 (by decide) rfl (by decide) (fun _ _ => rfl) e_13 dX8_init_56 ?_
  replace hF := fg_ob_some hF
  obtain ⟨G21, e_14, hF⟩ := hF
  refine fg_putv X (ty := (.array .int)) (v := .ref a19) ff_X8_placeAt q1563 rfl (Or.inr ⟨rfl, rfl⟩) rfl rfl rfl e_14 dX8_init_58 ?_
  refine fg_aload_n X (r := (some a0)) dX8_init_61 rfl 0 rfl ?_
  refine fg_bipush X (v := (78 : Int32)) dX8_init_62 (by decide) ?_
  replace hF := fg_oc_some hF
  obtain ⟨a22, G23, e_15, hF⟩ := hF
  refine fg_newa X (kd := 0) (atype := .int) q232 (by decide) rfl (by decide) (fun _ _ => rfl) e_15 dX8_init_64 ?_
  replace hF := fg_ob_some hF
  obtain ⟨G24, e_16, hF⟩ := hF
  refine fg_putv X (ty := (.array .int)) (v := .ref a22) ff_X8_mesh q1564 rfl (Or.inr ⟨rfl, rfl⟩) rfl rfl rfl e_16 dX8_init_66 ?_
  refine fg_aload_n X (r := (some a0)) dX8_init_69 rfl 0 rfl ?_
  refine fg_bipush X (v := (78 : Int32)) dX8_init_70 (by decide) ?_
  replace hF := fg_oc_some hF
  obtain ⟨a25, G26, e_17, hF⟩ := hF
  refine fg_newa X (kd := 0) (atype := .int) q232 (by decide) rfl (by decide) (fun _ _ => rfl) e_17 dX8_init_72 ?_
  replace hF := fg_ob_some hF
  obtain ⟨G27, e_18, hF⟩ := hF
  refine fg_putv X (ty := (.array .int)) (v := .ref a25) ff_X8_kind q1565 rfl (Or.inr ⟨rfl, rfl⟩) rfl rfl rfl e_18 dX8_init_74 ?_
  refine fg_aload_n X (r := (some a0)) dX8_init_77 rfl 0 rfl ?_
  refine fg_bipush X (v := (12 : Int32)) dX8_init_78 (by decide) ?_
  replace hF := fg_oc_some hF
  obtain ⟨a28, G29, e_19, hF⟩ := hF
  refine fg_newa X (kd := 0) (atype := .int) q232 (by decide) rfl (by decide) (fun _ _ => rfl) e_19 dX8_init_80 ?_
  replace hF := fg_ob_some hF
  obtain ⟨G30, e_20, hF⟩ := hF
  refine fg_putv X (ty := (.array .int)) (v := .ref a28) ff_X8_lineFrom q1566 rfl (Or.inr ⟨rfl, rfl⟩) rfl rfl rfl e_20 dX8_init_82 ?_
  refine fg_aload_n X (r := (some a0)) dX8_init_85 rfl 0 rfl ?_
  refine fg_bipush X (v := (12 : Int32)) dX8_init_86 (by decide) ?_
  replace hF := fg_oc_some hF
  obtain ⟨a31, G32, e_21, hF⟩ := hF
  refine fg_newa X (kd := 0) (atype := .int) q232 (by decide) rfl (by decide) (fun _ _ => rfl) e_21 dX8_init_88 ?_
  replace hF := fg_ob_some hF
  obtain ⟨G33, e_22, hF⟩ := hF
  refine fg_putv X (ty := (.array .int)) (v := .ref a31) ff_X8_lineTo q1567 rfl (Or.inr ⟨rfl, rfl⟩) rfl rfl rfl e_22 dX8_init_90 ?_
  refine fg_aload_n X (r := (some a0)) dX8_init_93 rfl 0 rfl ?_
  refine fg_sipush X (v := (6000 : Int32)) dX8_init_94 (by decide) ?_
  replace hF := fg_oc_some hF
  obtain ⟨a34, G35, e_23, hF⟩ := hF
  refine fg_newa X (kd := 0) (atype := .int) q232 (by decide) rfl (by decide) (fun _ _ => rfl) e_23 dX8_init_97 ?_
  replace hF := fg_ob_some hF
  obtain ⟨G36, e_24, hF⟩ := hF
  refine fg_putv X (ty := (.array .int)) (v := .ref a34) ff_X8_codes q1568 rfl (Or.inr ⟨rfl, rfl⟩) rfl rfl rfl e_24 dX8_init_99 ?_
  refine fg_aload_n X (r := (some a0)) dX8_init_102 rfl 0 rfl ?_
  refine fg_bipush X (v := (7 : Int32)) dX8_init_103 (by decide) ?_
  replace hF := fg_oc_some hF
  obtain ⟨a37, G38, e_25, hF⟩ := hF
  refine fg_newa X (kd := 0) (atype := .int) q232 (by decide) rfl (by decide) (fun _ _ => rfl) e_25 dX8_init_105 ?_
  replace hF := fg_ob_some hF
  obtain ⟨G39, e_26, hF⟩ := hF
  refine fg_putv X (ty := (.array .int)) (v := .ref a37) ff_X8_opened q1572 rfl (Or.inr ⟨rfl, rfl⟩) rfl rfl rfl e_26 dX8_init_107 ?_
  refine fg_aload_n X (r := (some a0)) dX8_init_110 rfl 0 rfl ?_
  refine fg_bipush X (v := (7 : Int32)) dX8_init_111 (by decide) ?_
  replace hF := fg_oc_some hF
  obtain ⟨a40, G41, e_27, hF⟩ := hF
  refine fg_newa X (kd := 2) (atype := .boolean) q231 (by decide) rfl (by decide) (fun _ _ => rfl) e_27 dX8_init_113 ?_
  replace hF := fg_ob_some hF
  obtain ⟨G42, e_28, hF⟩ := hF
  refine fg_putv X (ty := (.array .boolean)) (v := .ref a40) ff_X8_compared q1573 rfl (Or.inr ⟨rfl, rfl⟩) rfl rfl rfl e_28 dX8_init_115 ?_
  refine fg_aload_n X (r := (some a0)) dX8_init_118 rfl 0 rfl ?_
  refine fg_bipush X (v := (7 : Int32)) dX8_init_119 (by decide) ?_
  replace hF := fg_oc_some hF
  obtain ⟨a43, G44, e_29, hF⟩ := hF
  refine fg_newa X (kd := 0) (atype := .int) q232 (by decide) rfl (by decide) (fun _ _ => rfl) e_29 dX8_init_121 ?_
  replace hF := fg_ob_some hF
  obtain ⟨G45, e_30, hF⟩ := hF
  refine fg_putv X (ty := (.array .int)) (v := .ref a43) ff_X8_kept q1574 rfl (Or.inr ⟨rfl, rfl⟩) rfl rfl rfl e_30 dX8_init_123 ?_
  refine fg_aload_n X (r := (some a0)) dX8_init_126 rfl 0 rfl ?_
  refine fg_bipush X (v := (7 : Int32)) dX8_init_127 (by decide) ?_
  replace hF := fg_oc_some hF
  obtain ⟨a46, G47, e_31, hF⟩ := hF
  refine fg_newa X (kd := 0) (atype := .int) q232 (by decide) rfl (by decide) (fun _ _ => rfl) e_31 dX8_init_129 ?_
  replace hF := fg_ob_some hF
  obtain ⟨G48, e_32, hF⟩ := hF
  refine fg_putv X (ty := (.array .int)) (v := .ref a46) ff_X8_keptBy q1575 rfl (Or.inr ⟨rfl, rfl⟩) rfl rfl rfl e_32 dX8_init_131 ?_
  refine fg_aload_n X (r := (some a0)) dX8_init_134 rfl 0 rfl ?_
  refine fg_bipush X (v := (7 : Int32)) dX8_init_135 (by decide) ?_
  replace hF := fg_oc_some hF
  obtain ⟨a49, G50, e_33, hF⟩ := hF
  refine fg_newa X (kd := 0) (atype := .int) q232 (by decide) rfl (by decide) (fun _ _ => rfl) e_33 dX8_init_137 ?_
  replace hF := fg_ob_some hF
  obtain ⟨G51, e_34, hF⟩ := hF
  refine fg_putv X (ty := (.array .int)) (v := .ref a49) ff_X8_ahead q1576 rfl (Or.inr ⟨rfl, rfl⟩) rfl rfl rfl e_34 dX8_init_139 ?_
  refine fg_aload_n X (r := (some a0)) dX8_init_142 rfl 0 rfl ?_
  refine fg_bipush X (v := (7 : Int32)) dX8_init_143 (by decide) ?_
  replace hF := fg_oc_some hF
  obtain ⟨a52, G53, e_35, hF⟩ := hF
  refine fg_newa X (kd := 0) (atype := .int) q232 (by decide) rfl (by decide) (fun _ _ => rfl) e_35 dX8_init_145 ?_
  replace hF := fg_ob_some hF
  obtain ⟨G54, e_36, hF⟩ := hF
  refine fg_putv X (ty := (.array .int)) (v := .ref a52) ff_X8_against q1577 rfl (Or.inr ⟨rfl, rfl⟩) rfl rfl rfl e_36 dX8_init_147 ?_
  refine fg_aload_n X (r := (some a0)) dX8_init_150 rfl 0 rfl ?_
  refine fg_bipush X (v := (7 : Int32)) dX8_init_151 (by decide) ?_
  replace hF := fg_oc_some hF
  obtain ⟨a55, G56, e_37, hF⟩ := hF
  refine fg_newa X (kd := 0) (atype := .int) q232 (by decide) rfl (by decide) (fun _ _ => rfl) e_37 dX8_init_153 ?_
  replace hF := fg_ob_some hF
  obtain ⟨G57, e_38, hF⟩ := hF
  refine fg_putv X (ty := (.array .int)) (v := .ref a55) ff_X8_sum q1578 rfl (Or.inr ⟨rfl, rfl⟩) rfl rfl rfl e_38 dX8_init_155 ?_
  refine fg_aload_n X (r := (some a0)) dX8_init_158 rfl 0 rfl ?_
  refine fg_bipush X (v := (7 : Int32)) dX8_init_159 (by decide) ?_
  replace hF := fg_oc_some hF
  obtain ⟨a58, G59, e_39, hF⟩ := hF
  refine fg_newa X (kd := 0) (atype := .int) q232 (by decide) rfl (by decide) (fun _ _ => rfl) e_39 dX8_init_161 ?_
  replace hF := fg_ob_some hF
  obtain ⟨G60, e_40, hF⟩ := hF
  refine fg_putv X (ty := (.array .int)) (v := .ref a58) ff_X8_sumBy q1579 rfl (Or.inr ⟨rfl, rfl⟩) rfl rfl rfl e_40 dX8_init_163 ?_
  refine fg_aload_n X (r := (some a0)) dX8_init_166 rfl 0 rfl ?_
  refine fg_bipush X (v := (7 : Int32)) dX8_init_167 (by decide) ?_
  replace hF := fg_oc_some hF
  obtain ⟨a61, G62, e_41, hF⟩ := hF
  refine fg_newa X (kd := 0) (atype := .int) q232 (by decide) rfl (by decide) (fun _ _ => rfl) e_41 dX8_init_169 ?_
  replace hF := fg_ob_some hF
  obtain ⟨G63, e_42, hF⟩ := hF
  refine fg_putv X (ty := (.array .int)) (v := .ref a61) ff_X8_term q1580 rfl (Or.inr ⟨rfl, rfl⟩) rfl rfl rfl e_42 dX8_init_171 ?_
  refine fg_aload_n X (r := (some a0)) dX8_init_174 rfl 0 rfl ?_
  refine fg_bipush X (v := (7 : Int32)) dX8_init_175 (by decide) ?_
  replace hF := fg_oc_some hF
  obtain ⟨a64, G65, e_43, hF⟩ := hF
  refine fg_newa X (kd := 0) (atype := .int) q232 (by decide) rfl (by decide) (fun _ _ => rfl) e_43 dX8_init_177 ?_
  replace hF := fg_ob_some hF
  obtain ⟨G66, e_44, hF⟩ := hF
  refine fg_putv X (ty := (.array .int)) (v := .ref a64) ff_X8_termBy q1581 rfl (Or.inr ⟨rfl, rfl⟩) rfl rfl rfl e_44 dX8_init_179 ?_
  refine fg_aload_n X (r := (some a0)) dX8_init_182 rfl 0 rfl ?_
  refine fg_bipush X (v := (7 : Int32)) dX8_init_183 (by decide) ?_
  replace hF := fg_oc_some hF
  obtain ⟨a67, G68, e_45, hF⟩ := hF
  refine fg_newa X (kd := 0) (atype := .int) q232 (by decide) rfl (by decide) (fun _ _ => rfl) e_45 dX8_init_185 ?_
  replace hF := fg_ob_some hF
  obtain ⟨G69, e_46, hF⟩ := hF
  refine fg_putv X (ty := (.array .int)) (v := .ref a67) ff_X8_byNot q1582 rfl (Or.inr ⟨rfl, rfl⟩) rfl rfl rfl e_46 dX8_init_187 ?_
  refine fg_aload_n X (r := (some a0)) dX8_init_190 rfl 0 rfl ?_
  refine fg_bipush X (v := (20 : Int32)) dX8_init_191 (by decide) ?_
  replace hF := fg_oc_some hF
  obtain ⟨a70, G71, e_47, hF⟩ := hF
  refine fg_newa X (kd := 0) (atype := .int) q232 (by decide) rfl (by decide) (fun _ _ => rfl) e_47 dX8_init_193 ?_
  replace hF := fg_ob_some hF
  obtain ⟨G72, e_48, hF⟩ := hF
  refine fg_putv X (ty := (.array .int)) (v := .ref a70) ff_X8_valueOf q1583 rfl (Or.inr ⟨rfl, rfl⟩) rfl rfl rfl e_48 dX8_init_195 ?_
  refine fg_aload_n X (r := (some a0)) dX8_init_198 rfl 0 rfl ?_
  refine fg_bipush X (v := (80 : Int32)) dX8_init_199 (by decide) ?_
  replace hF := fg_oc_some hF
  obtain ⟨a73, G74, e_49, hF⟩ := hF
  refine fg_newa X (kd := 0) (atype := .int) q232 (by decide) rfl (by decide) (fun _ _ => rfl) e_49 dX8_init_201 ?_
  replace hF := fg_ob_some hF
  obtain ⟨G75, e_50, hF⟩ := hF
  refine fg_putv X (ty := (.array .int)) (v := .ref a73) ff_X8_s q1585 rfl (Or.inr ⟨rfl, rfl⟩) rfl rfl rfl e_50 dX8_init_203 ?_
  refine fg_aload_n X (r := (some a0)) dX8_init_206 rfl 0 rfl ?_
  refine fg_bipush X (v := (80 : Int32)) dX8_init_207 (by decide) ?_
  replace hF := fg_oc_some hF
  obtain ⟨a76, G77, e_51, hF⟩ := hF
  refine fg_newa X (kd := 0) (atype := .int) q232 (by decide) rfl (by decide) (fun _ _ => rfl) e_51 dX8_init_209 ?_
  replace hF := fg_ob_some hF
  obtain ⟨G78, e_52, hF⟩ := hF
  refine fg_putv X (ty := (.array .int)) (v := .ref a76) ff_X8_aside q1586 rfl (Or.inr ⟨rfl, rfl⟩) rfl rfl rfl e_52 dX8_init_211 ?_
  refine fg_aload_n X (r := (some a0)) dX8_init_214 rfl 0 rfl ?_
  refine fg_sipush X (v := (320 : Int32)) dX8_init_215 (by decide) ?_
  replace hF := fg_oc_some hF
  obtain ⟨a79, G80, e_53, hF⟩ := hF
  refine fg_newa X (kd := 0) (atype := .int) q232 (by decide) rfl (by decide) (fun _ _ => rfl) e_53 dX8_init_218 ?_
  replace hF := fg_ob_some hF
  obtain ⟨G81, e_54, hF⟩ := hF
  refine fg_putv X (ty := (.array .int)) (v := .ref a79) ff_X8_marked q1587 rfl (Or.inr ⟨rfl, rfl⟩) rfl rfl rfl e_54 dX8_init_220 ?_
  refine fg_aload_n X (r := (some a0)) dX8_init_223 rfl 0 rfl ?_
  refine fg_bipush X (v := (13 : Int32)) dX8_init_224 (by decide) ?_
  replace hF := fg_oc_some hF
  obtain ⟨a82, G83, e_55, hF⟩ := hF
  refine fg_newa X (kd := 0) (atype := .int) q232 (by decide) rfl (by decide) (fun _ _ => rfl) e_55 dX8_init_226 ?_
  replace hF := fg_ob_some hF
  obtain ⟨G84, e_56, hF⟩ := hF
  refine fg_putv X (ty := (.array .int)) (v := .ref a82) ff_X8_takes q1588 rfl (Or.inr ⟨rfl, rfl⟩) rfl rfl rfl e_56 dX8_init_228 ?_
  refine fg_aload_n X (r := (some a0)) dX8_init_231 rfl 0 rfl ?_
  refine fg_sipush X (v := (1212 : Int32)) dX8_init_232 (by decide) ?_
  replace hF := fg_oc_some hF
  obtain ⟨a85, G86, e_57, hF⟩ := hF
  refine fg_newa X (kd := 0) (atype := .int) q232 (by decide) rfl (by decide) (fun _ _ => rfl) e_57 dX8_init_235 ?_
  replace hF := fg_ob_some hF
  obtain ⟨G87, e_58, hF⟩ := hF
  refine fg_putv X (ty := (.array .int)) (v := .ref a85) ff_X8_been q1589 rfl (Or.inr ⟨rfl, rfl⟩) rfl rfl rfl e_58 dX8_init_237 ?_
  refine fg_aload_n X (r := (some a0)) dX8_init_240 rfl 0 rfl ?_
  refine fg_bipush X (v := (64 : Int32)) dX8_init_241 (by decide) ?_
  replace hF := fg_oc_some hF
  obtain ⟨a88, G89, e_59, hF⟩ := hF
  refine fg_newa X (kd := 0) (atype := .int) q232 (by decide) rfl (by decide) (fun _ _ => rfl) e_59 dX8_init_243 ?_
  replace hF := fg_ob_some hF
  obtain ⟨G90, e_60, hF⟩ := hF
  refine fg_putv X (ty := (.array .int)) (v := .ref a88) ff_X8_worthOf q1592 rfl (Or.inr ⟨rfl, rfl⟩) rfl rfl rfl e_60 dX8_init_245 ?_
  refine fg_aload_n X (r := (some a0)) dX8_init_248 rfl 0 rfl ?_
  refine fg_iconst X (v := (4 : Int32)) dX8_init_249 (by decide) ?_
  replace hF := fg_oc_some hF
  obtain ⟨a91, G92, e_61, hF⟩ := hF
  refine fg_newa X (kd := 2) (atype := .boolean) q231 (by decide) rfl (by decide) (fun _ _ => rfl) e_61 dX8_init_250 ?_
  replace hF := fg_ob_some hF
  obtain ⟨G93, e_62, hF⟩ := hF
  refine fg_putv X (ty := (.array .boolean)) (v := .ref a91) ff_X8_isLaid q1594 rfl (Or.inr ⟨rfl, rfl⟩) rfl rfl rfl e_62 dX8_init_252 ?_
  refine fg_aload_n X (r := (some a0)) dX8_init_255 rfl 0 rfl ?_
  refine fg_iconst X (v := (0 : Int32)) dX8_init_256 (by decide) ?_
  replace hF := fg_gd_some hF
  obtain ⟨eg_63, hF⟩ := hF
  obtain ⟨fs_64, eo_65⟩ := fg_rc_get eg_63
  replace hF := fg_oc_some hF
  obtain ⟨u, G94, e_66, hF⟩ := hF
  refine fg_callV X (st := []) (mX8_plain Ω.2.2.2.2.1 Ω.1 e_66) q1544 q1546 qs41 q105 q1547 hd_X8_plain (by decide) rfl eo_65 (by decide) rfl rfl (Nat.le_of_ble_eq_true rfl) dX8_init_257 ?_
  cases hF
  exact fg_vret X dX8_init_260 (hT)
theorem mX8_init (l : Launch) (D : fg_D) {a0 : Nat} {G : fg_H} {t : Unit × fg_H} (hF : fX8_init a0 G = some t) : fg_M l D yX8_init cX8_init 1 none 1 [.ref a0] G (.returned none) t.2 :=
  fg_Mof (own := RX8) (nm := "<init>") (L := [(0, .ref a0)]) (plainFor_of_name pn_X8) rfl rfl rfl (Nat.le_of_ble_eq_true rfl) (fun Ω _ _ X hT => wX8_init X hF hT)
theorem hd_X8_thrown : yX8_thrown.cls ≠ "java/lang/invoke/MethodHandle" ∧ yX8_thrown.cls ≠ "java/lang/invoke/VarHandle" ∧ (parseMethodDescriptor yX8_thrown.desc).map (fun d => d.parameters.length) = some 0 := ⟨by decide +kernel, by decide +kernel, by decide +kernel⟩
set_option maxHeartbeats 4000000 in
theorem wX8_thrown {Ω : fg_O} {a0 : Nat} {G : fg_H} {t : Int32 × fg_H} (X : fg_X Ω RX8 "thrown" cX8_thrown 1 (some .int) 0) (hF : fX8_thrown a0 G = some t) (hT : fg_T Ω (.returned (some (.int t.1))) t.2) : fg_W Ω G 0 [(0, .ref a0)] [] := by
  unfold fX8_thrown at hF
  refine fg_aload_n X (r := (some a0)) dX8_thrown_0 rfl 0 rfl ?_
  replace hF := fg_ob_some hF
  obtain ⟨x1, e_1, hF⟩ := hF
  refine fg_geti X ff_X8_thrown q1548 e_1 dX8_thrown_1 ?_
  cases hF
  exact fg_iret X dX8_thrown_4 (hT)
theorem mX8_thrown (l : Launch) (D : fg_D) {a0 : Nat} {G : fg_H} {t : Int32 × fg_H} (hF : fX8_thrown a0 G = some t) : fg_M l D yX8_thrown cX8_thrown 1 (some .int) 0 [.ref a0] G (.returned (some (.int t.1))) t.2 :=
  fg_Mof (own := RX8) (nm := "thrown") (L := [(0, .ref a0)]) (plainFor_of_name pn_X8) rfl rfl rfl (Nat.le_of_ble_eq_true rfl) (fun Ω _ _ X hT => wX8_thrown X hF hT)
theorem hd_X8_feed : yX8_feed.cls ≠ "java/lang/invoke/MethodHandle" ∧ yX8_feed.cls ≠ "java/lang/invoke/VarHandle" ∧ (parseMethodDescriptor yX8_feed.desc).map (fun d => d.parameters.length) = some 3 := ⟨by decide +kernel, by decide +kernel, by decide +kernel⟩
set_option maxHeartbeats 4000000 in
theorem wX8_feed_93 {Ω : fg_O} {a0 : Nat} {l1 : Int64} {l3 : Int64} {l5 : Int64} {i7 : Int32} {i10 : Int32} {G : fg_H} {t : ((Nat × Int64 × Int64 × Int64 × Int32 × fg_H) ⊕ (Int32 × fg_H))} (X : fg_X Ω RX8 "feed" cX8_feed 11 (some .int) 0) (hF : fX8_feed_93 a0 l1 l3 l5 i7 i10 G = some t) (h8 : ∀ z, t = (.inl z) → fg_W Ω z.2.2.2.2.2 8 [(0, .ref z.1), (1, .long z.2.1), (3, .long z.2.2.1), (5, .long z.2.2.2.1), (7, .int z.2.2.2.2.1)] []) (hT : ∀ u, t = (.inr u) → fg_T Ω (.returned (some (.int u.1))) u.2) : fg_W Ω G 93 [(0, .ref a0), (1, .long l1), (3, .long l3), (5, .long l5), (7, .int i7), (10, .int i10)] [] := by
  unfold fX8_feed_93 at hF
  refine fg_aload_n X (r := (some a0)) dX8_feed_93 rfl 0 rfl ?_
  replace hF := fg_ob_some hF
  obtain ⟨r6, e_1, hF⟩ := hF
  refine fg_getr X ff_X8_tape q1550 e_1 dX8_feed_94 ?_
  refine fg_aload_n X (r := (some a0)) dX8_feed_97 rfl 0 rfl ?_
  replace hF := fg_ob_some hF
  obtain ⟨x7, e_2, hF⟩ := hF
  refine fg_geti X ff_X8_taped q1549 e_2 dX8_feed_98 ?_
  refine fg_iload X dX8_feed_101 5 rfl ?_
  replace hF := fg_ob_some hF
  obtain ⟨a8, rfl, hF⟩ := hF
  replace hF := fg_ob_some hF
  obtain ⟨G9, e_3, hF⟩ := hF
  refine fg_iast X e_3 dX8_feed_103 ?_
  refine fg_aload_n X (r := (some a0)) dX8_feed_104 rfl 0 rfl ?_
  refine fg_dup X dX8_feed_105 rfl ?_
  replace hF := fg_ob_some hF
  obtain ⟨x10, e_4, hF⟩ := hF
  refine fg_geti X ff_X8_taped q1549 e_4 dX8_feed_106 ?_
  refine fg_iconst X (v := (1 : Int32)) dX8_feed_109 (by decide) ?_
  refine fg_iadd X dX8_feed_110 ?_
  replace hF := fg_ob_some hF
  obtain ⟨G11, e_5, hF⟩ := hF
  refine fg_putv X (ty := .int) (v := .int (x10 + (1 : Int32))) ff_X8_taped q1549 rfl (Or.inl rfl) rfl rfl rfl e_5 dX8_feed_111 ?_
  refine fg_iinc X (v := (i7 + (1 : Int32))) (L' := [(7, .int (i7 + (1 : Int32))), (0, .ref a0), (1, .long l1), (3, .long l3), (5, .long l5), (10, .int i10)]) dX8_feed_114 4 rfl rfl (by decide) rfl ?_
  refine fg_goto X (tgt := 8) dX8_feed_117 (by decide) ?_
  refine fg_sub [1, 2, 3, 4, 0] rfl ?_
  exact h8 _ (Option.some.inj hF).symm
set_option maxHeartbeats 4000000 in
theorem wX8_feed_39 {Ω : fg_O} {a0 : Nat} {l1 : Int64} {l3 : Int64} {l5 : Int64} {i7 : Int32} {s0 : Int64} {G : fg_H} {t : ((Nat × Int64 × Int64 × Int64 × Int32 × fg_H) ⊕ (Int32 × fg_H))} (X : fg_X Ω RX8 "feed" cX8_feed 11 (some .int) 0) (hF : fX8_feed_39 a0 l1 l3 l5 i7 s0 G = some t) (h8 : ∀ z, t = (.inl z) → fg_W Ω z.2.2.2.2.2 8 [(0, .ref z.1), (1, .long z.2.1), (3, .long z.2.2.1), (5, .long z.2.2.2.1), (7, .int z.2.2.2.2.1)] []) (hT : ∀ u, t = (.inr u) → fg_T Ω (.returned (some (.int u.1))) u.2) : fg_W Ω G 39 [(0, .ref a0), (1, .long l1), (3, .long l3), (5, .long l5), (7, .int i7)] [.long s0] := by
  unfold fX8_feed_39 at hF
  refine fg_lstore X (L' := [(8, .long s0), (0, .ref a0), (1, .long l1), (3, .long l3), (5, .long l5), (7, .int i7)]) dX8_feed_39 (by decide) rfl ?_
  refine fg_lload X dX8_feed_41 0 rfl ?_
  refine fg_bipush X (v := (56 : Int32)) dX8_feed_43 (by decide) ?_
  refine fg_bipush X (v := (8 : Int32)) dX8_feed_45 (by decide) ?_
  refine fg_iload X dX8_feed_47 5 rfl ?_
  refine fg_bipush X (v := (7 : Int32)) dX8_feed_49 (by decide) ?_
  refine fg_iand X dX8_feed_51 ?_
  refine fg_imul X dX8_feed_52 ?_
  refine fg_isub X dX8_feed_53 ?_
  refine fg_lushr X dX8_feed_54 ?_
  refine fg_ldc2 X q1698 dX8_feed_55 ?_
  refine fg_land X dX8_feed_58 ?_
  refine fg_l2i X dX8_feed_59 ?_
  replace hF := fg_ob_some hF
  obtain ⟨v4, ex_1, hF⟩ := hF
  refine fg_topi (Option.some.inj ex_1) ?_
  refine fg_istore X (L' := [(10, .int v4), (8, .long s0), (0, .ref a0), (1, .long l1), (3, .long l3), (5, .long l5), (7, .int i7)]) dX8_feed_60 (by decide) rfl ?_
  refine fg_aload_n X (r := (some a0)) dX8_feed_62 rfl 2 rfl ?_
  replace hF := fg_ob_some hF
  obtain ⟨x5, e_2, hF⟩ := hF
  refine fg_geti X ff_X8_taped q1549 e_2 dX8_feed_63 ?_
  refine fg_sipush X (v := (1000 : Int32)) dX8_feed_66 (by decide) ?_
  refine fg_icmp_ge X (tgt := 114) dX8_feed_69 (by decide) (fun hc => ?_) (fun hc => ?_)
  · rw [if_pos hc] at hF
    refine fg_iinc X (v := (i7 + (1 : Int32))) (L' := [(7, .int (i7 + (1 : Int32))), (10, .int v4), (8, .long s0), (0, .ref a0), (1, .long l1), (3, .long l3), (5, .long l5)]) dX8_feed_114 6 rfl rfl (by decide) rfl ?_
    refine fg_goto X (tgt := 8) dX8_feed_117 (by decide) ?_
    refine fg_sub [3, 4, 5, 6, 0] rfl ?_
    exact h8 _ (Option.some.inj hF).symm
  · rw [if_neg hc] at hF
    refine fg_iload X dX8_feed_72 0 rfl ?_
    refine fg_bipush X (v := (10 : Int32)) dX8_feed_74 (by decide) ?_
    refine fg_icmp_eq X (tgt := 93) dX8_feed_76 (by decide) (fun hc => ?_) (fun hc => ?_)
    · rw [if_pos hc] at hF
      refine fg_sub [2, 3, 4, 5, 6, 0] rfl ?_
      exact wX8_feed_93 X hF h8 hT
    · rw [if_neg hc] at hF
      refine fg_iload X dX8_feed_79 0 rfl ?_
      refine fg_bipush X (v := (32 : Int32)) dX8_feed_81 (by decide) ?_
      refine fg_icmp_lt X (tgt := 114) dX8_feed_83 (by decide) (fun hc => ?_) (fun hc => ?_)
      · rw [if_pos hc] at hF
        refine fg_iinc X (v := (i7 + (1 : Int32))) (L' := [(7, .int (i7 + (1 : Int32))), (10, .int v4), (8, .long s0), (0, .ref a0), (1, .long l1), (3, .long l3), (5, .long l5)]) dX8_feed_114 6 rfl rfl (by decide) rfl ?_
        refine fg_goto X (tgt := 8) dX8_feed_117 (by decide) ?_
        refine fg_sub [3, 4, 5, 6, 0] rfl ?_
        exact h8 _ (Option.some.inj hF).symm
      · rw [if_neg hc] at hF
        refine fg_iload X dX8_feed_86 0 rfl ?_
        refine fg_bipush X (v := (126 : Int32)) dX8_feed_88 (by decide) ?_
        refine fg_icmp_gt X (tgt := 114) dX8_feed_90 (by decide) (fun hc => ?_) (fun hc => ?_)
        · rw [if_pos hc] at hF
          refine fg_iinc X (v := (i7 + (1 : Int32))) (L' := [(7, .int (i7 + (1 : Int32))), (10, .int v4), (8, .long s0), (0, .ref a0), (1, .long l1), (3, .long l3), (5, .long l5)]) dX8_feed_114 6 rfl rfl (by decide) rfl ?_
          refine fg_goto X (tgt := 8) dX8_feed_117 (by decide) ?_
          refine fg_sub [3, 4, 5, 6, 0] rfl ?_
          exact h8 _ (Option.some.inj hF).symm
        · rw [if_neg hc] at hF
          refine fg_sub [2, 3, 4, 5, 6, 0] rfl ?_
          exact wX8_feed_93 X hF h8 hT
set_option maxHeartbeats 4000000 in
theorem wX8_feed_8b {Ω : fg_O} {a0 : Nat} {l1 : Int64} {l3 : Int64} {l5 : Int64} {i7 : Int32} {G : fg_H} {t : ((Nat × Int64 × Int64 × Int64 × Int32 × fg_H) ⊕ (Int32 × fg_H))} (X : fg_X Ω RX8 "feed" cX8_feed 11 (some .int) 0) (hF : fX8_feed_8b a0 l1 l3 l5 i7 G = some t) (h8 : ∀ z, t = (.inl z) → fg_W Ω z.2.2.2.2.2 8 [(0, .ref z.1), (1, .long z.2.1), (3, .long z.2.2.1), (5, .long z.2.2.2.1), (7, .int z.2.2.2.2.1)] []) (hT : ∀ u, t = (.inr u) → fg_T Ω (.returned (some (.int u.1))) u.2) : fg_W Ω G 8 [(0, .ref a0), (1, .long l1), (3, .long l3), (5, .long l5), (7, .int i7)] [] := by
  unfold fX8_feed_8b at hF
  refine fg_iload X dX8_feed_8 4 rfl ?_
  refine fg_bipush X (v := (24 : Int32)) dX8_feed_10 (by decide) ?_
  refine fg_icmp_ge X (tgt := 120) dX8_feed_12 (by decide) (fun hc => ?_) (fun hc => ?_)
  · rw [if_pos hc] at hF
    replace hF := fg_rt_some hF
    obtain ⟨t2, hF, ht_1⟩ := hF
    subst ht_1
    replace hT := hT _ rfl
    refine fg_aload_n X (r := (some a0)) dX8_feed_120 rfl 0 rfl ?_
    replace hF := fg_ob_some hF
    obtain ⟨x3, e_2, hF⟩ := hF
    refine fg_geti X ff_X8_taped q1549 e_2 dX8_feed_121 ?_
    cases hF
    exact fg_iret X dX8_feed_124 (hT)
  · rw [if_neg hc] at hF
    refine fg_iload X dX8_feed_15 4 rfl ?_
    refine fg_bipush X (v := (8 : Int32)) dX8_feed_17 (by decide) ?_
    refine fg_icmp_ge X (tgt := 26) dX8_feed_19 (by decide) (fun hc => ?_) (fun hc => ?_)
    · rw [if_pos hc] at hF
      refine fg_iload X dX8_feed_26 4 rfl ?_
      refine fg_bipush X (v := (16 : Int32)) dX8_feed_28 (by decide) ?_
      refine fg_icmp_ge X (tgt := 37) dX8_feed_30 (by decide) (fun hc => ?_) (fun hc => ?_)
      · rw [if_pos hc] at hF
        refine fg_lload X dX8_feed_37 3 rfl ?_
        refine fg_sub [0, 1, 2, 3, 4] rfl ?_
        exact wX8_feed_39 X hF h8 hT
      · rw [if_neg hc] at hF
        refine fg_lload_n X dX8_feed_33 rfl 2 rfl ?_
        refine fg_goto X (tgt := 39) dX8_feed_34 (by decide) ?_
        refine fg_sub [0, 1, 2, 3, 4] rfl ?_
        exact wX8_feed_39 X hF h8 hT
    · rw [if_neg hc] at hF
      refine fg_lload_n X dX8_feed_22 rfl 1 rfl ?_
      refine fg_goto X (tgt := 39) dX8_feed_23 (by decide) ?_
      refine fg_sub [0, 1, 2, 3, 4] rfl ?_
      exact wX8_feed_39 X hF h8 hT
set_option maxHeartbeats 4000000 in
theorem wX8_feed_8 {Ω : fg_O} {a0 : Nat} {l1 : Int64} {l3 : Int64} {l5 : Int64} {i7 : Int32} {G : fg_H} {t : (Int32 × fg_H)} (X : fg_X Ω RX8 "feed" cX8_feed 11 (some .int) 0) (hF : fX8_feed_8 a0 l1 l3 l5 i7 G = some t) (hT : fg_T Ω (.returned (some (.int t.1))) t.2) : fg_W Ω G 8 [(0, .ref a0), (1, .long l1), (3, .long l3), (5, .long l5), (7, .int i7)] [] := by
  unfold fX8_feed_8 at hF
  exact fg_lp_walk (P := fun z => fg_W Ω z.2.2.2.2.2 8 [(0, .ref z.1), (1, .long z.2.1), (3, .long z.2.2.1), (5, .long z.2.2.2.1), (7, .int z.2.2.2.2.1)] []) (fun y o ho hl hr => wX8_feed_8b X ho (fun z e => hl z e) (fun u e => by rw [hr _ e]; exact hT)) hF
set_option maxHeartbeats 4000000 in
theorem wX8_feed {Ω : fg_O} {a0 : Nat} {l1 : Int64} {l3 : Int64} {l5 : Int64} {G : fg_H} {t : Int32 × fg_H} (X : fg_X Ω RX8 "feed" cX8_feed 11 (some .int) 0) (hF : fX8_feed a0 l1 l3 l5 G = some t) (hT : fg_T Ω (.returned (some (.int t.1))) t.2) : fg_W Ω G 0 [(0, .ref a0), (1, .long l1), (3, .long l3), (5, .long l5)] [] := by
  unfold fX8_feed at hF
  refine fg_aload_n X (r := (some a0)) dX8_feed_0 rfl 0 rfl ?_
  refine fg_iconst X (v := (0 : Int32)) dX8_feed_1 (by decide) ?_
  replace hF := fg_ob_some hF
  obtain ⟨G1, e_1, hF⟩ := hF
  refine fg_putv X (ty := .int) (v := .int (0 : Int32)) ff_X8_thrown q1548 rfl (Or.inl rfl) rfl rfl rfl e_1 dX8_feed_2 ?_
  refine fg_iconst X (v := (0 : Int32)) dX8_feed_5 (by decide) ?_
  refine fg_istore X (L' := [(7, .int (0 : Int32)), (0, .ref a0), (1, .long l1), (3, .long l3), (5, .long l5)]) dX8_feed_6 (by decide) rfl ?_
  refine fg_sub [1, 2, 3, 4, 0] rfl ?_
  exact wX8_feed_8 X hF hT
theorem mX8_feed (l : Launch) (D : fg_D) {a0 : Nat} {l1 : Int64} {l3 : Int64} {l5 : Int64} {G : fg_H} {t : Int32 × fg_H} (hF : fX8_feed a0 l1 l3 l5 G = some t) : fg_M l D yX8_feed cX8_feed 11 (some .int) 0 [.ref a0, .long l1, .long l3, .long l5] G (.returned (some (.int t.1))) t.2 :=
  fg_Mof (own := RX8) (nm := "feed") (L := [(0, .ref a0), (1, .long l1), (3, .long l3), (5, .long l5)]) (plainFor_of_name pn_X8) rfl rfl rfl (Nat.le_of_ble_eq_true rfl) (fun Ω _ _ X hT => wX8_feed X hF hT)
theorem hd_X8_moves : yX8_moves.cls ≠ "java/lang/invoke/MethodHandle" ∧ yX8_moves.cls ≠ "java/lang/invoke/VarHandle" ∧ (parseMethodDescriptor yX8_moves.desc).map (fun d => d.parameters.length) = some 4 := ⟨by decide +kernel, by decide +kernel, by decide +kernel⟩
set_option maxHeartbeats 4000000 in
theorem wX8_moves_3b {Ω : fg_O} {r0 : Option Nat} {i1 : Int32} {i2 : Int32} {i3 : Int32} {i4 : Int32} {G : fg_H} {t : ((Option Nat × Int32 × Int32 × Int32 × Int32 × fg_H) ⊕ (Unit × fg_H))} (X : fg_X Ω RX8 "moves" cX8_moves 5 none 0) (hF : fX8_moves_3b r0 i1 i2 i3 i4 G = some t) (h3 : ∀ z, t = (.inl z) → fg_W Ω z.2.2.2.2.2 3 [(0, va_rf z.1), (1, .int z.2.1), (2, .int z.2.2.1), (3, .int z.2.2.2.1), (4, .int z.2.2.2.2.1)] []) (hT : ∀ u, t = (.inr u) → fg_T Ω (.returned none) u.2) : fg_W Ω G 3 [(0, va_rf r0), (1, .int i1), (2, .int i2), (3, .int i3), (4, .int i4)] [] := by
  unfold fX8_moves_3b at hF
  refine fg_iload X dX8_moves_3 4 rfl ?_
  refine fg_iload_n X dX8_moves_5 rfl 1 rfl ?_
  refine fg_icmp_ge X (tgt := 31) dX8_moves_6 (by decide) (fun hc => ?_) (fun hc => ?_)
  · rw [if_pos hc] at hF
    replace hF := fg_rt_some hF
    obtain ⟨t1, hF, ht_1⟩ := hF
    subst ht_1
    replace hT := hT _ rfl
    cases hF
    exact fg_vret X dX8_moves_31 (hT)
  · rw [if_neg hc] at hF
    refine fg_aload_n X (r := r0) dX8_moves_9 rfl 0 rfl ?_
    refine fg_iload_n X dX8_moves_10 rfl 1 rfl ?_
    refine fg_iload_n X dX8_moves_11 rfl 3 rfl ?_
    refine fg_imul X dX8_moves_12 ?_
    refine fg_iload X dX8_moves_13 4 rfl ?_
    refine fg_iadd X dX8_moves_15 ?_
    refine fg_aload_n X (r := r0) dX8_moves_16 rfl 0 rfl ?_
    refine fg_iload_n X dX8_moves_17 rfl 1 rfl ?_
    refine fg_iload_n X dX8_moves_18 rfl 2 rfl ?_
    refine fg_imul X dX8_moves_19 ?_
    refine fg_iload X dX8_moves_20 4 rfl ?_
    refine fg_iadd X dX8_moves_22 ?_
    replace hF := fg_ob_some hF
    obtain ⟨a2, rfl, hF⟩ := hF
    replace hF := fg_ob_some hF
    obtain ⟨x3, e_2, hF⟩ := hF
    refine fg_iald X e_2 dX8_moves_23 ?_
    replace hF := fg_ob_some hF
    obtain ⟨G4, e_3, hF⟩ := hF
    refine fg_iast X e_3 dX8_moves_24 ?_
    refine fg_iinc X (v := (i4 + (1 : Int32))) (L' := [(4, .int (i4 + (1 : Int32))), (0, .ref a2), (1, .int i1), (2, .int i2), (3, .int i3)]) dX8_moves_25 4 rfl rfl (by decide) rfl ?_
    refine fg_goto X (tgt := 3) dX8_moves_28 (by decide) ?_
    refine fg_sub [1, 2, 3, 4, 0] rfl ?_
    exact h3 _ (Option.some.inj hF).symm
set_option maxHeartbeats 4000000 in
theorem wX8_moves_3 {Ω : fg_O} {r0 : Option Nat} {i1 : Int32} {i2 : Int32} {i3 : Int32} {i4 : Int32} {G : fg_H} {t : (Unit × fg_H)} (X : fg_X Ω RX8 "moves" cX8_moves 5 none 0) (hF : fX8_moves_3 r0 i1 i2 i3 i4 G = some t) (hT : fg_T Ω (.returned none) t.2) : fg_W Ω G 3 [(0, va_rf r0), (1, .int i1), (2, .int i2), (3, .int i3), (4, .int i4)] [] := by
  unfold fX8_moves_3 at hF
  exact fg_lp_walk (P := fun z => fg_W Ω z.2.2.2.2.2 3 [(0, va_rf z.1), (1, .int z.2.1), (2, .int z.2.2.1), (3, .int z.2.2.2.1), (4, .int z.2.2.2.2.1)] []) (fun y o ho hl hr => wX8_moves_3b X ho (fun z e => hl z e) (fun u e => by rw [hr _ e]; exact hT)) hF
set_option maxHeartbeats 4000000 in
theorem wX8_moves {Ω : fg_O} {r0 : Option Nat} {i1 : Int32} {i2 : Int32} {i3 : Int32} {G : fg_H} {t : Unit × fg_H} (X : fg_X Ω RX8 "moves" cX8_moves 5 none 0) (hF : fX8_moves r0 i1 i2 i3 G = some t) (hT : fg_T Ω (.returned none) t.2) : fg_W Ω G 0 [(0, va_rf r0), (1, .int i1), (2, .int i2), (3, .int i3)] [] := by
  unfold fX8_moves at hF
  refine fg_iconst X (v := (0 : Int32)) dX8_moves_0 (by decide) ?_
  refine fg_istore X (L' := [(4, .int (0 : Int32)), (0, va_rf r0), (1, .int i1), (2, .int i2), (3, .int i3)]) dX8_moves_1 (by decide) rfl ?_
  refine fg_sub [1, 2, 3, 4, 0] rfl ?_
  exact wX8_moves_3 X hF hT
theorem mX8_moves (l : Launch) (D : fg_D) {r0 : Option Nat} {i1 : Int32} {i2 : Int32} {i3 : Int32} {G : fg_H} {t : Unit × fg_H} (hF : fX8_moves r0 i1 i2 i3 G = some t) : fg_M l D yX8_moves cX8_moves 5 none 0 [va_rf r0, .int i1, .int i2, .int i3] G (.returned none) t.2 :=
  fg_Mof (own := RX8) (nm := "moves") (L := [(0, va_rf r0), (1, .int i1), (2, .int i2), (3, .int i3)]) (plainFor_of_name pn_X8) rfl rfl (by cases r0 <;> rfl) (by cases r0 <;> exact Nat.le_of_ble_eq_true rfl) (fun Ω _ _ X hT => wX8_moves X hF hT)
theorem hd_X8_lays : yX8_lays.cls ≠ "java/lang/invoke/MethodHandle" ∧ yX8_lays.cls ≠ "java/lang/invoke/VarHandle" ∧ (parseMethodDescriptor yX8_lays.desc).map (fun d => d.parameters.length) = some 2 := ⟨by decide +kernel, by decide +kernel, by decide +kernel⟩
set_option maxHeartbeats 4000000 in
theorem wX8_lays_91b {Ω : fg_O} {a0 : Nat} {i1 : Int32} {i2 : Int32} {i3 : Int32} {G : fg_H} {t : ((Nat × Int32 × Int32 × Int32 × fg_H) ⊕ (Unit × fg_H))} (X : fg_X Ω RX8 "lays" cX8_lays 4 none 1) (hF : fX8_lays_91b a0 i1 i2 i3 G = some t) (h91 : ∀ z, t = (.inl z) → fg_W Ω z.2.2.2.2 91 [(0, .ref z.1), (1, .int z.2.1), (2, .int z.2.2.1), (3, .int z.2.2.2.1)] []) (hT : ∀ u, t = (.inr u) → fg_T Ω (.returned none) u.2) : fg_W Ω G 91 [(0, .ref a0), (1, .int i1), (2, .int i2), (3, .int i3)] [] := by
  unfold fX8_lays_91b at hF
  refine fg_iload_n X dX8_lays_91 rfl 3 rfl ?_
  refine fg_iconst X (v := (2 : Int32)) dX8_lays_92 (by decide) ?_
  refine fg_icmp_ge X (tgt := 158) dX8_lays_93 (by decide) (fun hc => ?_) (fun hc => ?_)
  · rw [if_pos hc] at hF
    replace hF := fg_rt_some hF
    obtain ⟨t17, hF, ht_1⟩ := hF
    subst ht_1
    replace hT := hT _ rfl
    cases hF
    exact fg_vret X dX8_lays_158 (hT)
  · rw [if_neg hc] at hF
    refine fg_aload_n X (r := (some a0)) dX8_lays_96 rfl 0 rfl ?_
    replace hF := fg_ob_some hF
    obtain ⟨r18, e_2, hF⟩ := hF
    refine fg_getr X ff_X8_lineFrom q1566 e_2 dX8_lays_97 ?_
    refine fg_iconst X (v := (2 : Int32)) dX8_lays_100 (by decide) ?_
    refine fg_iload_n X dX8_lays_101 rfl 2 rfl ?_
    refine fg_imul X dX8_lays_102 ?_
    refine fg_iload_n X dX8_lays_103 rfl 3 rfl ?_
    refine fg_iadd X dX8_lays_104 ?_
    refine fg_aload_n X (r := (some a0)) dX8_lays_105 rfl 0 rfl ?_
    replace hF := fg_ob_some hF
    obtain ⟨r19, e_3, hF⟩ := hF
    refine fg_getr X ff_X8_lineFrom q1566 e_3 dX8_lays_106 ?_
    refine fg_iconst X (v := (2 : Int32)) dX8_lays_109 (by decide) ?_
    refine fg_iload_n X dX8_lays_110 rfl 1 rfl ?_
    refine fg_imul X dX8_lays_111 ?_
    refine fg_iload_n X dX8_lays_112 rfl 3 rfl ?_
    refine fg_iadd X dX8_lays_113 ?_
    replace hF := fg_ob_some hF
    obtain ⟨a20, rfl, hF⟩ := hF
    replace hF := fg_ob_some hF
    obtain ⟨x21, e_4, hF⟩ := hF
    refine fg_iald X e_4 dX8_lays_114 ?_
    refine fg_sipush X (v := (1000 : Int32)) dX8_lays_115 (by decide) ?_
    refine fg_iload_n X dX8_lays_118 rfl 2 rfl ?_
    refine fg_iload_n X dX8_lays_119 rfl 1 rfl ?_
    refine fg_isub X dX8_lays_120 ?_
    refine fg_imul X dX8_lays_121 ?_
    refine fg_iadd X dX8_lays_122 ?_
    replace hF := fg_ob_some hF
    obtain ⟨a22, rfl, hF⟩ := hF
    replace hF := fg_ob_some hF
    obtain ⟨G23, e_5, hF⟩ := hF
    refine fg_iast X e_5 dX8_lays_123 ?_
    refine fg_aload_n X (r := (some a0)) dX8_lays_124 rfl 0 rfl ?_
    replace hF := fg_ob_some hF
    obtain ⟨r24, e_6, hF⟩ := hF
    refine fg_getr X ff_X8_lineTo q1567 e_6 dX8_lays_125 ?_
    refine fg_iconst X (v := (2 : Int32)) dX8_lays_128 (by decide) ?_
    refine fg_iload_n X dX8_lays_129 rfl 2 rfl ?_
    refine fg_imul X dX8_lays_130 ?_
    refine fg_iload_n X dX8_lays_131 rfl 3 rfl ?_
    refine fg_iadd X dX8_lays_132 ?_
    refine fg_aload_n X (r := (some a0)) dX8_lays_133 rfl 0 rfl ?_
    replace hF := fg_ob_some hF
    obtain ⟨r25, e_7, hF⟩ := hF
    refine fg_getr X ff_X8_lineTo q1567 e_7 dX8_lays_134 ?_
    refine fg_iconst X (v := (2 : Int32)) dX8_lays_137 (by decide) ?_
    refine fg_iload_n X dX8_lays_138 rfl 1 rfl ?_
    refine fg_imul X dX8_lays_139 ?_
    refine fg_iload_n X dX8_lays_140 rfl 3 rfl ?_
    refine fg_iadd X dX8_lays_141 ?_
    replace hF := fg_ob_some hF
    obtain ⟨a26, rfl, hF⟩ := hF
    replace hF := fg_ob_some hF
    obtain ⟨x27, e_8, hF⟩ := hF
    refine fg_iald X e_8 dX8_lays_142 ?_
    refine fg_sipush X (v := (1000 : Int32)) dX8_lays_143 (by decide) ?_
    refine fg_iload_n X dX8_lays_146 rfl 2 rfl ?_
    refine fg_iload_n X dX8_lays_147 rfl 1 rfl ?_
    refine fg_isub X dX8_lays_148 ?_
    refine fg_imul X dX8_lays_149 ?_
    refine fg_iadd X dX8_lays_150 ?_
    replace hF := fg_ob_some hF
    obtain ⟨a28, rfl, hF⟩ := hF
    replace hF := fg_ob_some hF
    obtain ⟨G29, e_9, hF⟩ := hF
    refine fg_iast X e_9 dX8_lays_151 ?_
    refine fg_iinc X (v := (i3 + (1 : Int32))) (L' := [(3, .int (i3 + (1 : Int32))), (0, .ref a0), (1, .int i1), (2, .int i2)]) dX8_lays_152 3 rfl rfl (by decide) rfl ?_
    refine fg_goto X (tgt := 91) dX8_lays_155 (by decide) ?_
    refine fg_sub [1, 2, 3, 0] rfl ?_
    exact h91 _ (Option.some.inj hF).symm
set_option maxHeartbeats 4000000 in
theorem wX8_lays_91 {Ω : fg_O} {a0 : Nat} {i1 : Int32} {i2 : Int32} {i3 : Int32} {G : fg_H} {t : (Unit × fg_H)} (X : fg_X Ω RX8 "lays" cX8_lays 4 none 1) (hF : fX8_lays_91 a0 i1 i2 i3 G = some t) (hT : fg_T Ω (.returned none) t.2) : fg_W Ω G 91 [(0, .ref a0), (1, .int i1), (2, .int i2), (3, .int i3)] [] := by
  unfold fX8_lays_91 at hF
  exact fg_lp_walk (P := fun z => fg_W Ω z.2.2.2.2 91 [(0, .ref z.1), (1, .int z.2.1), (2, .int z.2.2.1), (3, .int z.2.2.2.1)] []) (fun y o ho hl hr => wX8_lays_91b X ho (fun z e => hl z e) (fun u e => by rw [hr _ e]; exact hT)) hF
set_option maxHeartbeats 4000000 in
theorem wX8_lays {Ω : fg_O} {a0 : Nat} {i1 : Int32} {i2 : Int32} {G : fg_H} {t : Unit × fg_H} (X : fg_X Ω RX8 "lays" cX8_lays 4 none 1) (hF : fX8_lays a0 i1 i2 G = some t) (hT : fg_T Ω (.returned none) t.2) : fg_W Ω G 0 [(0, .ref a0), (1, .int i1), (2, .int i2)] [] := by
  unfold fX8_lays at hF
  refine fg_aload_n X (r := (some a0)) dX8_lays_0 rfl 0 rfl ?_
  replace hF := fg_ob_some hF
  obtain ⟨r1, e_1, hF⟩ := hF
  refine fg_getr X ff_X8_ridge q1558 e_1 dX8_lays_1 ?_
  refine fg_bipush X (v := (7 : Int32)) dX8_lays_4 (by decide) ?_
  refine fg_iload_n X dX8_lays_6 rfl 1 rfl ?_
  refine fg_iload_n X dX8_lays_7 rfl 2 rfl ?_
  replace hF := fg_oc_some hF
  obtain ⟨u, G2, e_2, hF⟩ := hF
  refine fg_callS X (st := []) (mX8_moves Ω.2.2.2.2.1 Ω.1 e_2) q1821 q1822 q105 q1823 hd_X8_moves (by decide) rfl rfl (Nat.le_of_ble_eq_true rfl) dX8_lays_8 ?_
  refine fg_aload_n X (r := (some a0)) dX8_lays_11 rfl 0 rfl ?_
  replace hF := fg_ob_some hF
  obtain ⟨r3, e_3, hF⟩ := hF
  refine fg_getr X ff_X8_thirst q1559 e_3 dX8_lays_12 ?_
  refine fg_bipush X (v := (6 : Int32)) dX8_lays_15 (by decide) ?_
  refine fg_iload_n X dX8_lays_17 rfl 1 rfl ?_
  refine fg_iload_n X dX8_lays_18 rfl 2 rfl ?_
  replace hF := fg_oc_some hF
  obtain ⟨u, G4, e_4, hF⟩ := hF
  refine fg_callS X (st := []) (mX8_moves Ω.2.2.2.2.1 Ω.1 e_4) q1821 q1822 q105 q1823 hd_X8_moves (by decide) rfl rfl (Nat.le_of_ble_eq_true rfl) dX8_lays_19 ?_
  refine fg_aload_n X (r := (some a0)) dX8_lays_22 rfl 0 rfl ?_
  replace hF := fg_ob_some hF
  obtain ⟨r5, e_5, hF⟩ := hF
  refine fg_getr X ff_X8_tankAt q1560 e_5 dX8_lays_23 ?_
  refine fg_bipush X (v := (6 : Int32)) dX8_lays_26 (by decide) ?_
  refine fg_iload_n X dX8_lays_28 rfl 1 rfl ?_
  refine fg_iload_n X dX8_lays_29 rfl 2 rfl ?_
  replace hF := fg_oc_some hF
  obtain ⟨u, G6, e_6, hF⟩ := hF
  refine fg_callS X (st := []) (mX8_moves Ω.2.2.2.2.1 Ω.1 e_6) q1821 q1822 q105 q1823 hd_X8_moves (by decide) rfl rfl (Nat.le_of_ble_eq_true rfl) dX8_lays_30 ?_
  refine fg_aload_n X (r := (some a0)) dX8_lays_33 rfl 0 rfl ?_
  replace hF := fg_ob_some hF
  obtain ⟨r7, e_7, hF⟩ := hF
  refine fg_getr X ff_X8_villageOf q1562 e_7 dX8_lays_34 ?_
  refine fg_bipush X (v := (13 : Int32)) dX8_lays_37 (by decide) ?_
  refine fg_iload_n X dX8_lays_39 rfl 1 rfl ?_
  refine fg_iload_n X dX8_lays_40 rfl 2 rfl ?_
  replace hF := fg_oc_some hF
  obtain ⟨u, G8, e_8, hF⟩ := hF
  refine fg_callS X (st := []) (mX8_moves Ω.2.2.2.2.1 Ω.1 e_8) q1821 q1822 q105 q1823 hd_X8_moves (by decide) rfl rfl (Nat.le_of_ble_eq_true rfl) dX8_lays_41 ?_
  refine fg_aload_n X (r := (some a0)) dX8_lays_44 rfl 0 rfl ?_
  replace hF := fg_ob_some hF
  obtain ⟨r9, e_9, hF⟩ := hF
  refine fg_getr X ff_X8_placeAt q1563 e_9 dX8_lays_45 ?_
  refine fg_bipush X (v := (13 : Int32)) dX8_lays_48 (by decide) ?_
  refine fg_iload_n X dX8_lays_50 rfl 1 rfl ?_
  refine fg_iload_n X dX8_lays_51 rfl 2 rfl ?_
  replace hF := fg_oc_some hF
  obtain ⟨u, G10, e_10, hF⟩ := hF
  refine fg_callS X (st := []) (mX8_moves Ω.2.2.2.2.1 Ω.1 e_10) q1821 q1822 q105 q1823 hd_X8_moves (by decide) rfl rfl (Nat.le_of_ble_eq_true rfl) dX8_lays_52 ?_
  refine fg_aload_n X (r := (some a0)) dX8_lays_55 rfl 0 rfl ?_
  replace hF := fg_ob_some hF
  obtain ⟨r11, e_11, hF⟩ := hF
  refine fg_getr X ff_X8_mesh q1564 e_11 dX8_lays_56 ?_
  refine fg_bipush X (v := (13 : Int32)) dX8_lays_59 (by decide) ?_
  refine fg_iload_n X dX8_lays_61 rfl 1 rfl ?_
  refine fg_iload_n X dX8_lays_62 rfl 2 rfl ?_
  replace hF := fg_oc_some hF
  obtain ⟨u, G12, e_12, hF⟩ := hF
  refine fg_callS X (st := []) (mX8_moves Ω.2.2.2.2.1 Ω.1 e_12) q1821 q1822 q105 q1823 hd_X8_moves (by decide) rfl rfl (Nat.le_of_ble_eq_true rfl) dX8_lays_63 ?_
  refine fg_aload_n X (r := (some a0)) dX8_lays_66 rfl 0 rfl ?_
  replace hF := fg_ob_some hF
  obtain ⟨r13, e_13, hF⟩ := hF
  refine fg_getr X ff_X8_kind q1565 e_13 dX8_lays_67 ?_
  refine fg_bipush X (v := (13 : Int32)) dX8_lays_70 (by decide) ?_
  refine fg_iload_n X dX8_lays_72 rfl 1 rfl ?_
  refine fg_iload_n X dX8_lays_73 rfl 2 rfl ?_
  replace hF := fg_oc_some hF
  obtain ⟨u, G14, e_14, hF⟩ := hF
  refine fg_callS X (st := []) (mX8_moves Ω.2.2.2.2.1 Ω.1 e_14) q1821 q1822 q105 q1823 hd_X8_moves (by decide) rfl rfl (Nat.le_of_ble_eq_true rfl) dX8_lays_74 ?_
  refine fg_aload_n X (r := (some a0)) dX8_lays_77 rfl 0 rfl ?_
  replace hF := fg_ob_some hF
  obtain ⟨r15, e_15, hF⟩ := hF
  refine fg_getr X ff_X8_codes q1568 e_15 dX8_lays_78 ?_
  refine fg_sipush X (v := (1000 : Int32)) dX8_lays_81 (by decide) ?_
  refine fg_iload_n X dX8_lays_84 rfl 1 rfl ?_
  refine fg_iload_n X dX8_lays_85 rfl 2 rfl ?_
  replace hF := fg_oc_some hF
  obtain ⟨u, G16, e_16, hF⟩ := hF
  refine fg_callS X (st := []) (mX8_moves Ω.2.2.2.2.1 Ω.1 e_16) q1821 q1822 q105 q1823 hd_X8_moves (by decide) rfl rfl (Nat.le_of_ble_eq_true rfl) dX8_lays_86 ?_
  refine fg_iconst X (v := (0 : Int32)) dX8_lays_89 (by decide) ?_
  refine fg_istore_n X (L' := [(3, .int (0 : Int32)), (0, .ref a0), (1, .int i1), (2, .int i2)]) dX8_lays_90 rfl (by decide) rfl ?_
  refine fg_sub [1, 2, 3, 0] rfl ?_
  exact wX8_lays_91 X hF hT
theorem mX8_lays (l : Launch) (D : fg_D) {a0 : Nat} {i1 : Int32} {i2 : Int32} {G : fg_H} {t : Unit × fg_H} (hF : fX8_lays a0 i1 i2 G = some t) : fg_M l D yX8_lays cX8_lays 4 none 1 [.ref a0, .int i1, .int i2] G (.returned none) t.2 :=
  fg_Mof (own := RX8) (nm := "lays") (L := [(0, .ref a0), (1, .int i1), (2, .int i2)]) (plainFor_of_name pn_X8) rfl rfl rfl (Nat.le_of_ble_eq_true rfl) (fun Ω _ _ X hT => wX8_lays X hF hT)
theorem hd_X8_fails : yX8_fails.cls ≠ "java/lang/invoke/MethodHandle" ∧ yX8_fails.cls ≠ "java/lang/invoke/VarHandle" ∧ (parseMethodDescriptor yX8_fails.desc).map (fun d => d.parameters.length) = some 1 := ⟨by decide +kernel, by decide +kernel, by decide +kernel⟩
set_option maxHeartbeats 4000000 in
theorem wX8_fails {Ω : fg_O} {a0 : Nat} {i1 : Int32} {G : fg_H} {t : Int32 × fg_H} (X : fg_X Ω RX8 "fails" cX8_fails 2 (some .boolean) 0) (hF : fX8_fails a0 i1 G = some t) (hT : fg_T Ω (.returned (some (.int t.1))) t.2) : fg_W Ω G 0 [(0, .ref a0), (1, .int i1)] [] := by
  unfold fX8_fails at hF
  refine fg_aload_n X (r := (some a0)) dX8_fails_0 rfl 0 rfl ?_
  refine fg_iload_n X dX8_fails_1 rfl 1 rfl ?_
  refine fg_bipush X (v := (16 : Int32)) dX8_fails_2 (by decide) ?_
  refine fg_aload_n X (r := (some a0)) dX8_fails_4 rfl 0 rfl ?_
  replace hF := fg_ob_some hF
  obtain ⟨x1, e_1, hF⟩ := hF
  refine fg_geti X ff_X8_begin q1553 e_1 dX8_fails_5 ?_
  refine fg_imul X dX8_fails_8 ?_
  refine fg_iadd X dX8_fails_9 ?_
  replace hF := fg_ob_some hF
  obtain ⟨G2, e_2, hF⟩ := hF
  refine fg_putv X (ty := .int) (v := .int (i1 + ((16 : Int32) * x1))) ff_X8_wrong q1557 rfl (Or.inl rfl) rfl rfl rfl e_2 dX8_fails_10 ?_
  refine fg_iconst X (v := (0 : Int32)) dX8_fails_13 (by decide) ?_
  cases hF
  exact fg_zret X (by decide) dX8_fails_14 (hT)
theorem mX8_fails (l : Launch) (D : fg_D) {a0 : Nat} {i1 : Int32} {G : fg_H} {t : Int32 × fg_H} (hF : fX8_fails a0 i1 G = some t) : fg_M l D yX8_fails cX8_fails 2 (some .boolean) 0 [.ref a0, .int i1] G (.returned (some (.int t.1))) t.2 :=
  fg_Mof (own := RX8) (nm := "fails") (L := [(0, .ref a0), (1, .int i1)]) (plainFor_of_name pn_X8) rfl rfl rfl (Nat.le_of_ble_eq_true rfl) (fun Ω _ _ X hT => wX8_fails X hF hT)
theorem hd_X8_isWord : yX8_isWord.cls ≠ "java/lang/invoke/MethodHandle" ∧ yX8_isWord.cls ≠ "java/lang/invoke/VarHandle" ∧ (parseMethodDescriptor yX8_isWord.desc).map (fun d => d.parameters.length) = some 1 := ⟨by decide +kernel, by decide +kernel, by decide +kernel⟩
set_option maxHeartbeats 4000000 in
theorem wX8_isWord {Ω : fg_O} {a0 : Nat} {l1 : Int64} {G : fg_H} {t : Int32 × fg_H} (X : fg_X Ω RX8 "isWord" cX8_isWord 3 (some .boolean) 0) (hF : fX8_isWord a0 l1 G = some t) (hT : fg_T Ω (.returned (some (.int t.1))) t.2) : fg_W Ω G 0 [(0, .ref a0), (1, .long l1)] [] := by
  unfold fX8_isWord at hF
  refine fg_aload_n X (r := (some a0)) dX8_isWord_0 rfl 0 rfl ?_
  replace hF := fg_ob_some hF
  obtain ⟨x1, e_1, hF⟩ := hF
  refine fg_geti X ff_X8_token q1554 e_1 dX8_isWord_1 ?_
  refine fg_iconst X (v := (1 : Int32)) dX8_isWord_4 (by decide) ?_
  refine fg_icmp_ne X (tgt := 21) dX8_isWord_5 (by decide) (fun hc => ?_) (fun hc => ?_)
  · rw [if_neg hc] at hF
    refine fg_iconst X (v := (0 : Int32)) dX8_isWord_21 (by decide) ?_
    cases hF
    exact fg_zret X (by decide) dX8_isWord_22 (hT)
  · rw [if_pos hc] at hF
    refine fg_aload_n X (r := (some a0)) dX8_isWord_8 rfl 0 rfl ?_
    replace hF := fg_ob_some hF
    obtain ⟨y2, e_2, hF⟩ := hF
    refine fg_getl X ff_X8_word q1555 e_2 dX8_isWord_9 ?_
    refine fg_lload_n X dX8_isWord_12 rfl 1 rfl ?_
    refine fg_lcmp X dX8_isWord_13 ?_
    refine fg_if_ne X (tgt := 21) dX8_isWord_14 (by decide) (fun hc => ?_) (fun hc => ?_)
    · rw [if_neg hc] at hF
      refine fg_iconst X (v := (0 : Int32)) dX8_isWord_21 (by decide) ?_
      cases hF
      exact fg_zret X (by decide) dX8_isWord_22 (hT)
    · rw [if_pos hc] at hF
      refine fg_iconst X (v := (1 : Int32)) dX8_isWord_17 (by decide) ?_
      refine fg_goto X (tgt := 22) dX8_isWord_18 (by decide) ?_
      cases hF
      exact fg_zret X (by decide) dX8_isWord_22 (hT)
theorem mX8_isWord (l : Launch) (D : fg_D) {a0 : Nat} {l1 : Int64} {G : fg_H} {t : Int32 × fg_H} (hF : fX8_isWord a0 l1 G = some t) : fg_M l D yX8_isWord cX8_isWord 3 (some .boolean) 0 [.ref a0, .long l1] G (.returned (some (.int t.1))) t.2 :=
  fg_Mof (own := RX8) (nm := "isWord") (L := [(0, .ref a0), (1, .long l1)]) (plainFor_of_name pn_X8) rfl rfl rfl (Nat.le_of_ble_eq_true rfl) (fun Ω _ _ X hT => wX8_isWord X hF hT)
theorem hd_X8_signAt : yX8_signAt.cls ≠ "java/lang/invoke/MethodHandle" ∧ yX8_signAt.cls ≠ "java/lang/invoke/VarHandle" ∧ (parseMethodDescriptor yX8_signAt.desc).map (fun d => d.parameters.length) = some 1 := ⟨by decide +kernel, by decide +kernel, by decide +kernel⟩
set_option maxHeartbeats 4000000 in
theorem wX8_signAt {Ω : fg_O} {a0 : Nat} {i1 : Int32} {G : fg_H} {t : Int32 × fg_H} (X : fg_X Ω RX8 "signAt" cX8_signAt 2 (some .int) 0) (hF : fX8_signAt a0 i1 G = some t) (hT : fg_T Ω (.returned (some (.int t.1))) t.2) : fg_W Ω G 0 [(0, .ref a0), (1, .int i1)] [] := by
  unfold fX8_signAt at hF
  refine fg_iload_n X dX8_signAt_0 rfl 1 rfl ?_
  refine fg_aload_n X (r := (some a0)) dX8_signAt_1 rfl 0 rfl ?_
  replace hF := fg_ob_some hF
  obtain ⟨x1, e_1, hF⟩ := hF
  refine fg_geti X ff_X8_size q1551 e_1 dX8_signAt_2 ?_
  refine fg_icmp_ge X (tgt := 17) dX8_signAt_5 (by decide) (fun hc => ?_) (fun hc => ?_)
  · rw [if_pos hc] at hF
    refine fg_iconst X (v := (0 : Int32)) dX8_signAt_17 (by decide) ?_
    cases hF
    exact fg_iret X dX8_signAt_18 (hT)
  · rw [if_neg hc] at hF
    refine fg_aload_n X (r := (some a0)) dX8_signAt_8 rfl 0 rfl ?_
    replace hF := fg_ob_some hF
    obtain ⟨r2, e_2, hF⟩ := hF
    refine fg_getr X ff_X8_tape q1550 e_2 dX8_signAt_9 ?_
    refine fg_iload_n X dX8_signAt_12 rfl 1 rfl ?_
    replace hF := fg_ob_some hF
    obtain ⟨a3, rfl, hF⟩ := hF
    replace hF := fg_ob_some hF
    obtain ⟨x4, e_3, hF⟩ := hF
    refine fg_iald X e_3 dX8_signAt_13 ?_
    refine fg_goto X (tgt := 18) dX8_signAt_14 (by decide) ?_
    cases hF
    exact fg_iret X dX8_signAt_18 (hT)
theorem mX8_signAt (l : Launch) (D : fg_D) {a0 : Nat} {i1 : Int32} {G : fg_H} {t : Int32 × fg_H} (hF : fX8_signAt a0 i1 G = some t) : fg_M l D yX8_signAt cX8_signAt 2 (some .int) 0 [.ref a0, .int i1] G (.returned (some (.int t.1))) t.2 :=
  fg_Mof (own := RX8) (nm := "signAt") (L := [(0, .ref a0), (1, .int i1)]) (plainFor_of_name pn_X8) rfl rfl rfl (Nat.le_of_ble_eq_true rfl) (fun Ω _ _ X hT => wX8_signAt X hF hT)
theorem hd_X8_nextToken : yX8_nextToken.cls ≠ "java/lang/invoke/MethodHandle" ∧ yX8_nextToken.cls ≠ "java/lang/invoke/VarHandle" ∧ (parseMethodDescriptor yX8_nextToken.desc).map (fun d => d.parameters.length) = some 0 := ⟨by decide +kernel, by decide +kernel, by decide +kernel⟩
set_option maxHeartbeats 4000000 in
theorem wX8_nextToken_345 {Ω : fg_O} {i1 : Int32} {s0 : Nat} {G : fg_H} {t : (Unit × fg_H)} (X : fg_X Ω RX8 "nextToken" cX8_nextToken 2 none 1) (hF : fX8_nextToken_345 i1 s0 G = some t) (hT : fg_T Ω (.returned none) t.2) : fg_W Ω G 345 [(1, .int i1)] [.ref s0] := by
  unfold fX8_nextToken_345 at hF
  refine fg_iload_n X dX8_nextToken_345 rfl 0 rfl ?_
  refine fg_bipush X (v := (45 : Int32)) dX8_nextToken_346 (by decide) ?_
  refine fg_icmp_eq X (tgt := 363) dX8_nextToken_348 (by decide) (fun hc => ?_) (fun hc => ?_)
  · rw [if_pos hc] at hF
    refine fg_iconst X (v := (3 : Int32)) dX8_nextToken_363 (by decide) ?_
    refine fg_goto X (tgt := 368) dX8_nextToken_364 (by decide) ?_
    replace hF := fg_ob_some hF
    obtain ⟨G16, e_1, hF⟩ := hF
    refine fg_putv X (ty := .int) (v := .int (3 : Int32)) ff_X8_token q1554 rfl (Or.inl rfl) rfl rfl rfl e_1 dX8_nextToken_368 ?_
    cases hF
    exact fg_vret X dX8_nextToken_371 (hT)
  · rw [if_neg hc] at hF
    refine fg_iload_n X dX8_nextToken_351 rfl 0 rfl ?_
    refine fg_bipush X (v := (59 : Int32)) dX8_nextToken_352 (by decide) ?_
    refine fg_icmp_lt X (tgt := 367) dX8_nextToken_354 (by decide) (fun hc => ?_) (fun hc => ?_)
    · rw [if_pos hc] at hF
      refine fg_iconst X (v := (4 : Int32)) dX8_nextToken_367 (by decide) ?_
      replace hF := fg_ob_some hF
      obtain ⟨G17, e_2, hF⟩ := hF
      refine fg_putv X (ty := .int) (v := .int (4 : Int32)) ff_X8_token q1554 rfl (Or.inl rfl) rfl rfl rfl e_2 dX8_nextToken_368 ?_
      cases hF
      exact fg_vret X dX8_nextToken_371 (hT)
    · rw [if_neg hc] at hF
      refine fg_iload_n X dX8_nextToken_357 rfl 0 rfl ?_
      refine fg_bipush X (v := (61 : Int32)) dX8_nextToken_358 (by decide) ?_
      refine fg_icmp_gt X (tgt := 367) dX8_nextToken_360 (by decide) (fun hc => ?_) (fun hc => ?_)
      · rw [if_pos hc] at hF
        refine fg_iconst X (v := (4 : Int32)) dX8_nextToken_367 (by decide) ?_
        replace hF := fg_ob_some hF
        obtain ⟨G18, e_3, hF⟩ := hF
        refine fg_putv X (ty := .int) (v := .int (4 : Int32)) ff_X8_token q1554 rfl (Or.inl rfl) rfl rfl rfl e_3 dX8_nextToken_368 ?_
        cases hF
        exact fg_vret X dX8_nextToken_371 (hT)
      · rw [if_neg hc] at hF
        refine fg_iconst X (v := (3 : Int32)) dX8_nextToken_363 (by decide) ?_
        refine fg_goto X (tgt := 368) dX8_nextToken_364 (by decide) ?_
        replace hF := fg_ob_some hF
        obtain ⟨G19, e_4, hF⟩ := hF
        refine fg_putv X (ty := .int) (v := .int (3 : Int32)) ff_X8_token q1554 rfl (Or.inl rfl) rfl rfl rfl e_4 dX8_nextToken_368 ?_
        cases hF
        exact fg_vret X dX8_nextToken_371 (hT)
set_option maxHeartbeats 4000000 in
theorem wX8_nextToken_322 {Ω : fg_O} {a0 : Nat} {i1 : Int32} {G : fg_H} {t : (Unit × fg_H)} (X : fg_X Ω RX8 "nextToken" cX8_nextToken 2 none 1) (hF : fX8_nextToken_322 a0 i1 G = some t) (hT : fg_T Ω (.returned none) t.2) : fg_W Ω G 322 [(0, .ref a0), (1, .int i1)] [] := by
  unfold fX8_nextToken_322 at hF
  refine fg_aload_n X (r := (some a0)) dX8_nextToken_322 rfl 0 rfl ?_
  refine fg_dup X dX8_nextToken_323 rfl ?_
  replace hF := fg_ob_some hF
  obtain ⟨x14, e_1, hF⟩ := hF
  refine fg_geti X ff_X8_place q1552 e_1 dX8_nextToken_324 ?_
  refine fg_iconst X (v := (1 : Int32)) dX8_nextToken_327 (by decide) ?_
  refine fg_iadd X dX8_nextToken_328 ?_
  replace hF := fg_ob_some hF
  obtain ⟨G15, e_2, hF⟩ := hF
  refine fg_putv X (ty := .int) (v := .int (x14 + (1 : Int32))) ff_X8_place q1552 rfl (Or.inl rfl) rfl rfl rfl e_2 dX8_nextToken_329 ?_
  refine fg_aload_n X (r := (some a0)) dX8_nextToken_332 rfl 0 rfl ?_
  refine fg_iload_n X dX8_nextToken_333 rfl 1 rfl ?_
  refine fg_bipush X (v := (40 : Int32)) dX8_nextToken_334 (by decide) ?_
  refine fg_icmp_lt X (tgt := 345) dX8_nextToken_336 (by decide) (fun hc => ?_) (fun hc => ?_)
  · rw [if_pos hc] at hF
    refine fg_sub [1] rfl ?_
    exact wX8_nextToken_345 X hF hT
  · rw [if_neg hc] at hF
    refine fg_iload_n X dX8_nextToken_339 rfl 1 rfl ?_
    refine fg_bipush X (v := (43 : Int32)) dX8_nextToken_340 (by decide) ?_
    refine fg_icmp_le X (tgt := 363) dX8_nextToken_342 (by decide) (fun hc => ?_) (fun hc => ?_)
    · rw [if_pos hc] at hF
      refine fg_iconst X (v := (3 : Int32)) dX8_nextToken_363 (by decide) ?_
      refine fg_goto X (tgt := 368) dX8_nextToken_364 (by decide) ?_
      replace hF := fg_ob_some hF
      obtain ⟨G20, e_3, hF⟩ := hF
      refine fg_putv X (ty := .int) (v := .int (3 : Int32)) ff_X8_token q1554 rfl (Or.inl rfl) rfl rfl rfl e_3 dX8_nextToken_368 ?_
      cases hF
      exact fg_vret X dX8_nextToken_371 (hT)
    · rw [if_neg hc] at hF
      refine fg_sub [1] rfl ?_
      exact wX8_nextToken_345 X hF hT
set_option maxHeartbeats 4000000 in
theorem wX8_nextToken_299 {Ω : fg_O} {a0 : Nat} {G : fg_H} {t : (Unit × fg_H)} (X : fg_X Ω RX8 "nextToken" cX8_nextToken 2 none 1) (hF : fX8_nextToken_299 a0 G = some t) (hT : fg_T Ω (.returned none) t.2) : fg_W Ω G 299 [(0, .ref a0)] [] := by
  unfold fX8_nextToken_299 at hF
  refine fg_aload_n X (r := (some a0)) dX8_nextToken_299 rfl 0 rfl ?_
  refine fg_aload_n X (r := (some a0)) dX8_nextToken_300 rfl 0 rfl ?_
  replace hF := fg_ob_some hF
  obtain ⟨x25, e_1, hF⟩ := hF
  refine fg_geti X ff_X8_place q1552 e_1 dX8_nextToken_301 ?_
  refine fg_aload_n X (r := (some a0)) dX8_nextToken_304 rfl 0 rfl ?_
  replace hF := fg_ob_some hF
  obtain ⟨x26, e_2, hF⟩ := hF
  refine fg_geti X ff_X8_begin q1553 e_2 dX8_nextToken_305 ?_
  refine fg_isub X dX8_nextToken_308 ?_
  refine fg_iconst X (v := (4 : Int32)) dX8_nextToken_309 (by decide) ?_
  refine fg_icmp_le X (tgt := 317) dX8_nextToken_310 (by decide) (fun hc => ?_) (fun hc => ?_)
  · rw [if_pos hc] at hF
    refine fg_iconst X (v := (2 : Int32)) dX8_nextToken_317 (by decide) ?_
    replace hF := fg_ob_some hF
    obtain ⟨G27, e_3, hF⟩ := hF
    refine fg_putv X (ty := .int) (v := .int (2 : Int32)) ff_X8_token q1554 rfl (Or.inl rfl) rfl rfl rfl e_3 dX8_nextToken_318 ?_
    cases hF
    exact fg_vret X dX8_nextToken_321 (hT)
  · rw [if_neg hc] at hF
    refine fg_iconst X (v := (4 : Int32)) dX8_nextToken_313 (by decide) ?_
    refine fg_goto X (tgt := 318) dX8_nextToken_314 (by decide) ?_
    replace hF := fg_ob_some hF
    obtain ⟨G28, e_4, hF⟩ := hF
    refine fg_putv X (ty := .int) (v := .int (4 : Int32)) ff_X8_token q1554 rfl (Or.inl rfl) rfl rfl rfl e_4 dX8_nextToken_318 ?_
    cases hF
    exact fg_vret X dX8_nextToken_321 (hT)
set_option maxHeartbeats 4000000 in
theorem wX8_nextToken_286 {Ω : fg_O} {a0 : Nat} {G : fg_H} {t : ((Nat × fg_H) ⊕ (Unit × fg_H))} (X : fg_X Ω RX8 "nextToken" cX8_nextToken 2 none 1) (hF : fX8_nextToken_286 a0 G = some t) (h224 : ∀ z, t = (.inl z) → fg_W Ω z.2 224 [(0, .ref z.1)] []) (hT : ∀ u, t = (.inr u) → fg_T Ω (.returned none) u.2) : fg_W Ω G 286 [(0, .ref a0)] [] := by
  unfold fX8_nextToken_286 at hF
  refine fg_aload_n X (r := (some a0)) dX8_nextToken_286 rfl 0 rfl ?_
  refine fg_dup X dX8_nextToken_287 rfl ?_
  replace hF := fg_ob_some hF
  obtain ⟨x35, e_1, hF⟩ := hF
  refine fg_geti X ff_X8_place q1552 e_1 dX8_nextToken_288 ?_
  refine fg_iconst X (v := (1 : Int32)) dX8_nextToken_291 (by decide) ?_
  refine fg_iadd X dX8_nextToken_292 ?_
  replace hF := fg_ob_some hF
  obtain ⟨G36, e_2, hF⟩ := hF
  refine fg_putv X (ty := .int) (v := .int (x35 + (1 : Int32))) ff_X8_place q1552 rfl (Or.inl rfl) rfl rfl rfl e_2 dX8_nextToken_293 ?_
  refine fg_goto X (tgt := 224) dX8_nextToken_296 (by decide) ?_
  refine fg_sub [0] rfl ?_
  exact h224 _ (Option.some.inj hF).symm
set_option maxHeartbeats 4000000 in
theorem wX8_nextToken_224b {Ω : fg_O} {a0 : Nat} {G : fg_H} {t : ((Nat × fg_H) ⊕ (Unit × fg_H))} (X : fg_X Ω RX8 "nextToken" cX8_nextToken 2 none 1) (hF : fX8_nextToken_224b a0 G = some t) (h224 : ∀ z, t = (.inl z) → fg_W Ω z.2 224 [(0, .ref z.1)] []) (hT : ∀ u, t = (.inr u) → fg_T Ω (.returned none) u.2) : fg_W Ω G 224 [(0, .ref a0)] [] := by
  unfold fX8_nextToken_224b at hF
  refine fg_aload_n X (r := (some a0)) dX8_nextToken_224 rfl 0 rfl ?_
  refine fg_aload_n X (r := (some a0)) dX8_nextToken_225 rfl 0 rfl ?_
  replace hF := fg_ob_some hF
  obtain ⟨x21, e_1, hF⟩ := hF
  refine fg_geti X ff_X8_place q1552 e_1 dX8_nextToken_226 ?_
  replace hF := fg_gd_some hF
  obtain ⟨eg_2, hF⟩ := hF
  obtain ⟨fs_3, eo_4⟩ := fg_rc_get eg_2
  replace hF := fg_oc_some hF
  obtain ⟨x23, G22, e_5, hF⟩ := hF
  refine fg_callV X (st := []) (mX8_signAt Ω.2.2.2.2.1 Ω.1 e_5) q1711 q1713 qs44 q105 q1714 hd_X8_signAt (by decide) rfl eo_4 (by decide) rfl rfl (Nat.le_of_ble_eq_true rfl) dX8_nextToken_229 ?_
  refine fg_bipush X (v := (48 : Int32)) dX8_nextToken_232 (by decide) ?_
  refine fg_icmp_lt X (tgt := 299) dX8_nextToken_234 (by decide) (fun hc => ?_) (fun hc => ?_)
  · rw [if_pos hc] at hF
    replace hF := fg_rt_some hF
    obtain ⟨t24, hF, ht_6⟩ := hF
    subst ht_6
    replace hT := hT _ rfl
    refine fg_sub [0] rfl ?_
    exact wX8_nextToken_299 X hF hT
  · rw [if_neg hc] at hF
    refine fg_aload_n X (r := (some a0)) dX8_nextToken_237 rfl 0 rfl ?_
    refine fg_aload_n X (r := (some a0)) dX8_nextToken_238 rfl 0 rfl ?_
    replace hF := fg_ob_some hF
    obtain ⟨x29, e_7, hF⟩ := hF
    refine fg_geti X ff_X8_place q1552 e_7 dX8_nextToken_239 ?_
    replace hF := fg_gd_some hF
    obtain ⟨eg_8, hF⟩ := hF
    obtain ⟨fs_9, eo_10⟩ := fg_rc_get eg_8
    replace hF := fg_oc_some hF
    obtain ⟨x31, G30, e_11, hF⟩ := hF
    refine fg_callV X (st := []) (mX8_signAt Ω.2.2.2.2.1 Ω.1 e_11) q1711 q1713 qs44 q105 q1714 hd_X8_signAt (by decide) rfl eo_10 (by decide) rfl rfl (Nat.le_of_ble_eq_true rfl) dX8_nextToken_242 ?_
    refine fg_bipush X (v := (57 : Int32)) dX8_nextToken_245 (by decide) ?_
    refine fg_icmp_gt X (tgt := 299) dX8_nextToken_247 (by decide) (fun hc => ?_) (fun hc => ?_)
    · rw [if_pos hc] at hF
      replace hF := fg_rt_some hF
      obtain ⟨t32, hF, ht_12⟩ := hF
      subst ht_12
      replace hT := hT _ rfl
      refine fg_sub [0] rfl ?_
      exact wX8_nextToken_299 X hF hT
    · rw [if_neg hc] at hF
      refine fg_aload_n X (r := (some a0)) dX8_nextToken_250 rfl 0 rfl ?_
      replace hF := fg_ob_some hF
      obtain ⟨x33, e_13, hF⟩ := hF
      refine fg_geti X ff_X8_place q1552 e_13 dX8_nextToken_251 ?_
      refine fg_aload_n X (r := (some a0)) dX8_nextToken_254 rfl 0 rfl ?_
      replace hF := fg_ob_some hF
      obtain ⟨x34, e_14, hF⟩ := hF
      refine fg_geti X ff_X8_begin q1553 e_14 dX8_nextToken_255 ?_
      refine fg_isub X dX8_nextToken_258 ?_
      refine fg_iconst X (v := (4 : Int32)) dX8_nextToken_259 (by decide) ?_
      refine fg_icmp_ge X (tgt := 286) dX8_nextToken_260 (by decide) (fun hc => ?_) (fun hc => ?_)
      · rw [if_pos hc] at hF
        refine fg_sub [0] rfl ?_
        exact wX8_nextToken_286 X hF h224 hT
      · rw [if_neg hc] at hF
        refine fg_aload_n X (r := (some a0)) dX8_nextToken_263 rfl 0 rfl ?_
        refine fg_aload_n X (r := (some a0)) dX8_nextToken_264 rfl 0 rfl ?_
        replace hF := fg_ob_some hF
        obtain ⟨x37, e_15, hF⟩ := hF
        refine fg_geti X ff_X8_told q1556 e_15 dX8_nextToken_265 ?_
        refine fg_bipush X (v := (10 : Int32)) dX8_nextToken_268 (by decide) ?_
        refine fg_imul X dX8_nextToken_270 ?_
        refine fg_aload_n X (r := (some a0)) dX8_nextToken_271 rfl 0 rfl ?_
        refine fg_aload_n X (r := (some a0)) dX8_nextToken_272 rfl 0 rfl ?_
        replace hF := fg_ob_some hF
        obtain ⟨x38, e_16, hF⟩ := hF
        refine fg_geti X ff_X8_place q1552 e_16 dX8_nextToken_273 ?_
        replace hF := fg_gd_some hF
        obtain ⟨eg_17, hF⟩ := hF
        obtain ⟨fs_18, eo_19⟩ := fg_rc_get eg_17
        replace hF := fg_oc_some hF
        obtain ⟨x40, G39, e_20, hF⟩ := hF
        refine fg_callV X (st := [.int (x37 * (10 : Int32)), .ref a0]) (mX8_signAt Ω.2.2.2.2.1 Ω.1 e_20) q1711 q1713 qs44 q105 q1714 hd_X8_signAt (by decide) rfl eo_19 (by decide) rfl rfl (Nat.le_of_ble_eq_true rfl) dX8_nextToken_276 ?_
        refine fg_iadd X dX8_nextToken_279 ?_
        refine fg_bipush X (v := (48 : Int32)) dX8_nextToken_280 (by decide) ?_
        refine fg_isub X dX8_nextToken_282 ?_
        replace hF := fg_ob_some hF
        obtain ⟨G41, e_21, hF⟩ := hF
        refine fg_putv X (ty := .int) (v := .int (((x37 * (10 : Int32)) + x40) - (48 : Int32))) ff_X8_told q1556 rfl (Or.inl rfl) rfl rfl rfl e_21 dX8_nextToken_283 ?_
        refine fg_sub [0] rfl ?_
        exact wX8_nextToken_286 X hF h224 hT
set_option maxHeartbeats 4000000 in
theorem wX8_nextToken_224 {Ω : fg_O} {a0 : Nat} {G : fg_H} {t : (Unit × fg_H)} (X : fg_X Ω RX8 "nextToken" cX8_nextToken 2 none 1) (hF : fX8_nextToken_224 a0 G = some t) (hT : fg_T Ω (.returned none) t.2) : fg_W Ω G 224 [(0, .ref a0)] [] := by
  unfold fX8_nextToken_224 at hF
  exact fg_lp_walk (P := fun z => fg_W Ω z.2 224 [(0, .ref z.1)] []) (fun y o ho hl hr => wX8_nextToken_224b X ho (fun z e => hl z e) (fun u e => by rw [hr _ e]; exact hT)) hF
set_option maxHeartbeats 4000000 in
theorem wX8_nextToken_212 {Ω : fg_O} {a0 : Nat} {i1 : Int32} {G : fg_H} {t : (Unit × fg_H)} (X : fg_X Ω RX8 "nextToken" cX8_nextToken 2 none 1) (hF : fX8_nextToken_212 a0 i1 G = some t) (hT : fg_T Ω (.returned none) t.2) : fg_W Ω G 212 [(0, .ref a0), (1, .int i1)] [] := by
  unfold fX8_nextToken_212 at hF
  refine fg_iload_n X dX8_nextToken_212 rfl 1 rfl ?_
  refine fg_bipush X (v := (48 : Int32)) dX8_nextToken_213 (by decide) ?_
  refine fg_icmp_lt X (tgt := 322) dX8_nextToken_215 (by decide) (fun hc => ?_) (fun hc => ?_)
  · rw [if_pos hc] at hF
    refine fg_sub [0, 1] rfl ?_
    exact wX8_nextToken_322 X hF hT
  · rw [if_neg hc] at hF
    refine fg_iload_n X dX8_nextToken_218 rfl 1 rfl ?_
    refine fg_bipush X (v := (57 : Int32)) dX8_nextToken_219 (by decide) ?_
    refine fg_icmp_gt X (tgt := 322) dX8_nextToken_221 (by decide) (fun hc => ?_) (fun hc => ?_)
    · rw [if_pos hc] at hF
      refine fg_sub [0, 1] rfl ?_
      exact wX8_nextToken_322 X hF hT
    · rw [if_neg hc] at hF
      refine fg_sub [0] rfl ?_
      exact wX8_nextToken_224 X hF hT
set_option maxHeartbeats 4000000 in
theorem wX8_nextToken_188 {Ω : fg_O} {a0 : Nat} {G : fg_H} {t : (Unit × fg_H)} (X : fg_X Ω RX8 "nextToken" cX8_nextToken 2 none 1) (hF : fX8_nextToken_188 a0 G = some t) (hT : fg_T Ω (.returned none) t.2) : fg_W Ω G 188 [(0, .ref a0)] [] := by
  unfold fX8_nextToken_188 at hF
  refine fg_aload_n X (r := (some a0)) dX8_nextToken_188 rfl 0 rfl ?_
  refine fg_aload_n X (r := (some a0)) dX8_nextToken_189 rfl 0 rfl ?_
  replace hF := fg_ob_some hF
  obtain ⟨x46, e_1, hF⟩ := hF
  refine fg_geti X ff_X8_place q1552 e_1 dX8_nextToken_190 ?_
  refine fg_aload_n X (r := (some a0)) dX8_nextToken_193 rfl 0 rfl ?_
  replace hF := fg_ob_some hF
  obtain ⟨x47, e_2, hF⟩ := hF
  refine fg_geti X ff_X8_begin q1553 e_2 dX8_nextToken_194 ?_
  refine fg_isub X dX8_nextToken_197 ?_
  refine fg_bipush X (v := (8 : Int32)) dX8_nextToken_198 (by decide) ?_
  refine fg_icmp_le X (tgt := 207) dX8_nextToken_200 (by decide) (fun hc => ?_) (fun hc => ?_)
  · rw [if_pos hc] at hF
    refine fg_iconst X (v := (1 : Int32)) dX8_nextToken_207 (by decide) ?_
    replace hF := fg_ob_some hF
    obtain ⟨G48, e_3, hF⟩ := hF
    refine fg_putv X (ty := .int) (v := .int (1 : Int32)) ff_X8_token q1554 rfl (Or.inl rfl) rfl rfl rfl e_3 dX8_nextToken_208 ?_
    cases hF
    exact fg_vret X dX8_nextToken_211 (hT)
  · rw [if_neg hc] at hF
    refine fg_iconst X (v := (4 : Int32)) dX8_nextToken_203 (by decide) ?_
    refine fg_goto X (tgt := 208) dX8_nextToken_204 (by decide) ?_
    replace hF := fg_ob_some hF
    obtain ⟨G49, e_4, hF⟩ := hF
    refine fg_putv X (ty := .int) (v := .int (4 : Int32)) ff_X8_token q1554 rfl (Or.inl rfl) rfl rfl rfl e_4 dX8_nextToken_208 ?_
    cases hF
    exact fg_vret X dX8_nextToken_211 (hT)
set_option maxHeartbeats 4000000 in
theorem wX8_nextToken_175 {Ω : fg_O} {a0 : Nat} {G : fg_H} {t : ((Nat × fg_H) ⊕ (Unit × fg_H))} (X : fg_X Ω RX8 "nextToken" cX8_nextToken 2 none 1) (hF : fX8_nextToken_175 a0 G = some t) (h109 : ∀ z, t = (.inl z) → fg_W Ω z.2 109 [(0, .ref z.1)] []) (hT : ∀ u, t = (.inr u) → fg_T Ω (.returned none) u.2) : fg_W Ω G 175 [(0, .ref a0)] [] := by
  unfold fX8_nextToken_175 at hF
  refine fg_aload_n X (r := (some a0)) dX8_nextToken_175 rfl 0 rfl ?_
  refine fg_dup X dX8_nextToken_176 rfl ?_
  replace hF := fg_ob_some hF
  obtain ⟨x56, e_1, hF⟩ := hF
  refine fg_geti X ff_X8_place q1552 e_1 dX8_nextToken_177 ?_
  refine fg_iconst X (v := (1 : Int32)) dX8_nextToken_180 (by decide) ?_
  refine fg_iadd X dX8_nextToken_181 ?_
  replace hF := fg_ob_some hF
  obtain ⟨G57, e_2, hF⟩ := hF
  refine fg_putv X (ty := .int) (v := .int (x56 + (1 : Int32))) ff_X8_place q1552 rfl (Or.inl rfl) rfl rfl rfl e_2 dX8_nextToken_182 ?_
  refine fg_goto X (tgt := 109) dX8_nextToken_185 (by decide) ?_
  refine fg_sub [0] rfl ?_
  exact h109 _ (Option.some.inj hF).symm
set_option maxHeartbeats 4000000 in
theorem wX8_nextToken_109b {Ω : fg_O} {a0 : Nat} {G : fg_H} {t : ((Nat × fg_H) ⊕ (Unit × fg_H))} (X : fg_X Ω RX8 "nextToken" cX8_nextToken 2 none 1) (hF : fX8_nextToken_109b a0 G = some t) (h109 : ∀ z, t = (.inl z) → fg_W Ω z.2 109 [(0, .ref z.1)] []) (hT : ∀ u, t = (.inr u) → fg_T Ω (.returned none) u.2) : fg_W Ω G 109 [(0, .ref a0)] [] := by
  unfold fX8_nextToken_109b at hF
  refine fg_aload_n X (r := (some a0)) dX8_nextToken_109 rfl 0 rfl ?_
  refine fg_aload_n X (r := (some a0)) dX8_nextToken_110 rfl 0 rfl ?_
  replace hF := fg_ob_some hF
  obtain ⟨x42, e_1, hF⟩ := hF
  refine fg_geti X ff_X8_place q1552 e_1 dX8_nextToken_111 ?_
  replace hF := fg_gd_some hF
  obtain ⟨eg_2, hF⟩ := hF
  obtain ⟨fs_3, eo_4⟩ := fg_rc_get eg_2
  replace hF := fg_oc_some hF
  obtain ⟨x44, G43, e_5, hF⟩ := hF
  refine fg_callV X (st := []) (mX8_signAt Ω.2.2.2.2.1 Ω.1 e_5) q1711 q1713 qs44 q105 q1714 hd_X8_signAt (by decide) rfl eo_4 (by decide) rfl rfl (Nat.le_of_ble_eq_true rfl) dX8_nextToken_114 ?_
  refine fg_bipush X (v := (97 : Int32)) dX8_nextToken_117 (by decide) ?_
  refine fg_icmp_lt X (tgt := 188) dX8_nextToken_119 (by decide) (fun hc => ?_) (fun hc => ?_)
  · rw [if_pos hc] at hF
    replace hF := fg_rt_some hF
    obtain ⟨t45, hF, ht_6⟩ := hF
    subst ht_6
    replace hT := hT _ rfl
    refine fg_sub [0] rfl ?_
    exact wX8_nextToken_188 X hF hT
  · rw [if_neg hc] at hF
    refine fg_aload_n X (r := (some a0)) dX8_nextToken_122 rfl 0 rfl ?_
    refine fg_aload_n X (r := (some a0)) dX8_nextToken_123 rfl 0 rfl ?_
    replace hF := fg_ob_some hF
    obtain ⟨x50, e_7, hF⟩ := hF
    refine fg_geti X ff_X8_place q1552 e_7 dX8_nextToken_124 ?_
    replace hF := fg_gd_some hF
    obtain ⟨eg_8, hF⟩ := hF
    obtain ⟨fs_9, eo_10⟩ := fg_rc_get eg_8
    replace hF := fg_oc_some hF
    obtain ⟨x52, G51, e_11, hF⟩ := hF
    refine fg_callV X (st := []) (mX8_signAt Ω.2.2.2.2.1 Ω.1 e_11) q1711 q1713 qs44 q105 q1714 hd_X8_signAt (by decide) rfl eo_10 (by decide) rfl rfl (Nat.le_of_ble_eq_true rfl) dX8_nextToken_127 ?_
    refine fg_bipush X (v := (122 : Int32)) dX8_nextToken_130 (by decide) ?_
    refine fg_icmp_gt X (tgt := 188) dX8_nextToken_132 (by decide) (fun hc => ?_) (fun hc => ?_)
    · rw [if_pos hc] at hF
      replace hF := fg_rt_some hF
      obtain ⟨t53, hF, ht_12⟩ := hF
      subst ht_12
      replace hT := hT _ rfl
      refine fg_sub [0] rfl ?_
      exact wX8_nextToken_188 X hF hT
    · rw [if_neg hc] at hF
      refine fg_aload_n X (r := (some a0)) dX8_nextToken_135 rfl 0 rfl ?_
      replace hF := fg_ob_some hF
      obtain ⟨x54, e_13, hF⟩ := hF
      refine fg_geti X ff_X8_place q1552 e_13 dX8_nextToken_136 ?_
      refine fg_aload_n X (r := (some a0)) dX8_nextToken_139 rfl 0 rfl ?_
      replace hF := fg_ob_some hF
      obtain ⟨x55, e_14, hF⟩ := hF
      refine fg_geti X ff_X8_begin q1553 e_14 dX8_nextToken_140 ?_
      refine fg_isub X dX8_nextToken_143 ?_
      refine fg_bipush X (v := (8 : Int32)) dX8_nextToken_144 (by decide) ?_
      refine fg_icmp_ge X (tgt := 175) dX8_nextToken_146 (by decide) (fun hc => ?_) (fun hc => ?_)
      · rw [if_pos hc] at hF
        refine fg_sub [0] rfl ?_
        exact wX8_nextToken_175 X hF h109 hT
      · rw [if_neg hc] at hF
        refine fg_aload_n X (r := (some a0)) dX8_nextToken_149 rfl 0 rfl ?_
        refine fg_aload_n X (r := (some a0)) dX8_nextToken_150 rfl 0 rfl ?_
        replace hF := fg_ob_some hF
        obtain ⟨y58, e_15, hF⟩ := hF
        refine fg_getl X ff_X8_word q1555 e_15 dX8_nextToken_151 ?_
        refine fg_ldc2 X q1715 dX8_nextToken_154 ?_
        refine fg_lmul X dX8_nextToken_157 ?_
        refine fg_aload_n X (r := (some a0)) dX8_nextToken_158 rfl 0 rfl ?_
        refine fg_aload_n X (r := (some a0)) dX8_nextToken_159 rfl 0 rfl ?_
        replace hF := fg_ob_some hF
        obtain ⟨x59, e_16, hF⟩ := hF
        refine fg_geti X ff_X8_place q1552 e_16 dX8_nextToken_160 ?_
        replace hF := fg_gd_some hF
        obtain ⟨eg_17, hF⟩ := hF
        obtain ⟨fs_18, eo_19⟩ := fg_rc_get eg_17
        replace hF := fg_oc_some hF
        obtain ⟨x61, G60, e_20, hF⟩ := hF
        refine fg_callV X (st := [.long (y58 * (27 : Int64)), .ref a0]) (mX8_signAt Ω.2.2.2.2.1 Ω.1 e_20) q1711 q1713 qs44 q105 q1714 hd_X8_signAt (by decide) rfl eo_19 (by decide) rfl rfl (Nat.le_of_ble_eq_true rfl) dX8_nextToken_163 ?_
        refine fg_i2l X dX8_nextToken_166 ?_
        refine fg_ladd X dX8_nextToken_167 ?_
        refine fg_ldc2 X q1716 dX8_nextToken_168 ?_
        refine fg_lsub X dX8_nextToken_171 ?_
        replace hF := fg_ob_some hF
        obtain ⟨G62, e_21, hF⟩ := hF
        refine fg_putv X (ty := .long) (v := .long (((y58 * (27 : Int64)) + (x61).toInt64) - (96 : Int64))) ff_X8_word q1555 rfl (Or.inl rfl) rfl rfl rfl e_21 dX8_nextToken_172 ?_
        refine fg_sub [0] rfl ?_
        exact wX8_nextToken_175 X hF h109 hT
set_option maxHeartbeats 4000000 in
theorem wX8_nextToken_109 {Ω : fg_O} {a0 : Nat} {G : fg_H} {t : (Unit × fg_H)} (X : fg_X Ω RX8 "nextToken" cX8_nextToken 2 none 1) (hF : fX8_nextToken_109 a0 G = some t) (hT : fg_T Ω (.returned none) t.2) : fg_W Ω G 109 [(0, .ref a0)] [] := by
  unfold fX8_nextToken_109 at hF
  exact fg_lp_walk (P := fun z => fg_W Ω z.2 109 [(0, .ref z.1)] []) (fun y o ho hl hr => wX8_nextToken_109b X ho (fun z e => hl z e) (fun u e => by rw [hr _ e]; exact hT)) hF
set_option maxHeartbeats 4000000 in
theorem wX8_nextToken_52 {Ω : fg_O} {a0 : Nat} {G : fg_H} {t : (Unit × fg_H)} (X : fg_X Ω RX8 "nextToken" cX8_nextToken 2 none 1) (hF : fX8_nextToken_52 a0 G = some t) (hT : fg_T Ω (.returned none) t.2) : fg_W Ω G 52 [(0, .ref a0)] [] := by
  unfold fX8_nextToken_52 at hF
  refine fg_aload_n X (r := (some a0)) dX8_nextToken_52 rfl 0 rfl ?_
  refine fg_aload_n X (r := (some a0)) dX8_nextToken_53 rfl 0 rfl ?_
  replace hF := fg_ob_some hF
  obtain ⟨x4, e_1, hF⟩ := hF
  refine fg_geti X ff_X8_place q1552 e_1 dX8_nextToken_54 ?_
  replace hF := fg_ob_some hF
  obtain ⟨G5, e_2, hF⟩ := hF
  refine fg_putv X (ty := .int) (v := .int x4) ff_X8_begin q1553 rfl (Or.inl rfl) rfl rfl rfl e_2 dX8_nextToken_57 ?_
  refine fg_aload_n X (r := (some a0)) dX8_nextToken_60 rfl 0 rfl ?_
  refine fg_lconst X (v := (0 : Int64)) dX8_nextToken_61 (by decide) ?_
  replace hF := fg_ob_some hF
  obtain ⟨G6, e_3, hF⟩ := hF
  refine fg_putv X (ty := .long) (v := .long (0 : Int64)) ff_X8_word q1555 rfl (Or.inl rfl) rfl rfl rfl e_3 dX8_nextToken_62 ?_
  refine fg_aload_n X (r := (some a0)) dX8_nextToken_65 rfl 0 rfl ?_
  refine fg_iconst X (v := (0 : Int32)) dX8_nextToken_66 (by decide) ?_
  replace hF := fg_ob_some hF
  obtain ⟨G7, e_4, hF⟩ := hF
  refine fg_putv X (ty := .int) (v := .int (0 : Int32)) ff_X8_told q1556 rfl (Or.inl rfl) rfl rfl rfl e_4 dX8_nextToken_67 ?_
  refine fg_aload_n X (r := (some a0)) dX8_nextToken_70 rfl 0 rfl ?_
  replace hF := fg_ob_some hF
  obtain ⟨x8, e_5, hF⟩ := hF
  refine fg_geti X ff_X8_place q1552 e_5 dX8_nextToken_71 ?_
  refine fg_aload_n X (r := (some a0)) dX8_nextToken_74 rfl 0 rfl ?_
  replace hF := fg_ob_some hF
  obtain ⟨x9, e_6, hF⟩ := hF
  refine fg_geti X ff_X8_size q1551 e_6 dX8_nextToken_75 ?_
  refine fg_icmp_ne X (tgt := 87) dX8_nextToken_78 (by decide) (fun hc => ?_) (fun hc => ?_)
  · rw [if_neg hc] at hF
    refine fg_aload_n X (r := (some a0)) dX8_nextToken_87 rfl 0 rfl ?_
    replace hF := fg_ob_some hF
    obtain ⟨r10, e_7, hF⟩ := hF
    refine fg_getr X ff_X8_tape q1550 e_7 dX8_nextToken_88 ?_
    refine fg_aload_n X (r := (some a0)) dX8_nextToken_91 rfl 0 rfl ?_
    replace hF := fg_ob_some hF
    obtain ⟨x11, e_8, hF⟩ := hF
    refine fg_geti X ff_X8_place q1552 e_8 dX8_nextToken_92 ?_
    replace hF := fg_ob_some hF
    obtain ⟨a12, rfl, hF⟩ := hF
    replace hF := fg_ob_some hF
    obtain ⟨x13, e_9, hF⟩ := hF
    refine fg_iald X e_9 dX8_nextToken_95 ?_
    refine fg_istore_n X (L' := [(1, .int x13), (0, .ref a0)]) dX8_nextToken_96 rfl (by decide) rfl ?_
    refine fg_iload_n X dX8_nextToken_97 rfl 0 rfl ?_
    refine fg_bipush X (v := (97 : Int32)) dX8_nextToken_98 (by decide) ?_
    refine fg_icmp_lt X (tgt := 212) dX8_nextToken_100 (by decide) (fun hc => ?_) (fun hc => ?_)
    · rw [if_pos hc] at hF
      refine fg_sub [1, 0] rfl ?_
      exact wX8_nextToken_212 X hF hT
    · rw [if_neg hc] at hF
      refine fg_iload_n X dX8_nextToken_103 rfl 0 rfl ?_
      refine fg_bipush X (v := (122 : Int32)) dX8_nextToken_104 (by decide) ?_
      refine fg_icmp_gt X (tgt := 212) dX8_nextToken_106 (by decide) (fun hc => ?_) (fun hc => ?_)
      · rw [if_pos hc] at hF
        refine fg_sub [1, 0] rfl ?_
        exact wX8_nextToken_212 X hF hT
      · rw [if_neg hc] at hF
        refine fg_sub [1] rfl ?_
        exact wX8_nextToken_109 X hF hT
  · rw [if_pos hc] at hF
    refine fg_aload_n X (r := (some a0)) dX8_nextToken_81 rfl 0 rfl ?_
    refine fg_iconst X (v := (0 : Int32)) dX8_nextToken_82 (by decide) ?_
    replace hF := fg_ob_some hF
    obtain ⟨G63, e_10, hF⟩ := hF
    refine fg_putv X (ty := .int) (v := .int (0 : Int32)) ff_X8_token q1554 rfl (Or.inl rfl) rfl rfl rfl e_10 dX8_nextToken_83 ?_
    cases hF
    exact fg_vret X dX8_nextToken_86 (hT)
set_option maxHeartbeats 4000000 in
theorem wX8_nextToken_39 {Ω : fg_O} {a0 : Nat} {G : fg_H} {t : ((Nat × fg_H) ⊕ (Unit × fg_H))} (X : fg_X Ω RX8 "nextToken" cX8_nextToken 2 none 1) (hF : fX8_nextToken_39 a0 G = some t) (h0 : ∀ z, t = (.inl z) → fg_W Ω z.2 0 [(0, .ref z.1)] []) (hT : ∀ u, t = (.inr u) → fg_T Ω (.returned none) u.2) : fg_W Ω G 39 [(0, .ref a0)] [] := by
  unfold fX8_nextToken_39 at hF
  refine fg_aload_n X (r := (some a0)) dX8_nextToken_39 rfl 0 rfl ?_
  refine fg_dup X dX8_nextToken_40 rfl ?_
  replace hF := fg_ob_some hF
  obtain ⟨x68, e_1, hF⟩ := hF
  refine fg_geti X ff_X8_place q1552 e_1 dX8_nextToken_41 ?_
  refine fg_iconst X (v := (1 : Int32)) dX8_nextToken_44 (by decide) ?_
  refine fg_iadd X dX8_nextToken_45 ?_
  replace hF := fg_ob_some hF
  obtain ⟨G69, e_2, hF⟩ := hF
  refine fg_putv X (ty := .int) (v := .int (x68 + (1 : Int32))) ff_X8_place q1552 rfl (Or.inl rfl) rfl rfl rfl e_2 dX8_nextToken_46 ?_
  refine fg_goto X (tgt := 0) dX8_nextToken_49 (by decide) ?_
  refine fg_sub [0] rfl ?_
  exact h0 _ (Option.some.inj hF).symm
set_option maxHeartbeats 4000000 in
theorem wX8_nextToken_0b {Ω : fg_O} {a0 : Nat} {G : fg_H} {t : ((Nat × fg_H) ⊕ (Unit × fg_H))} (X : fg_X Ω RX8 "nextToken" cX8_nextToken 2 none 1) (hF : fX8_nextToken_0b a0 G = some t) (h0 : ∀ z, t = (.inl z) → fg_W Ω z.2 0 [(0, .ref z.1)] []) (hT : ∀ u, t = (.inr u) → fg_T Ω (.returned none) u.2) : fg_W Ω G 0 [(0, .ref a0)] [] := by
  unfold fX8_nextToken_0b at hF
  refine fg_aload_n X (r := (some a0)) dX8_nextToken_0 rfl 0 rfl ?_
  replace hF := fg_ob_some hF
  obtain ⟨x1, e_1, hF⟩ := hF
  refine fg_geti X ff_X8_place q1552 e_1 dX8_nextToken_1 ?_
  refine fg_aload_n X (r := (some a0)) dX8_nextToken_4 rfl 0 rfl ?_
  replace hF := fg_ob_some hF
  obtain ⟨x2, e_2, hF⟩ := hF
  refine fg_geti X ff_X8_size q1551 e_2 dX8_nextToken_5 ?_
  refine fg_icmp_ge X (tgt := 52) dX8_nextToken_8 (by decide) (fun hc => ?_) (fun hc => ?_)
  · rw [if_pos hc] at hF
    replace hF := fg_rt_some hF
    obtain ⟨t3, hF, ht_3⟩ := hF
    subst ht_3
    replace hT := hT _ rfl
    refine fg_sub [0] rfl ?_
    exact wX8_nextToken_52 X hF hT
  · rw [if_neg hc] at hF
    refine fg_aload_n X (r := (some a0)) dX8_nextToken_11 rfl 0 rfl ?_
    replace hF := fg_ob_some hF
    obtain ⟨r64, e_4, hF⟩ := hF
    refine fg_getr X ff_X8_tape q1550 e_4 dX8_nextToken_12 ?_
    refine fg_aload_n X (r := (some a0)) dX8_nextToken_15 rfl 0 rfl ?_
    replace hF := fg_ob_some hF
    obtain ⟨x65, e_5, hF⟩ := hF
    refine fg_geti X ff_X8_place q1552 e_5 dX8_nextToken_16 ?_
    replace hF := fg_ob_some hF
    obtain ⟨a66, rfl, hF⟩ := hF
    replace hF := fg_ob_some hF
    obtain ⟨x67, e_6, hF⟩ := hF
    refine fg_iald X e_6 dX8_nextToken_19 ?_
    refine fg_bipush X (v := (32 : Int32)) dX8_nextToken_20 (by decide) ?_
    refine fg_icmp_eq X (tgt := 39) dX8_nextToken_22 (by decide) (fun hc => ?_) (fun hc => ?_)
    · rw [if_pos hc] at hF
      refine fg_sub [0] rfl ?_
      exact wX8_nextToken_39 X hF h0 hT
    · rw [if_neg hc] at hF
      refine fg_aload_n X (r := (some a0)) dX8_nextToken_25 rfl 0 rfl ?_
      replace hF := fg_ob_some hF
      obtain ⟨r70, e_7, hF⟩ := hF
      refine fg_getr X ff_X8_tape q1550 e_7 dX8_nextToken_26 ?_
      refine fg_aload_n X (r := (some a0)) dX8_nextToken_29 rfl 0 rfl ?_
      replace hF := fg_ob_some hF
      obtain ⟨x71, e_8, hF⟩ := hF
      refine fg_geti X ff_X8_place q1552 e_8 dX8_nextToken_30 ?_
      replace hF := fg_ob_some hF
      obtain ⟨a72, rfl, hF⟩ := hF
      replace hF := fg_ob_some hF
      obtain ⟨x73, e_9, hF⟩ := hF
      refine fg_iald X e_9 dX8_nextToken_33 ?_
      refine fg_bipush X (v := (10 : Int32)) dX8_nextToken_34 (by decide) ?_
      refine fg_icmp_ne X (tgt := 52) dX8_nextToken_36 (by decide) (fun hc => ?_) (fun hc => ?_)
      · rw [if_neg hc] at hF
        replace hF := fg_rt_some hF
        obtain ⟨t74, hF, ht_10⟩ := hF
        subst ht_10
        replace hT := hT _ rfl
        refine fg_sub [0] rfl ?_
        exact wX8_nextToken_52 X hF hT
      · rw [if_pos hc] at hF
        refine fg_sub [0] rfl ?_
        exact wX8_nextToken_39 X hF h0 hT
set_option maxHeartbeats 4000000 in
theorem wX8_nextToken_0 {Ω : fg_O} {a0 : Nat} {G : fg_H} {t : (Unit × fg_H)} (X : fg_X Ω RX8 "nextToken" cX8_nextToken 2 none 1) (hF : fX8_nextToken_0 a0 G = some t) (hT : fg_T Ω (.returned none) t.2) : fg_W Ω G 0 [(0, .ref a0)] [] := by
  unfold fX8_nextToken_0 at hF
  exact fg_lp_walk (P := fun z => fg_W Ω z.2 0 [(0, .ref z.1)] []) (fun y o ho hl hr => wX8_nextToken_0b X ho (fun z e => hl z e) (fun u e => by rw [hr _ e]; exact hT)) hF
set_option maxHeartbeats 4000000 in
theorem wX8_nextToken {Ω : fg_O} {a0 : Nat} {G : fg_H} {t : Unit × fg_H} (X : fg_X Ω RX8 "nextToken" cX8_nextToken 2 none 1) (hF : fX8_nextToken a0 G = some t) (hT : fg_T Ω (.returned none) t.2) : fg_W Ω G 0 [(0, .ref a0)] [] := by
  unfold fX8_nextToken at hF
  refine fg_sub [0] rfl ?_
  exact wX8_nextToken_0 X hF hT
theorem mX8_nextToken (l : Launch) (D : fg_D) {a0 : Nat} {G : fg_H} {t : Unit × fg_H} (hF : fX8_nextToken a0 G = some t) : fg_M l D yX8_nextToken cX8_nextToken 2 none 1 [.ref a0] G (.returned none) t.2 :=
  fg_Mof (own := RX8) (nm := "nextToken") (L := [(0, .ref a0)]) (plainFor_of_name pn_X8) rfl rfl rfl (Nat.le_of_ble_eq_true rfl) (fun Ω _ _ X hT => wX8_nextToken X hF hT)

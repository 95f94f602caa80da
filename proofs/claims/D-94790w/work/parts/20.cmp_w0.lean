set_option maxRecDepth 100000
theorem hd_J0_init : yJ0_init.cls ≠ "java/lang/invoke/MethodHandle" ∧ yJ0_init.cls ≠ "java/lang/invoke/VarHandle" ∧ (parseMethodDescriptor yJ0_init.desc).map (fun d => d.parameters.length) = some 0 := ⟨by decide +kernel, by decide +kernel, by decide +kernel⟩
set_option maxHeartbeats 4000000 in
theorem wJ0_init {Ω : fg_O} {a0 : Nat} {G : fg_H} {t : Unit × fg_H} (X : fg_X Ω RJ0 "<init>" cJ0_init 1 none 1) (hF : fJ0_init a0 G = some t) (hT : fg_T Ω (.returned none) t.2) : fg_W Ω G 0 [(0, .ref a0)] [] := by
  unfold fJ0_init at hF
  refine fg_aload_n X (r := (some a0)) dJ0_init_0 rfl 0 rfl ?_
  refine fg_objInit X q251 q148 q149 (by decide) (Nat.le_of_ble_eq_true rfl) dJ0_init_1 ?_
  cases hF
  exact fg_vret X dJ0_init_4 (hT)
theorem mJ0_init (l : Launch) (D : fg_D) {a0 : Nat} {G : fg_H} {t : Unit × fg_H} (hF : fJ0_init a0 G = some t) : fg_M l D yJ0_init cJ0_init 1 none 1 [.ref a0] G (.returned none) t.2 :=
  fg_Mof (own := RJ0) (nm := "<init>") (L := [(0, .ref a0)]) (plainFor_of_name pn_J0) rfl rfl rfl (Nat.le_of_ble_eq_true rfl) (fun Ω _ _ X hT => wJ0_init X hF hT)
theorem hd_J1_init : yJ1_init.cls ≠ "java/lang/invoke/MethodHandle" ∧ yJ1_init.cls ≠ "java/lang/invoke/VarHandle" ∧ (parseMethodDescriptor yJ1_init.desc).map (fun d => d.parameters.length) = some 0 := ⟨by decide +kernel, by decide +kernel, by decide +kernel⟩
set_option maxHeartbeats 4000000 in
theorem wJ1_init {Ω : fg_O} {a0 : Nat} {G : fg_H} {t : Unit × fg_H} (X : fg_X Ω RJ1 "<init>" cJ1_init 1 none 2) (hF : fJ1_init a0 G = some t) (hT : fg_T Ω (.returned none) t.2) : fg_W Ω G 0 [(0, .ref a0)] [] := by
  unfold fJ1_init at hF
  refine fg_aload_n X (r := (some a0)) dJ1_init_0 rfl 0 rfl ?_
  replace hF := fg_oc_some hF
  obtain ⟨u, Gz1, e_1, hF⟩ := hF
  refine fg_callI X (st := []) (mJ0_init Ω.2.2.2.2.1 Ω.1 e_1) q248 q249 q96 q250 rfl hd_J0_init (by decide) rfl rfl (Nat.le_of_ble_eq_true rfl) dJ1_init_1 ?_
  refine fg_aload_n X (r := (some a0)) dJ1_init_4 rfl 0 rfl ?_
  refine fg_iconst X (v := (0 : Int32)) dJ1_init_5 (by decide) ?_
  replace hF := fg_ob_some hF
  obtain ⟨Gz2, e_2, hF⟩ := hF
  refine fg_putv X (ty := .int) (v := .int (0 : Int32)) ff_J1_modCount q258 rfl (Or.inl rfl) rfl rfl rfl e_2 dJ1_init_6 ?_
  cases hF
  exact fg_vret X dJ1_init_9 (hT)
theorem mJ1_init (l : Launch) (D : fg_D) {a0 : Nat} {G : fg_H} {t : Unit × fg_H} (hF : fJ1_init a0 G = some t) : fg_M l D yJ1_init cJ1_init 1 none 2 [.ref a0] G (.returned none) t.2 :=
  fg_Mof (own := RJ1) (nm := "<init>") (L := [(0, .ref a0)]) (plainFor_of_name pn_J1) rfl rfl rfl (Nat.le_of_ble_eq_true rfl) (fun Ω _ _ X hT => wJ1_init X hF hT)
theorem hd_J2_init_2 : yJ2_init_2.cls ≠ "java/lang/invoke/MethodHandle" ∧ yJ2_init_2.cls ≠ "java/lang/invoke/VarHandle" ∧ (parseMethodDescriptor yJ2_init_2.desc).map (fun d => d.parameters.length) = some 0 := ⟨by decide +kernel, by decide +kernel, by decide +kernel⟩
set_option maxHeartbeats 4000000 in
theorem wJ2_init_2 {Ω : fg_O} {a0 : Nat} {G : fg_H} {t : Unit × fg_H} (X : fg_X Ω RJ2 "<init>" cJ2_init_2 1 none 3) (hF : fJ2_init_2 a0 G = some t) (hT : fg_T Ω (.returned none) t.2) : fg_W Ω G 0 [(0, .ref a0)] [] := by
  unfold fJ2_init_2 at hF
  refine fg_aload_n X (r := (some a0)) dJ2_init_2_0 rfl 0 rfl ?_
  replace hF := fg_oc_some hF
  obtain ⟨u, Gz1, e_1, hF⟩ := hF
  refine fg_callI X (st := []) (mJ1_init Ω.2.2.2.2.1 Ω.1 e_1) q245 q246 q97 q247 rfl hd_J1_init (by decide) rfl rfl (Nat.le_of_ble_eq_true rfl) dJ2_init_2_1 ?_
  refine fg_aload_n X (r := (some a0)) dJ2_init_2_4 rfl 0 rfl ?_
  replace hF := fg_ob_some hF
  obtain ⟨rz2, ex_2, hF⟩ := hF
  refine fg_getsR X (i := 1) q400 (fun _ => rfl) (Option.some.inj ex_2) dJ2_init_2_5 ?_
  replace hF := fg_ob_some hF
  obtain ⟨Gz3, e_3, hF⟩ := hF
  refine fg_putv X (ty := (.array (.object "java/lang/Object"))) (v := va_rf rz2) ff_J2_elementData q256 rfl (Or.inl rfl) rfl (fg_nrf _ (Or.inr ⟨_, rfl⟩)) (fg_frf _ (Or.inr ⟨_, rfl⟩)) e_3 dJ2_init_2_8 ?_
  cases hF
  exact fg_vret X dJ2_init_2_11 (hT)
theorem mJ2_init_2 (l : Launch) (D : fg_D) {a0 : Nat} {G : fg_H} {t : Unit × fg_H} (hF : fJ2_init_2 a0 G = some t) : fg_M l D yJ2_init_2 cJ2_init_2 1 none 3 [.ref a0] G (.returned none) t.2 :=
  fg_Mof (own := RJ2) (nm := "<init>") (L := [(0, .ref a0)]) (plainFor_of_name pn_J2) rfl rfl rfl (Nat.le_of_ble_eq_true rfl) (fun Ω _ _ X hT => wJ2_init_2 X hF hT)
theorem hd_X2_init : yX2_init.cls ≠ "java/lang/invoke/MethodHandle" ∧ yX2_init.cls ≠ "java/lang/invoke/VarHandle" ∧ (parseMethodDescriptor yX2_init.desc).map (fun d => d.parameters.length) = some 0 := ⟨by decide +kernel, by decide +kernel, by decide +kernel⟩
set_option maxHeartbeats 4000000 in
theorem wX2_init {Ω : fg_O} {a0 : Nat} {G : fg_H} {t : Unit × fg_H} (X : fg_X Ω RX2 "<init>" cX2_init 1 none 1) (hF : fX2_init a0 G = some t) (hT : fg_T Ω (.returned none) t.2) : fg_W Ω G 0 [(0, .ref a0)] [] := by
  unfold fX2_init at hF
  refine fg_aload_n X (r := (some a0)) dX2_init_0 rfl 0 rfl ?_
  refine fg_objInit X q155 q148 q149 (by decide) (Nat.le_of_ble_eq_true rfl) dX2_init_1 ?_
  refine fg_aload_n X (r := (some a0)) dX2_init_4 rfl 0 rfl ?_
  refine fg_iconst X (v := (2 : Int32)) dX2_init_5 (by decide) ?_
  replace hF := fg_oc_some hF
  obtain ⟨az1, Gz2, e_1, hF⟩ := hF
  refine fg_newq X (kd := 7) (by decide) rfl q156 e_1 dX2_init_6 ?_
  refine fg_dup X dX2_init_9 rfl ?_
  refine fg_iconst X (v := (0 : Int32)) dX2_init_10 (by decide) ?_
  replace hF := fg_ob_some hF
  obtain ⟨rz3, ex_2, hF⟩ := hF
  refine fg_ldcS X (i := 0) (by decide) rfl rfl (Option.some.inj ex_2) dX2_init_11 ?_
  replace hF := fg_ob_some hF
  obtain ⟨Gz4, e_3, hF⟩ := hF
  refine fg_aast X (kd := 7) (by decide) (r := (some rz3)) e_3 dX2_init_13 ?_
  refine fg_dup X dX2_init_14 rfl ?_
  refine fg_iconst X (v := (1 : Int32)) dX2_init_15 (by decide) ?_
  replace hF := fg_ob_some hF
  obtain ⟨rz5, ex_4, hF⟩ := hF
  refine fg_ldcS X (i := 1) (by decide) rfl rfl (Option.some.inj ex_4) dX2_init_16 ?_
  replace hF := fg_ob_some hF
  obtain ⟨Gz6, e_5, hF⟩ := hF
  refine fg_aast X (kd := 7) (by decide) (r := (some rz5)) e_5 dX2_init_18 ?_
  replace hF := fg_ob_some hF
  obtain ⟨Gz7, e_6, hF⟩ := hF
  refine fg_putv X (ty := (.array (.object "java/lang/String"))) (v := .ref az1) ff_X2_windFacts q183 rfl (Or.inr ⟨rfl, rfl⟩) rfl rfl rfl e_6 dX2_init_19 ?_
  refine fg_aload_n X (r := (some a0)) dX2_init_22 rfl 0 rfl ?_
  refine fg_iconst X (v := (4 : Int32)) dX2_init_23 (by decide) ?_
  replace hF := fg_oc_some hF
  obtain ⟨az8, Gz9, e_7, hF⟩ := hF
  refine fg_newq X (kd := 7) (by decide) rfl q156 e_7 dX2_init_24 ?_
  refine fg_dup X dX2_init_27 rfl ?_
  refine fg_iconst X (v := (0 : Int32)) dX2_init_28 (by decide) ?_
  replace hF := fg_ob_some hF
  obtain ⟨rz10, ex_8, hF⟩ := hF
  refine fg_ldcS X (i := 0) (by decide) rfl rfl (Option.some.inj ex_8) dX2_init_29 ?_
  replace hF := fg_ob_some hF
  obtain ⟨Gz11, e_9, hF⟩ := hF
  refine fg_aast X (kd := 7) (by decide) (r := (some rz10)) e_9 dX2_init_31 ?_
  refine fg_dup X dX2_init_32 rfl ?_
  refine fg_iconst X (v := (1 : Int32)) dX2_init_33 (by decide) ?_
  replace hF := fg_ob_some hF
  obtain ⟨rz12, ex_10, hF⟩ := hF
  refine fg_ldcS X (i := 1) (by decide) rfl rfl (Option.some.inj ex_10) dX2_init_34 ?_
  replace hF := fg_ob_some hF
  obtain ⟨Gz13, e_11, hF⟩ := hF
  refine fg_aast X (kd := 7) (by decide) (r := (some rz12)) e_11 dX2_init_36 ?_
  refine fg_dup X dX2_init_37 rfl ?_
  refine fg_iconst X (v := (2 : Int32)) dX2_init_38 (by decide) ?_
  replace hF := fg_ob_some hF
  obtain ⟨rz14, ex_12, hF⟩ := hF
  refine fg_ldcS X (i := 2) (by decide) rfl rfl (Option.some.inj ex_12) dX2_init_39 ?_
  replace hF := fg_ob_some hF
  obtain ⟨Gz15, e_13, hF⟩ := hF
  refine fg_aast X (kd := 7) (by decide) (r := (some rz14)) e_13 dX2_init_41 ?_
  refine fg_dup X dX2_init_42 rfl ?_
  refine fg_iconst X (v := (3 : Int32)) dX2_init_43 (by decide) ?_
  replace hF := fg_ob_some hF
  obtain ⟨rz16, ex_14, hF⟩ := hF
  refine fg_ldcS X (i := 3) (by decide) rfl rfl (Option.some.inj ex_14) dX2_init_44 ?_
  replace hF := fg_ob_some hF
  obtain ⟨Gz17, e_15, hF⟩ := hF
  refine fg_aast X (kd := 7) (by decide) (r := (some rz16)) e_15 dX2_init_46 ?_
  replace hF := fg_ob_some hF
  obtain ⟨Gz18, e_16, hF⟩ := hF
  refine fg_putv X (ty := (.array (.object "java/lang/String"))) (v := .ref az8) ff_X2_fogFacts q184 rfl (Or.inr ⟨rfl, rfl⟩) rfl rfl rfl e_16 dX2_init_47 ?_
  refine fg_aload_n X (r := (some a0)) dX2_init_50 rfl 0 rfl ?_
  refine fg_bipush X (v := (6 : Int32)) dX2_init_51 (by decide) ?_
  replace hF := fg_oc_some hF
  obtain ⟨az19, Gz20, e_17, hF⟩ := hF
  refine fg_newq X (kd := 7) (by decide) rfl q156 e_17 dX2_init_53 ?_
  refine fg_dup X dX2_init_56 rfl ?_
  refine fg_iconst X (v := (0 : Int32)) dX2_init_57 (by decide) ?_
  replace hF := fg_ob_some hF
  obtain ⟨rz21, ex_18, hF⟩ := hF
  refine fg_ldcS X (i := 4) (by decide) rfl rfl (Option.some.inj ex_18) dX2_init_58 ?_
  replace hF := fg_ob_some hF
  obtain ⟨Gz22, e_19, hF⟩ := hF
  refine fg_aast X (kd := 7) (by decide) (r := (some rz21)) e_19 dX2_init_60 ?_
  refine fg_dup X dX2_init_61 rfl ?_
  refine fg_iconst X (v := (1 : Int32)) dX2_init_62 (by decide) ?_
  replace hF := fg_ob_some hF
  obtain ⟨rz23, ex_20, hF⟩ := hF
  refine fg_ldcS X (i := 5) (by decide) rfl rfl (Option.some.inj ex_20) dX2_init_63 ?_
  replace hF := fg_ob_some hF
  obtain ⟨Gz24, e_21, hF⟩ := hF
  refine fg_aast X (kd := 7) (by decide) (r := (some rz23)) e_21 dX2_init_65 ?_
  refine fg_dup X dX2_init_66 rfl ?_
  refine fg_iconst X (v := (2 : Int32)) dX2_init_67 (by decide) ?_
  replace hF := fg_ob_some hF
  obtain ⟨rz25, ex_22, hF⟩ := hF
  refine fg_ldcS X (i := 6) (by decide) rfl rfl (Option.some.inj ex_22) dX2_init_68 ?_
  replace hF := fg_ob_some hF
  obtain ⟨Gz26, e_23, hF⟩ := hF
  refine fg_aast X (kd := 7) (by decide) (r := (some rz25)) e_23 dX2_init_70 ?_
  refine fg_dup X dX2_init_71 rfl ?_
  refine fg_iconst X (v := (3 : Int32)) dX2_init_72 (by decide) ?_
  replace hF := fg_ob_some hF
  obtain ⟨rz27, ex_24, hF⟩ := hF
  refine fg_ldcS X (i := 7) (by decide) rfl rfl (Option.some.inj ex_24) dX2_init_73 ?_
  replace hF := fg_ob_some hF
  obtain ⟨Gz28, e_25, hF⟩ := hF
  refine fg_aast X (kd := 7) (by decide) (r := (some rz27)) e_25 dX2_init_75 ?_
  refine fg_dup X dX2_init_76 rfl ?_
  refine fg_iconst X (v := (4 : Int32)) dX2_init_77 (by decide) ?_
  replace hF := fg_ob_some hF
  obtain ⟨rz29, ex_26, hF⟩ := hF
  refine fg_ldcS X (i := 8) (by decide) rfl rfl (Option.some.inj ex_26) dX2_init_78 ?_
  replace hF := fg_ob_some hF
  obtain ⟨Gz30, e_27, hF⟩ := hF
  refine fg_aast X (kd := 7) (by decide) (r := (some rz29)) e_27 dX2_init_80 ?_
  refine fg_dup X dX2_init_81 rfl ?_
  refine fg_iconst X (v := (5 : Int32)) dX2_init_82 (by decide) ?_
  replace hF := fg_ob_some hF
  obtain ⟨rz31, ex_28, hF⟩ := hF
  refine fg_ldcS X (i := 9) (by decide) rfl rfl (Option.some.inj ex_28) dX2_init_83 ?_
  replace hF := fg_ob_some hF
  obtain ⟨Gz32, e_29, hF⟩ := hF
  refine fg_aast X (kd := 7) (by decide) (r := (some rz31)) e_29 dX2_init_85 ?_
  replace hF := fg_ob_some hF
  obtain ⟨Gz33, e_30, hF⟩ := hF
  refine fg_putv X (ty := (.array (.object "java/lang/String"))) (v := .ref az19) ff_X2_kinds q185 rfl (Or.inr ⟨rfl, rfl⟩) rfl rfl rfl e_30 dX2_init_86 ?_
  refine fg_aload_n X (r := (some a0)) dX2_init_89 rfl 0 rfl ?_
  refine fg_bipush X (v := (6 : Int32)) dX2_init_90 (by decide) ?_
  replace hF := fg_oc_some hF
  obtain ⟨az34, Gz35, e_31, hF⟩ := hF
  refine fg_newq X (kd := 7) (by decide) rfl q156 e_31 dX2_init_92 ?_
  refine fg_dup X dX2_init_95 rfl ?_
  refine fg_iconst X (v := (0 : Int32)) dX2_init_96 (by decide) ?_
  replace hF := fg_ob_some hF
  obtain ⟨rz36, ex_32, hF⟩ := hF
  refine fg_ldcS X (i := 10) (by decide) rfl rfl (Option.some.inj ex_32) dX2_init_97 ?_
  replace hF := fg_ob_some hF
  obtain ⟨Gz37, e_33, hF⟩ := hF
  refine fg_aast X (kd := 7) (by decide) (r := (some rz36)) e_33 dX2_init_99 ?_
  refine fg_dup X dX2_init_100 rfl ?_
  refine fg_iconst X (v := (1 : Int32)) dX2_init_101 (by decide) ?_
  replace hF := fg_ob_some hF
  obtain ⟨rz38, ex_34, hF⟩ := hF
  refine fg_ldcS X (i := 11) (by decide) rfl rfl (Option.some.inj ex_34) dX2_init_102 ?_
  replace hF := fg_ob_some hF
  obtain ⟨Gz39, e_35, hF⟩ := hF
  refine fg_aast X (kd := 7) (by decide) (r := (some rz38)) e_35 dX2_init_104 ?_
  refine fg_dup X dX2_init_105 rfl ?_
  refine fg_iconst X (v := (2 : Int32)) dX2_init_106 (by decide) ?_
  replace hF := fg_ob_some hF
  obtain ⟨rz40, ex_36, hF⟩ := hF
  refine fg_ldcS X (i := 12) (by decide) rfl rfl (Option.some.inj ex_36) dX2_init_107 ?_
  replace hF := fg_ob_some hF
  obtain ⟨Gz41, e_37, hF⟩ := hF
  refine fg_aast X (kd := 7) (by decide) (r := (some rz40)) e_37 dX2_init_109 ?_
  refine fg_dup X dX2_init_110 rfl ?_
  refine fg_iconst X (v := (3 : Int32)) dX2_init_111 (by decide) ?_
  replace hF := fg_ob_some hF
  obtain ⟨rz42, ex_38, hF⟩ := hF
  refine fg_ldcS X (i := 13) (by decide) rfl rfl (Option.some.inj ex_38) dX2_init_112 ?_
  replace hF := fg_ob_some hF
  obtain ⟨Gz43, e_39, hF⟩ := hF
  refine fg_aast X (kd := 7) (by decide) (r := (some rz42)) e_39 dX2_init_114 ?_
  refine fg_dup X dX2_init_115 rfl ?_
  refine fg_iconst X (v := (4 : Int32)) dX2_init_116 (by decide) ?_
  replace hF := fg_ob_some hF
  obtain ⟨rz44, ex_40, hF⟩ := hF
  refine fg_ldcS X (i := 14) (by decide) rfl rfl (Option.some.inj ex_40) dX2_init_117 ?_
  replace hF := fg_ob_some hF
  obtain ⟨Gz45, e_41, hF⟩ := hF
  refine fg_aast X (kd := 7) (by decide) (r := (some rz44)) e_41 dX2_init_119 ?_
  refine fg_dup X dX2_init_120 rfl ?_
  refine fg_iconst X (v := (5 : Int32)) dX2_init_121 (by decide) ?_
  replace hF := fg_ob_some hF
  obtain ⟨rz46, ex_42, hF⟩ := hF
  refine fg_ldcS X (i := 15) (by decide) rfl rfl (Option.some.inj ex_42) dX2_init_122 ?_
  replace hF := fg_ob_some hF
  obtain ⟨Gz47, e_43, hF⟩ := hF
  refine fg_aast X (kd := 7) (by decide) (r := (some rz46)) e_43 dX2_init_124 ?_
  replace hF := fg_ob_some hF
  obtain ⟨Gz48, e_44, hF⟩ := hF
  refine fg_putv X (ty := (.array (.object "java/lang/String"))) (v := .ref az34) ff_X2_lines q186 rfl (Or.inr ⟨rfl, rfl⟩) rfl rfl rfl e_44 dX2_init_125 ?_
  refine fg_aload_n X (r := (some a0)) dX2_init_128 rfl 0 rfl ?_
  refine fg_bipush X (v := (9 : Int32)) dX2_init_129 (by decide) ?_
  replace hF := fg_oc_some hF
  obtain ⟨az49, Gz50, e_45, hF⟩ := hF
  refine fg_newq X (kd := 7) (by decide) rfl q156 e_45 dX2_init_131 ?_
  refine fg_dup X dX2_init_134 rfl ?_
  refine fg_iconst X (v := (0 : Int32)) dX2_init_135 (by decide) ?_
  replace hF := fg_ob_some hF
  obtain ⟨rz51, ex_46, hF⟩ := hF
  refine fg_ldcS X (i := 16) (by decide) rfl rfl (Option.some.inj ex_46) dX2_init_136 ?_
  replace hF := fg_ob_some hF
  obtain ⟨Gz52, e_47, hF⟩ := hF
  refine fg_aast X (kd := 7) (by decide) (r := (some rz51)) e_47 dX2_init_138 ?_
  refine fg_dup X dX2_init_139 rfl ?_
  refine fg_iconst X (v := (1 : Int32)) dX2_init_140 (by decide) ?_
  replace hF := fg_ob_some hF
  obtain ⟨rz53, ex_48, hF⟩ := hF
  refine fg_ldcS X (i := 17) (by decide) rfl rfl (Option.some.inj ex_48) dX2_init_141 ?_
  replace hF := fg_ob_some hF
  obtain ⟨Gz54, e_49, hF⟩ := hF
  refine fg_aast X (kd := 7) (by decide) (r := (some rz53)) e_49 dX2_init_143 ?_
  refine fg_dup X dX2_init_144 rfl ?_
  refine fg_iconst X (v := (2 : Int32)) dX2_init_145 (by decide) ?_
  replace hF := fg_ob_some hF
  obtain ⟨rz55, ex_50, hF⟩ := hF
  refine fg_ldcS X (i := 18) (by decide) rfl rfl (Option.some.inj ex_50) dX2_init_146 ?_
  replace hF := fg_ob_some hF
  obtain ⟨Gz56, e_51, hF⟩ := hF
  refine fg_aast X (kd := 7) (by decide) (r := (some rz55)) e_51 dX2_init_148 ?_
  refine fg_dup X dX2_init_149 rfl ?_
  refine fg_iconst X (v := (3 : Int32)) dX2_init_150 (by decide) ?_
  replace hF := fg_ob_some hF
  obtain ⟨rz57, ex_52, hF⟩ := hF
  refine fg_ldcS X (i := 19) (by decide) rfl rfl (Option.some.inj ex_52) dX2_init_151 ?_
  replace hF := fg_ob_some hF
  obtain ⟨Gz58, e_53, hF⟩ := hF
  refine fg_aast X (kd := 7) (by decide) (r := (some rz57)) e_53 dX2_init_153 ?_
  refine fg_dup X dX2_init_154 rfl ?_
  refine fg_iconst X (v := (4 : Int32)) dX2_init_155 (by decide) ?_
  replace hF := fg_ob_some hF
  obtain ⟨rz59, ex_54, hF⟩ := hF
  refine fg_ldcS X (i := 20) (by decide) rfl rfl (Option.some.inj ex_54) dX2_init_156 ?_
  replace hF := fg_ob_some hF
  obtain ⟨Gz60, e_55, hF⟩ := hF
  refine fg_aast X (kd := 7) (by decide) (r := (some rz59)) e_55 dX2_init_158 ?_
  refine fg_dup X dX2_init_159 rfl ?_
  refine fg_iconst X (v := (5 : Int32)) dX2_init_160 (by decide) ?_
  replace hF := fg_ob_some hF
  obtain ⟨rz61, ex_56, hF⟩ := hF
  refine fg_ldcS X (i := 21) (by decide) rfl rfl (Option.some.inj ex_56) dX2_init_161 ?_
  replace hF := fg_ob_some hF
  obtain ⟨Gz62, e_57, hF⟩ := hF
  refine fg_aast X (kd := 7) (by decide) (r := (some rz61)) e_57 dX2_init_163 ?_
  refine fg_dup X dX2_init_164 rfl ?_
  refine fg_bipush X (v := (6 : Int32)) dX2_init_165 (by decide) ?_
  replace hF := fg_ob_some hF
  obtain ⟨rz63, ex_58, hF⟩ := hF
  refine fg_ldcS X (i := 22) (by decide) rfl rfl (Option.some.inj ex_58) dX2_init_167 ?_
  replace hF := fg_ob_some hF
  obtain ⟨Gz64, e_59, hF⟩ := hF
  refine fg_aast X (kd := 7) (by decide) (r := (some rz63)) e_59 dX2_init_169 ?_
  refine fg_dup X dX2_init_170 rfl ?_
  refine fg_bipush X (v := (7 : Int32)) dX2_init_171 (by decide) ?_
  replace hF := fg_ob_some hF
  obtain ⟨rz65, ex_60, hF⟩ := hF
  refine fg_ldcS X (i := 23) (by decide) rfl rfl (Option.some.inj ex_60) dX2_init_173 ?_
  replace hF := fg_ob_some hF
  obtain ⟨Gz66, e_61, hF⟩ := hF
  refine fg_aast X (kd := 7) (by decide) (r := (some rz65)) e_61 dX2_init_175 ?_
  refine fg_dup X dX2_init_176 rfl ?_
  refine fg_bipush X (v := (8 : Int32)) dX2_init_177 (by decide) ?_
  replace hF := fg_ob_some hF
  obtain ⟨rz67, ex_62, hF⟩ := hF
  refine fg_ldcS X (i := 24) (by decide) rfl rfl (Option.some.inj ex_62) dX2_init_179 ?_
  replace hF := fg_ob_some hF
  obtain ⟨Gz68, e_63, hF⟩ := hF
  refine fg_aast X (kd := 7) (by decide) (r := (some rz67)) e_63 dX2_init_181 ?_
  replace hF := fg_ob_some hF
  obtain ⟨Gz69, e_64, hF⟩ := hF
  refine fg_putv X (ty := (.array (.object "java/lang/String"))) (v := .ref az49) ff_X2_kept q187 rfl (Or.inr ⟨rfl, rfl⟩) rfl rfl rfl e_64 dX2_init_182 ?_
  refine fg_aload_n X (r := (some a0)) dX2_init_185 rfl 0 rfl ?_
  refine fg_bipush X (v := (6 : Int32)) dX2_init_186 (by decide) ?_
  replace hF := fg_oc_some hF
  obtain ⟨az70, Gz71, e_65, hF⟩ := hF
  refine fg_newa X (kd := 2) (atype := .boolean) q231 (by decide) rfl (by decide) (fun _ _ => rfl) e_65 dX2_init_188 ?_
  replace hF := fg_ob_some hF
  obtain ⟨Gz72, e_66, hF⟩ := hF
  refine fg_putv X (ty := (.array .boolean)) (v := .ref az70) ff_X2_isTold q188 rfl (Or.inr ⟨rfl, rfl⟩) rfl rfl rfl e_66 dX2_init_190 ?_
  refine fg_aload_n X (r := (some a0)) dX2_init_193 rfl 0 rfl ?_
  refine fg_aload_n X (r := (some a0)) dX2_init_194 rfl 0 rfl ?_
  replace hF := fg_ob_some hF
  obtain ⟨rz73, e_67, hF⟩ := hF
  refine fg_getr X ff_X2_windFacts q183 e_67 dX2_init_195 ?_
  replace hF := fg_ob_some hF
  obtain ⟨Gz74, e_68, hF⟩ := hF
  refine fg_putv X (ty := (.array (.object "java/lang/String"))) (v := va_rf rz73) ff_X2_facts q190 rfl (Or.inl rfl) rfl (fg_nrf _ (Or.inr ⟨_, rfl⟩)) (fg_frf _ (Or.inr ⟨_, rfl⟩)) e_68 dX2_init_198 ?_
  refine fg_aload_n X (r := (some a0)) dX2_init_201 rfl 0 rfl ?_
  refine fg_sipush X (v := (1000 : Int32)) dX2_init_202 (by decide) ?_
  replace hF := fg_oc_some hF
  obtain ⟨az75, Gz76, e_69, hF⟩ := hF
  refine fg_newa X (kd := 0) (atype := .int) q232 (by decide) rfl (by decide) (fun _ _ => rfl) e_69 dX2_init_205 ?_
  replace hF := fg_ob_some hF
  obtain ⟨Gz77, e_70, hF⟩ := hF
  refine fg_putv X (ty := (.array .int)) (v := .ref az75) ff_X2_tape q191 rfl (Or.inr ⟨rfl, rfl⟩) rfl rfl rfl e_70 dX2_init_207 ?_
  refine fg_aload_n X (r := (some a0)) dX2_init_210 rfl 0 rfl ?_
  refine fg_sipush X (v := (1001 : Int32)) dX2_init_211 (by decide) ?_
  replace hF := fg_oc_some hF
  obtain ⟨az78, Gz79, e_71, hF⟩ := hF
  refine fg_newa X (kd := 0) (atype := .int) q232 (by decide) rfl (by decide) (fun _ _ => rfl) e_71 dX2_init_214 ?_
  replace hF := fg_ob_some hF
  obtain ⟨Gz80, e_72, hF⟩ := hF
  refine fg_putv X (ty := (.array .int)) (v := .ref az78) ff_X2_sort q194 rfl (Or.inr ⟨rfl, rfl⟩) rfl rfl rfl e_72 dX2_init_216 ?_
  refine fg_aload_n X (r := (some a0)) dX2_init_219 rfl 0 rfl ?_
  refine fg_sipush X (v := (1001 : Int32)) dX2_init_220 (by decide) ?_
  replace hF := fg_oc_some hF
  obtain ⟨az81, Gz82, e_73, hF⟩ := hF
  refine fg_newa X (kd := 1) (atype := .long) q233 (by decide) rfl (by decide) (fun _ _ => rfl) e_73 dX2_init_223 ?_
  replace hF := fg_ob_some hF
  obtain ⟨Gz83, e_74, hF⟩ := hF
  refine fg_putv X (ty := (.array .long)) (v := .ref az81) ff_X2_value q195 rfl (Or.inr ⟨rfl, rfl⟩) rfl rfl rfl e_74 dX2_init_225 ?_
  refine fg_aload_n X (r := (some a0)) dX2_init_228 rfl 0 rfl ?_
  refine fg_sipush X (v := (1001 : Int32)) dX2_init_229 (by decide) ?_
  replace hF := fg_oc_some hF
  obtain ⟨az84, Gz85, e_75, hF⟩ := hF
  refine fg_newa X (kd := 0) (atype := .int) q232 (by decide) rfl (by decide) (fun _ _ => rfl) e_75 dX2_init_232 ?_
  replace hF := fg_ob_some hF
  obtain ⟨Gz86, e_76, hF⟩ := hF
  refine fg_putv X (ty := (.array .int)) (v := .ref az84) ff_X2_place q196 rfl (Or.inr ⟨rfl, rfl⟩) rfl rfl rfl e_76 dX2_init_234 ?_
  cases hF
  exact fg_vret X dX2_init_237 (hT)
theorem mX2_init (l : Launch) (D : fg_D) {a0 : Nat} {G : fg_H} {t : Unit × fg_H} (hF : fX2_init a0 G = some t) : fg_M l D yX2_init cX2_init 1 none 1 [.ref a0] G (.returned none) t.2 :=
  fg_Mof (own := RX2) (nm := "<init>") (L := [(0, .ref a0)]) (plainFor_of_name pn_X2) rfl rfl rfl (Nat.le_of_ble_eq_true rfl) (fun Ω _ _ X hT => wX2_init X hF hT)
theorem hd_J2_init : yJ2_init.cls ≠ "java/lang/invoke/MethodHandle" ∧ yJ2_init.cls ≠ "java/lang/invoke/VarHandle" ∧ (parseMethodDescriptor yJ2_init.desc).map (fun d => d.parameters.length) = some 1 := ⟨by decide +kernel, by decide +kernel, by decide +kernel⟩
set_option maxHeartbeats 4000000 in
theorem wJ2_init {Ω : fg_O} {a0 : Nat} {i1 : Int32} {G : fg_H} {t : Unit × fg_H} (X : fg_X Ω RJ2 "<init>" cJ2_init 2 none 3) (hF : fJ2_init a0 i1 G = some t) (hT : fg_T Ω (.returned none) t.2) : fg_W Ω G 0 [(0, .ref a0), (1, .int i1)] [] := by
  unfold fJ2_init at hF
  refine fg_aload_n X (r := (some a0)) dJ2_init_0 rfl 0 rfl ?_
  replace hF := fg_oc_some hF
  obtain ⟨u, Gz1, e_1, hF⟩ := hF
  refine fg_callI X (st := []) (mJ1_init Ω.2.2.2.2.1 Ω.1 e_1) q245 q246 q97 q247 rfl hd_J1_init (by decide) rfl rfl (Nat.le_of_ble_eq_true rfl) dJ2_init_1 ?_
  refine fg_iload_n X dJ2_init_4 rfl 1 rfl ?_
  refine fg_if_le X (tgt := 19) dJ2_init_5 (by decide) (fun hc => ?_) (fun hc => ?_)
  · rw [if_pos hc] at hF
    refine fg_iload_n X dJ2_init_19 rfl 1 rfl ?_
    refine fg_if_ne X (tgt := 33) dJ2_init_20 (by decide) (fun hc => ?_) (fun hc => ?_)
    · rw [if_neg hc] at hF
      cases hF
    · rw [if_pos hc] at hF
      refine fg_aload_n X (r := (some a0)) dJ2_init_23 rfl 0 rfl ?_
      replace hF := fg_ob_some hF
      obtain ⟨rz2, ex_2, hF⟩ := hF
      refine fg_getsR X (i := 0) q254 (fun _ => rfl) (Option.some.inj ex_2) dJ2_init_24 ?_
      replace hF := fg_ob_some hF
      obtain ⟨Gz3, e_3, hF⟩ := hF
      refine fg_putv X (ty := (.array (.object "java/lang/Object"))) (v := va_rf rz2) ff_J2_elementData q256 rfl (Or.inl rfl) rfl (fg_nrf _ (Or.inr ⟨_, rfl⟩)) (fg_frf _ (Or.inr ⟨_, rfl⟩)) e_3 dJ2_init_27 ?_
      refine fg_goto X (tgt := 60) dJ2_init_30 (by decide) ?_
      cases hF
      exact fg_vret X dJ2_init_60 (hT)
  · rw [if_neg hc] at hF
    refine fg_aload_n X (r := (some a0)) dJ2_init_8 rfl 0 rfl ?_
    refine fg_iload_n X dJ2_init_9 rfl 1 rfl ?_
    replace hF := fg_oc_some hF
    obtain ⟨az4, Gz5, e_4, hF⟩ := hF
    refine fg_newq X (kd := 4) (by decide) rfl q252 e_4 dJ2_init_10 ?_
    replace hF := fg_ob_some hF
    obtain ⟨Gz6, e_5, hF⟩ := hF
    refine fg_putv X (ty := (.array (.object "java/lang/Object"))) (v := .ref az4) ff_J2_elementData q256 rfl (Or.inl rfl) rfl rfl rfl e_5 dJ2_init_13 ?_
    refine fg_goto X (tgt := 60) dJ2_init_16 (by decide) ?_
    cases hF
    exact fg_vret X dJ2_init_60 (hT)
theorem mJ2_init (l : Launch) (D : fg_D) {a0 : Nat} {i1 : Int32} {G : fg_H} {t : Unit × fg_H} (hF : fJ2_init a0 i1 G = some t) : fg_M l D yJ2_init cJ2_init 2 none 3 [.ref a0, .int i1] G (.returned none) t.2 :=
  fg_Mof (own := RJ2) (nm := "<init>") (L := [(0, .ref a0), (1, .int i1)]) (plainFor_of_name pn_J2) rfl rfl rfl (Nat.le_of_ble_eq_true rfl) (fun Ω _ _ X hT => wJ2_init X hF hT)
theorem hd_X4_init : yX4_init.cls ≠ "java/lang/invoke/MethodHandle" ∧ yX4_init.cls ≠ "java/lang/invoke/VarHandle" ∧ (parseMethodDescriptor yX4_init.desc).map (fun d => d.parameters.length) = some 0 := ⟨by decide +kernel, by decide +kernel, by decide +kernel⟩
set_option maxHeartbeats 4000000 in
theorem wX4_init {Ω : fg_O} {a0 : Nat} {G : fg_H} {t : Unit × fg_H} (X : fg_X Ω RX4 "<init>" cX4_init 1 none 1) (hF : fX4_init a0 G = some t) (hT : fg_T Ω (.returned none) t.2) : fg_W Ω G 0 [(0, .ref a0)] [] := by
  unfold fX4_init at hF
  refine fg_aload_n X (r := (some a0)) dX4_init_0 rfl 0 rfl ?_
  refine fg_objInit X q273 q148 q149 (by decide) (Nat.le_of_ble_eq_true rfl) dX4_init_1 ?_
  refine fg_aload_n X (r := (some a0)) dX4_init_4 rfl 0 rfl ?_
  refine fg_iconst X (v := (4 : Int32)) dX4_init_5 (by decide) ?_
  replace hF := fg_oc_some hF
  obtain ⟨az1, Gz2, e_1, hF⟩ := hF
  refine fg_newa X (kd := 0) (atype := .int) q232 (by decide) rfl (by decide) (fun _ _ => rfl) e_1 dX4_init_6 ?_
  replace hF := fg_ob_some hF
  obtain ⟨Gz3, e_2, hF⟩ := hF
  refine fg_putv X (ty := (.array .int)) (v := .ref az1) ff_X4_of q274 rfl (Or.inr ⟨rfl, rfl⟩) rfl rfl rfl e_2 dX4_init_8 ?_
  cases hF
  exact fg_vret X dX4_init_11 (hT)
theorem mX4_init (l : Launch) (D : fg_D) {a0 : Nat} {G : fg_H} {t : Unit × fg_H} (hF : fX4_init a0 G = some t) : fg_M l D yX4_init cX4_init 1 none 1 [.ref a0] G (.returned none) t.2 :=
  fg_Mof (own := RX4) (nm := "<init>") (L := [(0, .ref a0)]) (plainFor_of_name pn_X4) rfl rfl rfl (Nat.le_of_ble_eq_true rfl) (fun Ω _ _ X hT => wX4_init X hF hT)
theorem hd_X3_init : yX3_init.cls ≠ "java/lang/invoke/MethodHandle" ∧ yX3_init.cls ≠ "java/lang/invoke/VarHandle" ∧ (parseMethodDescriptor yX3_init.desc).map (fun d => d.parameters.length) = some 0 := ⟨by decide +kernel, by decide +kernel, by decide +kernel⟩
set_option maxHeartbeats 4000000 in
theorem wX3_init {Ω : fg_O} {a0 : Nat} {G : fg_H} {t : Unit × fg_H} (X : fg_X Ω RX3 "<init>" cX3_init 1 none 4) (hF : fX3_init a0 G = some t) (hT : fg_T Ω (.returned none) t.2) : fg_W Ω G 0 [(0, .ref a0)] [] := by
  unfold fX3_init at hF
  refine fg_aload_n X (r := (some a0)) dX3_init_0 rfl 0 rfl ?_
  refine fg_objInit X q239 q148 q149 (by decide) (Nat.le_of_ble_eq_true rfl) dX3_init_1 ?_
  refine fg_aload_n X (r := (some a0)) dX3_init_4 rfl 0 rfl ?_
  refine fg_bipush X (v := (6 : Int32)) dX3_init_5 (by decide) ?_
  replace hF := fg_ob_some hF
  obtain ⟨Gz1, e_1, hF⟩ := hF
  refine fg_putv X (ty := .int) (v := .int (6 : Int32)) ff_X3_columns q280 rfl (Or.inl rfl) rfl rfl rfl e_1 dX3_init_7 ?_
  refine fg_aload_n X (r := (some a0)) dX3_init_10 rfl 0 rfl ?_
  refine fg_iconst X (v := (4 : Int32)) dX3_init_11 (by decide) ?_
  replace hF := fg_ob_some hF
  obtain ⟨Gz2, e_2, hF⟩ := hF
  refine fg_putv X (ty := .int) (v := .int (4 : Int32)) ff_X3_rows q283 rfl (Or.inl rfl) rfl rfl rfl e_2 dX3_init_12 ?_
  refine fg_aload_n X (r := (some a0)) dX3_init_15 rfl 0 rfl ?_
  refine fg_bipush X (v := (6 : Int32)) dX3_init_16 (by decide) ?_
  replace hF := fg_ob_some hF
  obtain ⟨Gz3, e_3, hF⟩ := hF
  refine fg_putv X (ty := .int) (v := .int (6 : Int32)) ff_X3_hours q286 rfl (Or.inl rfl) rfl rfl rfl e_3 dX3_init_18 ?_
  refine fg_aload_n X (r := (some a0)) dX3_init_21 rfl 0 rfl ?_
  replace hF := fg_oc_some hF
  obtain ⟨az4, Gz5, e_4, hF⟩ := hF
  refine fg_newo X q240 q241 q98 rfl (by decide) tyJ2_ok nwk_J2 e_4 dX3_init_22 ?_
  refine fg_dup X dX3_init_25 rfl ?_
  refine fg_iconst X (v := (2 : Int32)) dX3_init_26 (by decide) ?_
  replace hF := fg_oc_some hF
  obtain ⟨u, Gz6, e_5, hF⟩ := hF
  refine fg_callI X (st := [.ref az4, .ref a0]) (mJ2_init Ω.2.2.2.2.1 Ω.1 e_5) q242 q243 q98 q244 rfl hd_J2_init (by decide) rfl rfl (Nat.le_of_ble_eq_true rfl) dX3_init_27 ?_
  replace hF := fg_ob_some hF
  obtain ⟨Gz7, e_6, hF⟩ := hF
  refine fg_putv X (ty := (.object "java/util/ArrayList")) (v := .ref az4) ff_X3_names q299 rfl (Or.inr ⟨rfl, rfl⟩) rfl rfl rfl e_6 dX3_init_30 ?_
  refine fg_aload_n X (r := (some a0)) dX3_init_33 rfl 0 rfl ?_
  refine fg_bipush X (v := (6 : Int32)) dX3_init_34 (by decide) ?_
  replace hF := fg_oc_some hF
  obtain ⟨az8, Gz9, e_7, hF⟩ := hF
  refine fg_newa X (kd := 0) (atype := .int) q232 (by decide) rfl (by decide) (fun _ _ => rfl) e_7 dX3_init_36 ?_
  replace hF := fg_ob_some hF
  obtain ⟨Gz10, e_8, hF⟩ := hF
  refine fg_putv X (ty := (.array .int)) (v := .ref az8) ff_X3_thirst q303 rfl (Or.inr ⟨rfl, rfl⟩) rfl rfl rfl e_8 dX3_init_38 ?_
  refine fg_aload_n X (r := (some a0)) dX3_init_41 rfl 0 rfl ?_
  refine fg_bipush X (v := (6 : Int32)) dX3_init_42 (by decide) ?_
  replace hF := fg_oc_some hF
  obtain ⟨az11, Gz12, e_9, hF⟩ := hF
  refine fg_newa X (kd := 0) (atype := .int) q232 (by decide) rfl (by decide) (fun _ _ => rfl) e_9 dX3_init_44 ?_
  replace hF := fg_ob_some hF
  obtain ⟨Gz13, e_10, hF⟩ := hF
  refine fg_putv X (ty := (.array .int)) (v := .ref az11) ff_X3_tank q307 rfl (Or.inr ⟨rfl, rfl⟩) rfl rfl rfl e_10 dX3_init_46 ?_
  refine fg_aload_n X (r := (some a0)) dX3_init_49 rfl 0 rfl ?_
  replace hF := fg_oc_some hF
  obtain ⟨az14, Gz15, e_11, hF⟩ := hF
  refine fg_newo X q240 q241 q98 rfl (by decide) tyJ2_ok nwk_J2 e_11 dX3_init_50 ?_
  refine fg_dup X dX3_init_53 rfl ?_
  refine fg_iconst X (v := (2 : Int32)) dX3_init_54 (by decide) ?_
  replace hF := fg_oc_some hF
  obtain ⟨u, Gz16, e_12, hF⟩ := hF
  refine fg_callI X (st := [.ref az14, .ref a0]) (mJ2_init Ω.2.2.2.2.1 Ω.1 e_12) q242 q243 q98 q244 rfl hd_J2_init (by decide) rfl rfl (Nat.le_of_ble_eq_true rfl) dX3_init_55 ?_
  replace hF := fg_ob_some hF
  obtain ⟨Gz17, e_13, hF⟩ := hF
  refine fg_putv X (ty := (.object "java/util/ArrayList")) (v := .ref az14) ff_X3_nets q310 rfl (Or.inr ⟨rfl, rfl⟩) rfl rfl rfl e_13 dX3_init_58 ?_
  refine fg_aload_n X (r := (some a0)) dX3_init_61 rfl 0 rfl ?_
  refine fg_bipush X (v := (12 : Int32)) dX3_init_62 (by decide) ?_
  replace hF := fg_oc_some hF
  obtain ⟨az18, Gz19, e_14, hF⟩ := hF
  refine fg_newa X (kd := 0) (atype := .int) q232 (by decide) rfl (by decide) (fun _ _ => rfl) e_14 dX3_init_64 ?_
  replace hF := fg_ob_some hF
  obtain ⟨Gz20, e_15, hF⟩ := hF
  refine fg_putv X (ty := (.array .int)) (v := .ref az18) ff_X3_at q313 rfl (Or.inr ⟨rfl, rfl⟩) rfl rfl rfl e_15 dX3_init_66 ?_
  refine fg_aload_n X (r := (some a0)) dX3_init_69 rfl 0 rfl ?_
  replace hF := fg_oc_some hF
  obtain ⟨az21, Gz22, e_16, hF⟩ := hF
  refine fg_newo X q268 q269 q99 rfl (by decide) tyX4_ok nwk_X4 e_16 dX3_init_70 ?_
  refine fg_dup X dX3_init_73 rfl ?_
  replace hF := fg_oc_some hF
  obtain ⟨u, Gz23, e_17, hF⟩ := hF
  refine fg_callIN X (st := [.ref az21, .ref a0]) (mX4_init Ω.2.2.2.2.1 Ω.1 e_17) q270 q271 q99 q272 rfl hd_X4_init (by decide) rfl rfl (Nat.le_of_ble_eq_true rfl) dX3_init_74 ?_
  replace hF := fg_ob_some hF
  obtain ⟨Gz24, e_18, hF⟩ := hF
  refine fg_putv X (ty := (.object "FogNets$Facts")) (v := .ref az21) ff_X3_facts q316 rfl (Or.inr ⟨rfl, rfl⟩) rfl rfl rfl e_18 dX3_init_77 ?_
  cases hF
  exact fg_vret X dX3_init_80 (hT)
theorem mX3_init (l : Launch) (D : fg_D) {a0 : Nat} {G : fg_H} {t : Unit × fg_H} (hF : fX3_init a0 G = some t) : fg_M l D yX3_init cX3_init 1 none 4 [.ref a0] G (.returned none) t.2 :=
  fg_Mof (own := RX3) (nm := "<init>") (L := [(0, .ref a0)]) (plainFor_of_name pn_X3) rfl rfl rfl (Nat.le_of_ble_eq_true rfl) (fun Ω _ _ X hT => wX3_init X hF hT)
theorem hd_J2_elementData : yJ2_elementData.cls ≠ "java/lang/invoke/MethodHandle" ∧ yJ2_elementData.cls ≠ "java/lang/invoke/VarHandle" ∧ (parseMethodDescriptor yJ2_elementData.desc).map (fun d => d.parameters.length) = some 1 := ⟨by decide +kernel, by decide +kernel, by decide +kernel⟩
set_option maxHeartbeats 4000000 in
theorem wJ2_elementData {Ω : fg_O} {a0 : Nat} {i1 : Int32} {G : fg_H} {t : Option Nat × fg_H} (X : fg_X Ω RJ2 "elementData" cJ2_elementData 2 (some (.object "java/lang/Object")) 0) (hF : fJ2_elementData a0 i1 G = some t) (hT : fg_T Ω (.returned (some (va_rf t.1))) t.2) : fg_W Ω G 0 [(0, .ref a0), (1, .int i1)] [] := by
  unfold fJ2_elementData at hF
  refine fg_aload_n X (r := (some a0)) dJ2_elementData_0 rfl 0 rfl ?_
  replace hF := fg_ob_some hF
  obtain ⟨rz1, e_1, hF⟩ := hF
  refine fg_getr X ff_J2_elementData q256 e_1 dJ2_elementData_1 ?_
  refine fg_iload_n X dJ2_elementData_4 rfl 1 rfl ?_
  replace hF := fg_ob_some hF
  obtain ⟨az2, rfl, hF⟩ := hF
  replace hF := fg_ob_some hF
  obtain ⟨rz3, e_2, hF⟩ := hF
  refine fg_aald X (kd := 4) (by decide) e_2 dJ2_elementData_5 ?_
  cases hF
  exact fg_aret (Or.inl ⟨_, rfl⟩) X (r := rz3) dJ2_elementData_6 (hT)
theorem mJ2_elementData (l : Launch) (D : fg_D) {a0 : Nat} {i1 : Int32} {G : fg_H} {t : Option Nat × fg_H} (hF : fJ2_elementData a0 i1 G = some t) : fg_M l D yJ2_elementData cJ2_elementData 2 (some (.object "java/lang/Object")) 0 [.ref a0, .int i1] G (.returned (some (va_rf t.1))) t.2 :=
  fg_Mof (own := RJ2) (nm := "elementData") (L := [(0, .ref a0), (1, .int i1)]) (plainFor_of_name pn_J2) rfl rfl rfl (Nat.le_of_ble_eq_true rfl) (fun Ω _ _ X hT => wJ2_elementData X hF hT)
theorem hd_J4_checkIndex : yJ4_checkIndex.cls ≠ "java/lang/invoke/MethodHandle" ∧ yJ4_checkIndex.cls ≠ "java/lang/invoke/VarHandle" ∧ (parseMethodDescriptor yJ4_checkIndex.desc).map (fun d => d.parameters.length) = some 3 := ⟨by decide +kernel, by decide +kernel, by decide +kernel⟩
set_option maxHeartbeats 4000000 in
theorem wJ4_checkIndex_9 {Ω : fg_O} {i0 : Int32} {i1 : Int32} {r2 : Option Nat} {G : fg_H} {t : (Int32 × fg_H)} (X : fg_X Ω RJ4 "checkIndex" cJ4_checkIndex 3 (some .int) 0) (hF : fJ4_checkIndex_9 i0 i1 r2 G = some t) (hT : fg_T Ω (.returned (some (.int t.1))) t.2) : fg_W Ω G 9 [(0, .int i0), (1, .int i1), (2, va_rf r2)] [] := by
  unfold fJ4_checkIndex_9 at hF
  cases hF
set_option maxHeartbeats 4000000 in
theorem wJ4_checkIndex {Ω : fg_O} {i0 : Int32} {i1 : Int32} {r2 : Option Nat} {G : fg_H} {t : Int32 × fg_H} (X : fg_X Ω RJ4 "checkIndex" cJ4_checkIndex 3 (some .int) 0) (hF : fJ4_checkIndex i0 i1 r2 G = some t) (hT : fg_T Ω (.returned (some (.int t.1))) t.2) : fg_W Ω G 0 [(0, .int i0), (1, .int i1), (2, va_rf r2)] [] := by
  unfold fJ4_checkIndex at hF
  refine fg_iload_n X dJ4_checkIndex_0 rfl 0 rfl ?_
  refine fg_if_lt X (tgt := 9) dJ4_checkIndex_1 (by decide) (fun hc => ?_) (fun hc => ?_)
  · rw [if_pos hc] at hF
    refine fg_sub [0, 1, 2] rfl ?_
    exact wJ4_checkIndex_9 X hF hT
  · rw [if_neg hc] at hF
    refine fg_iload_n X dJ4_checkIndex_4 rfl 0 rfl ?_
    refine fg_iload_n X dJ4_checkIndex_5 rfl 1 rfl ?_
    refine fg_icmp_lt X (tgt := 16) dJ4_checkIndex_6 (by decide) (fun hc => ?_) (fun hc => ?_)
    · rw [if_pos hc] at hF
      refine fg_iload_n X dJ4_checkIndex_16 rfl 0 rfl ?_
      cases hF
      exact fg_iret X dJ4_checkIndex_17 (hT)
    · rw [if_neg hc] at hF
      refine fg_sub [0, 1, 2] rfl ?_
      exact wJ4_checkIndex_9 X hF hT
theorem mJ4_checkIndex (l : Launch) (D : fg_D) {i0 : Int32} {i1 : Int32} {r2 : Option Nat} {G : fg_H} {t : Int32 × fg_H} (hF : fJ4_checkIndex i0 i1 r2 G = some t) : fg_M l D yJ4_checkIndex cJ4_checkIndex 3 (some .int) 0 [.int i0, .int i1, va_rf r2] G (.returned (some (.int t.1))) t.2 :=
  fg_Mof (own := RJ4) (nm := "checkIndex") (L := [(0, .int i0), (1, .int i1), (2, va_rf r2)]) (plainFor_of_name pn_J4) rfl rfl (by cases r2 <;> rfl) (by cases r2 <;> exact Nat.le_of_ble_eq_true rfl) (fun Ω _ _ X hT => wJ4_checkIndex X hF hT)
theorem hd_J3_checkIndex : yJ3_checkIndex.cls ≠ "java/lang/invoke/MethodHandle" ∧ yJ3_checkIndex.cls ≠ "java/lang/invoke/VarHandle" ∧ (parseMethodDescriptor yJ3_checkIndex.desc).map (fun d => d.parameters.length) = some 2 := ⟨by decide +kernel, by decide +kernel, by decide +kernel⟩
set_option maxHeartbeats 4000000 in
theorem wJ3_checkIndex {Ω : fg_O} {i0 : Int32} {i1 : Int32} {G : fg_H} {t : Int32 × fg_H} (X : fg_X Ω RJ3 "checkIndex" cJ3_checkIndex 2 (some .int) 1) (hF : fJ3_checkIndex i0 i1 G = some t) (hT : fg_T Ω (.returned (some (.int t.1))) t.2) : fg_W Ω G 0 [(0, .int i0), (1, .int i1)] [] := by
  unfold fJ3_checkIndex at hF
  refine fg_iload_n X dJ3_checkIndex_0 rfl 0 rfl ?_
  refine fg_iload_n X dJ3_checkIndex_1 rfl 1 rfl ?_
  refine fg_anull X dJ3_checkIndex_2 ?_
  replace hF := fg_oc_some hF
  obtain ⟨xz2, Gz1, e_1, hF⟩ := hF
  refine fg_callS X (st := []) (mJ4_checkIndex Ω.2.2.2.2.1 Ω.1 e_1) q434 q435 q104 q436 hd_J4_checkIndex (by decide) rfl rfl (Nat.le_of_ble_eq_true rfl) dJ3_checkIndex_3 ?_
  cases hF
  exact fg_iret X dJ3_checkIndex_6 (hT)
theorem mJ3_checkIndex (l : Launch) (D : fg_D) {i0 : Int32} {i1 : Int32} {G : fg_H} {t : Int32 × fg_H} (hF : fJ3_checkIndex i0 i1 G = some t) : fg_M l D yJ3_checkIndex cJ3_checkIndex 2 (some .int) 1 [.int i0, .int i1] G (.returned (some (.int t.1))) t.2 :=
  fg_Mof (own := RJ3) (nm := "checkIndex") (L := [(0, .int i0), (1, .int i1)]) (plainFor_of_name pn_J3) rfl rfl rfl (Nat.le_of_ble_eq_true rfl) (fun Ω _ _ X hT => wJ3_checkIndex X hF hT)
theorem hd_J2_get : yJ2_get.cls ≠ "java/lang/invoke/MethodHandle" ∧ yJ2_get.cls ≠ "java/lang/invoke/VarHandle" ∧ (parseMethodDescriptor yJ2_get.desc).map (fun d => d.parameters.length) = some 1 := ⟨by decide +kernel, by decide +kernel, by decide +kernel⟩
set_option maxHeartbeats 4000000 in
theorem wJ2_get {Ω : fg_O} {a0 : Nat} {i1 : Int32} {G : fg_H} {t : Option Nat × fg_H} (X : fg_X Ω RJ2 "get" cJ2_get 2 (some (.object "java/lang/Object")) 2) (hF : fJ2_get a0 i1 G = some t) (hT : fg_T Ω (.returned (some (va_rf t.1))) t.2) : fg_W Ω G 0 [(0, .ref a0), (1, .int i1)] [] := by
  unfold fJ2_get at hF
  refine fg_iload_n X dJ2_get_0 rfl 1 rfl ?_
  refine fg_aload_n X (r := (some a0)) dJ2_get_1 rfl 0 rfl ?_
  replace hF := fg_ob_some hF
  obtain ⟨xz1, e_1, hF⟩ := hF
  refine fg_geti X ff_J2_size q257 e_1 dJ2_get_2 ?_
  replace hF := fg_oc_some hF
  obtain ⟨xz3, Gz2, e_2, hF⟩ := hF
  refine fg_callS X (st := []) (mJ3_checkIndex Ω.2.2.2.2.1 Ω.1 e_2) q431 q432 q103 q433 hd_J3_checkIndex (by decide) rfl rfl (Nat.le_of_ble_eq_true rfl) dJ2_get_5 ?_
  refine fg_pop X dJ2_get_8 rfl ?_
  refine fg_aload_n X (r := (some a0)) dJ2_get_9 rfl 0 rfl ?_
  refine fg_iload_n X dJ2_get_10 rfl 1 rfl ?_
  replace hF := fg_gd_some hF
  obtain ⟨eg_3, hF⟩ := hF
  obtain ⟨fs_4, eo_5⟩ := fg_rc_get eg_3
  replace hF := fg_oc_some hF
  obtain ⟨rz5, Gz4, e_6, hF⟩ := hF
  refine fg_callV X (st := []) (mJ2_elementData Ω.2.2.2.2.1 Ω.1 e_6) q437 q438 q439 q98 q440 hd_J2_elementData (by decide) rfl eo_5 (by decide) rfl rfl (Nat.le_of_ble_eq_true rfl) dJ2_get_11 ?_
  cases hF
  exact fg_aret (Or.inl ⟨_, rfl⟩) X (r := rz5) dJ2_get_14 (hT)
theorem mJ2_get (l : Launch) (D : fg_D) {a0 : Nat} {i1 : Int32} {G : fg_H} {t : Option Nat × fg_H} (hF : fJ2_get a0 i1 G = some t) : fg_M l D yJ2_get cJ2_get 2 (some (.object "java/lang/Object")) 2 [.ref a0, .int i1] G (.returned (some (va_rf t.1))) t.2 :=
  fg_Mof (own := RJ2) (nm := "get") (L := [(0, .ref a0), (1, .int i1)]) (plainFor_of_name pn_J2) rfl rfl rfl (Nat.le_of_ble_eq_true rfl) (fun Ω _ _ X hT => wJ2_get X hF hT)
theorem hd_J2_size : yJ2_size.cls ≠ "java/lang/invoke/MethodHandle" ∧ yJ2_size.cls ≠ "java/lang/invoke/VarHandle" ∧ (parseMethodDescriptor yJ2_size.desc).map (fun d => d.parameters.length) = some 0 := ⟨by decide +kernel, by decide +kernel, by decide +kernel⟩
set_option maxHeartbeats 4000000 in
theorem wJ2_size {Ω : fg_O} {a0 : Nat} {G : fg_H} {t : Int32 × fg_H} (X : fg_X Ω RJ2 "size" cJ2_size 1 (some .int) 0) (hF : fJ2_size a0 G = some t) (hT : fg_T Ω (.returned (some (.int t.1))) t.2) : fg_W Ω G 0 [(0, .ref a0)] [] := by
  unfold fJ2_size at hF
  refine fg_aload_n X (r := (some a0)) dJ2_size_0 rfl 0 rfl ?_
  replace hF := fg_ob_some hF
  obtain ⟨xz1, e_1, hF⟩ := hF
  refine fg_geti X ff_J2_size q257 e_1 dJ2_size_1 ?_
  cases hF
  exact fg_iret X dJ2_size_4 (hT)
theorem mJ2_size (l : Launch) (D : fg_D) {a0 : Nat} {G : fg_H} {t : Int32 × fg_H} (hF : fJ2_size a0 G = some t) : fg_M l D yJ2_size cJ2_size 1 (some .int) 0 [.ref a0] G (.returned (some (.int t.1))) t.2 :=
  fg_Mof (own := RJ2) (nm := "size") (L := [(0, .ref a0)]) (plainFor_of_name pn_J2) rfl rfl rfl (Nat.le_of_ble_eq_true rfl) (fun Ω _ _ X hT => wJ2_size X hF hT)
theorem hd_X5_hangs : yX5_hangs.cls ≠ "java/lang/invoke/MethodHandle" ∧ yX5_hangs.cls ≠ "java/lang/invoke/VarHandle" ∧ (parseMethodDescriptor yX5_hangs.desc).map (fun d => d.parameters.length) = some 2 := ⟨by decide +kernel, by decide +kernel, by decide +kernel⟩
set_option maxHeartbeats 4000000 in
theorem wX5_hangs {Ω : fg_O} {a0 : Nat} {r1 : Option Nat} {i2 : Int32} {G : fg_H} {t : Unit × fg_H} (X : fg_X Ω RX5 "hangs" cX5_hangs 3 none 0) (hF : fX5_hangs a0 r1 i2 G = some t) (hT : fg_T Ω (.returned none) t.2) : fg_W Ω G 0 [(0, .ref a0), (1, va_rf r1), (2, .int i2)] [] := by
  unfold fX5_hangs at hF
  refine fg_aload_n X (r := (some a0)) dX5_hangs_0 rfl 0 rfl ?_
  replace hF := fg_ob_some hF
  obtain ⟨rz1, e_1, hF⟩ := hF
  refine fg_getr X ff_X5_nets q356 e_1 dX5_hangs_1 ?_
  refine fg_aload_n X (r := (some a0)) dX5_hangs_4 rfl 0 rfl ?_
  replace hF := fg_ob_some hF
  obtain ⟨xz2, e_2, hF⟩ := hF
  refine fg_geti X ff_X5_many q362 e_2 dX5_hangs_5 ?_
  refine fg_aload_n X (r := r1) dX5_hangs_8 rfl 1 rfl ?_
  replace hF := fg_ob_some hF
  obtain ⟨az3, rfl, hF⟩ := hF
  replace hF := fg_ob_some hF
  obtain ⟨Gz4, e_3, hF⟩ := hF
  refine fg_aast X (kd := 5) (by decide) (r := r1) e_3 dX5_hangs_9 ?_
  refine fg_aload_n X (r := (some a0)) dX5_hangs_10 rfl 0 rfl ?_
  replace hF := fg_ob_some hF
  obtain ⟨rz5, e_4, hF⟩ := hF
  refine fg_getr X ff_X5_at q358 e_4 dX5_hangs_11 ?_
  refine fg_aload_n X (r := (some a0)) dX5_hangs_14 rfl 0 rfl ?_
  replace hF := fg_ob_some hF
  obtain ⟨xz6, e_5, hF⟩ := hF
  refine fg_geti X ff_X5_many q362 e_5 dX5_hangs_15 ?_
  refine fg_iload_n X dX5_hangs_18 rfl 2 rfl ?_
  replace hF := fg_ob_some hF
  obtain ⟨az7, rfl, hF⟩ := hF
  replace hF := fg_ob_some hF
  obtain ⟨Gz8, e_6, hF⟩ := hF
  refine fg_iast X e_6 dX5_hangs_19 ?_
  refine fg_aload_n X (r := (some a0)) dX5_hangs_20 rfl 0 rfl ?_
  refine fg_dup X dX5_hangs_21 rfl ?_
  replace hF := fg_ob_some hF
  obtain ⟨xz9, e_7, hF⟩ := hF
  refine fg_geti X ff_X5_many q362 e_7 dX5_hangs_22 ?_
  refine fg_iconst X (v := (1 : Int32)) dX5_hangs_25 (by decide) ?_
  refine fg_iadd X dX5_hangs_26 ?_
  replace hF := fg_ob_some hF
  obtain ⟨Gz10, e_8, hF⟩ := hF
  refine fg_putv X (ty := .int) (v := .int (xz9 + (1 : Int32))) ff_X5_many q362 rfl (Or.inl rfl) rfl rfl rfl e_8 dX5_hangs_27 ?_
  refine fg_aload_n X (r := (some a0)) dX5_hangs_30 rfl 0 rfl ?_
  replace hF := fg_ob_some hF
  obtain ⟨rz11, e_9, hF⟩ := hF
  refine fg_getr X ff_X5_netAt q354 e_9 dX5_hangs_31 ?_
  refine fg_iload_n X dX5_hangs_34 rfl 2 rfl ?_
  refine fg_aload_n X (r := (some a0)) dX5_hangs_35 rfl 0 rfl ?_
  replace hF := fg_ob_some hF
  obtain ⟨xz12, e_10, hF⟩ := hF
  refine fg_geti X ff_X5_many q362 e_10 dX5_hangs_36 ?_
  replace hF := fg_ob_some hF
  obtain ⟨az13, rfl, hF⟩ := hF
  replace hF := fg_ob_some hF
  obtain ⟨Gz14, e_11, hF⟩ := hF
  refine fg_iast X e_11 dX5_hangs_39 ?_
  cases hF
  exact fg_vret X dX5_hangs_40 (hT)
theorem mX5_hangs (l : Launch) (D : fg_D) {a0 : Nat} {r1 : Option Nat} {i2 : Int32} {G : fg_H} {t : Unit × fg_H} (hF : fX5_hangs a0 r1 i2 G = some t) : fg_M l D yX5_hangs cX5_hangs 3 none 0 [.ref a0, va_rf r1, .int i2] G (.returned none) t.2 :=
  fg_Mof (own := RX5) (nm := "hangs") (L := [(0, .ref a0), (1, va_rf r1), (2, .int i2)]) (plainFor_of_name pn_X5) rfl rfl (by cases r1 <;> rfl) (by cases r1 <;> exact Nat.le_of_ble_eq_true rfl) (fun Ω _ _ X hT => wX5_hangs X hF hT)
theorem hd_X5_begins : yX5_begins.cls ≠ "java/lang/invoke/MethodHandle" ∧ yX5_begins.cls ≠ "java/lang/invoke/VarHandle" ∧ (parseMethodDescriptor yX5_begins.desc).map (fun d => d.parameters.length) = some 1 := ⟨by decide +kernel, by decide +kernel, by decide +kernel⟩
set_option maxHeartbeats 4000000 in
theorem wX5_begins_38b {Ω : fg_O} {a0 : Nat} {r1 : Option Nat} {i2 : Int32} {G : fg_H} {t : ((Nat × Option Nat × Int32 × fg_H) ⊕ (Unit × fg_H))} (X : fg_X Ω RX5 "begins" cX5_begins 3 none 3) (hF : fX5_begins_38b a0 r1 i2 G = some t) (h38 : ∀ z, t = (.inl z) → fg_W Ω z.2.2.2 38 [(0, .ref z.1), (1, va_rf z.2.1), (2, .int z.2.2.1)] []) (hT : ∀ u, t = (.inr u) → fg_T Ω (.returned none) u.2) : fg_W Ω G 38 [(0, .ref a0), (1, va_rf r1), (2, .int i2)] [] := by
  unfold fX5_begins_38b at hF
  refine fg_iload_n X dX5_begins_38 rfl 2 rfl ?_
  refine fg_aload_n X (r := r1) dX5_begins_39 rfl 1 rfl ?_
  replace hF := fg_ob_some hF
  obtain ⟨az5, rfl, hF⟩ := hF
  replace hF := fg_ob_some hF
  obtain ⟨rz6, e_1, hF⟩ := hF
  refine fg_getr X ff_X3_nets q311 e_1 dX5_begins_40 ?_
  replace hF := fg_ob_some hF
  obtain ⟨az7, rfl, hF⟩ := hF
  replace hF := fg_gd_some hF
  obtain ⟨eg_2, hF⟩ := hF
  obtain ⟨fs_3, eo_4⟩ := fg_rc_get eg_2
  replace hF := fg_oc_some hF
  obtain ⟨xz9, Gz8, e_5, hF⟩ := hF
  refine fg_callV X (st := [.int i2]) (mJ2_size Ω.2.2.2.2.1 Ω.1 e_5) q423 q424 q425 q98 q426 hd_J2_size (by decide) rfl eo_4 (by decide) rfl rfl (Nat.le_of_ble_eq_true rfl) dX5_begins_43 ?_
  refine fg_icmp_ge X (tgt := 76) dX5_begins_46 (by decide) (fun hc => ?_) (fun hc => ?_)
  · rw [if_pos hc] at hF
    replace hF := fg_rt_some hF
    obtain ⟨tz10, hF, ht_6⟩ := hF
    subst ht_6
    replace hT := hT _ rfl
    cases hF
    exact fg_vret X dX5_begins_76 (hT)
  · rw [if_neg hc] at hF
    refine fg_aload_n X (r := (some a0)) dX5_begins_49 rfl 0 rfl ?_
    refine fg_aload_n X (r := (some az5)) dX5_begins_50 rfl 1 rfl ?_
    replace hF := fg_ob_some hF
    obtain ⟨rz11, e_7, hF⟩ := hF
    refine fg_getr X ff_X3_nets q311 e_7 dX5_begins_51 ?_
    refine fg_iload_n X dX5_begins_54 rfl 2 rfl ?_
    replace hF := fg_ob_some hF
    obtain ⟨az12, rfl, hF⟩ := hF
    replace hF := fg_gd_some hF
    obtain ⟨eg_8, hF⟩ := hF
    obtain ⟨fs_9, eo_10⟩ := fg_rc_get eg_8
    replace hF := fg_oc_some hF
    obtain ⟨rz14, Gz13, e_11, hF⟩ := hF
    refine fg_callV X (st := [.ref a0]) (mJ2_get Ω.2.2.2.2.1 Ω.1 e_11) q427 q428 q429 q98 q430 hd_J2_get (by decide) rfl eo_10 (by decide) rfl rfl (Nat.le_of_ble_eq_true rfl) dX5_begins_55 ?_
    replace hF := fg_gd_some hF
    obtain ⟨eg_12, hF⟩ := hF
    refine fg_cast X (r := rz14) q350 fg_net_castable eg_12 dX5_begins_58 ?_
    refine fg_aload_n X (r := (some az5)) dX5_begins_61 rfl 1 rfl ?_
    replace hF := fg_ob_some hF
    obtain ⟨rz15, e_13, hF⟩ := hF
    refine fg_getr X ff_X3_at q314 e_13 dX5_begins_62 ?_
    refine fg_iload_n X dX5_begins_65 rfl 2 rfl ?_
    replace hF := fg_ob_some hF
    obtain ⟨az16, rfl, hF⟩ := hF
    replace hF := fg_ob_some hF
    obtain ⟨xz17, e_14, hF⟩ := hF
    refine fg_iald X e_14 dX5_begins_66 ?_
    replace hF := fg_gd_some hF
    obtain ⟨eg_15, hF⟩ := hF
    obtain ⟨fs_16, eo_17⟩ := fg_rc_get eg_15
    replace hF := fg_oc_some hF
    obtain ⟨u, Gz18, e_18, hF⟩ := hF
    refine fg_callV X (st := []) (mX5_hangs Ω.2.2.2.2.1 Ω.1 e_18) q441 q442 q443 q100 q444 hd_X5_hangs (by decide) rfl eo_17 (by decide) rfl rfl (Nat.le_of_ble_eq_true rfl) dX5_begins_67 ?_
    refine fg_iinc X (v := (i2 + (1 : Int32))) (L' := [(2, .int (i2 + (1 : Int32))), (0, .ref a0), (1, .ref az5)]) dX5_begins_70 2 rfl rfl (by decide) rfl ?_
    refine fg_goto X (tgt := 38) dX5_begins_73 (by decide) ?_
    refine fg_sub [1, 2, 0] rfl ?_
    exact h38 _ (Option.some.inj hF).symm
set_option maxHeartbeats 4000000 in
seal fX5_begins_38b in
theorem wX5_begins_38 {Ω : fg_O} {a0 : Nat} {r1 : Option Nat} {i2 : Int32} {G : fg_H} {t : (Unit × fg_H)} (X : fg_X Ω RX5 "begins" cX5_begins 3 none 3) (hF : fX5_begins_38 a0 r1 i2 G = some t) (hT : fg_T Ω (.returned none) t.2) : fg_W Ω G 38 [(0, .ref a0), (1, va_rf r1), (2, .int i2)] [] := by
  unfold fX5_begins_38 at hF
  exact fg_lp_walk (P := fun z => fg_W Ω z.2.2.2 38 [(0, .ref z.1), (1, va_rf z.2.1), (2, .int z.2.2.1)] []) (fun y o ho hl hr => wX5_begins_38b X ho (fun z e => hl z e) (fun u e => by rw [hr _ e]; exact hT)) hF
set_option maxHeartbeats 4000000 in
theorem wX5_begins_17b {Ω : fg_O} {a0 : Nat} {r1 : Option Nat} {i2 : Int32} {G : fg_H} {t : ((Nat × Option Nat × Int32 × fg_H) ⊕ (Unit × fg_H))} (X : fg_X Ω RX5 "begins" cX5_begins 3 none 3) (hF : fX5_begins_17b a0 r1 i2 G = some t) (h17 : ∀ z, t = (.inl z) → fg_W Ω z.2.2.2 17 [(0, .ref z.1), (1, va_rf z.2.1), (2, .int z.2.2.1)] []) (hT : ∀ u, t = (.inr u) → fg_T Ω (.returned none) u.2) : fg_W Ω G 17 [(0, .ref a0), (1, va_rf r1), (2, .int i2)] [] := by
  unfold fX5_begins_17b at hF
  refine fg_iload_n X dX5_begins_17 rfl 2 rfl ?_
  refine fg_bipush X (v := (64 : Int32)) dX5_begins_18 (by decide) ?_
  refine fg_icmp_ge X (tgt := 36) dX5_begins_20 (by decide) (fun hc => ?_) (fun hc => ?_)
  · rw [if_pos hc] at hF
    replace hF := fg_rt_some hF
    obtain ⟨tz4, hF, ht_1⟩ := hF
    subst ht_1
    replace hT := hT _ rfl
    refine fg_iconst X (v := (0 : Int32)) dX5_begins_36 (by decide) ?_
    refine fg_istore_n X (L' := [(2, .int (0 : Int32)), (0, .ref a0), (1, va_rf r1)]) dX5_begins_37 rfl (by decide) (by cases r1 <;> rfl) ?_
    refine fg_sub [1, 2, 0] rfl ?_
    exact wX5_begins_38 X hF hT
  · rw [if_neg hc] at hF
    refine fg_aload_n X (r := (some a0)) dX5_begins_23 rfl 0 rfl ?_
    replace hF := fg_ob_some hF
    obtain ⟨rz19, e_2, hF⟩ := hF
    refine fg_getr X ff_X5_netAt q354 e_2 dX5_begins_24 ?_
    refine fg_iload_n X dX5_begins_27 rfl 2 rfl ?_
    refine fg_iconst X (v := (0 : Int32)) dX5_begins_28 (by decide) ?_
    replace hF := fg_ob_some hF
    obtain ⟨az20, rfl, hF⟩ := hF
    replace hF := fg_ob_some hF
    obtain ⟨Gz21, e_3, hF⟩ := hF
    refine fg_iast X e_3 dX5_begins_29 ?_
    refine fg_iinc X (v := (i2 + (1 : Int32))) (L' := [(2, .int (i2 + (1 : Int32))), (0, .ref a0), (1, va_rf r1)]) dX5_begins_30 2 rfl rfl (by decide) (by cases r1 <;> rfl) ?_
    refine fg_goto X (tgt := 17) dX5_begins_33 (by decide) ?_
    refine fg_sub [1, 2, 0] rfl ?_
    exact h17 _ (Option.some.inj hF).symm
set_option maxHeartbeats 4000000 in
seal fX5_begins_17b in
theorem wX5_begins_17 {Ω : fg_O} {a0 : Nat} {r1 : Option Nat} {i2 : Int32} {G : fg_H} {t : (Unit × fg_H)} (X : fg_X Ω RX5 "begins" cX5_begins 3 none 3) (hF : fX5_begins_17 a0 r1 i2 G = some t) (hT : fg_T Ω (.returned none) t.2) : fg_W Ω G 17 [(0, .ref a0), (1, va_rf r1), (2, .int i2)] [] := by
  unfold fX5_begins_17 at hF
  exact fg_lp_walk (P := fun z => fg_W Ω z.2.2.2 17 [(0, .ref z.1), (1, va_rf z.2.1), (2, .int z.2.2.1)] []) (fun y o ho hl hr => wX5_begins_17b X ho (fun z e => hl z e) (fun u e => by rw [hr _ e]; exact hT)) hF
set_option maxHeartbeats 4000000 in
theorem wX5_begins {Ω : fg_O} {a0 : Nat} {r1 : Option Nat} {G : fg_H} {t : Unit × fg_H} (X : fg_X Ω RX5 "begins" cX5_begins 3 none 3) (hF : fX5_begins a0 r1 G = some t) (hT : fg_T Ω (.returned none) t.2) : fg_W Ω G 0 [(0, .ref a0), (1, va_rf r1)] [] := by
  unfold fX5_begins at hF
  refine fg_aload_n X (r := (some a0)) dX5_begins_0 rfl 0 rfl ?_
  refine fg_aload_n X (r := r1) dX5_begins_1 rfl 1 rfl ?_
  replace hF := fg_ob_some hF
  obtain ⟨Gz1, e_1, hF⟩ := hF
  refine fg_putv X (ty := (.object "FogNets$Ridge")) (v := va_rf r1) ff_X5_ridge q352 rfl (Or.inl rfl) rfl (fg_nrf _ (Or.inl ⟨_, rfl⟩)) (fg_frf _ (Or.inl ⟨_, rfl⟩)) e_1 dX5_begins_2 ?_
  refine fg_aload_n X (r := (some a0)) dX5_begins_5 rfl 0 rfl ?_
  refine fg_iconst X (v := (0 : Int32)) dX5_begins_6 (by decide) ?_
  replace hF := fg_ob_some hF
  obtain ⟨Gz2, e_2, hF⟩ := hF
  refine fg_putv X (ty := .int) (v := .int (0 : Int32)) ff_X5_mended q360 rfl (Or.inl rfl) rfl rfl rfl e_2 dX5_begins_7 ?_
  refine fg_aload_n X (r := (some a0)) dX5_begins_10 rfl 0 rfl ?_
  refine fg_iconst X (v := (0 : Int32)) dX5_begins_11 (by decide) ?_
  replace hF := fg_ob_some hF
  obtain ⟨Gz3, e_3, hF⟩ := hF
  refine fg_putv X (ty := .int) (v := .int (0 : Int32)) ff_X5_many q362 rfl (Or.inl rfl) rfl rfl rfl e_3 dX5_begins_12 ?_
  refine fg_iconst X (v := (0 : Int32)) dX5_begins_15 (by decide) ?_
  refine fg_istore_n X (L' := [(2, .int (0 : Int32)), (0, .ref a0), (1, va_rf r1)]) dX5_begins_16 rfl (by decide) (by cases r1 <;> rfl) ?_
  refine fg_sub [1, 2, 0] rfl ?_
  exact wX5_begins_17 X hF hT
theorem mX5_begins (l : Launch) (D : fg_D) {a0 : Nat} {r1 : Option Nat} {G : fg_H} {t : Unit × fg_H} (hF : fX5_begins a0 r1 G = some t) : fg_M l D yX5_begins cX5_begins 3 none 3 [.ref a0, va_rf r1] G (.returned none) t.2 :=
  fg_Mof (own := RX5) (nm := "begins") (L := [(0, .ref a0), (1, va_rf r1)]) (plainFor_of_name pn_X5) rfl rfl (by cases r1 <;> rfl) (by cases r1 <;> exact Nat.le_of_ble_eq_true rfl) (fun Ω _ _ X hT => wX5_begins X hF hT)
theorem hd_X5_init : yX5_init.cls ≠ "java/lang/invoke/MethodHandle" ∧ yX5_init.cls ≠ "java/lang/invoke/VarHandle" ∧ (parseMethodDescriptor yX5_init.desc).map (fun d => d.parameters.length) = some 0 := ⟨by decide +kernel, by decide +kernel, by decide +kernel⟩
set_option maxHeartbeats 4000000 in
theorem wX5_init {Ω : fg_O} {a0 : Nat} {G : fg_H} {t : Unit × fg_H} (X : fg_X Ω RX5 "<init>" cX5_init 1 none 1) (hF : fX5_init a0 G = some t) (hT : fg_T Ω (.returned none) t.2) : fg_W Ω G 0 [(0, .ref a0)] [] := by
  unfold fX5_init at hF
  refine fg_aload_n X (r := (some a0)) dX5_init_0 rfl 0 rfl ?_
  refine fg_objInit X q349 q148 q149 (by decide) (Nat.le_of_ble_eq_true rfl) dX5_init_1 ?_
  refine fg_aload_n X (r := (some a0)) dX5_init_4 rfl 0 rfl ?_
  refine fg_bipush X (v := (64 : Int32)) dX5_init_5 (by decide) ?_
  replace hF := fg_oc_some hF
  obtain ⟨az1, Gz2, e_1, hF⟩ := hF
  refine fg_newa X (kd := 0) (atype := .int) q232 (by decide) rfl (by decide) (fun _ _ => rfl) e_1 dX5_init_7 ?_
  replace hF := fg_ob_some hF
  obtain ⟨Gz3, e_2, hF⟩ := hF
  refine fg_putv X (ty := (.array .int)) (v := .ref az1) ff_X5_netAt q354 rfl (Or.inr ⟨rfl, rfl⟩) rfl rfl rfl e_2 dX5_init_9 ?_
  refine fg_aload_n X (r := (some a0)) dX5_init_12 rfl 0 rfl ?_
  refine fg_bipush X (v := (13 : Int32)) dX5_init_13 (by decide) ?_
  replace hF := fg_oc_some hF
  obtain ⟨az4, Gz5, e_3, hF⟩ := hF
  refine fg_newq X (kd := 5) (by decide) rfl q350 e_3 dX5_init_15 ?_
  replace hF := fg_ob_some hF
  obtain ⟨Gz6, e_4, hF⟩ := hF
  refine fg_putv X (ty := (.array (.object "FogNets$Net"))) (v := .ref az4) ff_X5_nets q356 rfl (Or.inr ⟨rfl, rfl⟩) rfl rfl rfl e_4 dX5_init_18 ?_
  refine fg_aload_n X (r := (some a0)) dX5_init_21 rfl 0 rfl ?_
  refine fg_bipush X (v := (13 : Int32)) dX5_init_22 (by decide) ?_
  replace hF := fg_oc_some hF
  obtain ⟨az7, Gz8, e_5, hF⟩ := hF
  refine fg_newa X (kd := 0) (atype := .int) q232 (by decide) rfl (by decide) (fun _ _ => rfl) e_5 dX5_init_24 ?_
  replace hF := fg_ob_some hF
  obtain ⟨Gz9, e_6, hF⟩ := hF
  refine fg_putv X (ty := (.array .int)) (v := .ref az7) ff_X5_at q358 rfl (Or.inr ⟨rfl, rfl⟩) rfl rfl rfl e_6 dX5_init_26 ?_
  refine fg_aload_n X (r := (some a0)) dX5_init_29 rfl 0 rfl ?_
  refine fg_bipush X (v := (13 : Int32)) dX5_init_30 (by decide) ?_
  replace hF := fg_oc_some hF
  obtain ⟨az10, Gz11, e_7, hF⟩ := hF
  refine fg_newa X (kd := 0) (atype := .int) q232 (by decide) rfl (by decide) (fun _ _ => rfl) e_7 dX5_init_32 ?_
  replace hF := fg_ob_some hF
  obtain ⟨Gz12, e_8, hF⟩ := hF
  refine fg_putv X (ty := (.array .int)) (v := .ref az10) ff_X5_took q364 rfl (Or.inr ⟨rfl, rfl⟩) rfl rfl rfl e_8 dX5_init_34 ?_
  cases hF
  exact fg_vret X dX5_init_37 (hT)
theorem mX5_init (l : Launch) (D : fg_D) {a0 : Nat} {G : fg_H} {t : Unit × fg_H} (hF : fX5_init a0 G = some t) : fg_M l D yX5_init cX5_init 1 none 1 [.ref a0] G (.returned none) t.2 :=
  fg_Mof (own := RX5) (nm := "<init>") (L := [(0, .ref a0)]) (plainFor_of_name pn_X5) rfl rfl rfl (Nat.le_of_ble_eq_true rfl) (fun Ω _ _ X hT => wX5_init X hF hT)
theorem hd_X6_init : yX6_init.cls ≠ "java/lang/invoke/MethodHandle" ∧ yX6_init.cls ≠ "java/lang/invoke/VarHandle" ∧ (parseMethodDescriptor yX6_init.desc).map (fun d => d.parameters.length) = some 0 := ⟨by decide +kernel, by decide +kernel, by decide +kernel⟩
set_option maxHeartbeats 4000000 in
theorem wX6_init {Ω : fg_O} {a0 : Nat} {G : fg_H} {t : Unit × fg_H} (X : fg_X Ω RX6 "<init>" cX6_init 1 none 1) (hF : fX6_init a0 G = some t) (hT : fg_T Ω (.returned none) t.2) : fg_W Ω G 0 [(0, .ref a0)] [] := by
  unfold fX6_init at hF
  refine fg_aload_n X (r := (some a0)) dX6_init_0 rfl 0 rfl ?_
  refine fg_objInit X q386 q148 q149 (by decide) (Nat.le_of_ble_eq_true rfl) dX6_init_1 ?_
  refine fg_aload_n X (r := (some a0)) dX6_init_4 rfl 0 rfl ?_
  refine fg_bipush X (v := (6 : Int32)) dX6_init_5 (by decide) ?_
  replace hF := fg_oc_some hF
  obtain ⟨az1, Gz2, e_1, hF⟩ := hF
  refine fg_newa X (kd := 0) (atype := .int) q232 (by decide) rfl (by decide) (fun _ _ => rfl) e_1 dX6_init_7 ?_
  replace hF := fg_ob_some hF
  obtain ⟨Gz3, e_2, hF⟩ := hF
  refine fg_putv X (ty := (.array .int)) (v := .ref az1) ff_X6_tank q387 rfl (Or.inr ⟨rfl, rfl⟩) rfl rfl rfl e_2 dX6_init_9 ?_
  refine fg_aload_n X (r := (some a0)) dX6_init_12 rfl 0 rfl ?_
  refine fg_bipush X (v := (6 : Int32)) dX6_init_13 (by decide) ?_
  replace hF := fg_oc_some hF
  obtain ⟨az4, Gz5, e_3, hF⟩ := hF
  refine fg_newa X (kd := 0) (atype := .int) q232 (by decide) rfl (by decide) (fun _ _ => rfl) e_3 dX6_init_15 ?_
  replace hF := fg_ob_some hF
  obtain ⟨Gz6, e_4, hF⟩ := hF
  refine fg_putv X (ty := (.array .int)) (v := .ref az4) ff_X6_lacks q389 rfl (Or.inr ⟨rfl, rfl⟩) rfl rfl rfl e_4 dX6_init_17 ?_
  cases hF
  exact fg_vret X dX6_init_20 (hT)
theorem mX6_init (l : Launch) (D : fg_D) {a0 : Nat} {G : fg_H} {t : Unit × fg_H} (hF : fX6_init a0 G = some t) : fg_M l D yX6_init cX6_init 1 none 1 [.ref a0] G (.returned none) t.2 :=
  fg_Mof (own := RX6) (nm := "<init>") (L := [(0, .ref a0)]) (plainFor_of_name pn_X6) rfl rfl rfl (Nat.le_of_ble_eq_true rfl) (fun Ω _ _ X hT => wX6_init X hF hT)
theorem hd_X7_init : yX7_init.cls ≠ "java/lang/invoke/MethodHandle" ∧ yX7_init.cls ≠ "java/lang/invoke/VarHandle" ∧ (parseMethodDescriptor yX7_init.desc).map (fun d => d.parameters.length) = some 0 := ⟨by decide +kernel, by decide +kernel, by decide +kernel⟩
set_option maxHeartbeats 4000000 in
theorem wX7_init {Ω : fg_O} {a0 : Nat} {G : fg_H} {t : Unit × fg_H} (X : fg_X Ω RX7 "<init>" cX7_init 1 none 1) (hF : fX7_init a0 G = some t) (hT : fg_T Ω (.returned none) t.2) : fg_W Ω G 0 [(0, .ref a0)] [] := by
  unfold fX7_init at hF
  refine fg_aload_n X (r := (some a0)) dX7_init_0 rfl 0 rfl ?_
  refine fg_objInit X q407 q148 q149 (by decide) (Nat.le_of_ble_eq_true rfl) dX7_init_1 ?_
  refine fg_aload_n X (r := (some a0)) dX7_init_4 rfl 0 rfl ?_
  refine fg_bipush X (v := (12 : Int32)) dX7_init_5 (by decide) ?_
  replace hF := fg_oc_some hF
  obtain ⟨az1, Gz2, e_1, hF⟩ := hF
  refine fg_newa X (kd := 0) (atype := .int) q232 (by decide) rfl (by decide) (fun _ _ => rfl) e_1 dX7_init_7 ?_
  replace hF := fg_ob_some hF
  obtain ⟨Gz3, e_2, hF⟩ := hF
  refine fg_putv X (ty := (.array .int)) (v := .ref az1) ff_X7_way q408 rfl (Or.inr ⟨rfl, rfl⟩) rfl rfl rfl e_2 dX7_init_9 ?_
  refine fg_aload_n X (r := (some a0)) dX7_init_12 rfl 0 rfl ?_
  refine fg_bipush X (v := (96 : Int32)) dX7_init_13 (by decide) ?_
  replace hF := fg_oc_some hF
  obtain ⟨az4, Gz5, e_3, hF⟩ := hF
  refine fg_newa X (kd := 0) (atype := .int) q232 (by decide) rfl (by decide) (fun _ _ => rfl) e_3 dX7_init_15 ?_
  replace hF := fg_ob_some hF
  obtain ⟨Gz6, e_4, hF⟩ := hF
  refine fg_putv X (ty := (.array .int)) (v := .ref az4) ff_X7_bank q410 rfl (Or.inr ⟨rfl, rfl⟩) rfl rfl rfl e_4 dX7_init_17 ?_
  cases hF
  exact fg_vret X dX7_init_20 (hT)
theorem mX7_init (l : Launch) (D : fg_D) {a0 : Nat} {G : fg_H} {t : Unit × fg_H} (hF : fX7_init a0 G = some t) : fg_M l D yX7_init cX7_init 1 none 1 [.ref a0] G (.returned none) t.2 :=
  fg_Mof (own := RX7) (nm := "<init>") (L := [(0, .ref a0)]) (plainFor_of_name pn_X7) rfl rfl rfl (Nat.le_of_ble_eq_true rfl) (fun Ω _ _ X hT => wX7_init X hF hT)
theorem hd_X1_init : yX1_init.cls ≠ "java/lang/invoke/MethodHandle" ∧ yX1_init.cls ≠ "java/lang/invoke/VarHandle" ∧ (parseMethodDescriptor yX1_init.desc).map (fun d => d.parameters.length) = some 0 := ⟨by decide +kernel, by decide +kernel, by decide +kernel⟩
set_option maxHeartbeats 4000000 in
theorem wX1_init {Ω : fg_O} {a0 : Nat} {G : fg_H} {t : Unit × fg_H} (X : fg_X Ω RX1 "<init>" cX1_init 1 none 5) (hF : fX1_init a0 G = some t) (hT : fg_T Ω (.returned none) t.2) : fg_W Ω G 0 [(0, .ref a0)] [] := by
  unfold fX1_init at hF
  refine fg_aload_n X (r := (some a0)) dX1_init_0 rfl 0 rfl ?_
  refine fg_objInit X q147 q148 q149 (by decide) (Nat.le_of_ble_eq_true rfl) dX1_init_1 ?_
  refine fg_aload_n X (r := (some a0)) dX1_init_4 rfl 0 rfl ?_
  replace hF := fg_oc_some hF
  obtain ⟨az1, Gz2, e_1, hF⟩ := hF
  refine fg_newo X q150 q151 q94 rfl (by decide) tyX2_ok nwk_X2 e_1 dX1_init_5 ?_
  refine fg_dup X dX1_init_8 rfl ?_
  replace hF := fg_oc_some hF
  obtain ⟨u, Gz3, e_2, hF⟩ := hF
  refine fg_callIN X (st := [.ref az1, .ref a0]) (mX2_init Ω.2.2.2.2.1 Ω.1 e_2) q152 q153 q94 q154 rfl hd_X2_init (by decide) rfl rfl (Nat.le_of_ble_eq_true rfl) dX1_init_9 ?_
  replace hF := fg_ob_some hF
  obtain ⟨Gz4, e_3, hF⟩ := hF
  refine fg_putv X (ty := (.object "FogNets$Reader")) (v := .ref az1) ff_X1_reader q445 rfl (Or.inr ⟨rfl, rfl⟩) rfl rfl rfl e_3 dX1_init_12 ?_
  refine fg_aload_n X (r := (some a0)) dX1_init_15 rfl 0 rfl ?_
  replace hF := fg_oc_some hF
  obtain ⟨az5, Gz6, e_4, hF⟩ := hF
  refine fg_newo X q234 q235 q95 rfl (by decide) tyX3_ok nwk_X3 e_4 dX1_init_16 ?_
  refine fg_dup X dX1_init_19 rfl ?_
  replace hF := fg_oc_some hF
  obtain ⟨u, Gz7, e_5, hF⟩ := hF
  refine fg_callIN X (st := [.ref az5, .ref a0]) (mX3_init Ω.2.2.2.2.1 Ω.1 e_5) q236 q237 q95 q238 rfl hd_X3_init (by decide) rfl rfl (Nat.le_of_ble_eq_true rfl) dX1_init_20 ?_
  replace hF := fg_ob_some hF
  obtain ⟨Gz8, e_6, hF⟩ := hF
  refine fg_putv X (ty := (.object "FogNets$Ridge")) (v := .ref az5) ff_X1_ridge q447 rfl (Or.inl rfl) rfl rfl rfl e_6 dX1_init_23 ?_
  refine fg_aload_n X (r := (some a0)) dX1_init_26 rfl 0 rfl ?_
  replace hF := fg_oc_some hF
  obtain ⟨az9, Gz10, e_7, hF⟩ := hF
  refine fg_newo X q344 q345 q100 rfl (by decide) tyX5_ok nwk_X5 e_7 dX1_init_27 ?_
  refine fg_dup X dX1_init_30 rfl ?_
  replace hF := fg_oc_some hF
  obtain ⟨u, Gz11, e_8, hF⟩ := hF
  refine fg_callIN X (st := [.ref az9, .ref a0]) (mX5_init Ω.2.2.2.2.1 Ω.1 e_8) q346 q347 q100 q348 rfl hd_X5_init (by decide) rfl rfl (Nat.le_of_ble_eq_true rfl) dX1_init_31 ?_
  replace hF := fg_ob_some hF
  obtain ⟨Gz12, e_9, hF⟩ := hF
  refine fg_putv X (ty := (.object "FogNets$Hung")) (v := .ref az9) ff_X1_hung q449 rfl (Or.inr ⟨rfl, rfl⟩) rfl rfl rfl e_9 dX1_init_34 ?_
  refine fg_aload_n X (r := (some a0)) dX1_init_37 rfl 0 rfl ?_
  replace hF := fg_oc_some hF
  obtain ⟨az13, Gz14, e_10, hF⟩ := hF
  refine fg_newo X q381 q382 q101 rfl (by decide) tyX6_ok nwk_X6 e_10 dX1_init_38 ?_
  refine fg_dup X dX1_init_41 rfl ?_
  replace hF := fg_oc_some hF
  obtain ⟨u, Gz15, e_11, hF⟩ := hF
  refine fg_callIN X (st := [.ref az13, .ref a0]) (mX6_init Ω.2.2.2.2.1 Ω.1 e_11) q383 q384 q101 q385 rfl hd_X6_init (by decide) rfl rfl (Nat.le_of_ble_eq_true rfl) dX1_init_42 ?_
  replace hF := fg_ob_some hF
  obtain ⟨Gz16, e_12, hF⟩ := hF
  refine fg_putv X (ty := (.object "FogNets$Tanks")) (v := .ref az13) ff_X1_tanks q451 rfl (Or.inr ⟨rfl, rfl⟩) rfl rfl rfl e_12 dX1_init_45 ?_
  refine fg_aload_n X (r := (some a0)) dX1_init_48 rfl 0 rfl ?_
  refine fg_bipush X (v := (12 : Int32)) dX1_init_49 (by decide) ?_
  replace hF := fg_oc_some hF
  obtain ⟨az17, Gz18, e_13, hF⟩ := hF
  refine fg_newa X (kd := 0) (atype := .int) q232 (by decide) rfl (by decide) (fun _ _ => rfl) e_13 dX1_init_51 ?_
  replace hF := fg_ob_some hF
  obtain ⟨Gz19, e_14, hF⟩ := hF
  refine fg_putv X (ty := (.array .int)) (v := .ref az17) ff_X1_lastTook q455 rfl (Or.inr ⟨rfl, rfl⟩) rfl rfl rfl e_14 dX1_init_53 ?_
  refine fg_aload_n X (r := (some a0)) dX1_init_56 rfl 0 rfl ?_
  replace hF := fg_oc_some hF
  obtain ⟨az20, Gz21, e_15, hF⟩ := hF
  refine fg_newo X q396 q241 q98 rfl (by decide) tyJ2_ok nwk_J2 e_15 dX1_init_57 ?_
  refine fg_dup X dX1_init_60 rfl ?_
  replace hF := fg_oc_some hF
  obtain ⟨u, Gz22, e_16, hF⟩ := hF
  refine fg_callI X (st := [.ref az20, .ref a0]) (mJ2_init_2 Ω.2.2.2.2.1 Ω.1 e_16) q397 q398 q98 q399 rfl hd_J2_init_2 (by decide) rfl rfl (Nat.le_of_ble_eq_true rfl) dX1_init_61 ?_
  replace hF := fg_ob_some hF
  obtain ⟨Gz23, e_17, hF⟩ := hF
  refine fg_putv X (ty := (.object "java/util/ArrayList")) (v := .ref az20) ff_X1_jars q457 rfl (Or.inr ⟨rfl, rfl⟩) rfl rfl rfl e_17 dX1_init_64 ?_
  refine fg_aload_n X (r := (some a0)) dX1_init_67 rfl 0 rfl ?_
  replace hF := fg_oc_some hF
  obtain ⟨az24, Gz25, e_18, hF⟩ := hF
  refine fg_newo X q402 q403 q102 rfl (by decide) tyX7_ok nwk_X7 e_18 dX1_init_68 ?_
  refine fg_dup X dX1_init_71 rfl ?_
  replace hF := fg_oc_some hF
  obtain ⟨u, Gz26, e_19, hF⟩ := hF
  refine fg_callIN X (st := [.ref az24, .ref a0]) (mX7_init Ω.2.2.2.2.1 Ω.1 e_19) q404 q405 q102 q406 rfl hd_X7_init (by decide) rfl rfl (Nat.le_of_ble_eq_true rfl) dX1_init_72 ?_
  replace hF := fg_ob_some hF
  obtain ⟨Gz27, e_20, hF⟩ := hF
  refine fg_putv X (ty := (.object "FogNets$Sky")) (v := .ref az24) ff_X1_sky q458 rfl (Or.inr ⟨rfl, rfl⟩) rfl rfl rfl e_20 dX1_init_75 ?_
  refine fg_aload_n X (r := (some a0)) dX1_init_78 rfl 0 rfl ?_
  replace hF := fg_oc_some hF
  obtain ⟨az28, Gz29, e_21, hF⟩ := hF
  refine fg_newo X q344 q345 q100 rfl (by decide) tyX5_ok nwk_X5 e_21 dX1_init_79 ?_
  refine fg_dup X dX1_init_82 rfl ?_
  replace hF := fg_oc_some hF
  obtain ⟨u, Gz30, e_22, hF⟩ := hF
  refine fg_callIN X (st := [.ref az28, .ref a0]) (mX5_init Ω.2.2.2.2.1 Ω.1 e_22) q346 q347 q100 q348 rfl hd_X5_init (by decide) rfl rfl (Nat.le_of_ble_eq_true rfl) dX1_init_83 ?_
  replace hF := fg_ob_some hF
  obtain ⟨Gz31, e_23, hF⟩ := hF
  refine fg_putv X (ty := (.object "FogNets$Hung")) (v := .ref az28) ff_X1_trial q459 rfl (Or.inr ⟨rfl, rfl⟩) rfl rfl rfl e_23 dX1_init_86 ?_
  refine fg_aload_n X (r := (some a0)) dX1_init_89 rfl 0 rfl ?_
  replace hF := fg_oc_some hF
  obtain ⟨az32, Gz33, e_24, hF⟩ := hF
  refine fg_newo X q381 q382 q101 rfl (by decide) tyX6_ok nwk_X6 e_24 dX1_init_90 ?_
  refine fg_dup X dX1_init_93 rfl ?_
  replace hF := fg_oc_some hF
  obtain ⟨u, Gz34, e_25, hF⟩ := hF
  refine fg_callIN X (st := [.ref az32, .ref a0]) (mX6_init Ω.2.2.2.2.1 Ω.1 e_25) q383 q384 q101 q385 rfl hd_X6_init (by decide) rfl rfl (Nat.le_of_ble_eq_true rfl) dX1_init_94 ?_
  replace hF := fg_ob_some hF
  obtain ⟨Gz35, e_26, hF⟩ := hF
  refine fg_putv X (ty := (.object "FogNets$Tanks")) (v := .ref az32) ff_X1_later q460 rfl (Or.inr ⟨rfl, rfl⟩) rfl rfl rfl e_26 dX1_init_97 ?_
  refine fg_aload_n X (r := (some a0)) dX1_init_100 rfl 0 rfl ?_
  refine fg_bipush X (v := (64 : Int32)) dX1_init_101 (by decide) ?_
  replace hF := fg_oc_some hF
  obtain ⟨az36, Gz37, e_27, hF⟩ := hF
  refine fg_newa X (kd := 0) (atype := .int) q232 (by decide) rfl (by decide) (fun _ _ => rfl) e_27 dX1_init_103 ?_
  replace hF := fg_ob_some hF
  obtain ⟨Gz38, e_28, hF⟩ := hF
  refine fg_putv X (ty := (.array .int)) (v := .ref az36) ff_X1_worth q461 rfl (Or.inr ⟨rfl, rfl⟩) rfl rfl rfl e_28 dX1_init_105 ?_
  refine fg_aload_n X (r := (some a0)) dX1_init_108 rfl 0 rfl ?_
  refine fg_sipush X (v := (288 : Int32)) dX1_init_109 (by decide) ?_
  replace hF := fg_oc_some hF
  obtain ⟨az39, Gz40, e_29, hF⟩ := hF
  refine fg_newa X (kd := 0) (atype := .int) q232 (by decide) rfl (by decide) (fun _ _ => rfl) e_29 dX1_init_112 ?_
  replace hF := fg_ob_some hF
  obtain ⟨Gz41, e_30, hF⟩ := hF
  refine fg_putv X (ty := (.array .int)) (v := .ref az39) ff_X1_takenBy q462 rfl (Or.inr ⟨rfl, rfl⟩) rfl rfl rfl e_30 dX1_init_114 ?_
  refine fg_aload_n X (r := (some a0)) dX1_init_117 rfl 0 rfl ?_
  refine fg_iconst X (v := (4 : Int32)) dX1_init_118 (by decide) ?_
  replace hF := fg_oc_some hF
  obtain ⟨az42, Gz43, e_31, hF⟩ := hF
  refine fg_newq X (kd := 6) (by decide) rfl q417 e_31 dX1_init_119 ?_
  replace hF := fg_ob_some hF
  obtain ⟨Gz44, e_32, hF⟩ := hF
  refine fg_putv X (ty := (.array (.object "FogNets$Mark"))) (v := .ref az42) ff_X1_marks q464 rfl (Or.inr ⟨rfl, rfl⟩) rfl rfl rfl e_32 dX1_init_122 ?_
  refine fg_aload_n X (r := (some a0)) dX1_init_125 rfl 0 rfl ?_
  replace hF := fg_ob_some hF
  obtain ⟨rz45, e_33, hF⟩ := hF
  refine fg_getr X ff_X1_hung q449 e_33 dX1_init_126 ?_
  refine fg_aload_n X (r := (some a0)) dX1_init_129 rfl 0 rfl ?_
  replace hF := fg_ob_some hF
  obtain ⟨rz46, e_34, hF⟩ := hF
  refine fg_getr X ff_X1_ridge q447 e_34 dX1_init_130 ?_
  replace hF := fg_ob_some hF
  obtain ⟨az47, rfl, hF⟩ := hF
  replace hF := fg_gd_some hF
  obtain ⟨eg_35, hF⟩ := hF
  obtain ⟨fs_36, eo_37⟩ := fg_rc_get eg_35
  replace hF := fg_oc_some hF
  obtain ⟨u, Gz48, e_38, hF⟩ := hF
  refine fg_callV X (st := []) (mX5_begins Ω.2.2.2.2.1 Ω.1 e_38) q419 q420 q421 q100 q422 hd_X5_begins (by decide) rfl eo_37 (by decide) rfl rfl (Nat.le_of_ble_eq_true rfl) dX1_init_133 ?_
  cases hF
  exact fg_vret X dX1_init_136 (hT)
theorem mX1_init (l : Launch) (D : fg_D) {a0 : Nat} {G : fg_H} {t : Unit × fg_H} (hF : fX1_init a0 G = some t) : fg_M l D yX1_init cX1_init 1 none 5 [.ref a0] G (.returned none) t.2 :=
  fg_Mof (own := RX1) (nm := "<init>") (L := [(0, .ref a0)]) (plainFor_of_name pn_X1) rfl rfl rfl (Nat.le_of_ble_eq_true rfl) (fun Ω _ _ X hT => wX1_init X hF hT)
theorem hd_X1_within : yX1_within.cls ≠ "java/lang/invoke/MethodHandle" ∧ yX1_within.cls ≠ "java/lang/invoke/VarHandle" ∧ (parseMethodDescriptor yX1_within.desc).map (fun d => d.parameters.length) = some 3 := ⟨by decide +kernel, by decide +kernel, by decide +kernel⟩
set_option maxHeartbeats 4000000 in
theorem wX1_within {Ω : fg_O} {i0 : Int32} {i1 : Int32} {i2 : Int32} {G : fg_H} {t : Int32 × fg_H} (X : fg_X Ω RX1 "within" cX1_within 3 (some .boolean) 0) (hF : fX1_within i0 i1 i2 G = some t) (hT : fg_T Ω (.returned (some (.int t.1))) t.2) : fg_W Ω G 0 [(0, .int i0), (1, .int i1), (2, .int i2)] [] := by
  unfold fX1_within at hF
  refine fg_iload_n X dX1_within_0 rfl 0 rfl ?_
  refine fg_iload_n X dX1_within_1 rfl 1 rfl ?_
  refine fg_icmp_lt X (tgt := 14) dX1_within_2 (by decide) (fun hc => ?_) (fun hc => ?_)
  · rw [if_pos hc] at hF
    refine fg_iconst X (v := (0 : Int32)) dX1_within_14 (by decide) ?_
    cases hF
    exact fg_zret X (by decide) dX1_within_15 (hT)
  · rw [if_neg hc] at hF
    refine fg_iload_n X dX1_within_5 rfl 0 rfl ?_
    refine fg_iload_n X dX1_within_6 rfl 2 rfl ?_
    refine fg_icmp_gt X (tgt := 14) dX1_within_7 (by decide) (fun hc => ?_) (fun hc => ?_)
    · rw [if_pos hc] at hF
      refine fg_iconst X (v := (0 : Int32)) dX1_within_14 (by decide) ?_
      cases hF
      exact fg_zret X (by decide) dX1_within_15 (hT)
    · rw [if_neg hc] at hF
      refine fg_iconst X (v := (1 : Int32)) dX1_within_10 (by decide) ?_
      refine fg_goto X (tgt := 15) dX1_within_11 (by decide) ?_
      cases hF
      exact fg_zret X (by decide) dX1_within_15 (hT)
theorem mX1_within (l : Launch) (D : fg_D) {i0 : Int32} {i1 : Int32} {i2 : Int32} {G : fg_H} {t : Int32 × fg_H} (hF : fX1_within i0 i1 i2 G = some t) : fg_M l D yX1_within cX1_within 3 (some .boolean) 0 [.int i0, .int i1, .int i2] G (.returned (some (.int t.1))) t.2 :=
  fg_Mof (own := RX1) (nm := "within") (L := [(0, .int i0), (1, .int i1), (2, .int i2)]) (plainFor_of_name pn_X1) rfl rfl rfl (Nat.le_of_ble_eq_true rfl) (fun Ω _ _ X hT => wX1_within X hF hT)
theorem hd_X2_feed : yX2_feed.cls ≠ "java/lang/invoke/MethodHandle" ∧ yX2_feed.cls ≠ "java/lang/invoke/VarHandle" ∧ (parseMethodDescriptor yX2_feed.desc).map (fun d => d.parameters.length) = some 1 := ⟨by decide +kernel, by decide +kernel, by decide +kernel⟩
set_option maxHeartbeats 4000000 in
theorem wX2_feed_36 {Ω : fg_O} {a0 : Nat} {l1 : Int64} {i3 : Int32} {i4 : Int32} {G : fg_H} {t : ((Nat × Int64 × Int32 × fg_H) ⊕ (Unit × fg_H))} (X : fg_X Ω RX2 "feed" cX2_feed 5 none 1) (hF : fX2_feed_36 a0 l1 i3 i4 G = some t) (h3 : ∀ z, t = (.inl z) → fg_W Ω z.2.2.2 3 [(0, .ref z.1), (1, .long z.2.1), (3, .int z.2.2.1)] []) (hT : ∀ u, t = (.inr u) → fg_T Ω (.returned none) u.2) : fg_W Ω G 36 [(0, .ref a0), (1, .long l1), (3, .int i3), (4, .int i4)] [] := by
  unfold fX2_feed_36 at hF
  refine fg_aload_n X (r := (some a0)) dX2_feed_36 rfl 0 rfl ?_
  replace hF := fg_ob_some hF
  obtain ⟨xz3, e_1, hF⟩ := hF
  refine fg_geti X ff_X2_taped q192 e_1 dX2_feed_37 ?_
  refine fg_sipush X (v := (1000 : Int32)) dX2_feed_40 (by decide) ?_
  refine fg_icmp_ge X (tgt := 67) dX2_feed_43 (by decide) (fun hc => ?_) (fun hc => ?_)
  · rw [if_pos hc] at hF
    refine fg_iinc X (v := (i3 + (-8 : Int32))) (L' := [(3, .int (i3 + (-8 : Int32))), (0, .ref a0), (1, .long l1), (4, .int i4)]) dX2_feed_67 2 rfl rfl (by decide) rfl ?_
    refine fg_goto X (tgt := 3) dX2_feed_70 (by decide) ?_
    refine fg_sub [1, 2, 0] rfl ?_
    exact h3 _ (Option.some.inj hF).symm
  · rw [if_neg hc] at hF
    refine fg_aload_n X (r := (some a0)) dX2_feed_46 rfl 0 rfl ?_
    replace hF := fg_ob_some hF
    obtain ⟨rz4, e_2, hF⟩ := hF
    refine fg_getr X ff_X2_tape q191 e_2 dX2_feed_47 ?_
    refine fg_aload_n X (r := (some a0)) dX2_feed_50 rfl 0 rfl ?_
    replace hF := fg_ob_some hF
    obtain ⟨xz5, e_3, hF⟩ := hF
    refine fg_geti X ff_X2_taped q192 e_3 dX2_feed_51 ?_
    refine fg_iload X dX2_feed_54 3 rfl ?_
    replace hF := fg_ob_some hF
    obtain ⟨az6, rfl, hF⟩ := hF
    replace hF := fg_ob_some hF
    obtain ⟨Gz7, e_4, hF⟩ := hF
    refine fg_iast X e_4 dX2_feed_56 ?_
    refine fg_aload_n X (r := (some a0)) dX2_feed_57 rfl 0 rfl ?_
    refine fg_dup X dX2_feed_58 rfl ?_
    replace hF := fg_ob_some hF
    obtain ⟨xz8, e_5, hF⟩ := hF
    refine fg_geti X ff_X2_taped q192 e_5 dX2_feed_59 ?_
    refine fg_iconst X (v := (1 : Int32)) dX2_feed_62 (by decide) ?_
    refine fg_iadd X dX2_feed_63 ?_
    replace hF := fg_ob_some hF
    obtain ⟨Gz9, e_6, hF⟩ := hF
    refine fg_putv X (ty := .int) (v := .int (xz8 + (1 : Int32))) ff_X2_taped q192 rfl (Or.inl rfl) rfl rfl rfl e_6 dX2_feed_64 ?_
    refine fg_iinc X (v := (i3 + (-8 : Int32))) (L' := [(3, .int (i3 + (-8 : Int32))), (0, .ref a0), (1, .long l1), (4, .int i4)]) dX2_feed_67 2 rfl rfl (by decide) rfl ?_
    refine fg_goto X (tgt := 3) dX2_feed_70 (by decide) ?_
    refine fg_sub [1, 2, 0] rfl ?_
    exact h3 _ (Option.some.inj hF).symm
set_option maxHeartbeats 4000000 in
theorem wX2_feed_3b {Ω : fg_O} {a0 : Nat} {l1 : Int64} {i3 : Int32} {G : fg_H} {t : ((Nat × Int64 × Int32 × fg_H) ⊕ (Unit × fg_H))} (X : fg_X Ω RX2 "feed" cX2_feed 5 none 1) (hF : fX2_feed_3b a0 l1 i3 G = some t) (h3 : ∀ z, t = (.inl z) → fg_W Ω z.2.2.2 3 [(0, .ref z.1), (1, .long z.2.1), (3, .int z.2.2.1)] []) (hT : ∀ u, t = (.inr u) → fg_T Ω (.returned none) u.2) : fg_W Ω G 3 [(0, .ref a0), (1, .long l1), (3, .int i3)] [] := by
  unfold fX2_feed_3b at hF
  refine fg_iload_n X dX2_feed_3 rfl 2 rfl ?_
  refine fg_if_lt X (tgt := 73) dX2_feed_4 (by decide) (fun hc => ?_) (fun hc => ?_)
  · rw [if_pos hc] at hF
    replace hF := fg_rt_some hF
    obtain ⟨tz1, hF, ht_1⟩ := hF
    subst ht_1
    replace hT := hT _ rfl
    cases hF
    exact fg_vret X dX2_feed_73 (hT)
  · rw [if_neg hc] at hF
    refine fg_lload_n X dX2_feed_7 rfl 1 rfl ?_
    refine fg_iload_n X dX2_feed_8 rfl 2 rfl ?_
    refine fg_lushr X dX2_feed_9 ?_
    refine fg_ldc2 X q502 dX2_feed_10 ?_
    refine fg_land X dX2_feed_13 ?_
    refine fg_l2i X dX2_feed_14 ?_
    replace hF := fg_ob_some hF
    obtain ⟨vz2, ex_2, hF⟩ := hF
    refine fg_topi (Option.some.inj ex_2) ?_
    refine fg_istore X (L' := [(4, .int vz2), (0, .ref a0), (1, .long l1), (3, .int i3)]) dX2_feed_15 (by decide) rfl ?_
    refine fg_iload X dX2_feed_17 0 rfl ?_
    refine fg_bipush X (v := (10 : Int32)) dX2_feed_19 (by decide) ?_
    refine fg_icmp_eq X (tgt := 36) dX2_feed_21 (by decide) (fun hc => ?_) (fun hc => ?_)
    · rw [if_pos hc] at hF
      refine fg_sub [1, 2, 3, 0] rfl ?_
      exact wX2_feed_36 X hF h3 hT
    · rw [if_neg hc] at hF
      refine fg_iload X dX2_feed_24 0 rfl ?_
      refine fg_bipush X (v := (32 : Int32)) dX2_feed_26 (by decide) ?_
      refine fg_bipush X (v := (126 : Int32)) dX2_feed_28 (by decide) ?_
      replace hF := fg_oc_some hF
      obtain ⟨xz11, Gz10, e_3, hF⟩ := hF
      refine fg_callSN X (st := []) (mX1_within Ω.2.2.2.2.1 Ω.1 e_3) q503 q504 q93 q505 hd_X1_within (by decide) rfl rfl (Nat.le_of_ble_eq_true rfl) dX2_feed_30 ?_
      refine fg_if_eq X (tgt := 67) dX2_feed_33 (by decide) (fun hc => ?_) (fun hc => ?_)
      · rw [if_pos hc] at hF
        refine fg_iinc X (v := (i3 + (-8 : Int32))) (L' := [(3, .int (i3 + (-8 : Int32))), (4, .int vz2), (0, .ref a0), (1, .long l1)]) dX2_feed_67 3 rfl rfl (by decide) rfl ?_
        refine fg_goto X (tgt := 3) dX2_feed_70 (by decide) ?_
        refine fg_sub [2, 3, 0] rfl ?_
        exact h3 _ (Option.some.inj hF).symm
      · rw [if_neg hc] at hF
        refine fg_sub [1, 2, 3, 0] rfl ?_
        exact wX2_feed_36 X hF h3 hT
set_option maxHeartbeats 4000000 in
seal fX2_feed_3b in
theorem wX2_feed_3 {Ω : fg_O} {a0 : Nat} {l1 : Int64} {i3 : Int32} {G : fg_H} {t : (Unit × fg_H)} (X : fg_X Ω RX2 "feed" cX2_feed 5 none 1) (hF : fX2_feed_3 a0 l1 i3 G = some t) (hT : fg_T Ω (.returned none) t.2) : fg_W Ω G 3 [(0, .ref a0), (1, .long l1), (3, .int i3)] [] := by
  unfold fX2_feed_3 at hF
  exact fg_lp_walk (P := fun z => fg_W Ω z.2.2.2 3 [(0, .ref z.1), (1, .long z.2.1), (3, .int z.2.2.1)] []) (fun y o ho hl hr => wX2_feed_3b X ho (fun z e => hl z e) (fun u e => by rw [hr _ e]; exact hT)) hF
set_option maxHeartbeats 4000000 in
theorem wX2_feed {Ω : fg_O} {a0 : Nat} {l1 : Int64} {G : fg_H} {t : Unit × fg_H} (X : fg_X Ω RX2 "feed" cX2_feed 5 none 1) (hF : fX2_feed a0 l1 G = some t) (hT : fg_T Ω (.returned none) t.2) : fg_W Ω G 0 [(0, .ref a0), (1, .long l1)] [] := by
  unfold fX2_feed at hF
  refine fg_bipush X (v := (56 : Int32)) dX2_feed_0 (by decide) ?_
  refine fg_istore_n X (L' := [(3, .int (56 : Int32)), (0, .ref a0), (1, .long l1)]) dX2_feed_2 rfl (by decide) rfl ?_
  refine fg_sub [1, 2, 0] rfl ?_
  exact wX2_feed_3 X hF hT
theorem mX2_feed (l : Launch) (D : fg_D) {a0 : Nat} {l1 : Int64} {G : fg_H} {t : Unit × fg_H} (hF : fX2_feed a0 l1 G = some t) : fg_M l D yX2_feed cX2_feed 5 none 1 [.ref a0, .long l1] G (.returned none) t.2 :=
  fg_Mof (own := RX2) (nm := "feed") (L := [(0, .ref a0), (1, .long l1)]) (plainFor_of_name pn_X2) rfl rfl rfl (Nat.le_of_ble_eq_true rfl) (fun Ω _ _ X hT => wX2_feed X hF hT)
theorem hd_X1_feed : yX1_feed.cls ≠ "java/lang/invoke/MethodHandle" ∧ yX1_feed.cls ≠ "java/lang/invoke/VarHandle" ∧ (parseMethodDescriptor yX1_feed.desc).map (fun d => d.parameters.length) = some 3 := ⟨by decide +kernel, by decide +kernel, by decide +kernel⟩
set_option maxHeartbeats 4000000 in
theorem wX1_feed {Ω : fg_O} {a0 : Nat} {l1 : Int64} {l3 : Int64} {l5 : Int64} {G : fg_H} {t : Int32 × fg_H} (X : fg_X Ω RX1 "feed" cX1_feed 7 (some .int) 2) (hF : fX1_feed a0 l1 l3 l5 G = some t) (hT : fg_T Ω (.returned (some (.int t.1))) t.2) : fg_W Ω G 0 [(0, .ref a0), (1, .long l1), (3, .long l3), (5, .long l5)] [] := by
  unfold fX1_feed at hF
  refine fg_aload_n X (r := (some a0)) dX1_feed_0 rfl 0 rfl ?_
  replace hF := fg_ob_some hF
  obtain ⟨rz1, e_1, hF⟩ := hF
  refine fg_getr X ff_X1_reader q445 e_1 dX1_feed_1 ?_
  refine fg_lload_n X dX1_feed_4 rfl 1 rfl ?_
  replace hF := fg_ob_some hF
  obtain ⟨az2, rfl, hF⟩ := hF
  replace hF := fg_gd_some hF
  obtain ⟨eg_2, hF⟩ := hF
  obtain ⟨fs_3, eo_4⟩ := fg_rc_get eg_2
  replace hF := fg_oc_some hF
  obtain ⟨u, Gz3, e_5, hF⟩ := hF
  refine fg_callV X (st := []) (mX2_feed Ω.2.2.2.2.1 Ω.1 e_5) q498 q499 q500 q94 q501 hd_X2_feed (by decide) rfl eo_4 (by decide) rfl rfl (Nat.le_of_ble_eq_true rfl) dX1_feed_5 ?_
  refine fg_aload_n X (r := (some a0)) dX1_feed_8 rfl 0 rfl ?_
  replace hF := fg_ob_some hF
  obtain ⟨rz4, e_6, hF⟩ := hF
  refine fg_getr X ff_X1_reader q445 e_6 dX1_feed_9 ?_
  refine fg_lload_n X dX1_feed_12 rfl 2 rfl ?_
  replace hF := fg_ob_some hF
  obtain ⟨az5, rfl, hF⟩ := hF
  replace hF := fg_gd_some hF
  obtain ⟨eg_7, hF⟩ := hF
  obtain ⟨fs_8, eo_9⟩ := fg_rc_get eg_7
  replace hF := fg_oc_some hF
  obtain ⟨u, Gz6, e_10, hF⟩ := hF
  refine fg_callV X (st := []) (mX2_feed Ω.2.2.2.2.1 Ω.1 e_10) q498 q499 q500 q94 q501 hd_X2_feed (by decide) rfl eo_9 (by decide) rfl rfl (Nat.le_of_ble_eq_true rfl) dX1_feed_13 ?_
  refine fg_aload_n X (r := (some a0)) dX1_feed_16 rfl 0 rfl ?_
  replace hF := fg_ob_some hF
  obtain ⟨rz7, e_11, hF⟩ := hF
  refine fg_getr X ff_X1_reader q445 e_11 dX1_feed_17 ?_
  refine fg_lload X dX1_feed_20 3 rfl ?_
  replace hF := fg_ob_some hF
  obtain ⟨az8, rfl, hF⟩ := hF
  replace hF := fg_gd_some hF
  obtain ⟨eg_12, hF⟩ := hF
  obtain ⟨fs_13, eo_14⟩ := fg_rc_get eg_12
  replace hF := fg_oc_some hF
  obtain ⟨u, Gz9, e_15, hF⟩ := hF
  refine fg_callV X (st := []) (mX2_feed Ω.2.2.2.2.1 Ω.1 e_15) q498 q499 q500 q94 q501 hd_X2_feed (by decide) rfl eo_14 (by decide) rfl rfl (Nat.le_of_ble_eq_true rfl) dX1_feed_22 ?_
  refine fg_aload_n X (r := (some a0)) dX1_feed_25 rfl 0 rfl ?_
  replace hF := fg_ob_some hF
  obtain ⟨rz10, e_16, hF⟩ := hF
  refine fg_getr X ff_X1_reader q445 e_16 dX1_feed_26 ?_
  replace hF := fg_ob_some hF
  obtain ⟨az11, rfl, hF⟩ := hF
  replace hF := fg_ob_some hF
  obtain ⟨xz12, e_17, hF⟩ := hF
  refine fg_geti X ff_X2_taped q193 e_17 dX1_feed_29 ?_
  cases hF
  exact fg_iret X dX1_feed_32 (hT)
theorem mX1_feed (l : Launch) (D : fg_D) {a0 : Nat} {l1 : Int64} {l3 : Int64} {l5 : Int64} {G : fg_H} {t : Int32 × fg_H} (hF : fX1_feed a0 l1 l3 l5 G = some t) : fg_M l D yX1_feed cX1_feed 7 (some .int) 2 [.ref a0, .long l1, .long l3, .long l5] G (.returned (some (.int t.1))) t.2 :=
  fg_Mof (own := RX1) (nm := "feed") (L := [(0, .ref a0), (1, .long l1), (3, .long l3), (5, .long l5)]) (plainFor_of_name pn_X1) rfl rfl rfl (Nat.le_of_ble_eq_true rfl) (fun Ω _ _ X hT => wX1_feed X hF hT)
theorem hd_X23_init : yX23_init.cls ≠ "java/lang/invoke/MethodHandle" ∧ yX23_init.cls ≠ "java/lang/invoke/VarHandle" ∧ (parseMethodDescriptor yX23_init.desc).map (fun d => d.parameters.length) = some 2 := ⟨by decide +kernel, by decide +kernel, by decide +kernel⟩
set_option maxHeartbeats 4000000 in
theorem wX23_init {Ω : fg_O} {a0 : Nat} {i1 : Int32} {i2 : Int32} {G : fg_H} {t : Unit × fg_H} (X : fg_X Ω RX23 "<init>" cX23_init 3 none 1) (hF : fX23_init a0 i1 i2 G = some t) (hT : fg_T Ω (.returned none) t.2) : fg_W Ω G 0 [(0, .ref a0), (1, .int i1), (2, .int i2)] [] := by
  unfold fX23_init at hF
  refine fg_aload_n X (r := (some a0)) dX23_init_0 rfl 0 rfl ?_
  refine fg_objInit X q1016 q148 q149 (by decide) (Nat.le_of_ble_eq_true rfl) dX23_init_1 ?_
  refine fg_aload_n X (r := (some a0)) dX23_init_4 rfl 0 rfl ?_
  refine fg_iload_n X dX23_init_5 rfl 1 rfl ?_
  replace hF := fg_ob_some hF
  obtain ⟨Gz1, e_1, hF⟩ := hF
  refine fg_putv X (ty := .int) (v := .int i1) ff_X23_village q1017 rfl (Or.inr ⟨rfl, rfl⟩) rfl rfl rfl e_1 dX23_init_6 ?_
  refine fg_aload_n X (r := (some a0)) dX23_init_9 rfl 0 rfl ?_
  refine fg_iload_n X dX23_init_10 rfl 2 rfl ?_
  replace hF := fg_ob_some hF
  obtain ⟨Gz2, e_2, hF⟩ := hF
  refine fg_putv X (ty := .int) (v := .int i2) ff_X23_mesh q1020 rfl (Or.inr ⟨rfl, rfl⟩) rfl rfl rfl e_2 dX23_init_11 ?_
  cases hF
  exact fg_vret X dX23_init_14 (hT)
theorem mX23_init (l : Launch) (D : fg_D) {a0 : Nat} {i1 : Int32} {i2 : Int32} {G : fg_H} {t : Unit × fg_H} (hF : fX23_init a0 i1 i2 G = some t) : fg_M l D yX23_init cX23_init 3 none 1 [.ref a0, .int i1, .int i2] G (.returned none) t.2 :=
  fg_Mof (own := RX23) (nm := "<init>") (L := [(0, .ref a0), (1, .int i1), (2, .int i2)]) (plainFor_of_name pn_X23) rfl rfl rfl (Nat.le_of_ble_eq_true rfl) (fun Ω _ _ X hT => wX23_init X hF hT)
theorem hd_X24_init : yX24_init.cls ≠ "java/lang/invoke/MethodHandle" ∧ yX24_init.cls ≠ "java/lang/invoke/VarHandle" ∧ (parseMethodDescriptor yX24_init.desc).map (fun d => d.parameters.length) = some 2 := ⟨by decide +kernel, by decide +kernel, by decide +kernel⟩
set_option maxHeartbeats 4000000 in
theorem wX24_init {Ω : fg_O} {a0 : Nat} {i1 : Int32} {i2 : Int32} {G : fg_H} {t : Unit × fg_H} (X : fg_X Ω RX24 "<init>" cX24_init 3 none 2) (hF : fX24_init a0 i1 i2 G = some t) (hT : fg_T Ω (.returned none) t.2) : fg_W Ω G 0 [(0, .ref a0), (1, .int i1), (2, .int i2)] [] := by
  unfold fX24_init at hF
  refine fg_aload_n X (r := (some a0)) dX24_init_0 rfl 0 rfl ?_
  refine fg_iload_n X dX24_init_1 rfl 1 rfl ?_
  refine fg_iload_n X dX24_init_2 rfl 2 rfl ?_
  replace hF := fg_oc_some hF
  obtain ⟨u, Gz1, e_1, hF⟩ := hF
  refine fg_callI X (st := []) (mX23_init Ω.2.2.2.2.1 Ω.1 e_1) q1013 q1014 q133 q1015 rfl hd_X23_init (by decide) rfl rfl (Nat.le_of_ble_eq_true rfl) dX24_init_3 ?_
  cases hF
  exact fg_vret X dX24_init_6 (hT)
theorem mX24_init (l : Launch) (D : fg_D) {a0 : Nat} {i1 : Int32} {i2 : Int32} {G : fg_H} {t : Unit × fg_H} (hF : fX24_init a0 i1 i2 G = some t) : fg_M l D yX24_init cX24_init 3 none 2 [.ref a0, .int i1, .int i2] G (.returned none) t.2 :=
  fg_Mof (own := RX24) (nm := "<init>") (L := [(0, .ref a0), (1, .int i1), (2, .int i2)]) (plainFor_of_name pn_X24) rfl rfl rfl (Nat.le_of_ble_eq_true rfl) (fun Ω _ _ X hT => wX24_init X hF hT)
theorem hd_X25_init : yX25_init.cls ≠ "java/lang/invoke/MethodHandle" ∧ yX25_init.cls ≠ "java/lang/invoke/VarHandle" ∧ (parseMethodDescriptor yX25_init.desc).map (fun d => d.parameters.length) = some 2 := ⟨by decide +kernel, by decide +kernel, by decide +kernel⟩
set_option maxHeartbeats 4000000 in
theorem wX25_init {Ω : fg_O} {a0 : Nat} {i1 : Int32} {i2 : Int32} {G : fg_H} {t : Unit × fg_H} (X : fg_X Ω RX25 "<init>" cX25_init 3 none 2) (hF : fX25_init a0 i1 i2 G = some t) (hT : fg_T Ω (.returned none) t.2) : fg_W Ω G 0 [(0, .ref a0), (1, .int i1), (2, .int i2)] [] := by
  unfold fX25_init at hF
  refine fg_aload_n X (r := (some a0)) dX25_init_0 rfl 0 rfl ?_
  refine fg_iload_n X dX25_init_1 rfl 1 rfl ?_
  refine fg_iload_n X dX25_init_2 rfl 2 rfl ?_
  replace hF := fg_oc_some hF
  obtain ⟨u, Gz1, e_1, hF⟩ := hF
  refine fg_callI X (st := []) (mX23_init Ω.2.2.2.2.1 Ω.1 e_1) q1032 q1014 q133 q1015 rfl hd_X23_init (by decide) rfl rfl (Nat.le_of_ble_eq_true rfl) dX25_init_3 ?_
  cases hF
  exact fg_vret X dX25_init_6 (hT)
theorem mX25_init (l : Launch) (D : fg_D) {a0 : Nat} {i1 : Int32} {i2 : Int32} {G : fg_H} {t : Unit × fg_H} (hF : fX25_init a0 i1 i2 G = some t) : fg_M l D yX25_init cX25_init 3 none 2 [.ref a0, .int i1, .int i2] G (.returned none) t.2 :=
  fg_Mof (own := RX25) (nm := "<init>") (L := [(0, .ref a0), (1, .int i1), (2, .int i2)]) (plainFor_of_name pn_X25) rfl rfl rfl (Nat.le_of_ble_eq_true rfl) (fun Ω _ _ X hT => wX25_init X hF hT)
theorem hd_X26_init : yX26_init.cls ≠ "java/lang/invoke/MethodHandle" ∧ yX26_init.cls ≠ "java/lang/invoke/VarHandle" ∧ (parseMethodDescriptor yX26_init.desc).map (fun d => d.parameters.length) = some 2 := ⟨by decide +kernel, by decide +kernel, by decide +kernel⟩
set_option maxHeartbeats 4000000 in
theorem wX26_init {Ω : fg_O} {a0 : Nat} {i1 : Int32} {i2 : Int32} {G : fg_H} {t : Unit × fg_H} (X : fg_X Ω RX26 "<init>" cX26_init 3 none 2) (hF : fX26_init a0 i1 i2 G = some t) (hT : fg_T Ω (.returned none) t.2) : fg_W Ω G 0 [(0, .ref a0), (1, .int i1), (2, .int i2)] [] := by
  unfold fX26_init at hF
  refine fg_aload_n X (r := (some a0)) dX26_init_0 rfl 0 rfl ?_
  refine fg_iload_n X dX26_init_1 rfl 1 rfl ?_
  refine fg_iload_n X dX26_init_2 rfl 2 rfl ?_
  replace hF := fg_oc_some hF
  obtain ⟨u, Gz1, e_1, hF⟩ := hF
  refine fg_callI X (st := []) (mX23_init Ω.2.2.2.2.1 Ω.1 e_1) q1041 q1014 q133 q1015 rfl hd_X23_init (by decide) rfl rfl (Nat.le_of_ble_eq_true rfl) dX26_init_3 ?_
  cases hF
  exact fg_vret X dX26_init_6 (hT)
theorem mX26_init (l : Launch) (D : fg_D) {a0 : Nat} {i1 : Int32} {i2 : Int32} {G : fg_H} {t : Unit × fg_H} (hF : fX26_init a0 i1 i2 G = some t) : fg_M l D yX26_init cX26_init 3 none 2 [.ref a0, .int i1, .int i2] G (.returned none) t.2 :=
  fg_Mof (own := RX26) (nm := "<init>") (L := [(0, .ref a0), (1, .int i1), (2, .int i2)]) (plainFor_of_name pn_X26) rfl rfl rfl (Nat.le_of_ble_eq_true rfl) (fun Ω _ _ X hT => wX26_init X hF hT)
theorem hd_X27_init : yX27_init.cls ≠ "java/lang/invoke/MethodHandle" ∧ yX27_init.cls ≠ "java/lang/invoke/VarHandle" ∧ (parseMethodDescriptor yX27_init.desc).map (fun d => d.parameters.length) = some 2 := ⟨by decide +kernel, by decide +kernel, by decide +kernel⟩
set_option maxHeartbeats 4000000 in
theorem wX27_init {Ω : fg_O} {a0 : Nat} {i1 : Int32} {i2 : Int32} {G : fg_H} {t : Unit × fg_H} (X : fg_X Ω RX27 "<init>" cX27_init 3 none 2) (hF : fX27_init a0 i1 i2 G = some t) (hT : fg_T Ω (.returned none) t.2) : fg_W Ω G 0 [(0, .ref a0), (1, .int i1), (2, .int i2)] [] := by
  unfold fX27_init at hF
  refine fg_aload_n X (r := (some a0)) dX27_init_0 rfl 0 rfl ?_
  refine fg_iload_n X dX27_init_1 rfl 1 rfl ?_
  refine fg_iload_n X dX27_init_2 rfl 2 rfl ?_
  replace hF := fg_oc_some hF
  obtain ⟨u, Gz1, e_1, hF⟩ := hF
  refine fg_callI X (st := []) (mX23_init Ω.2.2.2.2.1 Ω.1 e_1) q1050 q1014 q133 q1015 rfl hd_X23_init (by decide) rfl rfl (Nat.le_of_ble_eq_true rfl) dX27_init_3 ?_
  cases hF
  exact fg_vret X dX27_init_6 (hT)
theorem mX27_init (l : Launch) (D : fg_D) {a0 : Nat} {i1 : Int32} {i2 : Int32} {G : fg_H} {t : Unit × fg_H} (hF : fX27_init a0 i1 i2 G = some t) : fg_M l D yX27_init cX27_init 3 none 2 [.ref a0, .int i1, .int i2] G (.returned none) t.2 :=
  fg_Mof (own := RX27) (nm := "<init>") (L := [(0, .ref a0), (1, .int i1), (2, .int i2)]) (plainFor_of_name pn_X27) rfl rfl rfl (Nat.le_of_ble_eq_true rfl) (fun Ω _ _ X hT => wX27_init X hF hT)
theorem hd_X28_init : yX28_init.cls ≠ "java/lang/invoke/MethodHandle" ∧ yX28_init.cls ≠ "java/lang/invoke/VarHandle" ∧ (parseMethodDescriptor yX28_init.desc).map (fun d => d.parameters.length) = some 2 := ⟨by decide +kernel, by decide +kernel, by decide +kernel⟩
set_option maxHeartbeats 4000000 in
theorem wX28_init {Ω : fg_O} {a0 : Nat} {i1 : Int32} {i2 : Int32} {G : fg_H} {t : Unit × fg_H} (X : fg_X Ω RX28 "<init>" cX28_init 3 none 2) (hF : fX28_init a0 i1 i2 G = some t) (hT : fg_T Ω (.returned none) t.2) : fg_W Ω G 0 [(0, .ref a0), (1, .int i1), (2, .int i2)] [] := by
  unfold fX28_init at hF
  refine fg_aload_n X (r := (some a0)) dX28_init_0 rfl 0 rfl ?_
  refine fg_iload_n X dX28_init_1 rfl 1 rfl ?_
  refine fg_iload_n X dX28_init_2 rfl 2 rfl ?_
  replace hF := fg_oc_some hF
  obtain ⟨u, Gz1, e_1, hF⟩ := hF
  refine fg_callI X (st := []) (mX23_init Ω.2.2.2.2.1 Ω.1 e_1) q1059 q1014 q133 q1015 rfl hd_X23_init (by decide) rfl rfl (Nat.le_of_ble_eq_true rfl) dX28_init_3 ?_
  cases hF
  exact fg_vret X dX28_init_6 (hT)
theorem mX28_init (l : Launch) (D : fg_D) {a0 : Nat} {i1 : Int32} {i2 : Int32} {G : fg_H} {t : Unit × fg_H} (hF : fX28_init a0 i1 i2 G = some t) : fg_M l D yX28_init cX28_init 3 none 2 [.ref a0, .int i1, .int i2] G (.returned none) t.2 :=
  fg_Mof (own := RX28) (nm := "<init>") (L := [(0, .ref a0), (1, .int i1), (2, .int i2)]) (plainFor_of_name pn_X28) rfl rfl rfl (Nat.le_of_ble_eq_true rfl) (fun Ω _ _ X hT => wX28_init X hF hT)
theorem hd_X1_net : yX1_net.cls ≠ "java/lang/invoke/MethodHandle" ∧ yX1_net.cls ≠ "java/lang/invoke/VarHandle" ∧ (parseMethodDescriptor yX1_net.desc).map (fun d => d.parameters.length) = some 3 := ⟨by decide +kernel, by decide +kernel, by decide +kernel⟩
set_option maxHeartbeats 4000000 in
theorem wX1_net {Ω : fg_O} {i0 : Int32} {i1 : Int32} {i2 : Int32} {G : fg_H} {t : Option Nat × fg_H} (X : fg_X Ω RX1 "net" cX1_net 3 (some (.object "FogNets$Net")) 3) (hF : fX1_net i0 i1 i2 G = some t) (hT : fg_T Ω (.returned (some (va_rf t.1))) t.2) : fg_W Ω G 0 [(0, .int i0), (1, .int i1), (2, .int i2)] [] := by
  unfold fX1_net at hF
  refine fg_iload_n X dX1_net_0 rfl 0 rfl ?_
  by_cases e0 : i0 = (1 : Int32)
  · rw [if_pos e0] at hF
    refine fg_tableIn X (tgt := 36) (off := 35) dX1_net_1 (by rw [e0]; decide) (by rw [e0]; decide) (by rw [e0]; decide) (by decide) ?_
    replace hF := fg_oc_some hF
    obtain ⟨az1, Gz2, e_1, hF⟩ := hF
    refine fg_newo X q1008 q1009 q134 rfl (by decide) tyX24_ok nwk_X24 e_1 dX1_net_36 ?_
    refine fg_dup X dX1_net_39 rfl ?_
    refine fg_iload_n X dX1_net_40 rfl 1 rfl ?_
    refine fg_iload_n X dX1_net_41 rfl 2 rfl ?_
    replace hF := fg_oc_some hF
    obtain ⟨u, Gz3, e_2, hF⟩ := hF
    refine fg_callI X (st := [.ref az1]) (mX24_init Ω.2.2.2.2.1 Ω.1 e_2) q1010 q1011 q134 q1012 rfl hd_X24_init (by decide) rfl rfl (Nat.le_of_ble_eq_true rfl) dX1_net_42 ?_
    cases hF
    exact fg_aret (Or.inl ⟨_, rfl⟩) X (r := (some az1)) dX1_net_45 (hT)
  rw [if_neg e0] at hF
  by_cases e1 : i0 = (2 : Int32)
  · rw [if_pos e1] at hF
    refine fg_tableIn X (tgt := 46) (off := 45) dX1_net_1 (by rw [e1]; decide) (by rw [e1]; decide) (by rw [e1]; decide) (by decide) ?_
    replace hF := fg_oc_some hF
    obtain ⟨az4, Gz5, e_3, hF⟩ := hF
    refine fg_newo X q1027 q1028 q135 rfl (by decide) tyX25_ok nwk_X25 e_3 dX1_net_46 ?_
    refine fg_dup X dX1_net_49 rfl ?_
    refine fg_iload_n X dX1_net_50 rfl 1 rfl ?_
    refine fg_iload_n X dX1_net_51 rfl 2 rfl ?_
    replace hF := fg_oc_some hF
    obtain ⟨u, Gz6, e_4, hF⟩ := hF
    refine fg_callI X (st := [.ref az4]) (mX25_init Ω.2.2.2.2.1 Ω.1 e_4) q1029 q1030 q135 q1031 rfl hd_X25_init (by decide) rfl rfl (Nat.le_of_ble_eq_true rfl) dX1_net_52 ?_
    cases hF
    exact fg_aret (Or.inl ⟨_, rfl⟩) X (r := (some az4)) dX1_net_55 (hT)
  rw [if_neg e1] at hF
  by_cases e2 : i0 = (3 : Int32)
  · rw [if_pos e2] at hF
    refine fg_tableIn X (tgt := 56) (off := 55) dX1_net_1 (by rw [e2]; decide) (by rw [e2]; decide) (by rw [e2]; decide) (by decide) ?_
    replace hF := fg_oc_some hF
    obtain ⟨az7, Gz8, e_5, hF⟩ := hF
    refine fg_newo X q1036 q1037 q136 rfl (by decide) tyX26_ok nwk_X26 e_5 dX1_net_56 ?_
    refine fg_dup X dX1_net_59 rfl ?_
    refine fg_iload_n X dX1_net_60 rfl 1 rfl ?_
    refine fg_iload_n X dX1_net_61 rfl 2 rfl ?_
    replace hF := fg_oc_some hF
    obtain ⟨u, Gz9, e_6, hF⟩ := hF
    refine fg_callI X (st := [.ref az7]) (mX26_init Ω.2.2.2.2.1 Ω.1 e_6) q1038 q1039 q136 q1040 rfl hd_X26_init (by decide) rfl rfl (Nat.le_of_ble_eq_true rfl) dX1_net_62 ?_
    cases hF
    exact fg_aret (Or.inl ⟨_, rfl⟩) X (r := (some az7)) dX1_net_65 (hT)
  rw [if_neg e2] at hF
  by_cases e3 : i0 = (4 : Int32)
  · rw [if_pos e3] at hF
    refine fg_tableIn X (tgt := 66) (off := 65) dX1_net_1 (by rw [e3]; decide) (by rw [e3]; decide) (by rw [e3]; decide) (by decide) ?_
    replace hF := fg_oc_some hF
    obtain ⟨az10, Gz11, e_7, hF⟩ := hF
    refine fg_newo X q1045 q1046 q137 rfl (by decide) tyX27_ok nwk_X27 e_7 dX1_net_66 ?_
    refine fg_dup X dX1_net_69 rfl ?_
    refine fg_iload_n X dX1_net_70 rfl 1 rfl ?_
    refine fg_iload_n X dX1_net_71 rfl 2 rfl ?_
    replace hF := fg_oc_some hF
    obtain ⟨u, Gz12, e_8, hF⟩ := hF
    refine fg_callI X (st := [.ref az10]) (mX27_init Ω.2.2.2.2.1 Ω.1 e_8) q1047 q1048 q137 q1049 rfl hd_X27_init (by decide) rfl rfl (Nat.le_of_ble_eq_true rfl) dX1_net_72 ?_
    cases hF
    exact fg_aret (Or.inl ⟨_, rfl⟩) X (r := (some az10)) dX1_net_75 (hT)
  rw [if_neg e3] at hF
  by_cases e4 : i0 = (5 : Int32)
  · rw [if_pos e4] at hF
    refine fg_tableIn X (tgt := 76) (off := 75) dX1_net_1 (by rw [e4]; decide) (by rw [e4]; decide) (by rw [e4]; decide) (by decide) ?_
    replace hF := fg_oc_some hF
    obtain ⟨az13, Gz14, e_9, hF⟩ := hF
    refine fg_newo X q1054 q1055 q138 rfl (by decide) tyX28_ok nwk_X28 e_9 dX1_net_76 ?_
    refine fg_dup X dX1_net_79 rfl ?_
    refine fg_iload_n X dX1_net_80 rfl 1 rfl ?_
    refine fg_iload_n X dX1_net_81 rfl 2 rfl ?_
    replace hF := fg_oc_some hF
    obtain ⟨u, Gz15, e_10, hF⟩ := hF
    refine fg_callI X (st := [.ref az13]) (mX28_init Ω.2.2.2.2.1 Ω.1 e_10) q1056 q1057 q138 q1058 rfl hd_X28_init (by decide) rfl rfl (Nat.le_of_ble_eq_true rfl) dX1_net_82 ?_
    cases hF
    exact fg_aret (Or.inl ⟨_, rfl⟩) X (r := (some az13)) dX1_net_85 (hT)
  rw [if_neg e4] at hF
  refine fg_tableOut X (tgt := 86) dX1_net_1 (fg_swout 5 (x := i0) (lo := 1) (hi := 5) (by decide) (fun j hj => ?_)) (by decide) ?_
  · rcases fg_lt5 hj with rfl | rfl | rfl | rfl | rfl
    · exact fun hh => e0 (Int32.toInt_inj.mp (hh.trans (by decide)))
    · exact fun hh => e1 (Int32.toInt_inj.mp (hh.trans (by decide)))
    · exact fun hh => e2 (Int32.toInt_inj.mp (hh.trans (by decide)))
    · exact fun hh => e3 (Int32.toInt_inj.mp (hh.trans (by decide)))
    · exact fun hh => e4 (Int32.toInt_inj.mp (hh.trans (by decide)))
  replace hF := fg_oc_some hF
  obtain ⟨az16, Gz17, e_11, hF⟩ := hF
  refine fg_newo X q1063 q1064 q133 rfl (by decide) tyX23_ok nwk_X23 e_11 dX1_net_86 ?_
  refine fg_dup X dX1_net_89 rfl ?_
  refine fg_iload_n X dX1_net_90 rfl 1 rfl ?_
  refine fg_iload_n X dX1_net_91 rfl 2 rfl ?_
  replace hF := fg_oc_some hF
  obtain ⟨u, Gz18, e_12, hF⟩ := hF
  refine fg_callI X (st := [.ref az16]) (mX23_init Ω.2.2.2.2.1 Ω.1 e_12) q1065 q1014 q133 q1015 rfl hd_X23_init (by decide) rfl rfl (Nat.le_of_ble_eq_true rfl) dX1_net_92 ?_
  cases hF
  exact fg_aret (Or.inl ⟨_, rfl⟩) X (r := (some az16)) dX1_net_95 (hT)
theorem mX1_net (l : Launch) (D : fg_D) {i0 : Int32} {i1 : Int32} {i2 : Int32} {G : fg_H} {t : Option Nat × fg_H} (hF : fX1_net i0 i1 i2 G = some t) : fg_M l D yX1_net cX1_net 3 (some (.object "FogNets$Net")) 3 [.int i0, .int i1, .int i2] G (.returned (some (va_rf t.1))) t.2 :=
  fg_Mof (own := RX1) (nm := "net") (L := [(0, .int i0), (1, .int i1), (2, .int i2)]) (plainFor_of_name pn_X1) rfl rfl rfl (Nat.le_of_ble_eq_true rfl) (fun Ω _ _ X hT => wX1_net X hF hT)
theorem hd_X1_isNet : yX1_isNet.cls ≠ "java/lang/invoke/MethodHandle" ∧ yX1_isNet.cls ≠ "java/lang/invoke/VarHandle" ∧ (parseMethodDescriptor yX1_isNet.desc).map (fun d => d.parameters.length) = some 1 := ⟨by decide +kernel, by decide +kernel, by decide +kernel⟩
set_option maxHeartbeats 4000000 in
theorem wX1_isNet {Ω : fg_O} {a0 : Nat} {i1 : Int32} {G : fg_H} {t : Int32 × fg_H} (X : fg_X Ω RX1 "isNet" cX1_isNet 2 (some .boolean) 1) (hF : fX1_isNet a0 i1 G = some t) (hT : fg_T Ω (.returned (some (.int t.1))) t.2) : fg_W Ω G 0 [(0, .ref a0), (1, .int i1)] [] := by
  unfold fX1_isNet at hF
  refine fg_iload_n X dX1_isNet_0 rfl 1 rfl ?_
  refine fg_iconst X (v := (0 : Int32)) dX1_isNet_1 (by decide) ?_
  refine fg_aload_n X (r := (some a0)) dX1_isNet_2 rfl 0 rfl ?_
  replace hF := fg_ob_some hF
  obtain ⟨rz1, e_1, hF⟩ := hF
  refine fg_getr X ff_X1_hung q449 e_1 dX1_isNet_3 ?_
  replace hF := fg_ob_some hF
  obtain ⟨az2, rfl, hF⟩ := hF
  replace hF := fg_ob_some hF
  obtain ⟨xz3, e_2, hF⟩ := hF
  refine fg_geti X ff_X5_many q363 e_2 dX1_isNet_6 ?_
  refine fg_iconst X (v := (1 : Int32)) dX1_isNet_9 (by decide) ?_
  refine fg_isub X dX1_isNet_10 ?_
  replace hF := fg_oc_some hF
  obtain ⟨xz5, Gz4, e_3, hF⟩ := hF
  refine fg_callS X (st := []) (mX1_within Ω.2.2.2.2.1 Ω.1 e_3) q1086 q504 q93 q505 hd_X1_within (by decide) rfl rfl (Nat.le_of_ble_eq_true rfl) dX1_isNet_11 ?_
  replace hF := fg_gd_some hF
  obtain ⟨eg_4, hF⟩ := hF
  cases hF
  exact fg_zret X (fg_b_or eg_4) dX1_isNet_14 (hT)
theorem mX1_isNet (l : Launch) (D : fg_D) {a0 : Nat} {i1 : Int32} {G : fg_H} {t : Int32 × fg_H} (hF : fX1_isNet a0 i1 G = some t) : fg_M l D yX1_isNet cX1_isNet 2 (some .boolean) 1 [.ref a0, .int i1] G (.returned (some (.int t.1))) t.2 :=
  fg_Mof (own := RX1) (nm := "isNet") (L := [(0, .ref a0), (1, .int i1)]) (plainFor_of_name pn_X1) rfl rfl rfl (Nat.le_of_ble_eq_true rfl) (fun Ω _ _ X hT => wX1_isNet X hF hT)

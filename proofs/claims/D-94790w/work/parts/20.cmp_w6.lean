set_option maxRecDepth 100000
theorem hd_X10_init : yX10_init.cls ≠ "java/lang/invoke/MethodHandle" ∧ yX10_init.cls ≠ "java/lang/invoke/VarHandle" ∧ (parseMethodDescriptor yX10_init.desc).map (fun d => d.parameters.length) = some 0 := ⟨by decide +kernel, by decide +kernel, by decide +kernel⟩
set_option maxHeartbeats 4000000 in
theorem wX10_init {Ω : fg_O} {a0 : Nat} {G : fg_H} {t : Unit × fg_H} (X : fg_X Ω RX10 "<init>" cX10_init 1 none 1) (hF : fX10_init a0 G = some t) (hT : fg_T Ω (.returned none) t.2) : fg_W Ω G 0 [(0, .ref a0)] [] := by
  unfold fX10_init at hF
  refine fg_aload_n X (r := (some a0)) dX10_init_0 rfl 0 rfl ?_
  refine fg_objInit X q765 q148 q149 (by decide) (Nat.le_of_ble_eq_true rfl) dX10_init_1 ?_
  cases hF
  exact fg_vret X dX10_init_4 (hT)
theorem mX10_init (l : Launch) (D : fg_D) {a0 : Nat} {G : fg_H} {t : Unit × fg_H} (hF : fX10_init a0 G = some t) : fg_M l D yX10_init cX10_init 1 none 1 [.ref a0] G (.returned none) t.2 :=
  fg_Mof (own := RX10) (nm := "<init>") (L := [(0, .ref a0)]) (plainFor_of_name pn_X10) rfl rfl rfl (Nat.le_of_ble_eq_true rfl) (fun Ω _ _ X hT => wX10_init X hF hT)
theorem hd_X11_init : yX11_init.cls ≠ "java/lang/invoke/MethodHandle" ∧ yX11_init.cls ≠ "java/lang/invoke/VarHandle" ∧ (parseMethodDescriptor yX11_init.desc).map (fun d => d.parameters.length) = some 1 := ⟨by decide +kernel, by decide +kernel, by decide +kernel⟩
set_option maxHeartbeats 4000000 in
theorem wX11_init {Ω : fg_O} {a0 : Nat} {i1 : Int32} {G : fg_H} {t : Unit × fg_H} (X : fg_X Ω RX11 "<init>" cX11_init 2 none 2) (hF : fX11_init a0 i1 G = some t) (hT : fg_T Ω (.returned none) t.2) : fg_W Ω G 0 [(0, .ref a0), (1, .int i1)] [] := by
  unfold fX11_init at hF
  refine fg_aload_n X (r := (some a0)) dX11_init_0 rfl 0 rfl ?_
  replace hF := fg_oc_some hF
  obtain ⟨u, Gz1, e_1, hF⟩ := hF
  refine fg_callIN X (st := []) (mX10_init Ω.2.2.2.2.1 Ω.1 e_1) q762 q763 q114 q764 rfl hd_X10_init (by decide) rfl rfl (Nat.le_of_ble_eq_true rfl) dX11_init_1 ?_
  refine fg_aload_n X (r := (some a0)) dX11_init_4 rfl 0 rfl ?_
  refine fg_iload_n X dX11_init_5 rfl 1 rfl ?_
  replace hF := fg_ob_some hF
  obtain ⟨Gz2, e_2, hF⟩ := hF
  refine fg_putv X (ty := .int) (v := .int i1) ff_X11_which q766 rfl (Or.inr ⟨rfl, rfl⟩) rfl rfl rfl e_2 dX11_init_6 ?_
  cases hF
  exact fg_vret X dX11_init_9 (hT)
theorem mX11_init (l : Launch) (D : fg_D) {a0 : Nat} {i1 : Int32} {G : fg_H} {t : Unit × fg_H} (hF : fX11_init a0 i1 G = some t) : fg_M l D yX11_init cX11_init 2 none 2 [.ref a0, .int i1] G (.returned none) t.2 :=
  fg_Mof (own := RX11) (nm := "<init>") (L := [(0, .ref a0), (1, .int i1)]) (plainFor_of_name pn_X11) rfl rfl rfl (Nat.le_of_ble_eq_true rfl) (fun Ω _ _ X hT => wX11_init X hF hT)
theorem hd_X12_init : yX12_init.cls ≠ "java/lang/invoke/MethodHandle" ∧ yX12_init.cls ≠ "java/lang/invoke/VarHandle" ∧ (parseMethodDescriptor yX12_init.desc).map (fun d => d.parameters.length) = some 1 := ⟨by decide +kernel, by decide +kernel, by decide +kernel⟩
set_option maxHeartbeats 4000000 in
theorem wX12_init {Ω : fg_O} {a0 : Nat} {i1 : Int32} {G : fg_H} {t : Unit × fg_H} (X : fg_X Ω RX12 "<init>" cX12_init 2 none 2) (hF : fX12_init a0 i1 G = some t) (hT : fg_T Ω (.returned none) t.2) : fg_W Ω G 0 [(0, .ref a0), (1, .int i1)] [] := by
  unfold fX12_init at hF
  refine fg_aload_n X (r := (some a0)) dX12_init_0 rfl 0 rfl ?_
  replace hF := fg_oc_some hF
  obtain ⟨u, Gz1, e_1, hF⟩ := hF
  refine fg_callIN X (st := []) (mX10_init Ω.2.2.2.2.1 Ω.1 e_1) q775 q763 q114 q764 rfl hd_X10_init (by decide) rfl rfl (Nat.le_of_ble_eq_true rfl) dX12_init_1 ?_
  refine fg_aload_n X (r := (some a0)) dX12_init_4 rfl 0 rfl ?_
  refine fg_iload_n X dX12_init_5 rfl 1 rfl ?_
  replace hF := fg_ob_some hF
  obtain ⟨Gz2, e_2, hF⟩ := hF
  refine fg_putv X (ty := .int) (v := .int i1) ff_X12_n q776 rfl (Or.inr ⟨rfl, rfl⟩) rfl rfl rfl e_2 dX12_init_6 ?_
  cases hF
  exact fg_vret X dX12_init_9 (hT)
theorem mX12_init (l : Launch) (D : fg_D) {a0 : Nat} {i1 : Int32} {G : fg_H} {t : Unit × fg_H} (hF : fX12_init a0 i1 G = some t) : fg_M l D yX12_init cX12_init 2 none 2 [.ref a0, .int i1] G (.returned none) t.2 :=
  fg_Mof (own := RX12) (nm := "<init>") (L := [(0, .ref a0), (1, .int i1)]) (plainFor_of_name pn_X12) rfl rfl rfl (Nat.le_of_ble_eq_true rfl) (fun Ω _ _ X hT => wX12_init X hF hT)
theorem hd_X13_init : yX13_init.cls ≠ "java/lang/invoke/MethodHandle" ∧ yX13_init.cls ≠ "java/lang/invoke/VarHandle" ∧ (parseMethodDescriptor yX13_init.desc).map (fun d => d.parameters.length) = some 1 := ⟨by decide +kernel, by decide +kernel, by decide +kernel⟩
set_option maxHeartbeats 4000000 in
theorem wX13_init {Ω : fg_O} {a0 : Nat} {r1 : Option Nat} {G : fg_H} {t : Unit × fg_H} (X : fg_X Ω RX13 "<init>" cX13_init 2 none 2) (hF : fX13_init a0 r1 G = some t) (hT : fg_T Ω (.returned none) t.2) : fg_W Ω G 0 [(0, .ref a0), (1, va_rf r1)] [] := by
  unfold fX13_init at hF
  refine fg_aload_n X (r := (some a0)) dX13_init_0 rfl 0 rfl ?_
  replace hF := fg_oc_some hF
  obtain ⟨u, Gz1, e_1, hF⟩ := hF
  refine fg_callIN X (st := []) (mX10_init Ω.2.2.2.2.1 Ω.1 e_1) q785 q763 q114 q764 rfl hd_X10_init (by decide) rfl rfl (Nat.le_of_ble_eq_true rfl) dX13_init_1 ?_
  refine fg_aload_n X (r := (some a0)) dX13_init_4 rfl 0 rfl ?_
  refine fg_aload_n X (r := r1) dX13_init_5 rfl 1 rfl ?_
  replace hF := fg_ob_some hF
  obtain ⟨Gz2, e_2, hF⟩ := hF
  refine fg_putv X (ty := (.object "FogNets$Expression")) (v := va_rf r1) ff_X13_e q786 rfl (Or.inr ⟨rfl, rfl⟩) rfl (fg_nrf _ (Or.inl ⟨_, rfl⟩)) (fg_frf _ (Or.inl ⟨_, rfl⟩)) e_2 dX13_init_6 ?_
  cases hF
  exact fg_vret X dX13_init_9 (hT)
theorem mX13_init (l : Launch) (D : fg_D) {a0 : Nat} {r1 : Option Nat} {G : fg_H} {t : Unit × fg_H} (hF : fX13_init a0 r1 G = some t) : fg_M l D yX13_init cX13_init 2 none 2 [.ref a0, va_rf r1] G (.returned none) t.2 :=
  fg_Mof (own := RX13) (nm := "<init>") (L := [(0, .ref a0), (1, va_rf r1)]) (plainFor_of_name pn_X13) rfl rfl (by cases r1 <;> rfl) (by cases r1 <;> exact Nat.le_of_ble_eq_true rfl) (fun Ω _ _ X hT => wX13_init X hF hT)
theorem hd_X14_init : yX14_init.cls ≠ "java/lang/invoke/MethodHandle" ∧ yX14_init.cls ≠ "java/lang/invoke/VarHandle" ∧ (parseMethodDescriptor yX14_init.desc).map (fun d => d.parameters.length) = some 1 := ⟨by decide +kernel, by decide +kernel, by decide +kernel⟩
set_option maxHeartbeats 4000000 in
theorem wX14_init {Ω : fg_O} {a0 : Nat} {r1 : Option Nat} {G : fg_H} {t : Unit × fg_H} (X : fg_X Ω RX14 "<init>" cX14_init 2 none 4) (hF : fX14_init a0 r1 G = some t) (hT : fg_T Ω (.returned none) t.2) : fg_W Ω G 0 [(0, .ref a0), (1, va_rf r1)] [] := by
  unfold fX14_init at hF
  refine fg_aload_n X (r := (some a0)) dX14_init_0 rfl 0 rfl ?_
  replace hF := fg_oc_some hF
  obtain ⟨u, Gz1, e_1, hF⟩ := hF
  refine fg_callIN X (st := []) (mX10_init Ω.2.2.2.2.1 Ω.1 e_1) q806 q763 q114 q764 rfl hd_X10_init (by decide) rfl rfl (Nat.le_of_ble_eq_true rfl) dX14_init_1 ?_
  refine fg_aload_n X (r := (some a0)) dX14_init_4 rfl 0 rfl ?_
  replace hF := fg_oc_some hF
  obtain ⟨az2, Gz3, e_2, hF⟩ := hF
  refine fg_newo X q807 q241 q98 rfl (by decide) tyJ2_ok nwk_J2 e_2 dX14_init_5 ?_
  refine fg_dup X dX14_init_8 rfl ?_
  refine fg_iconst X (v := (1 : Int32)) dX14_init_9 (by decide) ?_
  replace hF := fg_oc_some hF
  obtain ⟨u, Gz4, e_3, hF⟩ := hF
  refine fg_callI X (st := [.ref az2, .ref a0]) (mJ2_init Ω.2.2.2.2.1 Ω.1 e_3) q808 q243 q98 q244 rfl hd_J2_init (by decide) rfl rfl (Nat.le_of_ble_eq_true rfl) dX14_init_10 ?_
  replace hF := fg_ob_some hF
  obtain ⟨Gz5, e_4, hF⟩ := hF
  refine fg_putv X (ty := (.object "java/util/ArrayList")) (v := .ref az2) ff_X14_links q810 rfl (Or.inr ⟨rfl, rfl⟩) rfl rfl rfl e_4 dX14_init_13 ?_
  refine fg_aload_n X (r := (some a0)) dX14_init_16 rfl 0 rfl ?_
  refine fg_aload_n X (r := r1) dX14_init_17 rfl 1 rfl ?_
  replace hF := fg_ob_some hF
  obtain ⟨Gz6, e_5, hF⟩ := hF
  refine fg_putv X (ty := (.object "FogNets$Expression")) (v := va_rf r1) ff_X14_first q809 rfl (Or.inr ⟨rfl, rfl⟩) rfl (fg_nrf _ (Or.inl ⟨_, rfl⟩)) (fg_frf _ (Or.inl ⟨_, rfl⟩)) e_5 dX14_init_18 ?_
  cases hF
  exact fg_vret X dX14_init_21 (hT)
theorem mX14_init (l : Launch) (D : fg_D) {a0 : Nat} {r1 : Option Nat} {G : fg_H} {t : Unit × fg_H} (hF : fX14_init a0 r1 G = some t) : fg_M l D yX14_init cX14_init 2 none 4 [.ref a0, va_rf r1] G (.returned none) t.2 :=
  fg_Mof (own := RX14) (nm := "<init>") (L := [(0, .ref a0), (1, va_rf r1)]) (plainFor_of_name pn_X14) rfl rfl (by cases r1 <;> rfl) (by cases r1 <;> exact Nat.le_of_ble_eq_true rfl) (fun Ω _ _ X hT => wX14_init X hF hT)
theorem hd_J5_isLatin1 : yJ5_isLatin1.cls ≠ "java/lang/invoke/MethodHandle" ∧ yJ5_isLatin1.cls ≠ "java/lang/invoke/VarHandle" ∧ (parseMethodDescriptor yJ5_isLatin1.desc).map (fun d => d.parameters.length) = some 0 := ⟨by decide +kernel, by decide +kernel, by decide +kernel⟩
set_option maxHeartbeats 4000000 in
theorem wJ5_isLatin1 {Ω : fg_O} {a0 : Nat} {G : fg_H} {t : Int32 × fg_H} (X : fg_X Ω RJ5 "isLatin1" cJ5_isLatin1 1 (some .boolean) 0) (hF : fJ5_isLatin1 a0 G = some t) (hT : fg_T Ω (.returned (some (.int t.1))) t.2) : fg_W Ω G 0 [(0, .ref a0)] [] := by
  unfold fJ5_isLatin1 at hF
  refine fg_getsI X (i := 6) q542 (fun _ => rfl) dJ5_isLatin1_0 ?_
  refine fg_if_eq X (tgt := 17) dJ5_isLatin1_3 (by decide) (fun hc => ?_) (fun hc => ?_)
  · rw [if_pos hc] at hF
    refine fg_iconst X (v := (0 : Int32)) dJ5_isLatin1_17 (by decide) ?_
    cases hF
    exact fg_zret X (by decide) dJ5_isLatin1_18 (hT)
  · rw [if_neg hc] at hF
    refine fg_aload_n X (r := (some a0)) dJ5_isLatin1_6 rfl 0 rfl ?_
    replace hF := fg_ob_some hF
    obtain ⟨xz1, e_1, hF⟩ := hF
    refine fg_getSi X q2104 e_1 dJ5_isLatin1_7 ?_
    refine fg_if_ne X (tgt := 17) dJ5_isLatin1_10 (by decide) (fun hc => ?_) (fun hc => ?_)
    · rw [if_neg hc] at hF
      refine fg_iconst X (v := (0 : Int32)) dJ5_isLatin1_17 (by decide) ?_
      cases hF
      exact fg_zret X (by decide) dJ5_isLatin1_18 (hT)
    · rw [if_pos hc] at hF
      refine fg_iconst X (v := (1 : Int32)) dJ5_isLatin1_13 (by decide) ?_
      refine fg_goto X (tgt := 18) dJ5_isLatin1_14 (by decide) ?_
      cases hF
      exact fg_zret X (by decide) dJ5_isLatin1_18 (hT)
theorem mJ5_isLatin1 (l : Launch) (D : fg_D) {a0 : Nat} {G : fg_H} {t : Int32 × fg_H} (hF : fJ5_isLatin1 a0 G = some t) : fg_M l D yJ5_isLatin1 cJ5_isLatin1 1 (some .boolean) 0 [.ref a0] G (.returned (some (.int t.1))) t.2 :=
  fg_Mof (own := RJ5) (nm := "isLatin1") (L := [(0, .ref a0)]) (plainFor_of_name pn_J5) rfl rfl rfl (Nat.le_of_ble_eq_true rfl) (fun Ω _ _ X hT => wJ5_isLatin1 X hF hT)
theorem hd_J5_coder : yJ5_coder.cls ≠ "java/lang/invoke/MethodHandle" ∧ yJ5_coder.cls ≠ "java/lang/invoke/VarHandle" ∧ (parseMethodDescriptor yJ5_coder.desc).map (fun d => d.parameters.length) = some 0 := ⟨by decide +kernel, by decide +kernel, by decide +kernel⟩
set_option maxHeartbeats 4000000 in
theorem wJ5_coder {Ω : fg_O} {a0 : Nat} {G : fg_H} {t : Int32 × fg_H} (X : fg_X Ω RJ5 "coder" cJ5_coder 1 (some .byte) 0) (hF : fJ5_coder a0 G = some t) (hT : fg_T Ω (.returned (some (.int t.1))) t.2) : fg_W Ω G 0 [(0, .ref a0)] [] := by
  unfold fJ5_coder at hF
  refine fg_getsI X (i := 6) q542 (fun _ => rfl) dJ5_coder_0 ?_
  refine fg_if_eq X (tgt := 13) dJ5_coder_3 (by decide) (fun hc => ?_) (fun hc => ?_)
  · rw [if_pos hc] at hF
    refine fg_iconst X (v := (1 : Int32)) dJ5_coder_13 (by decide) ?_
    replace hF := fg_gd_some hF
    obtain ⟨eg_1, hF⟩ := hF
    cases hF
    exact fg_nret X (fg_nr_eq eg_1) dJ5_coder_14 (hT)
  · rw [if_neg hc] at hF
    refine fg_aload_n X (r := (some a0)) dJ5_coder_6 rfl 0 rfl ?_
    replace hF := fg_ob_some hF
    obtain ⟨xz1, e_2, hF⟩ := hF
    refine fg_getSi X q2104 e_2 dJ5_coder_7 ?_
    refine fg_goto X (tgt := 14) dJ5_coder_10 (by decide) ?_
    replace hF := fg_gd_some hF
    obtain ⟨eg_3, hF⟩ := hF
    cases hF
    exact fg_nret X (fg_nr_eq eg_3) dJ5_coder_14 (hT)
theorem mJ5_coder (l : Launch) (D : fg_D) {a0 : Nat} {G : fg_H} {t : Int32 × fg_H} (hF : fJ5_coder a0 G = some t) : fg_M l D yJ5_coder cJ5_coder 1 (some .byte) 0 [.ref a0] G (.returned (some (.int t.1))) t.2 :=
  fg_Mof (own := RJ5) (nm := "coder") (L := [(0, .ref a0)]) (plainFor_of_name pn_J5) rfl rfl rfl (Nat.le_of_ble_eq_true rfl) (fun Ω _ _ X hT => wJ5_coder X hF hT)
theorem hd_J5_length : yJ5_length.cls ≠ "java/lang/invoke/MethodHandle" ∧ yJ5_length.cls ≠ "java/lang/invoke/VarHandle" ∧ (parseMethodDescriptor yJ5_length.desc).map (fun d => d.parameters.length) = some 0 := ⟨by decide +kernel, by decide +kernel, by decide +kernel⟩
set_option maxHeartbeats 4000000 in
theorem wJ5_length {Ω : fg_O} {a0 : Nat} {G : fg_H} {t : Int32 × fg_H} (X : fg_X Ω RJ5 "length" cJ5_length 1 (some .int) 1) (hF : fJ5_length a0 G = some t) (hT : fg_T Ω (.returned (some (.int t.1))) t.2) : fg_W Ω G 0 [(0, .ref a0)] [] := by
  unfold fJ5_length at hF
  refine fg_aload_n X (r := (some a0)) dJ5_length_0 rfl 0 rfl ?_
  replace hF := fg_ob_some hF
  obtain ⟨rz1, e_1, hF⟩ := hF
  refine fg_getSr X q2105 e_1 dJ5_length_1 ?_
  replace hF := fg_ob_some hF
  obtain ⟨az2, rfl, hF⟩ := hF
  replace hF := fg_ob_some hF
  obtain ⟨xz3, e_2, hF⟩ := hF
  refine fg_alen X e_2 dJ5_length_4 ?_
  refine fg_aload_n X (r := (some a0)) dJ5_length_5 rfl 0 rfl ?_
  replace hF := fg_gd_some hF
  obtain ⟨eg_3, hF⟩ := hF
  obtain ⟨fs_4, eo_5⟩ := fg_rc_get eg_3
  replace hF := fg_oc_some hF
  obtain ⟨xz5, Gz4, e_6, hF⟩ := hF
  refine fg_callVs X (st := [.int xz3]) (mJ5_coder Ω.2.2.2.2.1 Ω.1 e_6) q548 q549 q550 q106 q551 hd_J5_coder rfl eo_5 (by decide) rfl rfl (Nat.le_of_ble_eq_true rfl) dJ5_length_6 ?_
  refine fg_ishr X dJ5_length_9 ?_
  cases hF
  exact fg_iret X dJ5_length_10 (hT)
theorem mJ5_length (l : Launch) (D : fg_D) {a0 : Nat} {G : fg_H} {t : Int32 × fg_H} (hF : fJ5_length a0 G = some t) : fg_M l D yJ5_length cJ5_length 1 (some .int) 1 [.ref a0] G (.returned (some (.int t.1))) t.2 :=
  fg_Mof (own := RJ5) (nm := "length") (L := [(0, .ref a0)]) (plainFor_of_name pn_J5) rfl rfl rfl (Nat.le_of_ble_eq_true rfl) (fun Ω _ _ X hT => wJ5_length X hF hT)
theorem hd_J6_canEncode : yJ6_canEncode.cls ≠ "java/lang/invoke/MethodHandle" ∧ yJ6_canEncode.cls ≠ "java/lang/invoke/VarHandle" ∧ (parseMethodDescriptor yJ6_canEncode.desc).map (fun d => d.parameters.length) = some 1 := ⟨by decide +kernel, by decide +kernel, by decide +kernel⟩
set_option maxHeartbeats 4000000 in
theorem wJ6_canEncode {Ω : fg_O} {i0 : Int32} {G : fg_H} {t : Int32 × fg_H} (X : fg_X Ω RJ6 "canEncode" cJ6_canEncode 1 (some .boolean) 0) (hF : fJ6_canEncode i0 G = some t) (hT : fg_T Ω (.returned (some (.int t.1))) t.2) : fg_W Ω G 0 [(0, .int i0)] [] := by
  unfold fJ6_canEncode at hF
  refine fg_iload_n X dJ6_canEncode_0 rfl 0 rfl ?_
  refine fg_if_lt X (tgt := 15) dJ6_canEncode_1 (by decide) (fun hc => ?_) (fun hc => ?_)
  · rw [if_pos hc] at hF
    refine fg_iconst X (v := (0 : Int32)) dJ6_canEncode_15 (by decide) ?_
    cases hF
    exact fg_zret X (by decide) dJ6_canEncode_16 (hT)
  · rw [if_neg hc] at hF
    refine fg_iload_n X dJ6_canEncode_4 rfl 0 rfl ?_
    refine fg_sipush X (v := (255 : Int32)) dJ6_canEncode_5 (by decide) ?_
    refine fg_icmp_gt X (tgt := 15) dJ6_canEncode_8 (by decide) (fun hc => ?_) (fun hc => ?_)
    · rw [if_pos hc] at hF
      refine fg_iconst X (v := (0 : Int32)) dJ6_canEncode_15 (by decide) ?_
      cases hF
      exact fg_zret X (by decide) dJ6_canEncode_16 (hT)
    · rw [if_neg hc] at hF
      refine fg_iconst X (v := (1 : Int32)) dJ6_canEncode_11 (by decide) ?_
      refine fg_goto X (tgt := 16) dJ6_canEncode_12 (by decide) ?_
      cases hF
      exact fg_zret X (by decide) dJ6_canEncode_16 (hT)
theorem mJ6_canEncode (l : Launch) (D : fg_D) {i0 : Int32} {G : fg_H} {t : Int32 × fg_H} (hF : fJ6_canEncode i0 G = some t) : fg_M l D yJ6_canEncode cJ6_canEncode 1 (some .boolean) 0 [.int i0] G (.returned (some (.int t.1))) t.2 :=
  fg_Mof (own := RJ6) (nm := "canEncode") (L := [(0, .int i0)]) (plainFor_of_name pn_J6) rfl rfl rfl (Nat.le_of_ble_eq_true rfl) (fun Ω _ _ X hT => wJ6_canEncode X hF hT)
theorem hd_J6_indexOfChar : yJ6_indexOfChar.cls ≠ "java/lang/invoke/MethodHandle" ∧ yJ6_indexOfChar.cls ≠ "java/lang/invoke/VarHandle" ∧ (parseMethodDescriptor yJ6_indexOfChar.desc).map (fun d => d.parameters.length) = some 4 := ⟨by decide +kernel, by decide +kernel, by decide +kernel⟩
set_option maxHeartbeats 4000000 in
theorem wJ6_indexOfChar_7b {Ω : fg_O} {r0 : Option Nat} {i3 : Int32} {i4 : Int32} {i5 : Int32} {G : fg_H} {t : ((Option Nat × Int32 × Int32 × Int32 × fg_H) ⊕ (Int32 × fg_H))} (X : fg_X Ω RJ6 "indexOfChar" cJ6_indexOfChar 6 (some .int) 0) (hF : fJ6_indexOfChar_7b r0 i3 i4 i5 G = some t) (h7 : ∀ z, t = (.inl z) → fg_W Ω z.2.2.2.2 7 [(0, va_rf z.1), (3, .int z.2.1), (4, .int z.2.2.1), (5, .int z.2.2.2.1)] []) (hT : ∀ u, t = (.inr u) → fg_T Ω (.returned (some (.int u.1))) u.2) : fg_W Ω G 7 [(0, va_rf r0), (3, .int i3), (4, .int i4), (5, .int i5)] [] := by
  unfold fJ6_indexOfChar_7b at hF
  refine fg_iload X dJ6_indexOfChar_7 3 rfl ?_
  refine fg_iload_n X dJ6_indexOfChar_9 rfl 1 rfl ?_
  refine fg_icmp_ge X (tgt := 31) dJ6_indexOfChar_10 (by decide) (fun hc => ?_) (fun hc => ?_)
  · rw [if_pos hc] at hF
    replace hF := fg_rt_some hF
    obtain ⟨tz2, hF, ht_1⟩ := hF
    subst ht_1
    replace hT := hT _ rfl
    refine fg_iconst X (v := (-1 : Int32)) dJ6_indexOfChar_31 (by decide) ?_
    cases hF
    exact fg_iret X dJ6_indexOfChar_32 (hT)
  · rw [if_neg hc] at hF
    refine fg_aload_n X (r := r0) dJ6_indexOfChar_13 rfl 0 rfl ?_
    refine fg_iload X dJ6_indexOfChar_14 3 rfl ?_
    replace hF := fg_ob_some hF
    obtain ⟨az3, rfl, hF⟩ := hF
    replace hF := fg_ob_some hF
    obtain ⟨xz4, e_2, hF⟩ := hF
    refine fg_tald X e_2 dJ6_indexOfChar_16 ?_
    refine fg_iload X dJ6_indexOfChar_17 2 rfl ?_
    refine fg_icmp_ne X (tgt := 25) dJ6_indexOfChar_19 (by decide) (fun hc => ?_) (fun hc => ?_)
    · rw [if_neg hc] at hF
      refine fg_iinc X (v := (i5 + (1 : Int32))) (L' := [(5, .int (i5 + (1 : Int32))), (0, .ref az3), (3, .int i3), (4, .int i4)]) dJ6_indexOfChar_25 3 rfl rfl (by decide) rfl ?_
      refine fg_goto X (tgt := 7) dJ6_indexOfChar_28 (by decide) ?_
      refine fg_sub [1, 2, 3, 0] rfl ?_
      exact h7 _ (Option.some.inj hF).symm
    · rw [if_pos hc] at hF
      replace hF := fg_rt_some hF
      obtain ⟨tz5, hF, ht_3⟩ := hF
      subst ht_3
      replace hT := hT _ rfl
      refine fg_iload X dJ6_indexOfChar_22 3 rfl ?_
      cases hF
      exact fg_iret X dJ6_indexOfChar_24 (hT)
set_option maxHeartbeats 4000000 in
seal fJ6_indexOfChar_7b in
theorem wJ6_indexOfChar_7 {Ω : fg_O} {r0 : Option Nat} {i3 : Int32} {i4 : Int32} {i5 : Int32} {G : fg_H} {t : (Int32 × fg_H)} (X : fg_X Ω RJ6 "indexOfChar" cJ6_indexOfChar 6 (some .int) 0) (hF : fJ6_indexOfChar_7 r0 i3 i4 i5 G = some t) (hT : fg_T Ω (.returned (some (.int t.1))) t.2) : fg_W Ω G 7 [(0, va_rf r0), (3, .int i3), (4, .int i4), (5, .int i5)] [] := by
  unfold fJ6_indexOfChar_7 at hF
  exact fg_lp_walk (P := fun z => fg_W Ω z.2.2.2.2 7 [(0, va_rf z.1), (3, .int z.2.1), (4, .int z.2.2.1), (5, .int z.2.2.2.1)] []) (fun y o ho hl hr => wJ6_indexOfChar_7b X ho (fun z e => hl z e) (fun u e => by rw [hr _ e]; exact hT)) hF
set_option maxHeartbeats 4000000 in
theorem wJ6_indexOfChar {Ω : fg_O} {r0 : Option Nat} {i1 : Int32} {i2 : Int32} {i3 : Int32} {G : fg_H} {t : Int32 × fg_H} (X : fg_X Ω RJ6 "indexOfChar" cJ6_indexOfChar 6 (some .int) 0) (hF : fJ6_indexOfChar r0 i1 i2 i3 G = some t) (hT : fg_T Ω (.returned (some (.int t.1))) t.2) : fg_W Ω G 0 [(0, va_rf r0), (1, .int i1), (2, .int i2), (3, .int i3)] [] := by
  unfold fJ6_indexOfChar at hF
  refine fg_iload_n X dJ6_indexOfChar_0 rfl 1 rfl ?_
  refine fg_i2b X dJ6_indexOfChar_1 ?_
  replace hF := fg_ob_some hF
  obtain ⟨vz1, ex_1, hF⟩ := hF
  refine fg_topi (Option.some.inj ex_1) ?_
  refine fg_istore X (L' := [(4, .int vz1), (0, va_rf r0), (1, .int i1), (2, .int i2), (3, .int i3)]) dJ6_indexOfChar_2 (by decide) rfl ?_
  refine fg_iload_n X dJ6_indexOfChar_4 rfl 3 rfl ?_
  refine fg_istore X (L' := [(5, .int i2), (4, .int vz1), (0, va_rf r0), (1, .int i1), (2, .int i2), (3, .int i3)]) dJ6_indexOfChar_5 (by decide) rfl ?_
  refine fg_sub [2, 5, 1, 0] rfl ?_
  exact wJ6_indexOfChar_7 X hF hT
theorem mJ6_indexOfChar (l : Launch) (D : fg_D) {r0 : Option Nat} {i1 : Int32} {i2 : Int32} {i3 : Int32} {G : fg_H} {t : Int32 × fg_H} (hF : fJ6_indexOfChar r0 i1 i2 i3 G = some t) : fg_M l D yJ6_indexOfChar cJ6_indexOfChar 6 (some .int) 0 [va_rf r0, .int i1, .int i2, .int i3] G (.returned (some (.int t.1))) t.2 :=
  fg_Mof (own := RJ6) (nm := "indexOfChar") (L := [(0, va_rf r0), (1, .int i1), (2, .int i2), (3, .int i3)]) (plainFor_of_name pn_J6) rfl rfl (by cases r0 <;> rfl) (by cases r0 <;> exact Nat.le_of_ble_eq_true rfl) (fun Ω _ _ X hT => wJ6_indexOfChar X hF hT)
theorem hd_J6_indexOf : yJ6_indexOf.cls ≠ "java/lang/invoke/MethodHandle" ∧ yJ6_indexOf.cls ≠ "java/lang/invoke/VarHandle" ∧ (parseMethodDescriptor yJ6_indexOf.desc).map (fun d => d.parameters.length) = some 4 := ⟨by decide +kernel, by decide +kernel, by decide +kernel⟩
set_option maxHeartbeats 4000000 in
theorem wJ6_indexOf {Ω : fg_O} {r0 : Option Nat} {i1 : Int32} {i2 : Int32} {i3 : Int32} {G : fg_H} {t : Int32 × fg_H} (X : fg_X Ω RJ6 "indexOf" cJ6_indexOf 4 (some .int) 1) (hF : fJ6_indexOf r0 i1 i2 i3 G = some t) (hT : fg_T Ω (.returned (some (.int t.1))) t.2) : fg_W Ω G 0 [(0, va_rf r0), (1, .int i1), (2, .int i2), (3, .int i3)] [] := by
  unfold fJ6_indexOf at hF
  refine fg_iload_n X dJ6_indexOf_0 rfl 1 rfl ?_
  replace hF := fg_oc_some hF
  obtain ⟨xz2, Gz1, e_1, hF⟩ := hF
  refine fg_callS X (st := []) (mJ6_canEncode Ω.2.2.2.2.1 Ω.1 e_1) q555 q556 q107 q557 hd_J6_canEncode (by decide) rfl rfl (Nat.le_of_ble_eq_true rfl) dJ6_indexOf_1 ?_
  refine fg_if_ne X (tgt := 9) dJ6_indexOf_4 (by decide) (fun hc => ?_) (fun hc => ?_)
  · rw [if_neg hc] at hF
    refine fg_iload_n X dJ6_indexOf_9 rfl 2 rfl ?_
    refine fg_iconst X (v := (0 : Int32)) dJ6_indexOf_10 (by decide) ?_
    replace hF := fg_oc_some hF
    obtain ⟨xz4, Gz3, e_2, hF⟩ := hF
    refine fg_callS X (st := []) (mJ7_max Ω.2.2.2.2.1 Ω.1 e_2) q558 q559 q108 q560 hd_J7_max (by decide) rfl rfl (Nat.le_of_ble_eq_true rfl) dJ6_indexOf_11 ?_
    refine fg_istore_n X (L' := [(2, .int xz4), (0, va_rf r0), (1, .int i1), (3, .int i3)]) dJ6_indexOf_14 rfl (by decide) rfl ?_
    refine fg_iload_n X dJ6_indexOf_15 rfl 3 rfl ?_
    refine fg_aload_n X (r := r0) dJ6_indexOf_16 rfl 1 rfl ?_
    replace hF := fg_ob_some hF
    obtain ⟨az5, rfl, hF⟩ := hF
    replace hF := fg_ob_some hF
    obtain ⟨xz6, e_3, hF⟩ := hF
    refine fg_alen X e_3 dJ6_indexOf_17 ?_
    replace hF := fg_oc_some hF
    obtain ⟨xz8, Gz7, e_4, hF⟩ := hF
    refine fg_callS X (st := []) (mJ7_min Ω.2.2.2.2.1 Ω.1 e_4) q561 q562 q108 q563 hd_J7_min (by decide) rfl rfl (Nat.le_of_ble_eq_true rfl) dJ6_indexOf_18 ?_
    refine fg_istore_n X (L' := [(3, .int xz8), (2, .int xz4), (0, .ref az5), (1, .int i1)]) dJ6_indexOf_21 rfl (by decide) rfl ?_
    refine fg_iload_n X dJ6_indexOf_22 rfl 1 rfl ?_
    refine fg_iload_n X dJ6_indexOf_23 rfl 0 rfl ?_
    refine fg_icmp_lt X (tgt := 29) dJ6_indexOf_24 (by decide) (fun hc => ?_) (fun hc => ?_)
    · rw [if_pos hc] at hF
      refine fg_aload_n X (r := (some az5)) dJ6_indexOf_29 rfl 2 rfl ?_
      refine fg_iload_n X dJ6_indexOf_30 rfl 3 rfl ?_
      refine fg_iload_n X dJ6_indexOf_31 rfl 1 rfl ?_
      refine fg_iload_n X dJ6_indexOf_32 rfl 0 rfl ?_
      replace hF := fg_oc_some hF
      obtain ⟨xz10, Gz9, e_5, hF⟩ := hF
      refine fg_callS X (st := []) (mJ6_indexOfChar Ω.2.2.2.2.1 Ω.1 e_5) q564 q565 q107 q566 hd_J6_indexOfChar (by decide) rfl rfl (Nat.le_of_ble_eq_true rfl) dJ6_indexOf_33 ?_
      cases hF
      exact fg_iret X dJ6_indexOf_36 (hT)
    · rw [if_neg hc] at hF
      refine fg_iconst X (v := (-1 : Int32)) dJ6_indexOf_27 (by decide) ?_
      cases hF
      exact fg_iret X dJ6_indexOf_28 (hT)
  · rw [if_pos hc] at hF
    refine fg_iconst X (v := (-1 : Int32)) dJ6_indexOf_7 (by decide) ?_
    cases hF
    exact fg_iret X dJ6_indexOf_8 (hT)
theorem mJ6_indexOf (l : Launch) (D : fg_D) {r0 : Option Nat} {i1 : Int32} {i2 : Int32} {i3 : Int32} {G : fg_H} {t : Int32 × fg_H} (hF : fJ6_indexOf r0 i1 i2 i3 G = some t) : fg_M l D yJ6_indexOf cJ6_indexOf 4 (some .int) 1 [va_rf r0, .int i1, .int i2, .int i3] G (.returned (some (.int t.1))) t.2 :=
  fg_Mof (own := RJ6) (nm := "indexOf") (L := [(0, va_rf r0), (1, .int i1), (2, .int i2), (3, .int i3)]) (plainFor_of_name pn_J6) rfl rfl (by cases r0 <;> rfl) (by cases r0 <;> exact Nat.le_of_ble_eq_true rfl) (fun Ω _ _ X hT => wJ6_indexOf X hF hT)
theorem hd_J5_indexOf_2 : yJ5_indexOf_2.cls ≠ "java/lang/invoke/MethodHandle" ∧ yJ5_indexOf_2.cls ≠ "java/lang/invoke/VarHandle" ∧ (parseMethodDescriptor yJ5_indexOf_2.desc).map (fun d => d.parameters.length) = some 2 := ⟨by decide +kernel, by decide +kernel, by decide +kernel⟩
set_option maxHeartbeats 4000000 in
theorem wJ5_indexOf_2 {Ω : fg_O} {a0 : Nat} {i1 : Int32} {i2 : Int32} {G : fg_H} {t : Int32 × fg_H} (X : fg_X Ω RJ5 "indexOf" cJ5_indexOf_2 3 (some .int) 2) (hF : fJ5_indexOf_2 a0 i1 i2 G = some t) (hT : fg_T Ω (.returned (some (.int t.1))) t.2) : fg_W Ω G 0 [(0, .ref a0), (1, .int i1), (2, .int i2)] [] := by
  unfold fJ5_indexOf_2 at hF
  refine fg_aload_n X (r := (some a0)) dJ5_indexOf_2_0 rfl 0 rfl ?_
  replace hF := fg_gd_some hF
  obtain ⟨eg_1, hF⟩ := hF
  obtain ⟨fs_2, eo_3⟩ := fg_rc_get eg_1
  replace hF := fg_oc_some hF
  obtain ⟨xz2, Gz1, e_4, hF⟩ := hF
  refine fg_callVs X (st := []) (mJ5_isLatin1 Ω.2.2.2.2.1 Ω.1 e_4) q538 q539 q540 q106 q541 hd_J5_isLatin1 rfl eo_3 (by decide) rfl rfl (Nat.le_of_ble_eq_true rfl) dJ5_indexOf_2_1 ?_
  refine fg_if_eq X (tgt := 23) dJ5_indexOf_2_4 (by decide) (fun hc => ?_) (fun hc => ?_)
  · rw [if_pos hc] at hF
    cases hF
  · rw [if_neg hc] at hF
    refine fg_aload_n X (r := (some a0)) dJ5_indexOf_2_7 rfl 0 rfl ?_
    replace hF := fg_ob_some hF
    obtain ⟨rz3, e_5, hF⟩ := hF
    refine fg_getSr X q2105 e_5 dJ5_indexOf_2_8 ?_
    refine fg_iload_n X dJ5_indexOf_2_11 rfl 1 rfl ?_
    refine fg_iload_n X dJ5_indexOf_2_12 rfl 2 rfl ?_
    refine fg_aload_n X (r := (some a0)) dJ5_indexOf_2_13 rfl 0 rfl ?_
    replace hF := fg_gd_some hF
    obtain ⟨eg_6, hF⟩ := hF
    obtain ⟨fs_7, eo_8⟩ := fg_rc_get eg_6
    replace hF := fg_oc_some hF
    obtain ⟨xz5, Gz4, e_9, hF⟩ := hF
    refine fg_callVs X (st := [.int i2, .int i1, va_rf rz3]) (mJ5_length Ω.2.2.2.2.1 Ω.1 e_9) q544 q545 q546 q106 q547 hd_J5_length rfl eo_8 (by decide) rfl rfl (by cases rz3 <;> exact Nat.le_of_ble_eq_true rfl) dJ5_indexOf_2_14 ?_
    replace hF := fg_oc_some hF
    obtain ⟨xz7, Gz6, e_10, hF⟩ := hF
    refine fg_callS X (st := []) (mJ6_indexOf Ω.2.2.2.2.1 Ω.1 e_10) q552 q553 q107 q554 hd_J6_indexOf (by decide) rfl rfl (Nat.le_of_ble_eq_true rfl) dJ5_indexOf_2_17 ?_
    refine fg_goto X (tgt := 36) dJ5_indexOf_2_20 (by decide) ?_
    cases hF
    exact fg_iret X dJ5_indexOf_2_36 (hT)
theorem mJ5_indexOf_2 (l : Launch) (D : fg_D) {a0 : Nat} {i1 : Int32} {i2 : Int32} {G : fg_H} {t : Int32 × fg_H} (hF : fJ5_indexOf_2 a0 i1 i2 G = some t) : fg_M l D yJ5_indexOf_2 cJ5_indexOf_2 3 (some .int) 2 [.ref a0, .int i1, .int i2] G (.returned (some (.int t.1))) t.2 :=
  fg_Mof (own := RJ5) (nm := "indexOf") (L := [(0, .ref a0), (1, .int i1), (2, .int i2)]) (plainFor_of_name pn_J5) rfl rfl rfl (Nat.le_of_ble_eq_true rfl) (fun Ω _ _ X hT => wJ5_indexOf_2 X hF hT)
theorem hd_J5_indexOf : yJ5_indexOf.cls ≠ "java/lang/invoke/MethodHandle" ∧ yJ5_indexOf.cls ≠ "java/lang/invoke/VarHandle" ∧ (parseMethodDescriptor yJ5_indexOf.desc).map (fun d => d.parameters.length) = some 1 := ⟨by decide +kernel, by decide +kernel, by decide +kernel⟩
set_option maxHeartbeats 4000000 in
theorem wJ5_indexOf {Ω : fg_O} {a0 : Nat} {i1 : Int32} {G : fg_H} {t : Int32 × fg_H} (X : fg_X Ω RJ5 "indexOf" cJ5_indexOf 2 (some .int) 3) (hF : fJ5_indexOf a0 i1 G = some t) (hT : fg_T Ω (.returned (some (.int t.1))) t.2) : fg_W Ω G 0 [(0, .ref a0), (1, .int i1)] [] := by
  unfold fJ5_indexOf at hF
  refine fg_aload_n X (r := (some a0)) dJ5_indexOf_0 rfl 0 rfl ?_
  refine fg_iload_n X dJ5_indexOf_1 rfl 1 rfl ?_
  refine fg_iconst X (v := (0 : Int32)) dJ5_indexOf_2 (by decide) ?_
  replace hF := fg_gd_some hF
  obtain ⟨eg_1, hF⟩ := hF
  obtain ⟨fs_2, eo_3⟩ := fg_rc_get eg_1
  replace hF := fg_oc_some hF
  obtain ⟨xz2, Gz1, e_4, hF⟩ := hF
  refine fg_callVs X (st := []) (mJ5_indexOf_2 Ω.2.2.2.2.1 Ω.1 e_4) q534 q535 q536 q106 q537 hd_J5_indexOf_2 rfl eo_3 (by decide) rfl rfl (Nat.le_of_ble_eq_true rfl) dJ5_indexOf_3 ?_
  cases hF
  exact fg_iret X dJ5_indexOf_6 (hT)
theorem mJ5_indexOf (l : Launch) (D : fg_D) {a0 : Nat} {i1 : Int32} {G : fg_H} {t : Int32 × fg_H} (hF : fJ5_indexOf a0 i1 G = some t) : fg_M l D yJ5_indexOf cJ5_indexOf 2 (some .int) 3 [.ref a0, .int i1] G (.returned (some (.int t.1))) t.2 :=
  fg_Mof (own := RJ5) (nm := "indexOf") (L := [(0, .ref a0), (1, .int i1)]) (plainFor_of_name pn_J5) rfl rfl rfl (Nat.le_of_ble_eq_true rfl) (fun Ω _ _ X hT => wJ5_indexOf X hF hT)
theorem hd_X2_isDigit : yX2_isDigit.cls ≠ "java/lang/invoke/MethodHandle" ∧ yX2_isDigit.cls ≠ "java/lang/invoke/VarHandle" ∧ (parseMethodDescriptor yX2_isDigit.desc).map (fun d => d.parameters.length) = some 1 := ⟨by decide +kernel, by decide +kernel, by decide +kernel⟩
set_option maxHeartbeats 4000000 in
theorem wX2_isDigit {Ω : fg_O} {i0 : Int32} {G : fg_H} {t : Int32 × fg_H} (X : fg_X Ω RX2 "isDigit" cX2_isDigit 1 (some .boolean) 1) (hF : fX2_isDigit i0 G = some t) (hT : fg_T Ω (.returned (some (.int t.1))) t.2) : fg_W Ω G 0 [(0, .int i0)] [] := by
  unfold fX2_isDigit at hF
  refine fg_iload_n X dX2_isDigit_0 rfl 0 rfl ?_
  refine fg_bipush X (v := (48 : Int32)) dX2_isDigit_1 (by decide) ?_
  refine fg_bipush X (v := (57 : Int32)) dX2_isDigit_3 (by decide) ?_
  replace hF := fg_oc_some hF
  obtain ⟨xz2, Gz1, e_1, hF⟩ := hF
  refine fg_callSN X (st := []) (mX1_within Ω.2.2.2.2.1 Ω.1 e_1) q503 q504 q93 q505 hd_X1_within (by decide) rfl rfl (Nat.le_of_ble_eq_true rfl) dX2_isDigit_5 ?_
  replace hF := fg_gd_some hF
  obtain ⟨eg_2, hF⟩ := hF
  cases hF
  exact fg_zret X (fg_b_or eg_2) dX2_isDigit_8 (hT)
theorem mX2_isDigit (l : Launch) (D : fg_D) {i0 : Int32} {G : fg_H} {t : Int32 × fg_H} (hF : fX2_isDigit i0 G = some t) : fg_M l D yX2_isDigit cX2_isDigit 1 (some .boolean) 1 [.int i0] G (.returned (some (.int t.1))) t.2 :=
  fg_Mof (own := RX2) (nm := "isDigit") (L := [(0, .int i0)]) (plainFor_of_name pn_X2) rfl rfl rfl (Nat.le_of_ble_eq_true rfl) (fun Ω _ _ X hT => wX2_isDigit X hF hT)
theorem hd_X2_isLetter : yX2_isLetter.cls ≠ "java/lang/invoke/MethodHandle" ∧ yX2_isLetter.cls ≠ "java/lang/invoke/VarHandle" ∧ (parseMethodDescriptor yX2_isLetter.desc).map (fun d => d.parameters.length) = some 1 := ⟨by decide +kernel, by decide +kernel, by decide +kernel⟩
set_option maxHeartbeats 4000000 in
theorem wX2_isLetter {Ω : fg_O} {i0 : Int32} {G : fg_H} {t : Int32 × fg_H} (X : fg_X Ω RX2 "isLetter" cX2_isLetter 1 (some .boolean) 1) (hF : fX2_isLetter i0 G = some t) (hT : fg_T Ω (.returned (some (.int t.1))) t.2) : fg_W Ω G 0 [(0, .int i0)] [] := by
  unfold fX2_isLetter at hF
  refine fg_iload_n X dX2_isLetter_0 rfl 0 rfl ?_
  refine fg_bipush X (v := (97 : Int32)) dX2_isLetter_1 (by decide) ?_
  refine fg_bipush X (v := (122 : Int32)) dX2_isLetter_3 (by decide) ?_
  replace hF := fg_oc_some hF
  obtain ⟨xz2, Gz1, e_1, hF⟩ := hF
  refine fg_callSN X (st := []) (mX1_within Ω.2.2.2.2.1 Ω.1 e_1) q503 q504 q93 q505 hd_X1_within (by decide) rfl rfl (Nat.le_of_ble_eq_true rfl) dX2_isLetter_5 ?_
  replace hF := fg_gd_some hF
  obtain ⟨eg_2, hF⟩ := hF
  cases hF
  exact fg_zret X (fg_b_or eg_2) dX2_isLetter_8 (hT)
theorem mX2_isLetter (l : Launch) (D : fg_D) {i0 : Int32} {G : fg_H} {t : Int32 × fg_H} (hF : fX2_isLetter i0 G = some t) : fg_M l D yX2_isLetter cX2_isLetter 1 (some .boolean) 1 [.int i0] G (.returned (some (.int t.1))) t.2 :=
  fg_Mof (own := RX2) (nm := "isLetter") (L := [(0, .int i0)]) (plainFor_of_name pn_X2) rfl rfl rfl (Nat.le_of_ble_eq_true rfl) (fun Ω _ _ X hT => wX2_isLetter X hF hT)
theorem hd_X2_cut : yX2_cut.cls ≠ "java/lang/invoke/MethodHandle" ∧ yX2_cut.cls ≠ "java/lang/invoke/VarHandle" ∧ (parseMethodDescriptor yX2_cut.desc).map (fun d => d.parameters.length) = some 0 := ⟨by decide +kernel, by decide +kernel, by decide +kernel⟩
set_option maxHeartbeats 4000000 in
theorem wX2_cut_246 {Ω : fg_O} {a0 : Nat} {i1 : Int32} {i2 : Int32} {i3 : Int32} {i5 : Int32} {l6 : Int64} {G : fg_H} {t : ((Nat × Int32 × Int32 × Int32 × fg_H) ⊕ (Unit × fg_H))} (X : fg_X Ω RX2 "cut" cX2_cut 8 none 4) (hF : fX2_cut_246 a0 i1 i2 i3 i5 l6 G = some t) (h14 : ∀ z, t = (.inl z) → fg_W Ω z.2.2.2.2 14 [(0, .ref z.1), (1, .int z.2.1), (2, .int z.2.2.1), (3, .int z.2.2.2.1)] []) (hT : ∀ u, t = (.inr u) → fg_T Ω (.returned none) u.2) : fg_W Ω G 246 [(0, .ref a0), (1, .int i1), (2, .int i2), (3, .int i3), (5, .int i5), (6, .long l6)] [] := by
  unfold fX2_cut_246 at hF
  refine fg_aload_n X (r := (some a0)) dX2_cut_246 rfl 0 rfl ?_
  replace hF := fg_ob_some hF
  obtain ⟨rz25, e_1, hF⟩ := hF
  refine fg_getr X ff_X2_value q195 e_1 dX2_cut_247 ?_
  refine fg_iload_n X dX2_cut_250 rfl 2 rfl ?_
  refine fg_lload X dX2_cut_251 5 rfl ?_
  replace hF := fg_ob_some hF
  obtain ⟨az26, rfl, hF⟩ := hF
  replace hF := fg_ob_some hF
  obtain ⟨Gz27, e_2, hF⟩ := hF
  refine fg_last X e_2 dX2_cut_253 ?_
  refine fg_aload_n X (r := (some a0)) dX2_cut_254 rfl 0 rfl ?_
  replace hF := fg_ob_some hF
  obtain ⟨rz28, e_3, hF⟩ := hF
  refine fg_getr X ff_X2_place q196 e_3 dX2_cut_255 ?_
  refine fg_iload_n X dX2_cut_258 rfl 2 rfl ?_
  refine fg_iload X dX2_cut_259 4 rfl ?_
  replace hF := fg_ob_some hF
  obtain ⟨az29, rfl, hF⟩ := hF
  replace hF := fg_ob_some hF
  obtain ⟨Gz30, e_4, hF⟩ := hF
  refine fg_iast X e_4 dX2_cut_261 ?_
  refine fg_iinc X (v := (i2 + (1 : Int32))) (L' := [(2, .int (i2 + (1 : Int32))), (0, .ref a0), (1, .int i1), (3, .int i3), (5, .int i5), (6, .long l6)]) dX2_cut_262 2 rfl rfl (by decide) rfl ?_
  refine fg_goto X (tgt := 14) dX2_cut_265 (by decide) ?_
  refine fg_sub [1, 2, 0, 3] rfl ?_
  exact h14 _ (Option.some.inj hF).symm
set_option maxHeartbeats 4000000 in
theorem wX2_cut_245 {Ω : fg_O} {a0 : Nat} {i1 : Int32} {i2 : Int32} {i3 : Int32} {i5 : Int32} {l6 : Int64} {s0 : Option Nat} {s1 : Int32} {s2 : Int32} {G : fg_H} {t : ((Nat × Int32 × Int32 × Int32 × fg_H) ⊕ (Unit × fg_H))} (X : fg_X Ω RX2 "cut" cX2_cut 8 none 4) (hF : fX2_cut_245 a0 i1 i2 i3 i5 l6 s0 s1 s2 G = some t) (h14 : ∀ z, t = (.inl z) → fg_W Ω z.2.2.2.2 14 [(0, .ref z.1), (1, .int z.2.1), (2, .int z.2.2.1), (3, .int z.2.2.2.1)] []) (hT : ∀ u, t = (.inr u) → fg_T Ω (.returned none) u.2) : fg_W Ω G 245 [(0, .ref a0), (1, .int i1), (2, .int i2), (3, .int i3), (5, .int i5), (6, .long l6)] [.int s2, .int s1, va_rf s0] := by
  unfold fX2_cut_245 at hF
  replace hF := fg_ob_some hF
  obtain ⟨az23, rfl, hF⟩ := hF
  replace hF := fg_ob_some hF
  obtain ⟨Gz24, e_1, hF⟩ := hF
  refine fg_iast X e_1 dX2_cut_245 ?_
  refine fg_sub [0, 1, 2, 3, 4, 5] rfl ?_
  exact wX2_cut_246 X hF h14 hT
set_option maxHeartbeats 4000000 in
theorem wX2_cut_213 {Ω : fg_O} {a0 : Nat} {i1 : Int32} {i2 : Int32} {i3 : Int32} {i5 : Int32} {l6 : Int64} {s0 : Option Nat} {s1 : Int32} {s2 : Int32} {G : fg_H} {t : ((Nat × Int32 × Int32 × Int32 × fg_H) ⊕ (Unit × fg_H))} (X : fg_X Ω RX2 "cut" cX2_cut 8 none 4) (hF : fX2_cut_213 a0 i1 i2 i3 i5 l6 s0 s1 s2 G = some t) (h14 : ∀ z, t = (.inl z) → fg_W Ω z.2.2.2.2 14 [(0, .ref z.1), (1, .int z.2.1), (2, .int z.2.2.1), (3, .int z.2.2.2.1)] []) (hT : ∀ u, t = (.inr u) → fg_T Ω (.returned none) u.2) : fg_W Ω G 213 [(0, .ref a0), (1, .int i1), (2, .int i2), (3, .int i3), (5, .int i5), (6, .long l6)] [.int s2, .int s1, va_rf s0] := by
  unfold fX2_cut_213 at hF
  replace hF := fg_ob_some hF
  obtain ⟨az33, rfl, hF⟩ := hF
  replace hF := fg_ob_some hF
  obtain ⟨Gz34, e_1, hF⟩ := hF
  refine fg_iast X e_1 dX2_cut_213 ?_
  refine fg_goto X (tgt := 246) dX2_cut_214 (by decide) ?_
  refine fg_sub [0, 1, 2, 3, 4, 5] rfl ?_
  exact wX2_cut_246 X hF h14 hT
set_option maxHeartbeats 4000000 in
theorem wX2_cut_195 {Ω : fg_O} {a0 : Nat} {i1 : Int32} {i2 : Int32} {i3 : Int32} {i5 : Int32} {l6 : Int64} {G : fg_H} {t : ((Nat × Int32 × Int32 × Int32 × fg_H) ⊕ (Unit × fg_H))} (X : fg_X Ω RX2 "cut" cX2_cut 8 none 4) (hF : fX2_cut_195 a0 i1 i2 i3 i5 l6 G = some t) (h14 : ∀ z, t = (.inl z) → fg_W Ω z.2.2.2.2 14 [(0, .ref z.1), (1, .int z.2.1), (2, .int z.2.2.1), (3, .int z.2.2.2.1)] []) (hT : ∀ u, t = (.inr u) → fg_T Ω (.returned none) u.2) : fg_W Ω G 195 [(0, .ref a0), (1, .int i1), (2, .int i2), (3, .int i3), (5, .int i5), (6, .long l6)] [] := by
  unfold fX2_cut_195 at hF
  refine fg_aload_n X (r := (some a0)) dX2_cut_195 rfl 0 rfl ?_
  replace hF := fg_ob_some hF
  obtain ⟨rz32, e_1, hF⟩ := hF
  refine fg_getr X ff_X2_sort q194 e_1 dX2_cut_196 ?_
  refine fg_iload_n X dX2_cut_199 rfl 2 rfl ?_
  refine fg_iload_n X dX2_cut_200 rfl 3 rfl ?_
  refine fg_iload X dX2_cut_201 4 rfl ?_
  refine fg_isub X dX2_cut_203 ?_
  refine fg_iconst X (v := (4 : Int32)) dX2_cut_204 (by decide) ?_
  refine fg_icmp_le X (tgt := 212) dX2_cut_205 (by decide) (fun hc => ?_) (fun hc => ?_)
  · rw [if_pos hc] at hF
    refine fg_iconst X (v := (2 : Int32)) dX2_cut_212 (by decide) ?_
    refine fg_sub [0, 1, 2, 3, 4, 5] rfl ?_
    exact wX2_cut_213 X hF h14 hT
  · rw [if_neg hc] at hF
    refine fg_iconst X (v := (4 : Int32)) dX2_cut_208 (by decide) ?_
    refine fg_goto X (tgt := 213) dX2_cut_209 (by decide) ?_
    refine fg_sub [0, 1, 2, 3, 4, 5] rfl ?_
    exact wX2_cut_213 X hF h14 hT
set_option maxHeartbeats 4000000 in
theorem wX2_cut_144b {Ω : fg_O} {a0 : Nat} {i1 : Int32} {i2 : Int32} {i3 : Int32} {i5 : Int32} {l6 : Int64} {G : fg_H} {t : ((Nat × Int32 × Int32 × Int32 × Int32 × Int64 × fg_H) ⊕ ((Nat × Int32 × Int32 × Int32 × fg_H) ⊕ (Unit × fg_H)))} (X : fg_X Ω RX2 "cut" cX2_cut 8 none 4) (hF : fX2_cut_144b a0 i1 i2 i3 i5 l6 G = some t) (h14 : ∀ z, t = (.inr (.inl z)) → fg_W Ω z.2.2.2.2 14 [(0, .ref z.1), (1, .int z.2.1), (2, .int z.2.2.1), (3, .int z.2.2.2.1)] []) (h144 : ∀ z, t = (.inl z) → fg_W Ω z.2.2.2.2.2.2 144 [(0, .ref z.1), (1, .int z.2.1), (2, .int z.2.2.1), (3, .int z.2.2.2.1), (5, .int z.2.2.2.2.1), (6, .long z.2.2.2.2.2.1)] []) (hT : ∀ u, t = (.inr (.inr u)) → fg_T Ω (.returned none) u.2) : fg_W Ω G 144 [(0, .ref a0), (1, .int i1), (2, .int i2), (3, .int i3), (5, .int i5), (6, .long l6)] [] := by
  unfold fX2_cut_144b at hF
  refine fg_iload_n X dX2_cut_144 rfl 3 rfl ?_
  refine fg_iload_n X dX2_cut_145 rfl 1 rfl ?_
  refine fg_icmp_ge X (tgt := 195) dX2_cut_146 (by decide) (fun hc => ?_) (fun hc => ?_)
  · rw [if_pos hc] at hF
    replace hF := fg_rt_some hF
    obtain ⟨tz31, hF, ht_1⟩ := hF
    subst ht_1
    replace h14 := fun z q => h14 z (congrArg Sum.inr q)
    replace hT := fun u q => hT u (congrArg Sum.inr q)
    refine fg_sub [0, 1, 2, 3, 4, 5] rfl ?_
    exact wX2_cut_195 X hF h14 hT
  · rw [if_neg hc] at hF
    refine fg_aload_n X (r := (some a0)) dX2_cut_149 rfl 0 rfl ?_
    replace hF := fg_ob_some hF
    obtain ⟨rz35, e_2, hF⟩ := hF
    refine fg_getr X ff_X2_tape q191 e_2 dX2_cut_150 ?_
    refine fg_iload_n X dX2_cut_153 rfl 3 rfl ?_
    replace hF := fg_ob_some hF
    obtain ⟨az36, rfl, hF⟩ := hF
    replace hF := fg_ob_some hF
    obtain ⟨xz37, e_3, hF⟩ := hF
    refine fg_iald X e_3 dX2_cut_154 ?_
    replace hF := fg_oc_some hF
    obtain ⟨xz39, Gz38, e_4, hF⟩ := hF
    refine fg_callS X (st := []) (mX2_isDigit Ω.2.2.2.2.1 Ω.1 e_4) q524 q525 q94 q526 hd_X2_isDigit (by decide) rfl rfl (Nat.le_of_ble_eq_true rfl) dX2_cut_155 ?_
    refine fg_if_eq X (tgt := 195) dX2_cut_158 (by decide) (fun hc => ?_) (fun hc => ?_)
    · rw [if_pos hc] at hF
      replace hF := fg_rt_some hF
      obtain ⟨tz40, hF, ht_5⟩ := hF
      subst ht_5
      replace h14 := fun z q => h14 z (congrArg Sum.inr q)
      replace hT := fun u q => hT u (congrArg Sum.inr q)
      refine fg_sub [0, 1, 2, 3, 4, 5] rfl ?_
      exact wX2_cut_195 X hF h14 hT
    · rw [if_neg hc] at hF
      refine fg_iload_n X dX2_cut_161 rfl 3 rfl ?_
      refine fg_iload X dX2_cut_162 4 rfl ?_
      refine fg_isub X dX2_cut_164 ?_
      refine fg_iconst X (v := (4 : Int32)) dX2_cut_165 (by decide) ?_
      refine fg_icmp_ge X (tgt := 189) dX2_cut_166 (by decide) (fun hc => ?_) (fun hc => ?_)
      · rw [if_pos hc] at hF
        refine fg_iinc X (v := (i3 + (1 : Int32))) (L' := [(3, .int (i3 + (1 : Int32))), (0, .ref a0), (1, .int i1), (2, .int i2), (5, .int i5), (6, .long l6)]) dX2_cut_189 3 rfl rfl (by decide) rfl ?_
        refine fg_goto X (tgt := 144) dX2_cut_192 (by decide) ?_
        refine fg_sub [1, 2, 3, 0, 4, 5] rfl ?_
        exact h144 _ (Option.some.inj hF).symm
      · rw [if_neg hc] at hF
        refine fg_ldc2 X q527 dX2_cut_169 ?_
        refine fg_lload X dX2_cut_172 5 rfl ?_
        refine fg_lmul X dX2_cut_174 ?_
        refine fg_aload_n X (r := (some a0)) dX2_cut_175 rfl 0 rfl ?_
        replace hF := fg_ob_some hF
        obtain ⟨rz41, e_6, hF⟩ := hF
        refine fg_getr X ff_X2_tape q191 e_6 dX2_cut_176 ?_
        refine fg_iload_n X dX2_cut_179 rfl 3 rfl ?_
        replace hF := fg_ob_some hF
        obtain ⟨az42, rfl, hF⟩ := hF
        replace hF := fg_ob_some hF
        obtain ⟨xz43, e_7, hF⟩ := hF
        refine fg_iald X e_7 dX2_cut_180 ?_
        refine fg_i2l X dX2_cut_181 ?_
        refine fg_ladd X dX2_cut_182 ?_
        refine fg_ldc2 X q528 dX2_cut_183 ?_
        refine fg_lsub X dX2_cut_186 ?_
        replace hF := fg_ob_some hF
        obtain ⟨vz44, ex_8, hF⟩ := hF
        refine fg_topl (Option.some.inj ex_8) ?_
        refine fg_lstore X (L' := [(6, .long vz44), (0, .ref a0), (1, .int i1), (2, .int i2), (3, .int i3), (5, .int i5)]) dX2_cut_187 (by decide) rfl ?_
        refine fg_iinc X (v := (i3 + (1 : Int32))) (L' := [(3, .int (i3 + (1 : Int32))), (6, .long vz44), (0, .ref a0), (1, .int i1), (2, .int i2), (5, .int i5)]) dX2_cut_189 4 rfl rfl (by decide) rfl ?_
        refine fg_goto X (tgt := 144) dX2_cut_192 (by decide) ?_
        refine fg_sub [2, 3, 4, 0, 5, 1] rfl ?_
        exact h144 _ (Option.some.inj hF).symm
set_option maxHeartbeats 4000000 in
seal fX2_cut_144b in
theorem wX2_cut_144 {Ω : fg_O} {a0 : Nat} {i1 : Int32} {i2 : Int32} {i3 : Int32} {i5 : Int32} {l6 : Int64} {G : fg_H} {t : ((Nat × Int32 × Int32 × Int32 × fg_H) ⊕ (Unit × fg_H))} (X : fg_X Ω RX2 "cut" cX2_cut 8 none 4) (hF : fX2_cut_144 a0 i1 i2 i3 i5 l6 G = some t) (h14 : ∀ z, t = (.inl z) → fg_W Ω z.2.2.2.2 14 [(0, .ref z.1), (1, .int z.2.1), (2, .int z.2.2.1), (3, .int z.2.2.2.1)] []) (hT : ∀ u, t = (.inr u) → fg_T Ω (.returned none) u.2) : fg_W Ω G 144 [(0, .ref a0), (1, .int i1), (2, .int i2), (3, .int i3), (5, .int i5), (6, .long l6)] [] := by
  unfold fX2_cut_144 at hF
  exact fg_lp_walk (P := fun z => fg_W Ω z.2.2.2.2.2.2 144 [(0, .ref z.1), (1, .int z.2.1), (2, .int z.2.2.1), (3, .int z.2.2.2.1), (5, .int z.2.2.2.2.1), (6, .long z.2.2.2.2.2.1)] []) (fun y o ho hl hr => wX2_cut_144b X ho (fun z e => h14 z (hr _ e).symm) (fun z e => hl z e) (fun u e => hT u (hr _ e).symm)) hF
set_option maxHeartbeats 4000000 in
theorem wX2_cut_132 {Ω : fg_O} {a0 : Nat} {i1 : Int32} {i2 : Int32} {i3 : Int32} {i5 : Int32} {l6 : Int64} {s0 : Option Nat} {s1 : Int32} {s2 : Int32} {G : fg_H} {t : ((Nat × Int32 × Int32 × Int32 × fg_H) ⊕ (Unit × fg_H))} (X : fg_X Ω RX2 "cut" cX2_cut 8 none 4) (hF : fX2_cut_132 a0 i1 i2 i3 i5 l6 s0 s1 s2 G = some t) (h14 : ∀ z, t = (.inl z) → fg_W Ω z.2.2.2.2 14 [(0, .ref z.1), (1, .int z.2.1), (2, .int z.2.2.1), (3, .int z.2.2.2.1)] []) (hT : ∀ u, t = (.inr u) → fg_T Ω (.returned none) u.2) : fg_W Ω G 132 [(0, .ref a0), (1, .int i1), (2, .int i2), (3, .int i3), (5, .int i5), (6, .long l6)] [.int s2, .int s1, va_rf s0] := by
  unfold fX2_cut_132 at hF
  replace hF := fg_ob_some hF
  obtain ⟨az47, rfl, hF⟩ := hF
  replace hF := fg_ob_some hF
  obtain ⟨Gz48, e_1, hF⟩ := hF
  refine fg_iast X e_1 dX2_cut_132 ?_
  refine fg_goto X (tgt := 246) dX2_cut_133 (by decide) ?_
  refine fg_sub [0, 1, 2, 3, 4, 5] rfl ?_
  exact wX2_cut_246 X hF h14 hT
set_option maxHeartbeats 4000000 in
theorem wX2_cut_113 {Ω : fg_O} {a0 : Nat} {i1 : Int32} {i2 : Int32} {i3 : Int32} {i5 : Int32} {l6 : Int64} {G : fg_H} {t : ((Nat × Int32 × Int32 × Int32 × fg_H) ⊕ (Unit × fg_H))} (X : fg_X Ω RX2 "cut" cX2_cut 8 none 4) (hF : fX2_cut_113 a0 i1 i2 i3 i5 l6 G = some t) (h14 : ∀ z, t = (.inl z) → fg_W Ω z.2.2.2.2 14 [(0, .ref z.1), (1, .int z.2.1), (2, .int z.2.2.1), (3, .int z.2.2.2.1)] []) (hT : ∀ u, t = (.inr u) → fg_T Ω (.returned none) u.2) : fg_W Ω G 113 [(0, .ref a0), (1, .int i1), (2, .int i2), (3, .int i3), (5, .int i5), (6, .long l6)] [] := by
  unfold fX2_cut_113 at hF
  refine fg_aload_n X (r := (some a0)) dX2_cut_113 rfl 0 rfl ?_
  replace hF := fg_ob_some hF
  obtain ⟨rz46, e_1, hF⟩ := hF
  refine fg_getr X ff_X2_sort q194 e_1 dX2_cut_114 ?_
  refine fg_iload_n X dX2_cut_117 rfl 2 rfl ?_
  refine fg_iload_n X dX2_cut_118 rfl 3 rfl ?_
  refine fg_iload X dX2_cut_119 4 rfl ?_
  refine fg_isub X dX2_cut_121 ?_
  refine fg_bipush X (v := (8 : Int32)) dX2_cut_122 (by decide) ?_
  refine fg_icmp_le X (tgt := 131) dX2_cut_124 (by decide) (fun hc => ?_) (fun hc => ?_)
  · rw [if_pos hc] at hF
    refine fg_iconst X (v := (1 : Int32)) dX2_cut_131 (by decide) ?_
    refine fg_sub [0, 1, 2, 3, 4, 5] rfl ?_
    exact wX2_cut_132 X hF h14 hT
  · rw [if_neg hc] at hF
    refine fg_iconst X (v := (4 : Int32)) dX2_cut_127 (by decide) ?_
    refine fg_goto X (tgt := 132) dX2_cut_128 (by decide) ?_
    refine fg_sub [0, 1, 2, 3, 4, 5] rfl ?_
    exact wX2_cut_132 X hF h14 hT
set_option maxHeartbeats 4000000 in
theorem wX2_cut_61b {Ω : fg_O} {a0 : Nat} {i1 : Int32} {i2 : Int32} {i3 : Int32} {i5 : Int32} {l6 : Int64} {G : fg_H} {t : ((Nat × Int32 × Int32 × Int32 × Int32 × Int64 × fg_H) ⊕ ((Nat × Int32 × Int32 × Int32 × fg_H) ⊕ (Unit × fg_H)))} (X : fg_X Ω RX2 "cut" cX2_cut 8 none 4) (hF : fX2_cut_61b a0 i1 i2 i3 i5 l6 G = some t) (h14 : ∀ z, t = (.inr (.inl z)) → fg_W Ω z.2.2.2.2 14 [(0, .ref z.1), (1, .int z.2.1), (2, .int z.2.2.1), (3, .int z.2.2.2.1)] []) (h61 : ∀ z, t = (.inl z) → fg_W Ω z.2.2.2.2.2.2 61 [(0, .ref z.1), (1, .int z.2.1), (2, .int z.2.2.1), (3, .int z.2.2.2.1), (5, .int z.2.2.2.2.1), (6, .long z.2.2.2.2.2.1)] []) (hT : ∀ u, t = (.inr (.inr u)) → fg_T Ω (.returned none) u.2) : fg_W Ω G 61 [(0, .ref a0), (1, .int i1), (2, .int i2), (3, .int i3), (5, .int i5), (6, .long l6)] [] := by
  unfold fX2_cut_61b at hF
  refine fg_iload_n X dX2_cut_61 rfl 3 rfl ?_
  refine fg_iload_n X dX2_cut_62 rfl 1 rfl ?_
  refine fg_icmp_ge X (tgt := 113) dX2_cut_63 (by decide) (fun hc => ?_) (fun hc => ?_)
  · rw [if_pos hc] at hF
    replace hF := fg_rt_some hF
    obtain ⟨tz45, hF, ht_1⟩ := hF
    subst ht_1
    replace h14 := fun z q => h14 z (congrArg Sum.inr q)
    replace hT := fun u q => hT u (congrArg Sum.inr q)
    refine fg_sub [0, 1, 2, 3, 4, 5] rfl ?_
    exact wX2_cut_113 X hF h14 hT
  · rw [if_neg hc] at hF
    refine fg_aload_n X (r := (some a0)) dX2_cut_66 rfl 0 rfl ?_
    replace hF := fg_ob_some hF
    obtain ⟨rz49, e_2, hF⟩ := hF
    refine fg_getr X ff_X2_tape q191 e_2 dX2_cut_67 ?_
    refine fg_iload_n X dX2_cut_70 rfl 3 rfl ?_
    replace hF := fg_ob_some hF
    obtain ⟨az50, rfl, hF⟩ := hF
    replace hF := fg_ob_some hF
    obtain ⟨xz51, e_3, hF⟩ := hF
    refine fg_iald X e_3 dX2_cut_71 ?_
    replace hF := fg_oc_some hF
    obtain ⟨xz53, Gz52, e_4, hF⟩ := hF
    refine fg_callS X (st := []) (mX2_isLetter Ω.2.2.2.2.1 Ω.1 e_4) q519 q520 q94 q521 hd_X2_isLetter (by decide) rfl rfl (Nat.le_of_ble_eq_true rfl) dX2_cut_72 ?_
    refine fg_if_eq X (tgt := 113) dX2_cut_75 (by decide) (fun hc => ?_) (fun hc => ?_)
    · rw [if_pos hc] at hF
      replace hF := fg_rt_some hF
      obtain ⟨tz54, hF, ht_5⟩ := hF
      subst ht_5
      replace h14 := fun z q => h14 z (congrArg Sum.inr q)
      replace hT := fun u q => hT u (congrArg Sum.inr q)
      refine fg_sub [0, 1, 2, 3, 4, 5] rfl ?_
      exact wX2_cut_113 X hF h14 hT
    · rw [if_neg hc] at hF
      refine fg_iload_n X dX2_cut_78 rfl 3 rfl ?_
      refine fg_iload X dX2_cut_79 4 rfl ?_
      refine fg_isub X dX2_cut_81 ?_
      refine fg_bipush X (v := (8 : Int32)) dX2_cut_82 (by decide) ?_
      refine fg_icmp_ge X (tgt := 107) dX2_cut_84 (by decide) (fun hc => ?_) (fun hc => ?_)
      · rw [if_pos hc] at hF
        refine fg_iinc X (v := (i3 + (1 : Int32))) (L' := [(3, .int (i3 + (1 : Int32))), (0, .ref a0), (1, .int i1), (2, .int i2), (5, .int i5), (6, .long l6)]) dX2_cut_107 3 rfl rfl (by decide) rfl ?_
        refine fg_goto X (tgt := 61) dX2_cut_110 (by decide) ?_
        refine fg_sub [1, 2, 3, 0, 4, 5] rfl ?_
        exact h61 _ (Option.some.inj hF).symm
      · rw [if_neg hc] at hF
        refine fg_ldc2 X q522 dX2_cut_87 ?_
        refine fg_lload X dX2_cut_90 5 rfl ?_
        refine fg_lmul X dX2_cut_92 ?_
        refine fg_aload_n X (r := (some a0)) dX2_cut_93 rfl 0 rfl ?_
        replace hF := fg_ob_some hF
        obtain ⟨rz55, e_6, hF⟩ := hF
        refine fg_getr X ff_X2_tape q191 e_6 dX2_cut_94 ?_
        refine fg_iload_n X dX2_cut_97 rfl 3 rfl ?_
        replace hF := fg_ob_some hF
        obtain ⟨az56, rfl, hF⟩ := hF
        replace hF := fg_ob_some hF
        obtain ⟨xz57, e_7, hF⟩ := hF
        refine fg_iald X e_7 dX2_cut_98 ?_
        refine fg_i2l X dX2_cut_99 ?_
        refine fg_ladd X dX2_cut_100 ?_
        refine fg_ldc2 X q523 dX2_cut_101 ?_
        refine fg_lsub X dX2_cut_104 ?_
        replace hF := fg_ob_some hF
        obtain ⟨vz58, ex_8, hF⟩ := hF
        refine fg_topl (Option.some.inj ex_8) ?_
        refine fg_lstore X (L' := [(6, .long vz58), (0, .ref a0), (1, .int i1), (2, .int i2), (3, .int i3), (5, .int i5)]) dX2_cut_105 (by decide) rfl ?_
        refine fg_iinc X (v := (i3 + (1 : Int32))) (L' := [(3, .int (i3 + (1 : Int32))), (6, .long vz58), (0, .ref a0), (1, .int i1), (2, .int i2), (5, .int i5)]) dX2_cut_107 4 rfl rfl (by decide) rfl ?_
        refine fg_goto X (tgt := 61) dX2_cut_110 (by decide) ?_
        refine fg_sub [2, 3, 4, 0, 5, 1] rfl ?_
        exact h61 _ (Option.some.inj hF).symm
set_option maxHeartbeats 4000000 in
seal fX2_cut_61b in
theorem wX2_cut_61 {Ω : fg_O} {a0 : Nat} {i1 : Int32} {i2 : Int32} {i3 : Int32} {i5 : Int32} {l6 : Int64} {G : fg_H} {t : ((Nat × Int32 × Int32 × Int32 × fg_H) ⊕ (Unit × fg_H))} (X : fg_X Ω RX2 "cut" cX2_cut 8 none 4) (hF : fX2_cut_61 a0 i1 i2 i3 i5 l6 G = some t) (h14 : ∀ z, t = (.inl z) → fg_W Ω z.2.2.2.2 14 [(0, .ref z.1), (1, .int z.2.1), (2, .int z.2.2.1), (3, .int z.2.2.2.1)] []) (hT : ∀ u, t = (.inr u) → fg_T Ω (.returned none) u.2) : fg_W Ω G 61 [(0, .ref a0), (1, .int i1), (2, .int i2), (3, .int i3), (5, .int i5), (6, .long l6)] [] := by
  unfold fX2_cut_61 at hF
  exact fg_lp_walk (P := fun z => fg_W Ω z.2.2.2.2.2.2 61 [(0, .ref z.1), (1, .int z.2.1), (2, .int z.2.2.1), (3, .int z.2.2.2.1), (5, .int z.2.2.2.2.1), (6, .long z.2.2.2.2.2.1)] []) (fun y o ho hl hr => wX2_cut_61b X ho (fun z e => h14 z (hr _ e).symm) (fun z e => hl z e) (fun u e => hT u (hr _ e).symm)) hF
set_option maxHeartbeats 4000000 in
theorem wX2_cut_14b {Ω : fg_O} {a0 : Nat} {i1 : Int32} {i2 : Int32} {i3 : Int32} {G : fg_H} {t : ((Nat × Int32 × Int32 × Int32 × fg_H) ⊕ (Unit × fg_H))} (X : fg_X Ω RX2 "cut" cX2_cut 8 none 4) (hF : fX2_cut_14b a0 i1 i2 i3 G = some t) (h14 : ∀ z, t = (.inl z) → fg_W Ω z.2.2.2.2 14 [(0, .ref z.1), (1, .int z.2.1), (2, .int z.2.2.1), (3, .int z.2.2.2.1)] []) (hT : ∀ u, t = (.inr u) → fg_T Ω (.returned none) u.2) : fg_W Ω G 14 [(0, .ref a0), (1, .int i1), (2, .int i2), (3, .int i3)] [] := by
  unfold fX2_cut_14b at hF
  refine fg_iload_n X dX2_cut_14 rfl 3 rfl ?_
  refine fg_iload_n X dX2_cut_15 rfl 1 rfl ?_
  refine fg_icmp_ge X (tgt := 268) dX2_cut_16 (by decide) (fun hc => ?_) (fun hc => ?_)
  · rw [if_pos hc] at hF
    replace hF := fg_rt_some hF
    obtain ⟨tz3, hF, ht_1⟩ := hF
    subst ht_1
    replace hT := hT _ rfl
    refine fg_aload_n X (r := (some a0)) dX2_cut_268 rfl 0 rfl ?_
    replace hF := fg_ob_some hF
    obtain ⟨rz4, e_2, hF⟩ := hF
    refine fg_getr X ff_X2_sort q194 e_2 dX2_cut_269 ?_
    refine fg_iload_n X dX2_cut_272 rfl 2 rfl ?_
    refine fg_iconst X (v := (0 : Int32)) dX2_cut_273 (by decide) ?_
    replace hF := fg_ob_some hF
    obtain ⟨az5, rfl, hF⟩ := hF
    replace hF := fg_ob_some hF
    obtain ⟨Gz6, e_3, hF⟩ := hF
    refine fg_iast X e_3 dX2_cut_274 ?_
    refine fg_aload_n X (r := (some a0)) dX2_cut_275 rfl 0 rfl ?_
    replace hF := fg_ob_some hF
    obtain ⟨rz7, e_4, hF⟩ := hF
    refine fg_getr X ff_X2_place q196 e_4 dX2_cut_276 ?_
    refine fg_iload_n X dX2_cut_279 rfl 2 rfl ?_
    refine fg_iload_n X dX2_cut_280 rfl 1 rfl ?_
    replace hF := fg_ob_some hF
    obtain ⟨az8, rfl, hF⟩ := hF
    replace hF := fg_ob_some hF
    obtain ⟨Gz9, e_5, hF⟩ := hF
    refine fg_iast X e_5 dX2_cut_281 ?_
    refine fg_aload_n X (r := (some a0)) dX2_cut_282 rfl 0 rfl ?_
    refine fg_iconst X (v := (0 : Int32)) dX2_cut_283 (by decide) ?_
    replace hF := fg_ob_some hF
    obtain ⟨Gz10, e_6, hF⟩ := hF
    refine fg_putv X (ty := .int) (v := .int (0 : Int32)) ff_X2_at q197 rfl (Or.inl rfl) rfl rfl rfl e_6 dX2_cut_284 ?_
    cases hF
    exact fg_vret X dX2_cut_287 (hT)
  · rw [if_neg hc] at hF
    refine fg_aload_n X (r := (some a0)) dX2_cut_19 rfl 0 rfl ?_
    replace hF := fg_ob_some hF
    obtain ⟨rz11, e_7, hF⟩ := hF
    refine fg_getr X ff_X2_tape q191 e_7 dX2_cut_20 ?_
    refine fg_iload_n X dX2_cut_23 rfl 3 rfl ?_
    replace hF := fg_ob_some hF
    obtain ⟨az12, rfl, hF⟩ := hF
    replace hF := fg_ob_some hF
    obtain ⟨xz13, e_8, hF⟩ := hF
    refine fg_iald X e_8 dX2_cut_24 ?_
    refine fg_istore X (L' := [(4, .int xz13), (0, .ref a0), (1, .int i1), (2, .int i2), (3, .int i3)]) dX2_cut_25 (by decide) rfl ?_
    refine fg_iload X dX2_cut_27 0 rfl ?_
    refine fg_bipush X (v := (10 : Int32)) dX2_cut_29 (by decide) ?_
    refine fg_icmp_eq X (tgt := 41) dX2_cut_31 (by decide) (fun hc => ?_) (fun hc => ?_)
    · rw [if_pos hc] at hF
      refine fg_iinc X (v := (i3 + (1 : Int32))) (L' := [(3, .int (i3 + (1 : Int32))), (4, .int xz13), (0, .ref a0), (1, .int i1), (2, .int i2)]) dX2_cut_41 4 rfl rfl (by decide) rfl ?_
      refine fg_goto X (tgt := 14) dX2_cut_44 (by decide) ?_
      refine fg_sub [2, 3, 4, 0] rfl ?_
      exact h14 _ (Option.some.inj hF).symm
    · rw [if_neg hc] at hF
      refine fg_iload X dX2_cut_34 0 rfl ?_
      refine fg_bipush X (v := (32 : Int32)) dX2_cut_36 (by decide) ?_
      refine fg_icmp_ne X (tgt := 47) dX2_cut_38 (by decide) (fun hc => ?_) (fun hc => ?_)
      · rw [if_neg hc] at hF
        refine fg_iload_n X dX2_cut_47 rfl 4 rfl ?_
        refine fg_istore X (L' := [(5, .int i3), (4, .int xz13), (0, .ref a0), (1, .int i1), (2, .int i2), (3, .int i3)]) dX2_cut_48 (by decide) rfl ?_
        refine fg_lconst X (v := (0 : Int64)) dX2_cut_50 (by decide) ?_
        refine fg_lstore X (L' := [(6, .long (0 : Int64)), (5, .int i3), (4, .int xz13), (0, .ref a0), (1, .int i1), (2, .int i2), (3, .int i3)]) dX2_cut_51 (by decide) rfl ?_
        refine fg_iload X dX2_cut_53 2 rfl ?_
        replace hF := fg_oc_some hF
        obtain ⟨xz15, Gz14, e_9, hF⟩ := hF
        refine fg_callS X (st := []) (mX2_isLetter Ω.2.2.2.2.1 Ω.1 e_9) q519 q520 q94 q521 hd_X2_isLetter (by decide) rfl rfl (Nat.le_of_ble_eq_true rfl) dX2_cut_55 ?_
        refine fg_if_eq X (tgt := 136) dX2_cut_58 (by decide) (fun hc => ?_) (fun hc => ?_)
        · rw [if_pos hc] at hF
          refine fg_iload X dX2_cut_136 2 rfl ?_
          replace hF := fg_oc_some hF
          obtain ⟨xz17, Gz16, e_10, hF⟩ := hF
          refine fg_callS X (st := []) (mX2_isDigit Ω.2.2.2.2.1 Ω.1 e_10) q524 q525 q94 q526 hd_X2_isDigit (by decide) rfl rfl (Nat.le_of_ble_eq_true rfl) dX2_cut_138 ?_
          refine fg_if_eq X (tgt := 217) dX2_cut_141 (by decide) (fun hc => ?_) (fun hc => ?_)
          · rw [if_pos hc] at hF
            refine fg_iload X dX2_cut_217 2 rfl ?_
            refine fg_i2l X dX2_cut_219 ?_
            replace hF := fg_ob_some hF
            obtain ⟨vz18, ex_11, hF⟩ := hF
            refine fg_topl (Option.some.inj ex_11) ?_
            refine fg_lstore X (L' := [(6, .long vz18), (5, .int i3), (4, .int xz13), (0, .ref a0), (1, .int i1), (2, .int i2), (3, .int i3)]) dX2_cut_220 (by decide) rfl ?_
            refine fg_iinc X (v := (i3 + (1 : Int32))) (L' := [(3, .int (i3 + (1 : Int32))), (6, .long vz18), (5, .int i3), (4, .int xz13), (0, .ref a0), (1, .int i1), (2, .int i2)]) dX2_cut_222 6 rfl rfl (by decide) rfl ?_
            refine fg_aload_n X (r := (some a0)) dX2_cut_225 rfl 4 rfl ?_
            replace hF := fg_ob_some hF
            obtain ⟨rz19, e_12, hF⟩ := hF
            refine fg_getr X ff_X2_sort q194 e_12 dX2_cut_226 ?_
            refine fg_iload_n X dX2_cut_229 rfl 6 rfl ?_
            replace hF := fg_ob_some hF
            obtain ⟨rz20, ex_13, hF⟩ := hF
            refine fg_ldcS X (i := 25) (by decide) rfl rfl (Option.some.inj ex_13) dX2_cut_230 ?_
            refine fg_iload X dX2_cut_232 3 rfl ?_
            replace hF := fg_gd_some hF
            obtain ⟨eg_14, hF⟩ := hF
            obtain ⟨fs_15, eo_16⟩ := fg_rc_get eg_14
            replace hF := fg_oc_some hF
            obtain ⟨xz22, Gz21, e_17, hF⟩ := hF
            refine fg_callVs X (st := [.int i2, va_rf rz19]) (mJ5_indexOf Ω.2.2.2.2.1 Ω.1 e_17) q530 q531 q532 q106 q533 hd_J5_indexOf rfl eo_16 (by decide) rfl rfl (by cases rz19 <;> exact Nat.le_of_ble_eq_true rfl) dX2_cut_234 ?_
            refine fg_if_lt X (tgt := 244) dX2_cut_237 (by decide) (fun hc => ?_) (fun hc => ?_)
            · rw [if_pos hc] at hF
              refine fg_iconst X (v := (4 : Int32)) dX2_cut_244 (by decide) ?_
              refine fg_sub [4, 5, 6, 0, 2, 1] rfl ?_
              exact wX2_cut_245 X hF h14 hT
            · rw [if_neg hc] at hF
              refine fg_iconst X (v := (3 : Int32)) dX2_cut_240 (by decide) ?_
              refine fg_goto X (tgt := 245) dX2_cut_241 (by decide) ?_
              refine fg_sub [4, 5, 6, 0, 2, 1] rfl ?_
              exact wX2_cut_245 X hF h14 hT
          · rw [if_neg hc] at hF
            refine fg_sub [3, 4, 5, 6, 1, 0] rfl ?_
            exact wX2_cut_144 X hF h14 hT
        · rw [if_neg hc] at hF
          refine fg_sub [3, 4, 5, 6, 1, 0] rfl ?_
          exact wX2_cut_61 X hF h14 hT
      · rw [if_pos hc] at hF
        refine fg_iinc X (v := (i3 + (1 : Int32))) (L' := [(3, .int (i3 + (1 : Int32))), (4, .int xz13), (0, .ref a0), (1, .int i1), (2, .int i2)]) dX2_cut_41 4 rfl rfl (by decide) rfl ?_
        refine fg_goto X (tgt := 14) dX2_cut_44 (by decide) ?_
        refine fg_sub [2, 3, 4, 0] rfl ?_
        exact h14 _ (Option.some.inj hF).symm
set_option maxHeartbeats 4000000 in
seal fX2_cut_14b in
theorem wX2_cut_14 {Ω : fg_O} {a0 : Nat} {i1 : Int32} {i2 : Int32} {i3 : Int32} {G : fg_H} {t : (Unit × fg_H)} (X : fg_X Ω RX2 "cut" cX2_cut 8 none 4) (hF : fX2_cut_14 a0 i1 i2 i3 G = some t) (hT : fg_T Ω (.returned none) t.2) : fg_W Ω G 14 [(0, .ref a0), (1, .int i1), (2, .int i2), (3, .int i3)] [] := by
  unfold fX2_cut_14 at hF
  exact fg_lp_walk (P := fun z => fg_W Ω z.2.2.2.2 14 [(0, .ref z.1), (1, .int z.2.1), (2, .int z.2.2.1), (3, .int z.2.2.2.1)] []) (fun y o ho hl hr => wX2_cut_14b X ho (fun z e => hl z e) (fun u e => by rw [hr _ e]; exact hT)) hF
set_option maxHeartbeats 4000000 in
theorem wX2_cut {Ω : fg_O} {a0 : Nat} {G : fg_H} {t : Unit × fg_H} (X : fg_X Ω RX2 "cut" cX2_cut 8 none 4) (hF : fX2_cut a0 G = some t) (hT : fg_T Ω (.returned none) t.2) : fg_W Ω G 0 [(0, .ref a0)] [] := by
  unfold fX2_cut at hF
  refine fg_aload_n X (r := (some a0)) dX2_cut_0 rfl 0 rfl ?_
  replace hF := fg_ob_some hF
  obtain ⟨xz1, e_1, hF⟩ := hF
  refine fg_geti X ff_X2_taped q192 e_1 dX2_cut_1 ?_
  refine fg_istore_n X (L' := [(1, .int xz1), (0, .ref a0)]) dX2_cut_4 rfl (by decide) rfl ?_
  refine fg_aload_n X (r := (some a0)) dX2_cut_5 rfl 1 rfl ?_
  refine fg_iconst X (v := (0 : Int32)) dX2_cut_6 (by decide) ?_
  replace hF := fg_ob_some hF
  obtain ⟨Gz2, e_2, hF⟩ := hF
  refine fg_putv X (ty := .int) (v := .int (0 : Int32)) ff_X2_taped q192 rfl (Or.inl rfl) rfl rfl rfl e_2 dX2_cut_7 ?_
  refine fg_iconst X (v := (0 : Int32)) dX2_cut_10 (by decide) ?_
  refine fg_istore_n X (L' := [(2, .int (0 : Int32)), (1, .int xz1), (0, .ref a0)]) dX2_cut_11 rfl (by decide) rfl ?_
  refine fg_iconst X (v := (0 : Int32)) dX2_cut_12 (by decide) ?_
  refine fg_istore_n X (L' := [(3, .int (0 : Int32)), (2, .int (0 : Int32)), (1, .int xz1), (0, .ref a0)]) dX2_cut_13 rfl (by decide) rfl ?_
  refine fg_sub [3, 2, 1, 0] rfl ?_
  exact wX2_cut_14 X hF hT
theorem mX2_cut (l : Launch) (D : fg_D) {a0 : Nat} {G : fg_H} {t : Unit × fg_H} (hF : fX2_cut a0 G = some t) : fg_M l D yX2_cut cX2_cut 8 none 4 [.ref a0] G (.returned none) t.2 :=
  fg_Mof (own := RX2) (nm := "cut") (L := [(0, .ref a0)]) (plainFor_of_name pn_X2) rfl rfl rfl (Nat.le_of_ble_eq_true rfl) (fun Ω _ _ X hT => wX2_cut X hF hT)
theorem hd_J5_checkIndex : yJ5_checkIndex.cls ≠ "java/lang/invoke/MethodHandle" ∧ yJ5_checkIndex.cls ≠ "java/lang/invoke/VarHandle" ∧ (parseMethodDescriptor yJ5_checkIndex.desc).map (fun d => d.parameters.length) = some 2 := ⟨by decide +kernel, by decide +kernel, by decide +kernel⟩
set_option maxHeartbeats 4000000 in
theorem wJ5_checkIndex {Ω : fg_O} {i0 : Int32} {i1 : Int32} {G : fg_H} {t : Unit × fg_H} (X : fg_X Ω RJ5 "checkIndex" cJ5_checkIndex 2 none 1) (hF : fJ5_checkIndex i0 i1 G = some t) (hT : fg_T Ω (.returned none) t.2) : fg_W Ω G 0 [(0, .int i0), (1, .int i1)] [] := by
  unfold fJ5_checkIndex at hF
  refine fg_iload_n X dJ5_checkIndex_0 rfl 0 rfl ?_
  refine fg_iload_n X dJ5_checkIndex_1 rfl 1 rfl ?_
  replace hF := fg_ob_some hF
  obtain ⟨rz1, ex_1, hF⟩ := hF
  refine fg_getsR X (i := 5) q585 (fun _ => rfl) (Option.some.inj ex_1) dJ5_checkIndex_2 ?_
  replace hF := fg_oc_some hF
  obtain ⟨xz3, Gz2, e_2, hF⟩ := hF
  refine fg_callS X (st := []) (mJ4_checkIndex Ω.2.2.2.2.1 Ω.1 e_2) q640 q435 q104 q436 hd_J4_checkIndex (by decide) rfl rfl (Nat.le_of_ble_eq_true rfl) dJ5_checkIndex_5 ?_
  refine fg_pop X dJ5_checkIndex_8 rfl ?_
  cases hF
  exact fg_vret X dJ5_checkIndex_9 (hT)
theorem mJ5_checkIndex (l : Launch) (D : fg_D) {i0 : Int32} {i1 : Int32} {G : fg_H} {t : Unit × fg_H} (hF : fJ5_checkIndex i0 i1 G = some t) : fg_M l D yJ5_checkIndex cJ5_checkIndex 2 none 1 [.int i0, .int i1] G (.returned none) t.2 :=
  fg_Mof (own := RJ5) (nm := "checkIndex") (L := [(0, .int i0), (1, .int i1)]) (plainFor_of_name pn_J5) rfl rfl rfl (Nat.le_of_ble_eq_true rfl) (fun Ω _ _ X hT => wJ5_checkIndex X hF hT)
theorem hd_J6_charAt : yJ6_charAt.cls ≠ "java/lang/invoke/MethodHandle" ∧ yJ6_charAt.cls ≠ "java/lang/invoke/VarHandle" ∧ (parseMethodDescriptor yJ6_charAt.desc).map (fun d => d.parameters.length) = some 2 := ⟨by decide +kernel, by decide +kernel, by decide +kernel⟩
set_option maxHeartbeats 4000000 in
theorem wJ6_charAt {Ω : fg_O} {r0 : Option Nat} {i1 : Int32} {G : fg_H} {t : Int32 × fg_H} (X : fg_X Ω RJ6 "charAt" cJ6_charAt 2 (some .char) 2) (hF : fJ6_charAt r0 i1 G = some t) (hT : fg_T Ω (.returned (some (.int t.1))) t.2) : fg_W Ω G 0 [(0, va_rf r0), (1, .int i1)] [] := by
  unfold fJ6_charAt at hF
  refine fg_iload_n X dJ6_charAt_0 rfl 1 rfl ?_
  refine fg_aload_n X (r := r0) dJ6_charAt_1 rfl 0 rfl ?_
  replace hF := fg_ob_some hF
  obtain ⟨az1, rfl, hF⟩ := hF
  replace hF := fg_ob_some hF
  obtain ⟨xz2, e_1, hF⟩ := hF
  refine fg_alen X e_1 dJ6_charAt_2 ?_
  replace hF := fg_oc_some hF
  obtain ⟨u, Gz3, e_2, hF⟩ := hF
  refine fg_callS X (st := []) (mJ5_checkIndex Ω.2.2.2.2.1 Ω.1 e_2) q637 q638 q106 q639 hd_J5_checkIndex (by decide) rfl rfl (Nat.le_of_ble_eq_true rfl) dJ6_charAt_3 ?_
  refine fg_aload_n X (r := (some az1)) dJ6_charAt_6 rfl 0 rfl ?_
  refine fg_iload_n X dJ6_charAt_7 rfl 1 rfl ?_
  replace hF := fg_ob_some hF
  obtain ⟨xz4, e_3, hF⟩ := hF
  refine fg_tald X e_3 dJ6_charAt_8 ?_
  refine fg_sipush X (v := (255 : Int32)) dJ6_charAt_9 (by decide) ?_
  refine fg_iand X dJ6_charAt_12 ?_
  refine fg_i2c X dJ6_charAt_13 ?_
  replace hF := fg_gd_some hF
  obtain ⟨eg_4, hF⟩ := hF
  cases hF
  exact fg_nret X (fg_nr_eq eg_4) dJ6_charAt_14 (hT)
theorem mJ6_charAt (l : Launch) (D : fg_D) {r0 : Option Nat} {i1 : Int32} {G : fg_H} {t : Int32 × fg_H} (hF : fJ6_charAt r0 i1 G = some t) : fg_M l D yJ6_charAt cJ6_charAt 2 (some .char) 2 [va_rf r0, .int i1] G (.returned (some (.int t.1))) t.2 :=
  fg_Mof (own := RJ6) (nm := "charAt") (L := [(0, va_rf r0), (1, .int i1)]) (plainFor_of_name pn_J6) rfl rfl (by cases r0 <;> rfl) (by cases r0 <;> exact Nat.le_of_ble_eq_true rfl) (fun Ω _ _ X hT => wJ6_charAt X hF hT)
theorem hd_J5_charAt : yJ5_charAt.cls ≠ "java/lang/invoke/MethodHandle" ∧ yJ5_charAt.cls ≠ "java/lang/invoke/VarHandle" ∧ (parseMethodDescriptor yJ5_charAt.desc).map (fun d => d.parameters.length) = some 1 := ⟨by decide +kernel, by decide +kernel, by decide +kernel⟩
set_option maxHeartbeats 4000000 in
theorem wJ5_charAt {Ω : fg_O} {a0 : Nat} {i1 : Int32} {G : fg_H} {t : Int32 × fg_H} (X : fg_X Ω RJ5 "charAt" cJ5_charAt 2 (some .char) 3) (hF : fJ5_charAt a0 i1 G = some t) (hT : fg_T Ω (.returned (some (.int t.1))) t.2) : fg_W Ω G 0 [(0, .ref a0), (1, .int i1)] [] := by
  unfold fJ5_charAt at hF
  refine fg_aload_n X (r := (some a0)) dJ5_charAt_0 rfl 0 rfl ?_
  replace hF := fg_gd_some hF
  obtain ⟨eg_1, hF⟩ := hF
  obtain ⟨fs_2, eo_3⟩ := fg_rc_get eg_1
  replace hF := fg_oc_some hF
  obtain ⟨xz2, Gz1, e_4, hF⟩ := hF
  refine fg_callVs X (st := []) (mJ5_isLatin1 Ω.2.2.2.2.1 Ω.1 e_4) q538 q539 q540 q106 q541 hd_J5_isLatin1 rfl eo_3 (by decide) rfl rfl (Nat.le_of_ble_eq_true rfl) dJ5_charAt_1 ?_
  refine fg_if_eq X (tgt := 16) dJ5_charAt_4 (by decide) (fun hc => ?_) (fun hc => ?_)
  · rw [if_pos hc] at hF
    cases hF
  · rw [if_neg hc] at hF
    refine fg_aload_n X (r := (some a0)) dJ5_charAt_7 rfl 0 rfl ?_
    replace hF := fg_ob_some hF
    obtain ⟨rz3, e_5, hF⟩ := hF
    refine fg_getSr X q2105 e_5 dJ5_charAt_8 ?_
    refine fg_iload_n X dJ5_charAt_11 rfl 1 rfl ?_
    replace hF := fg_oc_some hF
    obtain ⟨xz5, Gz4, e_6, hF⟩ := hF
    refine fg_callS X (st := []) (mJ6_charAt Ω.2.2.2.2.1 Ω.1 e_6) q634 q635 q107 q636 hd_J6_charAt (by decide) rfl rfl (Nat.le_of_ble_eq_true rfl) dJ5_charAt_12 ?_
    replace hF := fg_gd_some hF
    obtain ⟨eg_7, hF⟩ := hF
    cases hF
    exact fg_nret X (fg_nr_eq eg_7) dJ5_charAt_15 (hT)
theorem mJ5_charAt (l : Launch) (D : fg_D) {a0 : Nat} {i1 : Int32} {G : fg_H} {t : Int32 × fg_H} (hF : fJ5_charAt a0 i1 G = some t) : fg_M l D yJ5_charAt cJ5_charAt 2 (some .char) 3 [.ref a0, .int i1] G (.returned (some (.int t.1))) t.2 :=
  fg_Mof (own := RJ5) (nm := "charAt") (L := [(0, .ref a0), (1, .int i1)]) (plainFor_of_name pn_J5) rfl rfl rfl (Nat.le_of_ble_eq_true rfl) (fun Ω _ _ X hT => wJ5_charAt X hF hT)
theorem hd_X2_word : yX2_word.cls ≠ "java/lang/invoke/MethodHandle" ∧ yX2_word.cls ≠ "java/lang/invoke/VarHandle" ∧ (parseMethodDescriptor yX2_word.desc).map (fun d => d.parameters.length) = some 1 := ⟨by decide +kernel, by decide +kernel, by decide +kernel⟩
set_option maxHeartbeats 4000000 in
theorem wX2_word_4b {Ω : fg_O} {r0 : Option Nat} {l1 : Int64} {i3 : Int32} {G : fg_H} {t : ((Option Nat × Int64 × Int32 × fg_H) ⊕ (Int64 × fg_H))} (X : fg_X Ω RX2 "word" cX2_word 4 (some .long) 4) (hF : fX2_word_4b r0 l1 i3 G = some t) (h4 : ∀ z, t = (.inl z) → fg_W Ω z.2.2.2 4 [(0, va_rf z.1), (1, .long z.2.1), (3, .int z.2.2.1)] []) (hT : ∀ u, t = (.inr u) → fg_T Ω (.returned (some (.long u.1))) u.2) : fg_W Ω G 4 [(0, va_rf r0), (1, .long l1), (3, .int i3)] [] := by
  unfold fX2_word_4b at hF
  refine fg_iload_n X dX2_word_4 rfl 2 rfl ?_
  refine fg_aload_n X (r := r0) dX2_word_5 rfl 0 rfl ?_
  replace hF := fg_ob_some hF
  obtain ⟨az1, rfl, hF⟩ := hF
  replace hF := fg_gd_some hF
  obtain ⟨eg_1, hF⟩ := hF
  obtain ⟨fs_2, eo_3⟩ := fg_rc_get eg_1
  replace hF := fg_oc_some hF
  obtain ⟨xz3, Gz2, e_4, hF⟩ := hF
  refine fg_callVs X (st := [.int i3]) (mJ5_length Ω.2.2.2.2.1 Ω.1 e_4) q629 q545 q546 q106 q547 hd_J5_length rfl eo_3 (by decide) rfl rfl (Nat.le_of_ble_eq_true rfl) dX2_word_6 ?_
  refine fg_icmp_ge X (tgt := 35) dX2_word_9 (by decide) (fun hc => ?_) (fun hc => ?_)
  · rw [if_pos hc] at hF
    replace hF := fg_rt_some hF
    obtain ⟨tz4, hF, ht_5⟩ := hF
    subst ht_5
    replace hT := hT _ rfl
    refine fg_lload_n X dX2_word_35 rfl 1 rfl ?_
    cases hF
    exact fg_lret X dX2_word_36 (hT)
  · rw [if_neg hc] at hF
    refine fg_ldc2 X q522 dX2_word_12 ?_
    refine fg_lload_n X dX2_word_15 rfl 1 rfl ?_
    refine fg_lmul X dX2_word_16 ?_
    refine fg_aload_n X (r := (some az1)) dX2_word_17 rfl 0 rfl ?_
    refine fg_iload_n X dX2_word_18 rfl 2 rfl ?_
    replace hF := fg_gd_some hF
    obtain ⟨eg_6, hF⟩ := hF
    obtain ⟨fs_7, eo_8⟩ := fg_rc_get eg_6
    replace hF := fg_oc_some hF
    obtain ⟨xz6, Gz5, e_9, hF⟩ := hF
    refine fg_callVs X (st := [.long ((27 : Int64) * l1)]) (mJ5_charAt Ω.2.2.2.2.1 Ω.1 e_9) q630 q631 q632 q106 q633 hd_J5_charAt rfl eo_8 (by decide) rfl rfl (Nat.le_of_ble_eq_true rfl) dX2_word_19 ?_
    refine fg_i2l X dX2_word_22 ?_
    refine fg_ladd X dX2_word_23 ?_
    refine fg_ldc2 X q523 dX2_word_24 ?_
    refine fg_lsub X dX2_word_27 ?_
    replace hF := fg_ob_some hF
    obtain ⟨vz7, ex_10, hF⟩ := hF
    refine fg_topl (Option.some.inj ex_10) ?_
    refine fg_lstore_n X (L' := [(1, .long vz7), (0, .ref az1), (3, .int i3)]) dX2_word_28 rfl (by decide) rfl ?_
    refine fg_iinc X (v := (i3 + (1 : Int32))) (L' := [(3, .int (i3 + (1 : Int32))), (1, .long vz7), (0, .ref az1)]) dX2_word_29 2 rfl rfl (by decide) rfl ?_
    refine fg_goto X (tgt := 4) dX2_word_32 (by decide) ?_
    refine fg_sub [2, 1, 0] rfl ?_
    exact h4 _ (Option.some.inj hF).symm
set_option maxHeartbeats 4000000 in
seal fX2_word_4b in
theorem wX2_word_4 {Ω : fg_O} {r0 : Option Nat} {l1 : Int64} {i3 : Int32} {G : fg_H} {t : (Int64 × fg_H)} (X : fg_X Ω RX2 "word" cX2_word 4 (some .long) 4) (hF : fX2_word_4 r0 l1 i3 G = some t) (hT : fg_T Ω (.returned (some (.long t.1))) t.2) : fg_W Ω G 4 [(0, va_rf r0), (1, .long l1), (3, .int i3)] [] := by
  unfold fX2_word_4 at hF
  exact fg_lp_walk (P := fun z => fg_W Ω z.2.2.2 4 [(0, va_rf z.1), (1, .long z.2.1), (3, .int z.2.2.1)] []) (fun y o ho hl hr => wX2_word_4b X ho (fun z e => hl z e) (fun u e => by rw [hr _ e]; exact hT)) hF
set_option maxHeartbeats 4000000 in
theorem wX2_word {Ω : fg_O} {r0 : Option Nat} {G : fg_H} {t : Int64 × fg_H} (X : fg_X Ω RX2 "word" cX2_word 4 (some .long) 4) (hF : fX2_word r0 G = some t) (hT : fg_T Ω (.returned (some (.long t.1))) t.2) : fg_W Ω G 0 [(0, va_rf r0)] [] := by
  unfold fX2_word at hF
  refine fg_lconst X (v := (0 : Int64)) dX2_word_0 (by decide) ?_
  refine fg_lstore_n X (L' := [(1, .long (0 : Int64)), (0, va_rf r0)]) dX2_word_1 rfl (by decide) (by cases r0 <;> rfl) ?_
  refine fg_iconst X (v := (0 : Int32)) dX2_word_2 (by decide) ?_
  refine fg_istore_n X (L' := [(3, .int (0 : Int32)), (1, .long (0 : Int64)), (0, va_rf r0)]) dX2_word_3 rfl (by decide) rfl ?_
  refine fg_sub [2, 1, 0] rfl ?_
  exact wX2_word_4 X hF hT
theorem mX2_word (l : Launch) (D : fg_D) {r0 : Option Nat} {G : fg_H} {t : Int64 × fg_H} (hF : fX2_word r0 G = some t) : fg_M l D yX2_word cX2_word 4 (some .long) 4 [va_rf r0] G (.returned (some (.long t.1))) t.2 :=
  fg_Mof (own := RX2) (nm := "word") (L := [(0, va_rf r0)]) (plainFor_of_name pn_X2) rfl rfl (by cases r0 <;> rfl) (by cases r0 <;> exact Nat.le_of_ble_eq_true rfl) (fun Ω _ _ X hT => wX2_word X hF hT)
theorem hd_X2_isWord : yX2_isWord.cls ≠ "java/lang/invoke/MethodHandle" ∧ yX2_isWord.cls ≠ "java/lang/invoke/VarHandle" ∧ (parseMethodDescriptor yX2_isWord.desc).map (fun d => d.parameters.length) = some 1 := ⟨by decide +kernel, by decide +kernel, by decide +kernel⟩
set_option maxHeartbeats 4000000 in
theorem wX2_isWord {Ω : fg_O} {a0 : Nat} {r1 : Option Nat} {G : fg_H} {t : Int32 × fg_H} (X : fg_X Ω RX2 "isWord" cX2_isWord 2 (some .boolean) 5) (hF : fX2_isWord a0 r1 G = some t) (hT : fg_T Ω (.returned (some (.int t.1))) t.2) : fg_W Ω G 0 [(0, .ref a0), (1, va_rf r1)] [] := by
  unfold fX2_isWord at hF
  refine fg_aload_n X (r := (some a0)) dX2_isWord_0 rfl 0 rfl ?_
  replace hF := fg_ob_some hF
  obtain ⟨rz1, e_1, hF⟩ := hF
  refine fg_getr X ff_X2_sort q194 e_1 dX2_isWord_1 ?_
  refine fg_aload_n X (r := (some a0)) dX2_isWord_4 rfl 0 rfl ?_
  replace hF := fg_ob_some hF
  obtain ⟨xz2, e_2, hF⟩ := hF
  refine fg_geti X ff_X2_at q197 e_2 dX2_isWord_5 ?_
  replace hF := fg_ob_some hF
  obtain ⟨az3, rfl, hF⟩ := hF
  replace hF := fg_ob_some hF
  obtain ⟨xz4, e_3, hF⟩ := hF
  refine fg_iald X e_3 dX2_isWord_8 ?_
  refine fg_iconst X (v := (1 : Int32)) dX2_isWord_9 (by decide) ?_
  refine fg_icmp_ne X (tgt := 34) dX2_isWord_10 (by decide) (fun hc => ?_) (fun hc => ?_)
  · rw [if_neg hc] at hF
    refine fg_iconst X (v := (0 : Int32)) dX2_isWord_34 (by decide) ?_
    cases hF
    exact fg_zret X (by decide) dX2_isWord_35 (hT)
  · rw [if_pos hc] at hF
    refine fg_aload_n X (r := (some a0)) dX2_isWord_13 rfl 0 rfl ?_
    replace hF := fg_ob_some hF
    obtain ⟨rz5, e_4, hF⟩ := hF
    refine fg_getr X ff_X2_value q195 e_4 dX2_isWord_14 ?_
    refine fg_aload_n X (r := (some a0)) dX2_isWord_17 rfl 0 rfl ?_
    replace hF := fg_ob_some hF
    obtain ⟨xz6, e_5, hF⟩ := hF
    refine fg_geti X ff_X2_at q197 e_5 dX2_isWord_18 ?_
    replace hF := fg_ob_some hF
    obtain ⟨az7, rfl, hF⟩ := hF
    replace hF := fg_ob_some hF
    obtain ⟨yz8, e_6, hF⟩ := hF
    refine fg_lald X e_6 dX2_isWord_21 ?_
    refine fg_aload_n X (r := r1) dX2_isWord_22 rfl 1 rfl ?_
    replace hF := fg_oc_some hF
    obtain ⟨yz10, Gz9, e_7, hF⟩ := hF
    refine fg_callS X (st := [.long yz8]) (mX2_word Ω.2.2.2.2.1 Ω.1 e_7) q626 q627 q94 q628 hd_X2_word (by decide) rfl rfl (Nat.le_of_ble_eq_true rfl) dX2_isWord_23 ?_
    refine fg_lcmp X dX2_isWord_26 ?_
    refine fg_if_ne X (tgt := 34) dX2_isWord_27 (by decide) (fun hc => ?_) (fun hc => ?_)
    · rw [if_neg hc] at hF
      refine fg_iconst X (v := (0 : Int32)) dX2_isWord_34 (by decide) ?_
      cases hF
      exact fg_zret X (by decide) dX2_isWord_35 (hT)
    · rw [if_pos hc] at hF
      refine fg_iconst X (v := (1 : Int32)) dX2_isWord_30 (by decide) ?_
      refine fg_goto X (tgt := 35) dX2_isWord_31 (by decide) ?_
      cases hF
      exact fg_zret X (by decide) dX2_isWord_35 (hT)
theorem mX2_isWord (l : Launch) (D : fg_D) {a0 : Nat} {r1 : Option Nat} {G : fg_H} {t : Int32 × fg_H} (hF : fX2_isWord a0 r1 G = some t) : fg_M l D yX2_isWord cX2_isWord 2 (some .boolean) 5 [.ref a0, va_rf r1] G (.returned (some (.int t.1))) t.2 :=
  fg_Mof (own := RX2) (nm := "isWord") (L := [(0, .ref a0), (1, va_rf r1)]) (plainFor_of_name pn_X2) rfl rfl (by cases r1 <;> rfl) (by cases r1 <;> exact Nat.le_of_ble_eq_true rfl) (fun Ω _ _ X hT => wX2_isWord X hF hT)
theorem hd_J2_isEmpty : yJ2_isEmpty.cls ≠ "java/lang/invoke/MethodHandle" ∧ yJ2_isEmpty.cls ≠ "java/lang/invoke/VarHandle" ∧ (parseMethodDescriptor yJ2_isEmpty.desc).map (fun d => d.parameters.length) = some 0 := ⟨by decide +kernel, by decide +kernel, by decide +kernel⟩
set_option maxHeartbeats 4000000 in
theorem wJ2_isEmpty {Ω : fg_O} {a0 : Nat} {G : fg_H} {t : Int32 × fg_H} (X : fg_X Ω RJ2 "isEmpty" cJ2_isEmpty 1 (some .boolean) 0) (hF : fJ2_isEmpty a0 G = some t) (hT : fg_T Ω (.returned (some (.int t.1))) t.2) : fg_W Ω G 0 [(0, .ref a0)] [] := by
  unfold fJ2_isEmpty at hF
  refine fg_aload_n X (r := (some a0)) dJ2_isEmpty_0 rfl 0 rfl ?_
  replace hF := fg_ob_some hF
  obtain ⟨xz1, e_1, hF⟩ := hF
  refine fg_geti X ff_J2_size q257 e_1 dJ2_isEmpty_1 ?_
  refine fg_if_ne X (tgt := 11) dJ2_isEmpty_4 (by decide) (fun hc => ?_) (fun hc => ?_)
  · rw [if_neg hc] at hF
    refine fg_iconst X (v := (0 : Int32)) dJ2_isEmpty_11 (by decide) ?_
    cases hF
    exact fg_zret X (by decide) dJ2_isEmpty_12 (hT)
  · rw [if_pos hc] at hF
    refine fg_iconst X (v := (1 : Int32)) dJ2_isEmpty_7 (by decide) ?_
    refine fg_goto X (tgt := 12) dJ2_isEmpty_8 (by decide) ?_
    cases hF
    exact fg_zret X (by decide) dJ2_isEmpty_12 (hT)
theorem mJ2_isEmpty (l : Launch) (D : fg_D) {a0 : Nat} {G : fg_H} {t : Int32 × fg_H} (hF : fJ2_isEmpty a0 G = some t) : fg_M l D yJ2_isEmpty cJ2_isEmpty 1 (some .boolean) 0 [.ref a0] G (.returned (some (.int t.1))) t.2 :=
  fg_Mof (own := RJ2) (nm := "isEmpty") (L := [(0, .ref a0)]) (plainFor_of_name pn_J2) rfl rfl rfl (Nat.le_of_ble_eq_true rfl) (fun Ω _ _ X hT => wJ2_isEmpty X hF hT)
theorem hd_X15_init : yX15_init.cls ≠ "java/lang/invoke/MethodHandle" ∧ yX15_init.cls ≠ "java/lang/invoke/VarHandle" ∧ (parseMethodDescriptor yX15_init.desc).map (fun d => d.parameters.length) = some 1 := ⟨by decide +kernel, by decide +kernel, by decide +kernel⟩
set_option maxHeartbeats 4000000 in
theorem wX15_init {Ω : fg_O} {a0 : Nat} {r1 : Option Nat} {G : fg_H} {t : Unit × fg_H} (X : fg_X Ω RX15 "<init>" cX15_init 2 none 1) (hF : fX15_init a0 r1 G = some t) (hT : fg_T Ω (.returned none) t.2) : fg_W Ω G 0 [(0, .ref a0), (1, va_rf r1)] [] := by
  unfold fX15_init at hF
  refine fg_aload_n X (r := (some a0)) dX15_init_0 rfl 0 rfl ?_
  refine fg_objInit X q825 q148 q149 (by decide) (Nat.le_of_ble_eq_true rfl) dX15_init_1 ?_
  refine fg_aload_n X (r := (some a0)) dX15_init_4 rfl 0 rfl ?_
  refine fg_aload_n X (r := r1) dX15_init_5 rfl 1 rfl ?_
  replace hF := fg_ob_some hF
  obtain ⟨Gz1, e_1, hF⟩ := hF
  refine fg_putv X (ty := (.object "FogNets$Expression")) (v := va_rf r1) ff_X15_e q826 rfl (Or.inr ⟨rfl, rfl⟩) rfl (fg_nrf _ (Or.inl ⟨_, rfl⟩)) (fg_frf _ (Or.inl ⟨_, rfl⟩)) e_1 dX15_init_6 ?_
  cases hF
  exact fg_vret X dX15_init_9 (hT)
theorem mX15_init (l : Launch) (D : fg_D) {a0 : Nat} {r1 : Option Nat} {G : fg_H} {t : Unit × fg_H} (hF : fX15_init a0 r1 G = some t) : fg_M l D yX15_init cX15_init 2 none 1 [.ref a0, va_rf r1] G (.returned none) t.2 :=
  fg_Mof (own := RX15) (nm := "<init>") (L := [(0, .ref a0), (1, va_rf r1)]) (plainFor_of_name pn_X15) rfl rfl (by cases r1 <;> rfl) (by cases r1 <;> exact Nat.le_of_ble_eq_true rfl) (fun Ω _ _ X hT => wX15_init X hF hT)
theorem hd_X21_init : yX21_init.cls ≠ "java/lang/invoke/MethodHandle" ∧ yX21_init.cls ≠ "java/lang/invoke/VarHandle" ∧ (parseMethodDescriptor yX21_init.desc).map (fun d => d.parameters.length) = some 1 := ⟨by decide +kernel, by decide +kernel, by decide +kernel⟩
set_option maxHeartbeats 4000000 in
theorem wX21_init {Ω : fg_O} {a0 : Nat} {r1 : Option Nat} {G : fg_H} {t : Unit × fg_H} (X : fg_X Ω RX21 "<init>" cX21_init 2 none 2) (hF : fX21_init a0 r1 G = some t) (hT : fg_T Ω (.returned none) t.2) : fg_W Ω G 0 [(0, .ref a0), (1, va_rf r1)] [] := by
  unfold fX21_init at hF
  refine fg_aload_n X (r := (some a0)) dX21_init_0 rfl 0 rfl ?_
  refine fg_aload_n X (r := r1) dX21_init_1 rfl 1 rfl ?_
  replace hF := fg_oc_some hF
  obtain ⟨u, Gz1, e_1, hF⟩ := hF
  refine fg_callI X (st := []) (mX15_init Ω.2.2.2.2.1 Ω.1 e_1) q938 q823 q119 q824 rfl hd_X15_init (by decide) rfl rfl (Nat.le_of_ble_eq_true rfl) dX21_init_2 ?_
  cases hF
  exact fg_vret X dX21_init_5 (hT)
theorem mX21_init (l : Launch) (D : fg_D) {a0 : Nat} {r1 : Option Nat} {G : fg_H} {t : Unit × fg_H} (hF : fX21_init a0 r1 G = some t) : fg_M l D yX21_init cX21_init 2 none 2 [.ref a0, va_rf r1] G (.returned none) t.2 :=
  fg_Mof (own := RX21) (nm := "<init>") (L := [(0, .ref a0), (1, va_rf r1)]) (plainFor_of_name pn_X21) rfl rfl (by cases r1 <;> rfl) (by cases r1 <;> exact Nat.le_of_ble_eq_true rfl) (fun Ω _ _ X hT => wX21_init X hF hT)
theorem hd_X22_init : yX22_init.cls ≠ "java/lang/invoke/MethodHandle" ∧ yX22_init.cls ≠ "java/lang/invoke/VarHandle" ∧ (parseMethodDescriptor yX22_init.desc).map (fun d => d.parameters.length) = some 1 := ⟨by decide +kernel, by decide +kernel, by decide +kernel⟩
set_option maxHeartbeats 4000000 in
theorem wX22_init {Ω : fg_O} {a0 : Nat} {r1 : Option Nat} {G : fg_H} {t : Unit × fg_H} (X : fg_X Ω RX22 "<init>" cX22_init 2 none 2) (hF : fX22_init a0 r1 G = some t) (hT : fg_T Ω (.returned none) t.2) : fg_W Ω G 0 [(0, .ref a0), (1, va_rf r1)] [] := by
  unfold fX22_init at hF
  refine fg_aload_n X (r := (some a0)) dX22_init_0 rfl 0 rfl ?_
  refine fg_aload_n X (r := r1) dX22_init_1 rfl 1 rfl ?_
  replace hF := fg_oc_some hF
  obtain ⟨u, Gz1, e_1, hF⟩ := hF
  refine fg_callI X (st := []) (mX15_init Ω.2.2.2.2.1 Ω.1 e_1) q946 q823 q119 q824 rfl hd_X15_init (by decide) rfl rfl (Nat.le_of_ble_eq_true rfl) dX22_init_2 ?_
  cases hF
  exact fg_vret X dX22_init_5 (hT)
theorem mX22_init (l : Launch) (D : fg_D) {a0 : Nat} {r1 : Option Nat} {G : fg_H} {t : Unit × fg_H} (hF : fX22_init a0 r1 G = some t) : fg_M l D yX22_init cX22_init 2 none 2 [.ref a0, va_rf r1] G (.returned none) t.2 :=
  fg_Mof (own := RX22) (nm := "<init>") (L := [(0, .ref a0), (1, va_rf r1)]) (plainFor_of_name pn_X22) rfl rfl (by cases r1 <;> rfl) (by cases r1 <;> exact Nat.le_of_ble_eq_true rfl) (fun Ω _ _ X hT => wX22_init X hF hT)
theorem hd_X2_chain : yX2_chain.cls ≠ "java/lang/invoke/MethodHandle" ∧ yX2_chain.cls ≠ "java/lang/invoke/VarHandle" ∧ (parseMethodDescriptor yX2_chain.desc).map (fun d => d.parameters.length) = some 2 := ⟨by decide +kernel, by decide +kernel, by decide +kernel⟩
set_option maxHeartbeats 4000000 in
theorem wX2_chain {Ω : fg_O} {r0 : Option Nat} {r1 : Option Nat} {G : fg_H} {t : Option Nat × fg_H} (X : fg_X Ω RX2 "chain" cX2_chain 2 (some (.object "FogNets$Chain")) 5) (hF : fX2_chain r0 r1 G = some t) (hT : fg_T Ω (.returned (some (va_rf t.1))) t.2) : fg_W Ω G 0 [(0, va_rf r0), (1, va_rf r1)] [] := by
  unfold fX2_chain at hF
  refine fg_aload_n X (r := r1) dX2_chain_0 rfl 1 rfl ?_
  refine fg_ifnonnull X (r := r1) (tgt := 15) dX2_chain_1 (by decide) (fun az1 hc => ?_) (fun hc => ?_)
  · subst hc
    unfold fg_on at hF
    dsimp only at hF
    refine fg_aload_n X (r := (some az1)) dX2_chain_15 rfl 1 rfl ?_
    cases hF
    exact fg_aret (Or.inl ⟨_, rfl⟩) X (r := (some az1)) dX2_chain_16 (hT)
  · subst hc
    unfold fg_on at hF
    dsimp only at hF
    replace hF := fg_oc_some hF
    obtain ⟨az2, Gz3, e_1, hF⟩ := hF
    refine fg_newo X q801 q802 q118 rfl (by decide) tyX14_ok nwk_X14 e_1 dX2_chain_4 ?_
    refine fg_dup X dX2_chain_7 rfl ?_
    refine fg_aload_n X (r := r0) dX2_chain_8 rfl 0 rfl ?_
    replace hF := fg_oc_some hF
    obtain ⟨u, Gz4, e_2, hF⟩ := hF
    refine fg_callI X (st := [.ref az2]) (mX14_init Ω.2.2.2.2.1 Ω.1 e_2) q803 q804 q118 q805 rfl hd_X14_init (by decide) rfl rfl (Nat.le_of_ble_eq_true rfl) dX2_chain_9 ?_
    refine fg_goto X (tgt := 16) dX2_chain_12 (by decide) ?_
    cases hF
    exact fg_aret (Or.inl ⟨_, rfl⟩) X (r := (some az2)) dX2_chain_16 (hT)
theorem mX2_chain (l : Launch) (D : fg_D) {r0 : Option Nat} {r1 : Option Nat} {G : fg_H} {t : Option Nat × fg_H} (hF : fX2_chain r0 r1 G = some t) : fg_M l D yX2_chain cX2_chain 2 (some (.object "FogNets$Chain")) 5 [va_rf r0, va_rf r1] G (.returned (some (va_rf t.1))) t.2 :=
  fg_Mof (own := RX2) (nm := "chain") (L := [(0, va_rf r0), (1, va_rf r1)]) (plainFor_of_name pn_X2) rfl rfl (by cases r0 <;> cases r1 <;> rfl) (by cases r0 <;> cases r1 <;> exact Nat.le_of_ble_eq_true rfl) (fun Ω _ _ X hT => wX2_chain X hF hT)
theorem hd_X19_init : yX19_init.cls ≠ "java/lang/invoke/MethodHandle" ∧ yX19_init.cls ≠ "java/lang/invoke/VarHandle" ∧ (parseMethodDescriptor yX19_init.desc).map (fun d => d.parameters.length) = some 1 := ⟨by decide +kernel, by decide +kernel, by decide +kernel⟩
set_option maxHeartbeats 4000000 in
theorem wX19_init {Ω : fg_O} {a0 : Nat} {r1 : Option Nat} {G : fg_H} {t : Unit × fg_H} (X : fg_X Ω RX19 "<init>" cX19_init 2 none 2) (hF : fX19_init a0 r1 G = some t) (hT : fg_T Ω (.returned none) t.2) : fg_W Ω G 0 [(0, .ref a0), (1, va_rf r1)] [] := by
  unfold fX19_init at hF
  refine fg_aload_n X (r := (some a0)) dX19_init_0 rfl 0 rfl ?_
  refine fg_aload_n X (r := r1) dX19_init_1 rfl 1 rfl ?_
  replace hF := fg_oc_some hF
  obtain ⟨u, Gz1, e_1, hF⟩ := hF
  refine fg_callI X (st := []) (mX15_init Ω.2.2.2.2.1 Ω.1 e_1) q922 q823 q119 q824 rfl hd_X15_init (by decide) rfl rfl (Nat.le_of_ble_eq_true rfl) dX19_init_2 ?_
  cases hF
  exact fg_vret X dX19_init_5 (hT)
theorem mX19_init (l : Launch) (D : fg_D) {a0 : Nat} {r1 : Option Nat} {G : fg_H} {t : Unit × fg_H} (hF : fX19_init a0 r1 G = some t) : fg_M l D yX19_init cX19_init 2 none 2 [.ref a0, va_rf r1] G (.returned none) t.2 :=
  fg_Mof (own := RX19) (nm := "<init>") (L := [(0, .ref a0), (1, va_rf r1)]) (plainFor_of_name pn_X19) rfl rfl (by cases r1 <;> rfl) (by cases r1 <;> exact Nat.le_of_ble_eq_true rfl) (fun Ω _ _ X hT => wX19_init X hF hT)
theorem hd_X20_init : yX20_init.cls ≠ "java/lang/invoke/MethodHandle" ∧ yX20_init.cls ≠ "java/lang/invoke/VarHandle" ∧ (parseMethodDescriptor yX20_init.desc).map (fun d => d.parameters.length) = some 1 := ⟨by decide +kernel, by decide +kernel, by decide +kernel⟩
set_option maxHeartbeats 4000000 in
theorem wX20_init {Ω : fg_O} {a0 : Nat} {r1 : Option Nat} {G : fg_H} {t : Unit × fg_H} (X : fg_X Ω RX20 "<init>" cX20_init 2 none 2) (hF : fX20_init a0 r1 G = some t) (hT : fg_T Ω (.returned none) t.2) : fg_W Ω G 0 [(0, .ref a0), (1, va_rf r1)] [] := by
  unfold fX20_init at hF
  refine fg_aload_n X (r := (some a0)) dX20_init_0 rfl 0 rfl ?_
  refine fg_aload_n X (r := r1) dX20_init_1 rfl 1 rfl ?_
  replace hF := fg_oc_some hF
  obtain ⟨u, Gz1, e_1, hF⟩ := hF
  refine fg_callI X (st := []) (mX15_init Ω.2.2.2.2.1 Ω.1 e_1) q930 q823 q119 q824 rfl hd_X15_init (by decide) rfl rfl (Nat.le_of_ble_eq_true rfl) dX20_init_2 ?_
  cases hF
  exact fg_vret X dX20_init_5 (hT)
theorem mX20_init (l : Launch) (D : fg_D) {a0 : Nat} {r1 : Option Nat} {G : fg_H} {t : Unit × fg_H} (hF : fX20_init a0 r1 G = some t) : fg_M l D yX20_init cX20_init 2 none 2 [.ref a0, va_rf r1] G (.returned none) t.2 :=
  fg_Mof (own := RX20) (nm := "<init>") (L := [(0, .ref a0), (1, va_rf r1)]) (plainFor_of_name pn_X20) rfl rfl (by cases r1 <;> rfl) (by cases r1 <;> exact Nat.le_of_ble_eq_true rfl) (fun Ω _ _ X hT => wX20_init X hF hT)
theorem hd_X2_isSign : yX2_isSign.cls ≠ "java/lang/invoke/MethodHandle" ∧ yX2_isSign.cls ≠ "java/lang/invoke/VarHandle" ∧ (parseMethodDescriptor yX2_isSign.desc).map (fun d => d.parameters.length) = some 1 := ⟨by decide +kernel, by decide +kernel, by decide +kernel⟩
set_option maxHeartbeats 4000000 in
theorem wX2_isSign {Ω : fg_O} {a0 : Nat} {i1 : Int32} {G : fg_H} {t : Int32 × fg_H} (X : fg_X Ω RX2 "isSign" cX2_isSign 2 (some .boolean) 0) (hF : fX2_isSign a0 i1 G = some t) (hT : fg_T Ω (.returned (some (.int t.1))) t.2) : fg_W Ω G 0 [(0, .ref a0), (1, .int i1)] [] := by
  unfold fX2_isSign at hF
  refine fg_aload_n X (r := (some a0)) dX2_isSign_0 rfl 0 rfl ?_
  replace hF := fg_ob_some hF
  obtain ⟨rz1, e_1, hF⟩ := hF
  refine fg_getr X ff_X2_sort q194 e_1 dX2_isSign_1 ?_
  refine fg_aload_n X (r := (some a0)) dX2_isSign_4 rfl 0 rfl ?_
  replace hF := fg_ob_some hF
  obtain ⟨xz2, e_2, hF⟩ := hF
  refine fg_geti X ff_X2_at q197 e_2 dX2_isSign_5 ?_
  replace hF := fg_ob_some hF
  obtain ⟨az3, rfl, hF⟩ := hF
  replace hF := fg_ob_some hF
  obtain ⟨xz4, e_3, hF⟩ := hF
  refine fg_iald X e_3 dX2_isSign_8 ?_
  refine fg_iconst X (v := (3 : Int32)) dX2_isSign_9 (by decide) ?_
  refine fg_icmp_ne X (tgt := 32) dX2_isSign_10 (by decide) (fun hc => ?_) (fun hc => ?_)
  · rw [if_neg hc] at hF
    refine fg_iconst X (v := (0 : Int32)) dX2_isSign_32 (by decide) ?_
    cases hF
    exact fg_zret X (by decide) dX2_isSign_33 (hT)
  · rw [if_pos hc] at hF
    refine fg_aload_n X (r := (some a0)) dX2_isSign_13 rfl 0 rfl ?_
    replace hF := fg_ob_some hF
    obtain ⟨rz5, e_4, hF⟩ := hF
    refine fg_getr X ff_X2_value q195 e_4 dX2_isSign_14 ?_
    refine fg_aload_n X (r := (some a0)) dX2_isSign_17 rfl 0 rfl ?_
    replace hF := fg_ob_some hF
    obtain ⟨xz6, e_5, hF⟩ := hF
    refine fg_geti X ff_X2_at q197 e_5 dX2_isSign_18 ?_
    replace hF := fg_ob_some hF
    obtain ⟨az7, rfl, hF⟩ := hF
    replace hF := fg_ob_some hF
    obtain ⟨yz8, e_6, hF⟩ := hF
    refine fg_lald X e_6 dX2_isSign_21 ?_
    refine fg_iload_n X dX2_isSign_22 rfl 1 rfl ?_
    refine fg_i2l X dX2_isSign_23 ?_
    refine fg_lcmp X dX2_isSign_24 ?_
    refine fg_if_ne X (tgt := 32) dX2_isSign_25 (by decide) (fun hc => ?_) (fun hc => ?_)
    · rw [if_neg hc] at hF
      refine fg_iconst X (v := (0 : Int32)) dX2_isSign_32 (by decide) ?_
      cases hF
      exact fg_zret X (by decide) dX2_isSign_33 (hT)
    · rw [if_pos hc] at hF
      refine fg_iconst X (v := (1 : Int32)) dX2_isSign_28 (by decide) ?_
      refine fg_goto X (tgt := 33) dX2_isSign_29 (by decide) ?_
      cases hF
      exact fg_zret X (by decide) dX2_isSign_33 (hT)
theorem mX2_isSign (l : Launch) (D : fg_D) {a0 : Nat} {i1 : Int32} {G : fg_H} {t : Int32 × fg_H} (hF : fX2_isSign a0 i1 G = some t) : fg_M l D yX2_isSign cX2_isSign 2 (some .boolean) 0 [.ref a0, .int i1] G (.returned (some (.int t.1))) t.2 :=
  fg_Mof (own := RX2) (nm := "isSign") (L := [(0, .ref a0), (1, .int i1)]) (plainFor_of_name pn_X2) rfl rfl rfl (Nat.le_of_ble_eq_true rfl) (fun Ω _ _ X hT => wX2_isSign X hF hT)
theorem hd_X17_init : yX17_init.cls ≠ "java/lang/invoke/MethodHandle" ∧ yX17_init.cls ≠ "java/lang/invoke/VarHandle" ∧ (parseMethodDescriptor yX17_init.desc).map (fun d => d.parameters.length) = some 1 := ⟨by decide +kernel, by decide +kernel, by decide +kernel⟩
set_option maxHeartbeats 4000000 in
theorem wX17_init {Ω : fg_O} {a0 : Nat} {r1 : Option Nat} {G : fg_H} {t : Unit × fg_H} (X : fg_X Ω RX17 "<init>" cX17_init 2 none 2) (hF : fX17_init a0 r1 G = some t) (hT : fg_T Ω (.returned none) t.2) : fg_W Ω G 0 [(0, .ref a0), (1, va_rf r1)] [] := by
  unfold fX17_init at hF
  refine fg_aload_n X (r := (some a0)) dX17_init_0 rfl 0 rfl ?_
  refine fg_aload_n X (r := r1) dX17_init_1 rfl 1 rfl ?_
  replace hF := fg_oc_some hF
  obtain ⟨u, Gz1, e_1, hF⟩ := hF
  refine fg_callI X (st := []) (mX15_init Ω.2.2.2.2.1 Ω.1 e_1) q906 q823 q119 q824 rfl hd_X15_init (by decide) rfl rfl (Nat.le_of_ble_eq_true rfl) dX17_init_2 ?_
  cases hF
  exact fg_vret X dX17_init_5 (hT)
theorem mX17_init (l : Launch) (D : fg_D) {a0 : Nat} {r1 : Option Nat} {G : fg_H} {t : Unit × fg_H} (hF : fX17_init a0 r1 G = some t) : fg_M l D yX17_init cX17_init 2 none 2 [.ref a0, va_rf r1] G (.returned none) t.2 :=
  fg_Mof (own := RX17) (nm := "<init>") (L := [(0, .ref a0), (1, va_rf r1)]) (plainFor_of_name pn_X17) rfl rfl (by cases r1 <;> rfl) (by cases r1 <;> exact Nat.le_of_ble_eq_true rfl) (fun Ω _ _ X hT => wX17_init X hF hT)
theorem hd_X18_init : yX18_init.cls ≠ "java/lang/invoke/MethodHandle" ∧ yX18_init.cls ≠ "java/lang/invoke/VarHandle" ∧ (parseMethodDescriptor yX18_init.desc).map (fun d => d.parameters.length) = some 1 := ⟨by decide +kernel, by decide +kernel, by decide +kernel⟩
set_option maxHeartbeats 4000000 in
theorem wX18_init {Ω : fg_O} {a0 : Nat} {r1 : Option Nat} {G : fg_H} {t : Unit × fg_H} (X : fg_X Ω RX18 "<init>" cX18_init 2 none 2) (hF : fX18_init a0 r1 G = some t) (hT : fg_T Ω (.returned none) t.2) : fg_W Ω G 0 [(0, .ref a0), (1, va_rf r1)] [] := by
  unfold fX18_init at hF
  refine fg_aload_n X (r := (some a0)) dX18_init_0 rfl 0 rfl ?_
  refine fg_aload_n X (r := r1) dX18_init_1 rfl 1 rfl ?_
  replace hF := fg_oc_some hF
  obtain ⟨u, Gz1, e_1, hF⟩ := hF
  refine fg_callI X (st := []) (mX15_init Ω.2.2.2.2.1 Ω.1 e_1) q914 q823 q119 q824 rfl hd_X15_init (by decide) rfl rfl (Nat.le_of_ble_eq_true rfl) dX18_init_2 ?_
  cases hF
  exact fg_vret X dX18_init_5 (hT)
theorem mX18_init (l : Launch) (D : fg_D) {a0 : Nat} {r1 : Option Nat} {G : fg_H} {t : Unit × fg_H} (hF : fX18_init a0 r1 G = some t) : fg_M l D yX18_init cX18_init 2 none 2 [.ref a0, va_rf r1] G (.returned none) t.2 :=
  fg_Mof (own := RX18) (nm := "<init>") (L := [(0, .ref a0), (1, va_rf r1)]) (plainFor_of_name pn_X18) rfl rfl (by cases r1 <;> rfl) (by cases r1 <;> exact Nat.le_of_ble_eq_true rfl) (fun Ω _ _ X hT => wX18_init X hF hT)
theorem hd_X16_init : yX16_init.cls ≠ "java/lang/invoke/MethodHandle" ∧ yX16_init.cls ≠ "java/lang/invoke/VarHandle" ∧ (parseMethodDescriptor yX16_init.desc).map (fun d => d.parameters.length) = some 1 := ⟨by decide +kernel, by decide +kernel, by decide +kernel⟩
set_option maxHeartbeats 4000000 in
theorem wX16_init {Ω : fg_O} {a0 : Nat} {r1 : Option Nat} {G : fg_H} {t : Unit × fg_H} (X : fg_X Ω RX16 "<init>" cX16_init 2 none 2) (hF : fX16_init a0 r1 G = some t) (hT : fg_T Ω (.returned none) t.2) : fg_W Ω G 0 [(0, .ref a0), (1, va_rf r1)] [] := by
  unfold fX16_init at hF
  refine fg_aload_n X (r := (some a0)) dX16_init_0 rfl 0 rfl ?_
  refine fg_aload_n X (r := r1) dX16_init_1 rfl 1 rfl ?_
  replace hF := fg_oc_some hF
  obtain ⟨u, Gz1, e_1, hF⟩ := hF
  refine fg_callI X (st := []) (mX15_init Ω.2.2.2.2.1 Ω.1 e_1) q822 q823 q119 q824 rfl hd_X15_init (by decide) rfl rfl (Nat.le_of_ble_eq_true rfl) dX16_init_2 ?_
  cases hF
  exact fg_vret X dX16_init_5 (hT)
theorem mX16_init (l : Launch) (D : fg_D) {a0 : Nat} {r1 : Option Nat} {G : fg_H} {t : Unit × fg_H} (hF : fX16_init a0 r1 G = some t) : fg_M l D yX16_init cX16_init 2 none 2 [.ref a0, va_rf r1] G (.returned none) t.2 :=
  fg_Mof (own := RX16) (nm := "<init>") (L := [(0, .ref a0), (1, va_rf r1)]) (plainFor_of_name pn_X16) rfl rfl (by cases r1 <;> rfl) (by cases r1 <;> exact Nat.le_of_ble_eq_true rfl) (fun Ω _ _ X hT => wX16_init X hF hT)
theorem hd_X2_hasSign : yX2_hasSign.cls ≠ "java/lang/invoke/MethodHandle" ∧ yX2_hasSign.cls ≠ "java/lang/invoke/VarHandle" ∧ (parseMethodDescriptor yX2_hasSign.desc).map (fun d => d.parameters.length) = some 1 := ⟨by decide +kernel, by decide +kernel, by decide +kernel⟩
set_option maxHeartbeats 4000000 in
theorem wX2_hasSign {Ω : fg_O} {a0 : Nat} {i1 : Int32} {G : fg_H} {t : Int32 × fg_H} (X : fg_X Ω RX2 "hasSign" cX2_hasSign 3 (some .boolean) 1) (hF : fX2_hasSign a0 i1 G = some t) (hT : fg_T Ω (.returned (some (.int t.1))) t.2) : fg_W Ω G 0 [(0, .ref a0), (1, .int i1)] [] := by
  unfold fX2_hasSign at hF
  refine fg_aload_n X (r := (some a0)) dX2_hasSign_0 rfl 0 rfl ?_
  refine fg_iload_n X dX2_hasSign_1 rfl 1 rfl ?_
  replace hF := fg_gd_some hF
  obtain ⟨eg_1, hF⟩ := hF
  obtain ⟨fs_2, eo_3⟩ := fg_rc_get eg_1
  replace hF := fg_oc_some hF
  obtain ⟨xz2, Gz1, e_4, hF⟩ := hF
  refine fg_callV X (st := []) (mX2_isSign Ω.2.2.2.2.1 Ω.1 e_4) q753 q755 qs14 q94 q756 hd_X2_isSign (by decide) rfl eo_3 (by decide) rfl rfl (Nat.le_of_ble_eq_true rfl) dX2_hasSign_2 ?_
  refine fg_istore_n X (L' := [(2, .int xz2), (0, .ref a0), (1, .int i1)]) dX2_hasSign_5 rfl (by decide) rfl ?_
  refine fg_iload_n X dX2_hasSign_6 rfl 0 rfl ?_
  refine fg_if_eq X (tgt := 20) dX2_hasSign_7 (by decide) (fun hc => ?_) (fun hc => ?_)
  · rw [if_pos hc] at hF
    refine fg_iload_n X dX2_hasSign_20 rfl 0 rfl ?_
    replace hF := fg_gd_some hF
    obtain ⟨eg_5, hF⟩ := hF
    cases hF
    exact fg_zret X (fg_b_or eg_5) dX2_hasSign_21 (hT)
  · rw [if_neg hc] at hF
    refine fg_aload_n X (r := (some a0)) dX2_hasSign_10 rfl 1 rfl ?_
    refine fg_dup X dX2_hasSign_11 rfl ?_
    replace hF := fg_ob_some hF
    obtain ⟨xz3, e_6, hF⟩ := hF
    refine fg_geti X ff_X2_at q197 e_6 dX2_hasSign_12 ?_
    refine fg_iconst X (v := (1 : Int32)) dX2_hasSign_15 (by decide) ?_
    refine fg_iadd X dX2_hasSign_16 ?_
    replace hF := fg_ob_some hF
    obtain ⟨Gz4, e_7, hF⟩ := hF
    refine fg_putv X (ty := .int) (v := .int (xz3 + (1 : Int32))) ff_X2_at q197 rfl (Or.inl rfl) rfl rfl rfl e_7 dX2_hasSign_17 ?_
    refine fg_iload_n X dX2_hasSign_20 rfl 0 rfl ?_
    replace hF := fg_gd_some hF
    obtain ⟨eg_8, hF⟩ := hF
    cases hF
    exact fg_zret X (fg_b_or eg_8) dX2_hasSign_21 (hT)
theorem mX2_hasSign (l : Launch) (D : fg_D) {a0 : Nat} {i1 : Int32} {G : fg_H} {t : Int32 × fg_H} (hF : fX2_hasSign a0 i1 G = some t) : fg_M l D yX2_hasSign cX2_hasSign 3 (some .boolean) 1 [.ref a0, .int i1] G (.returned (some (.int t.1))) t.2 :=
  fg_Mof (own := RX2) (nm := "hasSign") (L := [(0, .ref a0), (1, .int i1)]) (plainFor_of_name pn_X2) rfl rfl rfl (Nat.le_of_ble_eq_true rfl) (fun Ω _ _ X hT => wX2_hasSign X hF hT)
theorem hd_X2_term : yX2_term.cls ≠ "java/lang/invoke/MethodHandle" ∧ yX2_term.cls ≠ "java/lang/invoke/VarHandle" ∧ (parseMethodDescriptor yX2_term.desc).map (fun d => d.parameters.length) = some 0 := ⟨by decide +kernel, by decide +kernel, by decide +kernel⟩
set_option maxHeartbeats 4000000 in
theorem wX2_term_7b {Ω : fg_O} {vp : (Nat → fg_H → Option ((Option Nat ⊕ Nat) × fg_H))} {n : Nat} (hvp : fg_RP vp n) {a0 : Nat} {r1 : Option Nat} {r2 : Option Nat} {G : fg_H} {t : ((Nat × Option Nat × Option Nat × fg_H) ⊕ ((Option Nat ⊕ Nat) × fg_H))} (X : fg_X Ω RX2 "term" cX2_term 4 (some (.object "FogNets$Expression")) (n + 7)) (hF : fX2_term_7b vp a0 r1 r2 G = some t) (h7 : ∀ z, t = (.inl z) → fg_W Ω z.2.2.2 7 [(0, .ref z.1), (1, va_rf z.2.1), (2, va_rf z.2.2.1)] []) (hT : ∀ u, t = (.inr u) → fg_TX Ω (fg_or u.1) u.2) : fg_W Ω G 7 [(0, .ref a0), (1, va_rf r1), (2, va_rf r2)] [] := by
  unfold fX2_term_7b at hF
  refine fg_aload_n X (r := (some a0)) dX2_term_7 rfl 0 rfl ?_
  refine fg_bipush X (v := (42 : Int32)) dX2_term_8 (by decide) ?_
  replace hF := fg_gd_some hF
  obtain ⟨eg_1, hF⟩ := hF
  obtain ⟨fs_2, eo_3⟩ := fg_rc_get eg_1
  replace hF := fg_oc_some hF
  obtain ⟨xz6, Gz5, e_4, hF⟩ := hF
  refine fg_callV X (st := []) (mX2_hasSign Ω.2.2.2.2.1 Ω.1 e_4) q794 q796 qs16 q94 q797 hd_X2_hasSign (by decide) rfl eo_3 ⟨by omega, by decide⟩ rfl rfl (Nat.le_of_ble_eq_true rfl) dX2_term_10 ?_
  refine fg_if_eq X (tgt := 46) dX2_term_13 (by decide) (fun hc => ?_) (fun hc => ?_)
  · rw [if_pos hc] at hF
    replace hF := fg_rt_some hF
    obtain ⟨tz7, hF, ht_5⟩ := hF
    subst ht_5
    replace hT := hT _ rfl
    refine fg_aload_n X (r := r2) dX2_term_46 rfl 2 rfl ?_
    refine fg_ifnonnull X (r := r2) (tgt := 54) dX2_term_47 (by decide) (fun az8 hc => ?_) (fun hc => ?_)
    · subst hc
      unfold fg_on at hF
      dsimp only at hF
      refine fg_aload_n X (r := (some az8)) dX2_term_54 rfl 2 rfl ?_
      cases hF
      exact fg_aret (Or.inl ⟨_, rfl⟩) X (r := (some az8)) dX2_term_55 ((hT).1)
    · subst hc
      unfold fg_on at hF
      dsimp only at hF
      refine fg_aload_n X (r := r1) dX2_term_50 rfl 1 rfl ?_
      refine fg_goto X (tgt := 55) dX2_term_51 (by decide) ?_
      cases hF
      exact fg_aret (Or.inl ⟨_, rfl⟩) X (r := r1) dX2_term_55 ((hT).1)
  · rw [if_neg hc] at hF
    refine fg_aload_n X (r := (some a0)) dX2_term_16 rfl 0 rfl ?_
    replace hF := fg_gd_some hF
    obtain ⟨eg_6, hF⟩ := hF
    obtain ⟨fs_7, eo_8⟩ := fg_rc_get eg_6
    replace hF := fg_oc_some hF
    obtain ⟨zz11, Gz9, e_9, hF⟩ := hF
    rcases zz11 with rz10 | qz12
    swap
    · dsimp only [fg_th] at hF
      exact fg_callVT (G1 := Gz9) (q := qz12) X (st := []) (hvp.use Ω.2.2.2.2.1 Ω.1 e_9) q749 q751 qs13 q94 q752 hd_X2_part (by decide) rfl eo_8 ⟨by omega, by decide⟩ rfl rfl (Nat.le_of_ble_eq_true rfl) dX2_term_17 (hT _ (Option.some.inj hF).symm)
    dsimp only [fg_th] at hF
    refine fg_callVX (G1 := Gz9) (v := some (va_rf rz10)) X (st := []) (hvp.use Ω.2.2.2.2.1 Ω.1 e_9) q749 q751 qs13 q94 q752 hd_X2_part (by decide) rfl eo_8 ⟨by omega, by decide⟩ rfl rfl (Nat.le_of_ble_eq_true rfl) dX2_term_17 ?_
    refine fg_astore_n X (r := rz10) (L' := [(3, va_rf rz10), (0, .ref a0), (1, va_rf r1), (2, va_rf r2)]) dX2_term_20 rfl (by decide) (by cases r2 <;> rfl) ?_
    refine fg_aload_n X (r := r1) dX2_term_21 rfl 2 rfl ?_
    refine fg_aload_n X (r := r2) dX2_term_22 rfl 3 rfl ?_
    replace hF := fg_oc_some hF
    obtain ⟨rz14, Gz13, e_10, hF⟩ := hF
    refine fg_callS X (st := []) (mX2_chain Ω.2.2.2.2.1 Ω.1 e_10) q798 q799 q94 q800 hd_X2_chain ⟨by omega, by decide⟩ rfl rfl (Nat.le_of_ble_eq_true rfl) dX2_term_23 ?_
    refine fg_astore_n X (r := rz14) (L' := [(2, va_rf rz14), (3, va_rf rz10), (0, .ref a0), (1, va_rf r1)]) dX2_term_26 rfl (by decide) (by cases r1 <;> rfl) ?_
    refine fg_aload_n X (r := rz14) dX2_term_27 rfl 0 rfl ?_
    replace hF := fg_ob_some hF
    obtain ⟨az15, rfl, hF⟩ := hF
    replace hF := fg_ob_some hF
    obtain ⟨rz16, e_11, hF⟩ := hF
    refine fg_getr X ff_X14_links q811 e_11 dX2_term_28 ?_
    replace hF := fg_oc_some hF
    obtain ⟨az17, Gz18, e_12, hF⟩ := hF
    refine fg_newo X q817 q818 q120 rfl (by decide) tyX16_ok nwk_X16 e_12 dX2_term_31 ?_
    refine fg_dup X dX2_term_34 rfl ?_
    refine fg_aload_n X (r := rz10) dX2_term_35 rfl 1 rfl ?_
    replace hF := fg_oc_some hF
    obtain ⟨u, Gz19, e_13, hF⟩ := hF
    refine fg_callI X (st := [.ref az17, va_rf rz16]) (mX16_init Ω.2.2.2.2.1 Ω.1 e_13) q819 q820 q120 q821 rfl hd_X16_init ⟨by omega, by decide⟩ rfl rfl (by cases rz16 <;> exact Nat.le_of_ble_eq_true rfl) dX2_term_36 ?_
    replace hF := fg_ob_some hF
    obtain ⟨az20, rfl, hF⟩ := hF
    replace hF := fg_gd_some hF
    obtain ⟨eg_14, hF⟩ := hF
    obtain ⟨fs_15, eo_16⟩ := fg_rc_get eg_14
    replace hF := fg_oc_some hF
    obtain ⟨xz22, Gz21, e_17, hF⟩ := hF
    refine fg_callV X (st := []) (mJ2_add Ω.2.2.2.2.1 Ω.1 e_17) q830 q831 q832 q98 q833 hd_J2_add (by decide) rfl eo_16 ⟨by omega, by decide⟩ rfl rfl (Nat.le_of_ble_eq_true rfl) dX2_term_39 ?_
    refine fg_pop X dX2_term_42 rfl ?_
    refine fg_goto X (tgt := 7) dX2_term_43 (by decide) ?_
    refine fg_sub [2, 3, 0] rfl ?_
    exact h7 _ (Option.some.inj hF).symm
set_option maxHeartbeats 4000000 in
seal fX2_term_7b in
theorem wX2_term_7 {Ω : fg_O} {vp : (Nat → fg_H → Option ((Option Nat ⊕ Nat) × fg_H))} {n : Nat} (hvp : fg_RP vp n) {a0 : Nat} {r1 : Option Nat} {r2 : Option Nat} {G : fg_H} {t : ((Option Nat ⊕ Nat) × fg_H)} (X : fg_X Ω RX2 "term" cX2_term 4 (some (.object "FogNets$Expression")) (n + 7)) (hF : fX2_term_7 vp a0 r1 r2 G = some t) (hT : fg_TX Ω (fg_or t.1) t.2) : fg_W Ω G 7 [(0, .ref a0), (1, va_rf r1), (2, va_rf r2)] [] := by
  unfold fX2_term_7 at hF
  exact fg_lp_walk (P := fun z => fg_W Ω z.2.2.2 7 [(0, .ref z.1), (1, va_rf z.2.1), (2, va_rf z.2.2.1)] []) (fun y o ho hl hr => wX2_term_7b hvp X ho (fun z e => hl z e) (fun u e => by rw [hr _ e]; exact hT)) hF
set_option maxHeartbeats 4000000 in
theorem wX2_term {Ω : fg_O} {vp : (Nat → fg_H → Option ((Option Nat ⊕ Nat) × fg_H))} {n : Nat} (hvp : fg_RP vp n) {a0 : Nat} {G : fg_H} {t : (Option Nat ⊕ Nat) × fg_H} (X : fg_X Ω RX2 "term" cX2_term 4 (some (.object "FogNets$Expression")) (n + 7)) (hF : fX2_term vp a0 G = some t) (hT : fg_TX Ω (fg_or t.1) t.2) : fg_W Ω G 0 [(0, .ref a0)] [] := by
  unfold fX2_term at hF
  refine fg_aload_n X (r := (some a0)) dX2_term_0 rfl 0 rfl ?_
  replace hF := fg_gd_some hF
  obtain ⟨eg_1, hF⟩ := hF
  obtain ⟨fs_2, eo_3⟩ := fg_rc_get eg_1
  replace hF := fg_oc_some hF
  obtain ⟨zz3, Gz1, e_4, hF⟩ := hF
  rcases zz3 with rz2 | qz4
  swap
  · dsimp only [fg_th] at hF
    cases hF
    exact fg_callVT (G1 := Gz1) (q := qz4) X (st := []) (hvp.use Ω.2.2.2.2.1 Ω.1 e_4) q749 q751 qs13 q94 q752 hd_X2_part (by decide) rfl eo_3 ⟨by omega, by decide⟩ rfl rfl (Nat.le_of_ble_eq_true rfl) dX2_term_1 (hT)
  dsimp only [fg_th] at hF
  refine fg_callVX (G1 := Gz1) (v := some (va_rf rz2)) X (st := []) (hvp.use Ω.2.2.2.2.1 Ω.1 e_4) q749 q751 qs13 q94 q752 hd_X2_part (by decide) rfl eo_3 ⟨by omega, by decide⟩ rfl rfl (Nat.le_of_ble_eq_true rfl) dX2_term_1 ?_
  refine fg_astore_n X (r := rz2) (L' := [(1, va_rf rz2), (0, .ref a0)]) dX2_term_4 rfl (by decide) rfl ?_
  refine fg_anull X dX2_term_5 ?_
  refine fg_astore_n X (r := none) (L' := [(2, va_rf none), (1, va_rf rz2), (0, .ref a0)]) dX2_term_6 rfl (by decide) (by cases rz2 <;> rfl) ?_
  refine fg_sub [2, 1, 0] rfl ?_
  exact wX2_term_7 hvp X hF hT
theorem mX2_term (l : Launch) (D : fg_D) {vp : (Nat → fg_H → Option ((Option Nat ⊕ Nat) × fg_H))} {n : Nat} (hvp : fg_RP vp n) {a0 : Nat} {G : fg_H} {t : (Option Nat ⊕ Nat) × fg_H} (hF : fX2_term vp a0 G = some t) : fg_MX l D yX2_term cX2_term 4 (some (.object "FogNets$Expression")) (n + 7) [.ref a0] G (fg_or t.1) t.2 :=
  fg_MXof (own := RX2) (nm := "term") (L := [(0, .ref a0)]) pn_X2 rfl rfl rfl (Nat.le_of_ble_eq_true rfl) (fun Ω _ _ X hT => wX2_term hvp X hF hT)

set_option maxRecDepth 100000
theorem hd_X5_isMended : yX5_isMended.cls ≠ "java/lang/invoke/MethodHandle" ∧ yX5_isMended.cls ≠ "java/lang/invoke/VarHandle" ∧ (parseMethodDescriptor yX5_isMended.desc).map (fun d => d.parameters.length) = some 1 := ⟨by decide +kernel, by decide +kernel, by decide +kernel⟩
set_option maxHeartbeats 4000000 in
theorem wX5_isMended {Ω : fg_O} {a0 : Nat} {i1 : Int32} {G : fg_H} {t : Int32 × fg_H} (X : fg_X Ω RX5 "isMended" cX5_isMended 2 (some .boolean) 0) (hF : fX5_isMended a0 i1 G = some t) (hT : fg_T Ω (.returned (some (.int t.1))) t.2) : fg_W Ω G 0 [(0, .ref a0), (1, .int i1)] [] := by
  unfold fX5_isMended at hF
  refine fg_aload_n X (r := (some a0)) dX5_isMended_0 rfl 0 rfl ?_
  replace hF := fg_ob_some hF
  obtain ⟨xz1, e_1, hF⟩ := hF
  refine fg_geti X ff_X5_mended q360 e_1 dX5_isMended_1 ?_
  refine fg_iload_n X dX5_isMended_4 rfl 1 rfl ?_
  refine fg_ishr X dX5_isMended_5 ?_
  refine fg_iconst X (v := (1 : Int32)) dX5_isMended_6 (by decide) ?_
  refine fg_iand X dX5_isMended_7 ?_
  refine fg_iconst X (v := (1 : Int32)) dX5_isMended_8 (by decide) ?_
  refine fg_icmp_ne X (tgt := 16) dX5_isMended_9 (by decide) (fun hc => ?_) (fun hc => ?_)
  · rw [if_neg hc] at hF
    refine fg_iconst X (v := (0 : Int32)) dX5_isMended_16 (by decide) ?_
    cases hF
    exact fg_zret X (by decide) dX5_isMended_17 (hT)
  · rw [if_pos hc] at hF
    refine fg_iconst X (v := (1 : Int32)) dX5_isMended_12 (by decide) ?_
    refine fg_goto X (tgt := 17) dX5_isMended_13 (by decide) ?_
    cases hF
    exact fg_zret X (by decide) dX5_isMended_17 (hT)
theorem mX5_isMended (l : Launch) (D : fg_D) {a0 : Nat} {i1 : Int32} {G : fg_H} {t : Int32 × fg_H} (hF : fX5_isMended a0 i1 G = some t) : fg_M l D yX5_isMended cX5_isMended 2 (some .boolean) 0 [.ref a0, .int i1] G (.returned (some (.int t.1))) t.2 :=
  fg_Mof (own := RX5) (nm := "isMended") (L := [(0, .ref a0), (1, .int i1)]) (plainFor_of_name pn_X5) rfl rfl rfl (Nat.le_of_ble_eq_true rfl) (fun Ω _ _ X hT => wX5_isMended X hF hT)
theorem hd_X23_kind : yX23_kind.cls ≠ "java/lang/invoke/MethodHandle" ∧ yX23_kind.cls ≠ "java/lang/invoke/VarHandle" ∧ (parseMethodDescriptor yX23_kind.desc).map (fun d => d.parameters.length) = some 0 := ⟨by decide +kernel, by decide +kernel, by decide +kernel⟩
set_option maxHeartbeats 4000000 in
theorem wX23_kind {Ω : fg_O} {a0 : Nat} {G : fg_H} {t : Int32 × fg_H} (X : fg_X Ω RX23 "kind" cX23_kind 1 (some .int) 0) (hF : fX23_kind a0 G = some t) (hT : fg_T Ω (.returned (some (.int t.1))) t.2) : fg_W Ω G 0 [(0, .ref a0)] [] := by
  unfold fX23_kind at hF
  refine fg_iconst X (v := (0 : Int32)) dX23_kind_0 (by decide) ?_
  cases hF
  exact fg_iret X dX23_kind_1 (hT)
theorem mX23_kind (l : Launch) (D : fg_D) {a0 : Nat} {G : fg_H} {t : Int32 × fg_H} (hF : fX23_kind a0 G = some t) : fg_M l D yX23_kind cX23_kind 1 (some .int) 0 [.ref a0] G (.returned (some (.int t.1))) t.2 :=
  fg_Mof (own := RX23) (nm := "kind") (L := [(0, .ref a0)]) (plainFor_of_name pn_X23) rfl rfl rfl (Nat.le_of_ble_eq_true rfl) (fun Ω _ _ X hT => wX23_kind X hF hT)
theorem hd_X24_kind : yX24_kind.cls ≠ "java/lang/invoke/MethodHandle" ∧ yX24_kind.cls ≠ "java/lang/invoke/VarHandle" ∧ (parseMethodDescriptor yX24_kind.desc).map (fun d => d.parameters.length) = some 0 := ⟨by decide +kernel, by decide +kernel, by decide +kernel⟩
set_option maxHeartbeats 4000000 in
theorem wX24_kind {Ω : fg_O} {a0 : Nat} {G : fg_H} {t : Int32 × fg_H} (X : fg_X Ω RX24 "kind" cX24_kind 1 (some .int) 0) (hF : fX24_kind a0 G = some t) (hT : fg_T Ω (.returned (some (.int t.1))) t.2) : fg_W Ω G 0 [(0, .ref a0)] [] := by
  unfold fX24_kind at hF
  refine fg_iconst X (v := (1 : Int32)) dX24_kind_0 (by decide) ?_
  cases hF
  exact fg_iret X dX24_kind_1 (hT)
theorem mX24_kind (l : Launch) (D : fg_D) {a0 : Nat} {G : fg_H} {t : Int32 × fg_H} (hF : fX24_kind a0 G = some t) : fg_M l D yX24_kind cX24_kind 1 (some .int) 0 [.ref a0] G (.returned (some (.int t.1))) t.2 :=
  fg_Mof (own := RX24) (nm := "kind") (L := [(0, .ref a0)]) (plainFor_of_name pn_X24) rfl rfl rfl (Nat.le_of_ble_eq_true rfl) (fun Ω _ _ X hT => wX24_kind X hF hT)
theorem hd_X25_kind : yX25_kind.cls ≠ "java/lang/invoke/MethodHandle" ∧ yX25_kind.cls ≠ "java/lang/invoke/VarHandle" ∧ (parseMethodDescriptor yX25_kind.desc).map (fun d => d.parameters.length) = some 0 := ⟨by decide +kernel, by decide +kernel, by decide +kernel⟩
set_option maxHeartbeats 4000000 in
theorem wX25_kind {Ω : fg_O} {a0 : Nat} {G : fg_H} {t : Int32 × fg_H} (X : fg_X Ω RX25 "kind" cX25_kind 1 (some .int) 0) (hF : fX25_kind a0 G = some t) (hT : fg_T Ω (.returned (some (.int t.1))) t.2) : fg_W Ω G 0 [(0, .ref a0)] [] := by
  unfold fX25_kind at hF
  refine fg_iconst X (v := (2 : Int32)) dX25_kind_0 (by decide) ?_
  cases hF
  exact fg_iret X dX25_kind_1 (hT)
theorem mX25_kind (l : Launch) (D : fg_D) {a0 : Nat} {G : fg_H} {t : Int32 × fg_H} (hF : fX25_kind a0 G = some t) : fg_M l D yX25_kind cX25_kind 1 (some .int) 0 [.ref a0] G (.returned (some (.int t.1))) t.2 :=
  fg_Mof (own := RX25) (nm := "kind") (L := [(0, .ref a0)]) (plainFor_of_name pn_X25) rfl rfl rfl (Nat.le_of_ble_eq_true rfl) (fun Ω _ _ X hT => wX25_kind X hF hT)
theorem hd_X26_kind : yX26_kind.cls ≠ "java/lang/invoke/MethodHandle" ∧ yX26_kind.cls ≠ "java/lang/invoke/VarHandle" ∧ (parseMethodDescriptor yX26_kind.desc).map (fun d => d.parameters.length) = some 0 := ⟨by decide +kernel, by decide +kernel, by decide +kernel⟩
set_option maxHeartbeats 4000000 in
theorem wX26_kind {Ω : fg_O} {a0 : Nat} {G : fg_H} {t : Int32 × fg_H} (X : fg_X Ω RX26 "kind" cX26_kind 1 (some .int) 0) (hF : fX26_kind a0 G = some t) (hT : fg_T Ω (.returned (some (.int t.1))) t.2) : fg_W Ω G 0 [(0, .ref a0)] [] := by
  unfold fX26_kind at hF
  refine fg_iconst X (v := (3 : Int32)) dX26_kind_0 (by decide) ?_
  cases hF
  exact fg_iret X dX26_kind_1 (hT)
theorem mX26_kind (l : Launch) (D : fg_D) {a0 : Nat} {G : fg_H} {t : Int32 × fg_H} (hF : fX26_kind a0 G = some t) : fg_M l D yX26_kind cX26_kind 1 (some .int) 0 [.ref a0] G (.returned (some (.int t.1))) t.2 :=
  fg_Mof (own := RX26) (nm := "kind") (L := [(0, .ref a0)]) (plainFor_of_name pn_X26) rfl rfl rfl (Nat.le_of_ble_eq_true rfl) (fun Ω _ _ X hT => wX26_kind X hF hT)
theorem hd_X27_kind : yX27_kind.cls ≠ "java/lang/invoke/MethodHandle" ∧ yX27_kind.cls ≠ "java/lang/invoke/VarHandle" ∧ (parseMethodDescriptor yX27_kind.desc).map (fun d => d.parameters.length) = some 0 := ⟨by decide +kernel, by decide +kernel, by decide +kernel⟩
set_option maxHeartbeats 4000000 in
theorem wX27_kind {Ω : fg_O} {a0 : Nat} {G : fg_H} {t : Int32 × fg_H} (X : fg_X Ω RX27 "kind" cX27_kind 1 (some .int) 0) (hF : fX27_kind a0 G = some t) (hT : fg_T Ω (.returned (some (.int t.1))) t.2) : fg_W Ω G 0 [(0, .ref a0)] [] := by
  unfold fX27_kind at hF
  refine fg_iconst X (v := (4 : Int32)) dX27_kind_0 (by decide) ?_
  cases hF
  exact fg_iret X dX27_kind_1 (hT)
theorem mX27_kind (l : Launch) (D : fg_D) {a0 : Nat} {G : fg_H} {t : Int32 × fg_H} (hF : fX27_kind a0 G = some t) : fg_M l D yX27_kind cX27_kind 1 (some .int) 0 [.ref a0] G (.returned (some (.int t.1))) t.2 :=
  fg_Mof (own := RX27) (nm := "kind") (L := [(0, .ref a0)]) (plainFor_of_name pn_X27) rfl rfl rfl (Nat.le_of_ble_eq_true rfl) (fun Ω _ _ X hT => wX27_kind X hF hT)
theorem hd_X28_kind : yX28_kind.cls ≠ "java/lang/invoke/MethodHandle" ∧ yX28_kind.cls ≠ "java/lang/invoke/VarHandle" ∧ (parseMethodDescriptor yX28_kind.desc).map (fun d => d.parameters.length) = some 0 := ⟨by decide +kernel, by decide +kernel, by decide +kernel⟩
set_option maxHeartbeats 4000000 in
theorem wX28_kind {Ω : fg_O} {a0 : Nat} {G : fg_H} {t : Int32 × fg_H} (X : fg_X Ω RX28 "kind" cX28_kind 1 (some .int) 0) (hF : fX28_kind a0 G = some t) (hT : fg_T Ω (.returned (some (.int t.1))) t.2) : fg_W Ω G 0 [(0, .ref a0)] [] := by
  unfold fX28_kind at hF
  refine fg_iconst X (v := (5 : Int32)) dX28_kind_0 (by decide) ?_
  cases hF
  exact fg_iret X dX28_kind_1 (hT)
theorem mX28_kind (l : Launch) (D : fg_D) {a0 : Nat} {G : fg_H} {t : Int32 × fg_H} (hF : fX28_kind a0 G = some t) : fg_M l D yX28_kind cX28_kind 1 (some .int) 0 [.ref a0] G (.returned (some (.int t.1))) t.2 :=
  fg_Mof (own := RX28) (nm := "kind") (L := [(0, .ref a0)]) (plainFor_of_name pn_X28) rfl rfl rfl (Nat.le_of_ble_eq_true rfl) (fun Ω _ _ X hT => wX28_kind X hF hT)
theorem hv_X23_kind : "FogNets$Net" ≠ "java/lang/invoke/MethodHandle" ∧ "FogNets$Net" ≠ "java/lang/invoke/VarHandle" ∧ (parseMethodDescriptor "()I").map (fun d => d.parameters.length) = some 0 := ⟨by decide +kernel, by decide +kernel, by decide +kernel⟩
theorem cvX23_kind {Ω : fg_O} {own nm : String} {cc : ByteArray} {nL d : Nat} {ret : Option FieldType} {G G1 : fg_H} {pc a0 index : Nat} {L : List (Nat × Value)} {st : List Value} {x : Int32}  (X : fg_X Ω own nm cc nL ret d) (e : vX23_kind a0  G = some (x, G1)) (hdd : 1 ≤ d) (q : Cond.methodLink own index ({ cls := "FogNets$Net", name := "kind", desc := "()I" } : MethodName) ∈ lw_all) (hW : (st.map fun v => v.category).sum ≤ 8) (hd : decode cc pc = .ok (.invokevirtual index, 3)) (kk : fg_W Ω G1 (pc + 3) L (.int x :: st)) : fg_W Ω G pc L (.ref a0 :: st) := by
  unfold vX23_kind at e
  by_cases h23 : fg_rc G a0 23 = true
  · rw [if_pos h23] at e
    obtain ⟨fs, eo⟩ := fg_rc_get h23
    exact fg_callU X (C := "FogNets$Net") (mX23_kind Ω.2.2.2.2.1 Ω.1 e) q q1090 q1088 q1089 q133 q1106 (Or.inr ⟨q1088, _, _, _, q1106⟩) hv_X23_kind (by decide) rfl eo ⟨by omega, by decide⟩ rfl rfl hW hd kk
  rw [if_neg h23] at e
  by_cases h24 : fg_rc G a0 24 = true
  · rw [if_pos h24] at e
    obtain ⟨fs, eo⟩ := fg_rc_get h24
    exact fg_callU X (C := "FogNets$Shroud") (mX24_kind Ω.2.2.2.2.1 Ω.1 e) q q1090 q1098 q1097 q134 q1099 (Or.inr ⟨q1088, _, _, _, q1106⟩) hv_X23_kind (by decide) rfl eo ⟨by omega, by decide⟩ rfl rfl hW hd kk
  rw [if_neg h24] at e
  by_cases h25 : fg_rc G a0 25 = true
  · rw [if_pos h25] at e
    obtain ⟨fs, eo⟩ := fg_rc_get h25
    exact fg_callU X (C := "FogNets$Birds") (mX25_kind Ω.2.2.2.2.1 Ω.1 e) q q1090 q1092 q1091 q135 q1093 (Or.inr ⟨q1088, _, _, _, q1106⟩) hv_X23_kind (by decide) rfl eo ⟨by omega, by decide⟩ rfl rfl hW hd kk
  rw [if_neg h25] at e
  by_cases h26 : fg_rc G a0 26 = true
  · rw [if_pos h26] at e
    obtain ⟨fs, eo⟩ := fg_rc_get h26
    exact fg_callU X (C := "FogNets$Torn") (mX26_kind Ω.2.2.2.2.1 Ω.1 e) q q1090 q1104 q1103 q136 q1105 (Or.inr ⟨q1088, _, _, _, q1106⟩) hv_X23_kind (by decide) rfl eo ⟨by omega, by decide⟩ rfl rfl hW hd kk
  rw [if_neg h26] at e
  by_cases h27 : fg_rc G a0 27 = true
  · rw [if_pos h27] at e
    obtain ⟨fs, eo⟩ := fg_rc_get h27
    exact fg_callU X (C := "FogNets$Spite") (mX27_kind Ω.2.2.2.2.1 Ω.1 e) q q1090 q1101 q1100 q137 q1102 (Or.inr ⟨q1088, _, _, _, q1106⟩) hv_X23_kind (by decide) rfl eo ⟨by omega, by decide⟩ rfl rfl hW hd kk
  rw [if_neg h27] at e
  by_cases h28 : fg_rc G a0 28 = true
  · rw [if_pos h28] at e
    obtain ⟨fs, eo⟩ := fg_rc_get h28
    exact fg_callU X (C := "FogNets$High") (mX28_kind Ω.2.2.2.2.1 Ω.1 e) q q1090 q1095 q1094 q138 q1096 (Or.inr ⟨q1088, _, _, _, q1106⟩) hv_X23_kind (by decide) rfl eo ⟨by omega, by decide⟩ rfl rfl hW hd kk
  rw [if_neg h28] at e
  cases e
theorem hd_X1_net_2 : yX1_net_2.cls ≠ "java/lang/invoke/MethodHandle" ∧ yX1_net_2.cls ≠ "java/lang/invoke/VarHandle" ∧ (parseMethodDescriptor yX1_net_2.desc).map (fun d => d.parameters.length) = some 2 := ⟨by decide +kernel, by decide +kernel, by decide +kernel⟩
set_option maxHeartbeats 4000000 in
theorem wX1_net_2 {Ω : fg_O} {a0 : Nat} {i1 : Int32} {i2 : Int32} {G : fg_H} {t : Int32 × fg_H} (X : fg_X Ω RX1 "net" cX1_net_2 4 (some .int) 2) (hF : fX1_net_2 a0 i1 i2 G = some t) (hT : fg_T Ω (.returned (some (.int t.1))) t.2) : fg_W Ω G 0 [(0, .ref a0), (1, .int i1), (2, .int i2)] [] := by
  unfold fX1_net_2 at hF
  refine fg_aload_n X (r := (some a0)) dX1_net_2_0 rfl 0 rfl ?_
  refine fg_iload_n X dX1_net_2_1 rfl 1 rfl ?_
  replace hF := fg_gd_some hF
  obtain ⟨eg_1, hF⟩ := hF
  obtain ⟨fs_2, eo_3⟩ := fg_rc_get eg_1
  replace hF := fg_oc_some hF
  obtain ⟨xz2, Gz1, e_4, hF⟩ := hF
  refine fg_callV X (st := []) (mX1_isNet Ω.2.2.2.2.1 Ω.1 e_4) q1082 q1084 qs26 q93 q1085 hd_X1_isNet (by decide) rfl eo_3 (by decide) rfl rfl (Nat.le_of_ble_eq_true rfl) dX1_net_2_2 ?_
  refine fg_if_ne X (tgt := 10) dX1_net_2_5 (by decide) (fun hc => ?_) (fun hc => ?_)
  · rw [if_neg hc] at hF
    refine fg_aload_n X (r := (some a0)) dX1_net_2_10 rfl 0 rfl ?_
    replace hF := fg_ob_some hF
    obtain ⟨rz3, e_5, hF⟩ := hF
    refine fg_getr X ff_X1_hung q449 e_5 dX1_net_2_11 ?_
    replace hF := fg_ob_some hF
    obtain ⟨az4, rfl, hF⟩ := hF
    replace hF := fg_ob_some hF
    obtain ⟨rz5, e_6, hF⟩ := hF
    refine fg_getr X ff_X5_nets q357 e_6 dX1_net_2_14 ?_
    refine fg_iload_n X dX1_net_2_17 rfl 1 rfl ?_
    replace hF := fg_ob_some hF
    obtain ⟨az6, rfl, hF⟩ := hF
    replace hF := fg_ob_some hF
    obtain ⟨rz7, e_7, hF⟩ := hF
    refine fg_aald X (kd := 5) (by decide) e_7 dX1_net_2_18 ?_
    refine fg_astore_n X (r := rz7) (L' := [(3, va_rf rz7), (0, .ref a0), (1, .int i1), (2, .int i2)]) dX1_net_2_19 rfl (by decide) rfl ?_
    refine fg_iload_n X dX1_net_2_20 rfl 3 rfl ?_
    by_cases e0 : i2 = (0 : Int32)
    · rw [if_pos e0] at hF
      refine fg_tableIn X (tgt := 60) (off := 39) dX1_net_2_21 (by rw [e0]; decide) (by rw [e0]; decide) (by rw [e0]; decide) (by decide) ?_
      refine fg_aload_n X (r := rz7) dX1_net_2_60 rfl 0 rfl ?_
      replace hF := fg_ob_some hF
      obtain ⟨az8, rfl, hF⟩ := hF
      replace hF := fg_ob_some hF
      obtain ⟨xz9, e_8, hF⟩ := hF
      refine fg_geti X ff_X23_village q1019 e_8 dX1_net_2_61 ?_
      cases hF
      exact fg_iret X dX1_net_2_64 (hT)
    rw [if_neg e0] at hF
    by_cases e1 : i2 = (1 : Int32)
    · rw [if_pos e1] at hF
      refine fg_tableIn X (tgt := 65) (off := 44) dX1_net_2_21 (by rw [e1]; decide) (by rw [e1]; decide) (by rw [e1]; decide) (by decide) ?_
      refine fg_aload_n X (r := (some a0)) dX1_net_2_65 rfl 1 rfl ?_
      replace hF := fg_ob_some hF
      obtain ⟨rz10, e_9, hF⟩ := hF
      refine fg_getr X ff_X1_hung q449 e_9 dX1_net_2_66 ?_
      replace hF := fg_ob_some hF
      obtain ⟨az11, rfl, hF⟩ := hF
      replace hF := fg_ob_some hF
      obtain ⟨rz12, e_10, hF⟩ := hF
      refine fg_getr X ff_X5_at q359 e_10 dX1_net_2_69 ?_
      refine fg_iload_n X dX1_net_2_72 rfl 2 rfl ?_
      replace hF := fg_ob_some hF
      obtain ⟨az13, rfl, hF⟩ := hF
      replace hF := fg_ob_some hF
      obtain ⟨xz14, e_11, hF⟩ := hF
      refine fg_iald X e_11 dX1_net_2_73 ?_
      cases hF
      exact fg_iret X dX1_net_2_74 (hT)
    rw [if_neg e1] at hF
    by_cases e2 : i2 = (2 : Int32)
    · rw [if_pos e2] at hF
      refine fg_tableIn X (tgt := 75) (off := 54) dX1_net_2_21 (by rw [e2]; decide) (by rw [e2]; decide) (by rw [e2]; decide) (by decide) ?_
      refine fg_aload_n X (r := rz7) dX1_net_2_75 rfl 0 rfl ?_
      replace hF := fg_ob_some hF
      obtain ⟨az15, rfl, hF⟩ := hF
      replace hF := fg_ob_some hF
      obtain ⟨xz16, e_12, hF⟩ := hF
      refine fg_geti X ff_X23_mesh q1021 e_12 dX1_net_2_76 ?_
      cases hF
      exact fg_iret X dX1_net_2_79 (hT)
    rw [if_neg e2] at hF
    by_cases e3 : i2 = (3 : Int32)
    · rw [if_pos e3] at hF
      refine fg_tableIn X (tgt := 80) (off := 59) dX1_net_2_21 (by rw [e3]; decide) (by rw [e3]; decide) (by rw [e3]; decide) (by decide) ?_
      refine fg_aload_n X (r := rz7) dX1_net_2_80 rfl 0 rfl ?_
      replace hF := fg_ob_some hF
      obtain ⟨az17, rfl, hF⟩ := hF
      replace hF := fg_oc_some hF
      obtain ⟨xz19, Gz18, e_13, hF⟩ := hF
      refine cvX23_kind X (st := []) e_13 (by decide) q1087 (Nat.le_of_ble_eq_true rfl) dX1_net_2_81 ?_
      cases hF
      exact fg_iret X dX1_net_2_84 (hT)
    rw [if_neg e3] at hF
    by_cases e4 : i2 = (4 : Int32)
    · rw [if_pos e4] at hF
      refine fg_tableIn X (tgt := 85) (off := 64) dX1_net_2_21 (by rw [e4]; decide) (by rw [e4]; decide) (by rw [e4]; decide) (by decide) ?_
      refine fg_aload_n X (r := (some a0)) dX1_net_2_85 rfl 1 rfl ?_
      replace hF := fg_ob_some hF
      obtain ⟨rz20, e_14, hF⟩ := hF
      refine fg_getr X ff_X1_hung q449 e_14 dX1_net_2_86 ?_
      refine fg_iload_n X dX1_net_2_89 rfl 2 rfl ?_
      replace hF := fg_ob_some hF
      obtain ⟨az21, rfl, hF⟩ := hF
      replace hF := fg_gd_some hF
      obtain ⟨eg_15, hF⟩ := hF
      obtain ⟨fs_16, eo_17⟩ := fg_rc_get eg_15
      replace hF := fg_oc_some hF
      obtain ⟨xz23, Gz22, e_18, hF⟩ := hF
      refine fg_callV X (st := []) (mX5_isMended Ω.2.2.2.2.1 Ω.1 e_18) q1107 q1108 q1109 q100 q1110 hd_X5_isMended (by decide) rfl eo_17 (by decide) rfl rfl (Nat.le_of_ble_eq_true rfl) dX1_net_2_90 ?_
      refine fg_if_eq X (tgt := 100) dX1_net_2_93 (by decide) (fun hc => ?_) (fun hc => ?_)
      · rw [if_pos hc] at hF
        refine fg_iconst X (v := (0 : Int32)) dX1_net_2_100 (by decide) ?_
        cases hF
        exact fg_iret X dX1_net_2_101 (hT)
      · rw [if_neg hc] at hF
        refine fg_iconst X (v := (1 : Int32)) dX1_net_2_96 (by decide) ?_
        refine fg_goto X (tgt := 101) dX1_net_2_97 (by decide) ?_
        cases hF
        exact fg_iret X dX1_net_2_101 (hT)
    rw [if_neg e4] at hF
    by_cases e5 : i2 = (5 : Int32)
    · rw [if_pos e5] at hF
      refine fg_tableIn X (tgt := 102) (off := 81) dX1_net_2_21 (by rw [e5]; decide) (by rw [e5]; decide) (by rw [e5]; decide) (by decide) ?_
      refine fg_aload_n X (r := (some a0)) dX1_net_2_102 rfl 1 rfl ?_
      replace hF := fg_ob_some hF
      obtain ⟨rz24, e_19, hF⟩ := hF
      refine fg_getr X ff_X1_lastTook q455 e_19 dX1_net_2_103 ?_
      refine fg_iload_n X dX1_net_2_106 rfl 2 rfl ?_
      replace hF := fg_ob_some hF
      obtain ⟨az25, rfl, hF⟩ := hF
      replace hF := fg_ob_some hF
      obtain ⟨xz26, e_20, hF⟩ := hF
      refine fg_iald X e_20 dX1_net_2_107 ?_
      cases hF
      exact fg_iret X dX1_net_2_108 (hT)
    rw [if_neg e5] at hF
    refine fg_tableOut X (tgt := 109) dX1_net_2_21 (fg_swout 6 (x := i2) (lo := 0) (hi := 5) (by decide) (fun j hj => ?_)) (by decide) ?_
    · rcases fg_lt6 hj with rfl | rfl | rfl | rfl | rfl | rfl
      · exact fun hh => e0 (Int32.toInt_inj.mp (hh.trans (by decide)))
      · exact fun hh => e1 (Int32.toInt_inj.mp (hh.trans (by decide)))
      · exact fun hh => e2 (Int32.toInt_inj.mp (hh.trans (by decide)))
      · exact fun hh => e3 (Int32.toInt_inj.mp (hh.trans (by decide)))
      · exact fun hh => e4 (Int32.toInt_inj.mp (hh.trans (by decide)))
      · exact fun hh => e5 (Int32.toInt_inj.mp (hh.trans (by decide)))
    refine fg_iconst X (v := (-1 : Int32)) dX1_net_2_109 (by decide) ?_
    cases hF
    exact fg_iret X dX1_net_2_110 (hT)
  · rw [if_pos hc] at hF
    refine fg_iconst X (v := (-1 : Int32)) dX1_net_2_8 (by decide) ?_
    cases hF
    exact fg_iret X dX1_net_2_9 (hT)
theorem mX1_net_2 (l : Launch) (D : fg_D) {a0 : Nat} {i1 : Int32} {i2 : Int32} {G : fg_H} {t : Int32 × fg_H} (hF : fX1_net_2 a0 i1 i2 G = some t) : fg_M l D yX1_net_2 cX1_net_2 4 (some .int) 2 [.ref a0, .int i1, .int i2] G (.returned (some (.int t.1))) t.2 :=
  fg_Mof (own := RX1) (nm := "net") (L := [(0, .ref a0), (1, .int i1), (2, .int i2)]) (plainFor_of_name pn_X1) rfl rfl rfl (Nat.le_of_ble_eq_true rfl) (fun Ω _ _ X hT => wX1_net_2 X hF hT)
theorem hd_X1_isVillage : yX1_isVillage.cls ≠ "java/lang/invoke/MethodHandle" ∧ yX1_isVillage.cls ≠ "java/lang/invoke/VarHandle" ∧ (parseMethodDescriptor yX1_isVillage.desc).map (fun d => d.parameters.length) = some 1 := ⟨by decide +kernel, by decide +kernel, by decide +kernel⟩
set_option maxHeartbeats 4000000 in
theorem wX1_isVillage {Ω : fg_O} {a0 : Nat} {i1 : Int32} {G : fg_H} {t : Int32 × fg_H} (X : fg_X Ω RX1 "isVillage" cX1_isVillage 2 (some .boolean) 1) (hF : fX1_isVillage a0 i1 G = some t) (hT : fg_T Ω (.returned (some (.int t.1))) t.2) : fg_W Ω G 0 [(0, .ref a0), (1, .int i1)] [] := by
  unfold fX1_isVillage at hF
  refine fg_iload_n X dX1_isVillage_0 rfl 1 rfl ?_
  refine fg_iconst X (v := (0 : Int32)) dX1_isVillage_1 (by decide) ?_
  refine fg_aload_n X (r := (some a0)) dX1_isVillage_2 rfl 0 rfl ?_
  replace hF := fg_ob_some hF
  obtain ⟨rz1, e_1, hF⟩ := hF
  refine fg_getr X ff_X1_ridge q447 e_1 dX1_isVillage_3 ?_
  replace hF := fg_ob_some hF
  obtain ⟨az2, rfl, hF⟩ := hF
  replace hF := fg_ob_some hF
  obtain ⟨rz3, e_2, hF⟩ := hF
  refine fg_getr X ff_X3_names q301 e_2 dX1_isVillage_6 ?_
  replace hF := fg_ob_some hF
  obtain ⟨az4, rfl, hF⟩ := hF
  replace hF := fg_gd_some hF
  obtain ⟨eg_3, hF⟩ := hF
  obtain ⟨fs_4, eo_5⟩ := fg_rc_get eg_3
  replace hF := fg_oc_some hF
  obtain ⟨xz6, Gz5, e_6, hF⟩ := hF
  refine fg_callV X (st := [.int (0 : Int32), .int i1]) (mJ2_size Ω.2.2.2.2.1 Ω.1 e_6) q1119 q424 q425 q98 q426 hd_J2_size (by decide) rfl eo_5 (by decide) rfl rfl (Nat.le_of_ble_eq_true rfl) dX1_isVillage_9 ?_
  refine fg_iconst X (v := (1 : Int32)) dX1_isVillage_12 (by decide) ?_
  refine fg_isub X dX1_isVillage_13 ?_
  replace hF := fg_oc_some hF
  obtain ⟨xz8, Gz7, e_7, hF⟩ := hF
  refine fg_callS X (st := []) (mX1_within Ω.2.2.2.2.1 Ω.1 e_7) q1086 q504 q93 q505 hd_X1_within (by decide) rfl rfl (Nat.le_of_ble_eq_true rfl) dX1_isVillage_14 ?_
  replace hF := fg_gd_some hF
  obtain ⟨eg_8, hF⟩ := hF
  cases hF
  exact fg_zret X (fg_b_or eg_8) dX1_isVillage_17 (hT)
theorem mX1_isVillage (l : Launch) (D : fg_D) {a0 : Nat} {i1 : Int32} {G : fg_H} {t : Int32 × fg_H} (hF : fX1_isVillage a0 i1 G = some t) : fg_M l D yX1_isVillage cX1_isVillage 2 (some .boolean) 1 [.ref a0, .int i1] G (.returned (some (.int t.1))) t.2 :=
  fg_Mof (own := RX1) (nm := "isVillage") (L := [(0, .ref a0), (1, .int i1)]) (plainFor_of_name pn_X1) rfl rfl rfl (Nat.le_of_ble_eq_true rfl) (fun Ω _ _ X hT => wX1_isVillage X hF hT)
theorem hd_X1_village : yX1_village.cls ≠ "java/lang/invoke/MethodHandle" ∧ yX1_village.cls ≠ "java/lang/invoke/VarHandle" ∧ (parseMethodDescriptor yX1_village.desc).map (fun d => d.parameters.length) = some 2 := ⟨by decide +kernel, by decide +kernel, by decide +kernel⟩
set_option maxHeartbeats 4000000 in
theorem wX1_village_15b {Ω : fg_O} {a0 : Nat} {i1 : Int32} {i2 : Int32} {i3 : Int32} {i4 : Int32} {G : fg_H} {t : ((Nat × Int32 × Int32 × Int32 × Int32 × fg_H) ⊕ (Int32 × fg_H))} (X : fg_X Ω RX1 "village" cX1_village 5 (some .int) 2) (hF : fX1_village_15b a0 i1 i2 i3 i4 G = some t) (h15 : ∀ z, t = (.inl z) → fg_W Ω z.2.2.2.2.2 15 [(0, .ref z.1), (1, .int z.2.1), (2, .int z.2.2.1), (3, .int z.2.2.2.1), (4, .int z.2.2.2.2.1)] []) (hT : ∀ u, t = (.inr u) → fg_T Ω (.returned (some (.int u.1))) u.2) : fg_W Ω G 15 [(0, .ref a0), (1, .int i1), (2, .int i2), (3, .int i3), (4, .int i4)] [] := by
  unfold fX1_village_15b at hF
  refine fg_iload X dX1_village_15 4 rfl ?_
  refine fg_aload_n X (r := (some a0)) dX1_village_17 rfl 0 rfl ?_
  replace hF := fg_ob_some hF
  obtain ⟨rz3, e_1, hF⟩ := hF
  refine fg_getr X ff_X1_hung q449 e_1 dX1_village_18 ?_
  replace hF := fg_ob_some hF
  obtain ⟨az4, rfl, hF⟩ := hF
  replace hF := fg_ob_some hF
  obtain ⟨xz5, e_2, hF⟩ := hF
  refine fg_geti X ff_X5_many q363 e_2 dX1_village_21 ?_
  refine fg_icmp_ge X (tgt := 57) dX1_village_24 (by decide) (fun hc => ?_) (fun hc => ?_)
  · rw [if_pos hc] at hF
    replace hF := fg_rt_some hF
    obtain ⟨tz6, hF, ht_3⟩ := hF
    subst ht_3
    replace hT := hT _ rfl
    refine fg_iload_n X dX1_village_57 rfl 2 rfl ?_
    by_cases e0 : i2 = (0 : Int32)
    · rw [if_pos e0] at hF
      refine fg_tableIn X (tgt := 88) (off := 30) dX1_village_58 (by rw [e0]; decide) (by rw [e0]; decide) (by rw [e0]; decide) (by decide) ?_
      refine fg_aload_n X (r := (some a0)) dX1_village_88 rfl 0 rfl ?_
      replace hF := fg_ob_some hF
      obtain ⟨rz7, e_4, hF⟩ := hF
      refine fg_getr X ff_X1_ridge q447 e_4 dX1_village_89 ?_
      replace hF := fg_ob_some hF
      obtain ⟨az8, rfl, hF⟩ := hF
      replace hF := fg_ob_some hF
      obtain ⟨rz9, e_5, hF⟩ := hF
      refine fg_getr X ff_X3_thirst q305 e_5 dX1_village_92 ?_
      refine fg_iload_n X dX1_village_95 rfl 1 rfl ?_
      replace hF := fg_ob_some hF
      obtain ⟨az10, rfl, hF⟩ := hF
      replace hF := fg_ob_some hF
      obtain ⟨xz11, e_6, hF⟩ := hF
      refine fg_iald X e_6 dX1_village_96 ?_
      cases hF
      exact fg_iret X dX1_village_97 (hT)
    rw [if_neg e0] at hF
    by_cases e1 : i2 = (1 : Int32)
    · rw [if_pos e1] at hF
      refine fg_tableIn X (tgt := 98) (off := 40) dX1_village_58 (by rw [e1]; decide) (by rw [e1]; decide) (by rw [e1]; decide) (by decide) ?_
      refine fg_aload_n X (r := (some a0)) dX1_village_98 rfl 0 rfl ?_
      replace hF := fg_ob_some hF
      obtain ⟨rz12, e_7, hF⟩ := hF
      refine fg_getr X ff_X1_tanks q451 e_7 dX1_village_99 ?_
      replace hF := fg_ob_some hF
      obtain ⟨az13, rfl, hF⟩ := hF
      replace hF := fg_ob_some hF
      obtain ⟨rz14, e_8, hF⟩ := hF
      refine fg_getr X ff_X6_tank q388 e_8 dX1_village_102 ?_
      refine fg_iload_n X dX1_village_105 rfl 1 rfl ?_
      replace hF := fg_ob_some hF
      obtain ⟨az15, rfl, hF⟩ := hF
      replace hF := fg_ob_some hF
      obtain ⟨xz16, e_9, hF⟩ := hF
      refine fg_iald X e_9 dX1_village_106 ?_
      cases hF
      exact fg_iret X dX1_village_107 (hT)
    rw [if_neg e1] at hF
    by_cases e2 : i2 = (2 : Int32)
    · rw [if_pos e2] at hF
      refine fg_tableIn X (tgt := 108) (off := 50) dX1_village_58 (by rw [e2]; decide) (by rw [e2]; decide) (by rw [e2]; decide) (by decide) ?_
      refine fg_aload_n X (r := (some a0)) dX1_village_108 rfl 0 rfl ?_
      replace hF := fg_ob_some hF
      obtain ⟨rz17, e_10, hF⟩ := hF
      refine fg_getr X ff_X1_tanks q451 e_10 dX1_village_109 ?_
      replace hF := fg_ob_some hF
      obtain ⟨az18, rfl, hF⟩ := hF
      replace hF := fg_ob_some hF
      obtain ⟨rz19, e_11, hF⟩ := hF
      refine fg_getr X ff_X6_lacks q390 e_11 dX1_village_112 ?_
      refine fg_iload_n X dX1_village_115 rfl 1 rfl ?_
      replace hF := fg_ob_some hF
      obtain ⟨az20, rfl, hF⟩ := hF
      replace hF := fg_ob_some hF
      obtain ⟨xz21, e_12, hF⟩ := hF
      refine fg_iald X e_12 dX1_village_116 ?_
      cases hF
      exact fg_iret X dX1_village_117 (hT)
    rw [if_neg e2] at hF
    by_cases e3 : i2 = (3 : Int32)
    · rw [if_pos e3] at hF
      refine fg_tableIn X (tgt := 118) (off := 60) dX1_village_58 (by rw [e3]; decide) (by rw [e3]; decide) (by rw [e3]; decide) (by decide) ?_
      refine fg_iload_n X dX1_village_118 rfl 3 rfl ?_
      cases hF
      exact fg_iret X dX1_village_119 (hT)
    rw [if_neg e3] at hF
    refine fg_tableOut X (tgt := 120) dX1_village_58 (fg_swout 4 (x := i2) (lo := 0) (hi := 3) (by decide) (fun j hj => ?_)) (by decide) ?_
    · rcases fg_lt4 hj with rfl | rfl | rfl | rfl
      · exact fun hh => e0 (Int32.toInt_inj.mp (hh.trans (by decide)))
      · exact fun hh => e1 (Int32.toInt_inj.mp (hh.trans (by decide)))
      · exact fun hh => e2 (Int32.toInt_inj.mp (hh.trans (by decide)))
      · exact fun hh => e3 (Int32.toInt_inj.mp (hh.trans (by decide)))
    refine fg_iconst X (v := (-1 : Int32)) dX1_village_120 (by decide) ?_
    cases hF
    exact fg_iret X dX1_village_121 (hT)
  · rw [if_neg hc] at hF
    refine fg_aload_n X (r := (some a0)) dX1_village_27 rfl 0 rfl ?_
    replace hF := fg_ob_some hF
    obtain ⟨rz22, e_13, hF⟩ := hF
    refine fg_getr X ff_X1_hung q449 e_13 dX1_village_28 ?_
    replace hF := fg_ob_some hF
    obtain ⟨az23, rfl, hF⟩ := hF
    replace hF := fg_ob_some hF
    obtain ⟨rz24, e_14, hF⟩ := hF
    refine fg_getr X ff_X5_nets q357 e_14 dX1_village_31 ?_
    refine fg_iload X dX1_village_34 4 rfl ?_
    replace hF := fg_ob_some hF
    obtain ⟨az25, rfl, hF⟩ := hF
    replace hF := fg_ob_some hF
    obtain ⟨rz26, e_15, hF⟩ := hF
    refine fg_aald X (kd := 5) (by decide) e_15 dX1_village_36 ?_
    replace hF := fg_ob_some hF
    obtain ⟨az27, rfl, hF⟩ := hF
    replace hF := fg_ob_some hF
    obtain ⟨xz28, e_16, hF⟩ := hF
    refine fg_geti X ff_X23_village q1019 e_16 dX1_village_37 ?_
    refine fg_iload_n X dX1_village_40 rfl 1 rfl ?_
    refine fg_icmp_ne X (tgt := 51) dX1_village_41 (by decide) (fun hc => ?_) (fun hc => ?_)
    · rw [if_neg hc] at hF
      refine fg_iinc X (v := (i4 + (1 : Int32))) (L' := [(4, .int (i4 + (1 : Int32))), (0, .ref a0), (1, .int i1), (2, .int i2), (3, .int i3)]) dX1_village_51 4 rfl rfl (by decide) rfl ?_
      refine fg_goto X (tgt := 15) dX1_village_54 (by decide) ?_
      refine fg_sub [1, 2, 3, 4, 0] rfl ?_
      exact h15 _ (Option.some.inj hF).symm
    · rw [if_pos hc] at hF
      refine fg_iload_n X dX1_village_44 rfl 3 rfl ?_
      refine fg_iconst X (v := (1 : Int32)) dX1_village_45 (by decide) ?_
      refine fg_iload X dX1_village_46 4 rfl ?_
      refine fg_ishl X dX1_village_48 ?_
      refine fg_ior X dX1_village_49 ?_
      replace hF := fg_ob_some hF
      obtain ⟨vz29, ex_17, hF⟩ := hF
      refine fg_topi (Option.some.inj ex_17) ?_
      refine fg_istore_n X (L' := [(3, .int vz29), (0, .ref a0), (1, .int i1), (2, .int i2), (4, .int i4)]) dX1_village_50 rfl (by decide) rfl ?_
      refine fg_iinc X (v := (i4 + (1 : Int32))) (L' := [(4, .int (i4 + (1 : Int32))), (3, .int vz29), (0, .ref a0), (1, .int i1), (2, .int i2)]) dX1_village_51 4 rfl rfl (by decide) rfl ?_
      refine fg_goto X (tgt := 15) dX1_village_54 (by decide) ?_
      refine fg_sub [2, 3, 4, 1, 0] rfl ?_
      exact h15 _ (Option.some.inj hF).symm
set_option maxHeartbeats 4000000 in
seal fX1_village_15b in
theorem wX1_village_15 {Ω : fg_O} {a0 : Nat} {i1 : Int32} {i2 : Int32} {i3 : Int32} {i4 : Int32} {G : fg_H} {t : (Int32 × fg_H)} (X : fg_X Ω RX1 "village" cX1_village 5 (some .int) 2) (hF : fX1_village_15 a0 i1 i2 i3 i4 G = some t) (hT : fg_T Ω (.returned (some (.int t.1))) t.2) : fg_W Ω G 15 [(0, .ref a0), (1, .int i1), (2, .int i2), (3, .int i3), (4, .int i4)] [] := by
  unfold fX1_village_15 at hF
  exact fg_lp_walk (P := fun z => fg_W Ω z.2.2.2.2.2 15 [(0, .ref z.1), (1, .int z.2.1), (2, .int z.2.2.1), (3, .int z.2.2.2.1), (4, .int z.2.2.2.2.1)] []) (fun y o ho hl hr => wX1_village_15b X ho (fun z e => hl z e) (fun u e => by rw [hr _ e]; exact hT)) hF
set_option maxHeartbeats 4000000 in
theorem wX1_village {Ω : fg_O} {a0 : Nat} {i1 : Int32} {i2 : Int32} {G : fg_H} {t : Int32 × fg_H} (X : fg_X Ω RX1 "village" cX1_village 5 (some .int) 2) (hF : fX1_village a0 i1 i2 G = some t) (hT : fg_T Ω (.returned (some (.int t.1))) t.2) : fg_W Ω G 0 [(0, .ref a0), (1, .int i1), (2, .int i2)] [] := by
  unfold fX1_village at hF
  refine fg_aload_n X (r := (some a0)) dX1_village_0 rfl 0 rfl ?_
  refine fg_iload_n X dX1_village_1 rfl 1 rfl ?_
  replace hF := fg_gd_some hF
  obtain ⟨eg_1, hF⟩ := hF
  obtain ⟨fs_2, eo_3⟩ := fg_rc_get eg_1
  replace hF := fg_oc_some hF
  obtain ⟨xz2, Gz1, e_4, hF⟩ := hF
  refine fg_callV X (st := []) (mX1_isVillage Ω.2.2.2.2.1 Ω.1 e_4) q1115 q1117 qs27 q93 q1118 hd_X1_isVillage (by decide) rfl eo_3 (by decide) rfl rfl (Nat.le_of_ble_eq_true rfl) dX1_village_2 ?_
  refine fg_if_ne X (tgt := 10) dX1_village_5 (by decide) (fun hc => ?_) (fun hc => ?_)
  · rw [if_neg hc] at hF
    refine fg_iconst X (v := (0 : Int32)) dX1_village_10 (by decide) ?_
    refine fg_istore_n X (L' := [(3, .int (0 : Int32)), (0, .ref a0), (1, .int i1), (2, .int i2)]) dX1_village_11 rfl (by decide) rfl ?_
    refine fg_iconst X (v := (0 : Int32)) dX1_village_12 (by decide) ?_
    refine fg_istore X (L' := [(4, .int (0 : Int32)), (3, .int (0 : Int32)), (0, .ref a0), (1, .int i1), (2, .int i2)]) dX1_village_13 (by decide) rfl ?_
    refine fg_sub [2, 3, 4, 1, 0] rfl ?_
    exact wX1_village_15 X hF hT
  · rw [if_pos hc] at hF
    refine fg_iconst X (v := (-1 : Int32)) dX1_village_8 (by decide) ?_
    cases hF
    exact fg_iret X dX1_village_9 (hT)
theorem mX1_village (l : Launch) (D : fg_D) {a0 : Nat} {i1 : Int32} {i2 : Int32} {G : fg_H} {t : Int32 × fg_H} (hF : fX1_village a0 i1 i2 G = some t) : fg_M l D yX1_village cX1_village 5 (some .int) 2 [.ref a0, .int i1, .int i2] G (.returned (some (.int t.1))) t.2 :=
  fg_Mof (own := RX1) (nm := "village") (L := [(0, .ref a0), (1, .int i1), (2, .int i2)]) (plainFor_of_name pn_X1) rfl rfl rfl (Nat.le_of_ble_eq_true rfl) (fun Ω _ _ X hT => wX1_village X hF hT)
theorem hd_X1_isHour : yX1_isHour.cls ≠ "java/lang/invoke/MethodHandle" ∧ yX1_isHour.cls ≠ "java/lang/invoke/VarHandle" ∧ (parseMethodDescriptor yX1_isHour.desc).map (fun d => d.parameters.length) = some 1 := ⟨by decide +kernel, by decide +kernel, by decide +kernel⟩
set_option maxHeartbeats 4000000 in
theorem wX1_isHour {Ω : fg_O} {a0 : Nat} {i1 : Int32} {G : fg_H} {t : Int32 × fg_H} (X : fg_X Ω RX1 "isHour" cX1_isHour 2 (some .boolean) 1) (hF : fX1_isHour a0 i1 G = some t) (hT : fg_T Ω (.returned (some (.int t.1))) t.2) : fg_W Ω G 0 [(0, .ref a0), (1, .int i1)] [] := by
  unfold fX1_isHour at hF
  refine fg_iload_n X dX1_isHour_0 rfl 1 rfl ?_
  refine fg_iconst X (v := (0 : Int32)) dX1_isHour_1 (by decide) ?_
  refine fg_aload_n X (r := (some a0)) dX1_isHour_2 rfl 0 rfl ?_
  replace hF := fg_ob_some hF
  obtain ⟨rz1, e_1, hF⟩ := hF
  refine fg_getr X ff_X1_ridge q447 e_1 dX1_isHour_3 ?_
  replace hF := fg_ob_some hF
  obtain ⟨az2, rfl, hF⟩ := hF
  replace hF := fg_ob_some hF
  obtain ⟨xz3, e_2, hF⟩ := hF
  refine fg_geti X ff_X3_hours q288 e_2 dX1_isHour_6 ?_
  refine fg_iconst X (v := (1 : Int32)) dX1_isHour_9 (by decide) ?_
  refine fg_isub X dX1_isHour_10 ?_
  replace hF := fg_oc_some hF
  obtain ⟨xz5, Gz4, e_3, hF⟩ := hF
  refine fg_callS X (st := []) (mX1_within Ω.2.2.2.2.1 Ω.1 e_3) q1086 q504 q93 q505 hd_X1_within (by decide) rfl rfl (Nat.le_of_ble_eq_true rfl) dX1_isHour_11 ?_
  replace hF := fg_gd_some hF
  obtain ⟨eg_4, hF⟩ := hF
  cases hF
  exact fg_zret X (fg_b_or eg_4) dX1_isHour_14 (hT)
theorem mX1_isHour (l : Launch) (D : fg_D) {a0 : Nat} {i1 : Int32} {G : fg_H} {t : Int32 × fg_H} (hF : fX1_isHour a0 i1 G = some t) : fg_M l D yX1_isHour cX1_isHour 2 (some .boolean) 1 [.ref a0, .int i1] G (.returned (some (.int t.1))) t.2 :=
  fg_Mof (own := RX1) (nm := "isHour") (L := [(0, .ref a0), (1, .int i1)]) (plainFor_of_name pn_X1) rfl rfl rfl (Nat.le_of_ble_eq_true rfl) (fun Ω _ _ X hT => wX1_isHour X hF hT)
theorem hd_J7_floorMod : yJ7_floorMod.cls ≠ "java/lang/invoke/MethodHandle" ∧ yJ7_floorMod.cls ≠ "java/lang/invoke/VarHandle" ∧ (parseMethodDescriptor yJ7_floorMod.desc).map (fun d => d.parameters.length) = some 2 := ⟨by decide +kernel, by decide +kernel, by decide +kernel⟩
set_option maxHeartbeats 4000000 in
theorem wJ7_floorMod {Ω : fg_O} {i0 : Int32} {i1 : Int32} {G : fg_H} {t : Int32 × fg_H} (X : fg_X Ω RJ7 "floorMod" cJ7_floorMod 3 (some .int) 0) (hF : fJ7_floorMod i0 i1 G = some t) (hT : fg_T Ω (.returned (some (.int t.1))) t.2) : fg_W Ω G 0 [(0, .int i0), (1, .int i1)] [] := by
  unfold fJ7_floorMod at hF
  refine fg_iload_n X dJ7_floorMod_0 rfl 0 rfl ?_
  refine fg_iload_n X dJ7_floorMod_1 rfl 1 rfl ?_
  replace hF := fg_gd_some hF
  obtain ⟨eg_1, hF⟩ := hF
  refine fg_irem X dJ7_floorMod_2 (fg_ne0 eg_1) ?_
  replace hF := fg_ob_some hF
  obtain ⟨vz1, ex_2, hF⟩ := hF
  refine fg_topi (Option.some.inj ex_2) ?_
  refine fg_istore_n X (L' := [(2, .int vz1), (0, .int i0), (1, .int i1)]) dJ7_floorMod_3 rfl (by decide) rfl ?_
  refine fg_iload_n X dJ7_floorMod_4 rfl 1 rfl ?_
  refine fg_iload_n X dJ7_floorMod_5 rfl 2 rfl ?_
  refine fg_ixor X dJ7_floorMod_6 ?_
  refine fg_if_ge X (tgt := 18) dJ7_floorMod_7 (by decide) (fun hc => ?_) (fun hc => ?_)
  · rw [if_pos hc] at hF
    refine fg_iload_n X dJ7_floorMod_18 rfl 0 rfl ?_
    cases hF
    exact fg_iret X dJ7_floorMod_19 (hT)
  · rw [if_neg hc] at hF
    refine fg_iload_n X dJ7_floorMod_10 rfl 0 rfl ?_
    refine fg_if_eq X (tgt := 18) dJ7_floorMod_11 (by decide) (fun hc => ?_) (fun hc => ?_)
    · rw [if_pos hc] at hF
      refine fg_iload_n X dJ7_floorMod_18 rfl 0 rfl ?_
      cases hF
      exact fg_iret X dJ7_floorMod_19 (hT)
    · rw [if_neg hc] at hF
      refine fg_iload_n X dJ7_floorMod_14 rfl 0 rfl ?_
      refine fg_iload_n X dJ7_floorMod_15 rfl 2 rfl ?_
      refine fg_iadd X dJ7_floorMod_16 ?_
      cases hF
      exact fg_iret X dJ7_floorMod_17 (hT)
theorem mJ7_floorMod (l : Launch) (D : fg_D) {i0 : Int32} {i1 : Int32} {G : fg_H} {t : Int32 × fg_H} (hF : fJ7_floorMod i0 i1 G = some t) : fg_M l D yJ7_floorMod cJ7_floorMod 3 (some .int) 0 [.int i0, .int i1] G (.returned (some (.int t.1))) t.2 :=
  fg_Mof (own := RJ7) (nm := "floorMod") (L := [(0, .int i0), (1, .int i1)]) (by decide +kernel) rfl rfl rfl (Nat.le_of_ble_eq_true rfl) (fun Ω _ _ X hT => wJ7_floorMod X hF hT)
theorem hd_X11_of : yX11_of.cls ≠ "java/lang/invoke/MethodHandle" ∧ yX11_of.cls ≠ "java/lang/invoke/VarHandle" ∧ (parseMethodDescriptor yX11_of.desc).map (fun d => d.parameters.length) = some 1 := ⟨by decide +kernel, by decide +kernel, by decide +kernel⟩
set_option maxHeartbeats 4000000 in
theorem wX11_of {Ω : fg_O} {a0 : Nat} {r1 : Option Nat} {G : fg_H} {t : Int32 × fg_H} (X : fg_X Ω RX11 "of" cX11_of 2 (some .int) 0) (hF : fX11_of a0 r1 G = some t) (hT : fg_T Ω (.returned (some (.int t.1))) t.2) : fg_W Ω G 0 [(0, .ref a0), (1, va_rf r1)] [] := by
  unfold fX11_of at hF
  refine fg_aload_n X (r := r1) dX11_of_0 rfl 1 rfl ?_
  replace hF := fg_ob_some hF
  obtain ⟨az1, rfl, hF⟩ := hF
  replace hF := fg_ob_some hF
  obtain ⟨rz2, e_1, hF⟩ := hF
  refine fg_getr X ff_X4_of q275 e_1 dX11_of_1 ?_
  refine fg_aload_n X (r := (some a0)) dX11_of_4 rfl 0 rfl ?_
  replace hF := fg_ob_some hF
  obtain ⟨xz3, e_2, hF⟩ := hF
  refine fg_geti X ff_X11_which q766 e_2 dX11_of_5 ?_
  replace hF := fg_ob_some hF
  obtain ⟨az4, rfl, hF⟩ := hF
  replace hF := fg_ob_some hF
  obtain ⟨xz5, e_3, hF⟩ := hF
  refine fg_iald X e_3 dX11_of_8 ?_
  cases hF
  exact fg_iret X dX11_of_9 (hT)
theorem mX11_of (l : Launch) (D : fg_D) {a0 : Nat} {r1 : Option Nat} {G : fg_H} {t : Int32 × fg_H} (hF : fX11_of a0 r1 G = some t) : fg_M l D yX11_of cX11_of 2 (some .int) 0 [.ref a0, va_rf r1] G (.returned (some (.int t.1))) t.2 :=
  fg_Mof (own := RX11) (nm := "of") (L := [(0, .ref a0), (1, va_rf r1)]) (plainFor_of_name pn_X11) rfl rfl (by cases r1 <;> rfl) (by cases r1 <;> exact Nat.le_of_ble_eq_true rfl) (fun Ω _ _ X hT => wX11_of X hF hT)
theorem hd_X12_of : yX12_of.cls ≠ "java/lang/invoke/MethodHandle" ∧ yX12_of.cls ≠ "java/lang/invoke/VarHandle" ∧ (parseMethodDescriptor yX12_of.desc).map (fun d => d.parameters.length) = some 1 := ⟨by decide +kernel, by decide +kernel, by decide +kernel⟩
set_option maxHeartbeats 4000000 in
theorem wX12_of {Ω : fg_O} {a0 : Nat} {r1 : Option Nat} {G : fg_H} {t : Int32 × fg_H} (X : fg_X Ω RX12 "of" cX12_of 2 (some .int) 0) (hF : fX12_of a0 r1 G = some t) (hT : fg_T Ω (.returned (some (.int t.1))) t.2) : fg_W Ω G 0 [(0, .ref a0), (1, va_rf r1)] [] := by
  unfold fX12_of at hF
  refine fg_aload_n X (r := (some a0)) dX12_of_0 rfl 0 rfl ?_
  replace hF := fg_ob_some hF
  obtain ⟨xz1, e_1, hF⟩ := hF
  refine fg_geti X ff_X12_n q776 e_1 dX12_of_1 ?_
  cases hF
  exact fg_iret X dX12_of_4 (hT)
theorem mX12_of (l : Launch) (D : fg_D) {a0 : Nat} {r1 : Option Nat} {G : fg_H} {t : Int32 × fg_H} (hF : fX12_of a0 r1 G = some t) : fg_M l D yX12_of cX12_of 2 (some .int) 0 [.ref a0, va_rf r1] G (.returned (some (.int t.1))) t.2 :=
  fg_Mof (own := RX12) (nm := "of") (L := [(0, .ref a0), (1, va_rf r1)]) (plainFor_of_name pn_X12) rfl rfl (by cases r1 <;> rfl) (by cases r1 <;> exact Nat.le_of_ble_eq_true rfl) (fun Ω _ _ X hT => wX12_of X hF hT)
theorem hd_X13_of : yX13_of.cls ≠ "java/lang/invoke/MethodHandle" ∧ yX13_of.cls ≠ "java/lang/invoke/VarHandle" ∧ (parseMethodDescriptor yX13_of.desc).map (fun d => d.parameters.length) = some 1 := ⟨by decide +kernel, by decide +kernel, by decide +kernel⟩
set_option maxHeartbeats 4000000 in
theorem wX13_of {Ω : fg_O} {vo : (Nat → Option Nat → fg_H → Option (Int32 × fg_H))} {n : Nat} (hvo : fg_RV vo n) {a0 : Nat} {r1 : Option Nat} {G : fg_H} {t : Int32 × fg_H} (X : fg_X Ω RX13 "of" cX13_of 2 (some .int) (n + 1)) (hF : fX13_of vo a0 r1 G = some t) (hT : fg_T Ω (.returned (some (.int t.1))) t.2) : fg_W Ω G 0 [(0, .ref a0), (1, va_rf r1)] [] := by
  unfold fX13_of at hF
  refine fg_aload_n X (r := (some a0)) dX13_of_0 rfl 0 rfl ?_
  replace hF := fg_ob_some hF
  obtain ⟨rz1, e_1, hF⟩ := hF
  refine fg_getr X ff_X13_e q786 e_1 dX13_of_1 ?_
  refine fg_aload_n X (r := r1) dX13_of_4 rfl 1 rfl ?_
  replace hF := fg_ob_some hF
  obtain ⟨az2, rfl, hF⟩ := hF
  replace hF := fg_oc_some hF
  obtain ⟨xz4, Gz3, e_2, hF⟩ := hF
  refine hvo.use X (st := []) e_2 (by omega) q1143 (Nat.le_of_ble_eq_true rfl) dX13_of_5 ?_
  refine fg_if_ne X (tgt := 15) dX13_of_8 (by decide) (fun hc => ?_) (fun hc => ?_)
  · rw [if_neg hc] at hF
    refine fg_iconst X (v := (0 : Int32)) dX13_of_15 (by decide) ?_
    cases hF
    exact fg_iret X dX13_of_16 (hT)
  · rw [if_pos hc] at hF
    refine fg_iconst X (v := (1 : Int32)) dX13_of_11 (by decide) ?_
    refine fg_goto X (tgt := 16) dX13_of_12 (by decide) ?_
    cases hF
    exact fg_iret X dX13_of_16 (hT)
theorem mX13_of (l : Launch) (D : fg_D) {vo : (Nat → Option Nat → fg_H → Option (Int32 × fg_H))} {n : Nat} (hvo : fg_RV vo n) {a0 : Nat} {r1 : Option Nat} {G : fg_H} {t : Int32 × fg_H} (hF : fX13_of vo a0 r1 G = some t) : fg_M l D yX13_of cX13_of 2 (some .int) (n + 1) [.ref a0, va_rf r1] G (.returned (some (.int t.1))) t.2 :=
  fg_Mof (own := RX13) (nm := "of") (L := [(0, .ref a0), (1, va_rf r1)]) (plainFor_of_name pn_X13) rfl rfl (by cases r1 <;> rfl) (by cases r1 <;> exact Nat.le_of_ble_eq_true rfl) (fun Ω _ _ X hT => wX13_of hvo X hF hT)
theorem hd_X16_with : yX16_with.cls ≠ "java/lang/invoke/MethodHandle" ∧ yX16_with.cls ≠ "java/lang/invoke/VarHandle" ∧ (parseMethodDescriptor yX16_with.desc).map (fun d => d.parameters.length) = some 2 := ⟨by decide +kernel, by decide +kernel, by decide +kernel⟩
set_option maxHeartbeats 4000000 in
theorem wX16_with {Ω : fg_O} {a0 : Nat} {i1 : Int32} {i2 : Int32} {G : fg_H} {t : Int32 × fg_H} (X : fg_X Ω RX16 "with" cX16_with 3 (some .int) 0) (hF : fX16_with a0 i1 i2 G = some t) (hT : fg_T Ω (.returned (some (.int t.1))) t.2) : fg_W Ω G 0 [(0, .ref a0), (1, .int i1), (2, .int i2)] [] := by
  unfold fX16_with at hF
  refine fg_iload_n X dX16_with_0 rfl 1 rfl ?_
  refine fg_iload_n X dX16_with_1 rfl 2 rfl ?_
  refine fg_imul X dX16_with_2 ?_
  cases hF
  exact fg_iret X dX16_with_3 (hT)
theorem mX16_with (l : Launch) (D : fg_D) {a0 : Nat} {i1 : Int32} {i2 : Int32} {G : fg_H} {t : Int32 × fg_H} (hF : fX16_with a0 i1 i2 G = some t) : fg_M l D yX16_with cX16_with 3 (some .int) 0 [.ref a0, .int i1, .int i2] G (.returned (some (.int t.1))) t.2 :=
  fg_Mof (own := RX16) (nm := "with") (L := [(0, .ref a0), (1, .int i1), (2, .int i2)]) (plainFor_of_name pn_X16) rfl rfl rfl (Nat.le_of_ble_eq_true rfl) (fun Ω _ _ X hT => wX16_with X hF hT)
theorem hd_X17_with : yX17_with.cls ≠ "java/lang/invoke/MethodHandle" ∧ yX17_with.cls ≠ "java/lang/invoke/VarHandle" ∧ (parseMethodDescriptor yX17_with.desc).map (fun d => d.parameters.length) = some 2 := ⟨by decide +kernel, by decide +kernel, by decide +kernel⟩
set_option maxHeartbeats 4000000 in
theorem wX17_with {Ω : fg_O} {a0 : Nat} {i1 : Int32} {i2 : Int32} {G : fg_H} {t : Int32 × fg_H} (X : fg_X Ω RX17 "with" cX17_with 3 (some .int) 0) (hF : fX17_with a0 i1 i2 G = some t) (hT : fg_T Ω (.returned (some (.int t.1))) t.2) : fg_W Ω G 0 [(0, .ref a0), (1, .int i1), (2, .int i2)] [] := by
  unfold fX17_with at hF
  refine fg_iload_n X dX17_with_0 rfl 1 rfl ?_
  refine fg_iload_n X dX17_with_1 rfl 2 rfl ?_
  refine fg_iadd X dX17_with_2 ?_
  cases hF
  exact fg_iret X dX17_with_3 (hT)
theorem mX17_with (l : Launch) (D : fg_D) {a0 : Nat} {i1 : Int32} {i2 : Int32} {G : fg_H} {t : Int32 × fg_H} (hF : fX17_with a0 i1 i2 G = some t) : fg_M l D yX17_with cX17_with 3 (some .int) 0 [.ref a0, .int i1, .int i2] G (.returned (some (.int t.1))) t.2 :=
  fg_Mof (own := RX17) (nm := "with") (L := [(0, .ref a0), (1, .int i1), (2, .int i2)]) (plainFor_of_name pn_X17) rfl rfl rfl (Nat.le_of_ble_eq_true rfl) (fun Ω _ _ X hT => wX17_with X hF hT)
theorem hd_X18_with : yX18_with.cls ≠ "java/lang/invoke/MethodHandle" ∧ yX18_with.cls ≠ "java/lang/invoke/VarHandle" ∧ (parseMethodDescriptor yX18_with.desc).map (fun d => d.parameters.length) = some 2 := ⟨by decide +kernel, by decide +kernel, by decide +kernel⟩
set_option maxHeartbeats 4000000 in
theorem wX18_with {Ω : fg_O} {a0 : Nat} {i1 : Int32} {i2 : Int32} {G : fg_H} {t : Int32 × fg_H} (X : fg_X Ω RX18 "with" cX18_with 3 (some .int) 0) (hF : fX18_with a0 i1 i2 G = some t) (hT : fg_T Ω (.returned (some (.int t.1))) t.2) : fg_W Ω G 0 [(0, .ref a0), (1, .int i1), (2, .int i2)] [] := by
  unfold fX18_with at hF
  refine fg_iload_n X dX18_with_0 rfl 1 rfl ?_
  refine fg_iload_n X dX18_with_1 rfl 2 rfl ?_
  refine fg_isub X dX18_with_2 ?_
  cases hF
  exact fg_iret X dX18_with_3 (hT)
theorem mX18_with (l : Launch) (D : fg_D) {a0 : Nat} {i1 : Int32} {i2 : Int32} {G : fg_H} {t : Int32 × fg_H} (hF : fX18_with a0 i1 i2 G = some t) : fg_M l D yX18_with cX18_with 3 (some .int) 0 [.ref a0, .int i1, .int i2] G (.returned (some (.int t.1))) t.2 :=
  fg_Mof (own := RX18) (nm := "with") (L := [(0, .ref a0), (1, .int i1), (2, .int i2)]) (plainFor_of_name pn_X18) rfl rfl rfl (Nat.le_of_ble_eq_true rfl) (fun Ω _ _ X hT => wX18_with X hF hT)
theorem hd_X19_with : yX19_with.cls ≠ "java/lang/invoke/MethodHandle" ∧ yX19_with.cls ≠ "java/lang/invoke/VarHandle" ∧ (parseMethodDescriptor yX19_with.desc).map (fun d => d.parameters.length) = some 2 := ⟨by decide +kernel, by decide +kernel, by decide +kernel⟩
set_option maxHeartbeats 4000000 in
theorem wX19_with {Ω : fg_O} {a0 : Nat} {i1 : Int32} {i2 : Int32} {G : fg_H} {t : Int32 × fg_H} (X : fg_X Ω RX19 "with" cX19_with 3 (some .int) 0) (hF : fX19_with a0 i1 i2 G = some t) (hT : fg_T Ω (.returned (some (.int t.1))) t.2) : fg_W Ω G 0 [(0, .ref a0), (1, .int i1), (2, .int i2)] [] := by
  unfold fX19_with at hF
  refine fg_iload_n X dX19_with_0 rfl 1 rfl ?_
  refine fg_iload_n X dX19_with_1 rfl 2 rfl ?_
  refine fg_icmp_ge X (tgt := 9) dX19_with_2 (by decide) (fun hc => ?_) (fun hc => ?_)
  · rw [if_pos hc] at hF
    refine fg_iconst X (v := (0 : Int32)) dX19_with_9 (by decide) ?_
    cases hF
    exact fg_iret X dX19_with_10 (hT)
  · rw [if_neg hc] at hF
    refine fg_iconst X (v := (1 : Int32)) dX19_with_5 (by decide) ?_
    refine fg_goto X (tgt := 10) dX19_with_6 (by decide) ?_
    cases hF
    exact fg_iret X dX19_with_10 (hT)
theorem mX19_with (l : Launch) (D : fg_D) {a0 : Nat} {i1 : Int32} {i2 : Int32} {G : fg_H} {t : Int32 × fg_H} (hF : fX19_with a0 i1 i2 G = some t) : fg_M l D yX19_with cX19_with 3 (some .int) 0 [.ref a0, .int i1, .int i2] G (.returned (some (.int t.1))) t.2 :=
  fg_Mof (own := RX19) (nm := "with") (L := [(0, .ref a0), (1, .int i1), (2, .int i2)]) (plainFor_of_name pn_X19) rfl rfl rfl (Nat.le_of_ble_eq_true rfl) (fun Ω _ _ X hT => wX19_with X hF hT)
theorem hd_X20_with : yX20_with.cls ≠ "java/lang/invoke/MethodHandle" ∧ yX20_with.cls ≠ "java/lang/invoke/VarHandle" ∧ (parseMethodDescriptor yX20_with.desc).map (fun d => d.parameters.length) = some 2 := ⟨by decide +kernel, by decide +kernel, by decide +kernel⟩
set_option maxHeartbeats 4000000 in
theorem wX20_with {Ω : fg_O} {a0 : Nat} {i1 : Int32} {i2 : Int32} {G : fg_H} {t : Int32 × fg_H} (X : fg_X Ω RX20 "with" cX20_with 3 (some .int) 0) (hF : fX20_with a0 i1 i2 G = some t) (hT : fg_T Ω (.returned (some (.int t.1))) t.2) : fg_W Ω G 0 [(0, .ref a0), (1, .int i1), (2, .int i2)] [] := by
  unfold fX20_with at hF
  refine fg_iload_n X dX20_with_0 rfl 1 rfl ?_
  refine fg_iload_n X dX20_with_1 rfl 2 rfl ?_
  refine fg_icmp_ne X (tgt := 9) dX20_with_2 (by decide) (fun hc => ?_) (fun hc => ?_)
  · rw [if_neg hc] at hF
    refine fg_iconst X (v := (0 : Int32)) dX20_with_9 (by decide) ?_
    cases hF
    exact fg_iret X dX20_with_10 (hT)
  · rw [if_pos hc] at hF
    refine fg_iconst X (v := (1 : Int32)) dX20_with_5 (by decide) ?_
    refine fg_goto X (tgt := 10) dX20_with_6 (by decide) ?_
    cases hF
    exact fg_iret X dX20_with_10 (hT)
theorem mX20_with (l : Launch) (D : fg_D) {a0 : Nat} {i1 : Int32} {i2 : Int32} {G : fg_H} {t : Int32 × fg_H} (hF : fX20_with a0 i1 i2 G = some t) : fg_M l D yX20_with cX20_with 3 (some .int) 0 [.ref a0, .int i1, .int i2] G (.returned (some (.int t.1))) t.2 :=
  fg_Mof (own := RX20) (nm := "with") (L := [(0, .ref a0), (1, .int i1), (2, .int i2)]) (plainFor_of_name pn_X20) rfl rfl rfl (Nat.le_of_ble_eq_true rfl) (fun Ω _ _ X hT => wX20_with X hF hT)
theorem hd_X21_with : yX21_with.cls ≠ "java/lang/invoke/MethodHandle" ∧ yX21_with.cls ≠ "java/lang/invoke/VarHandle" ∧ (parseMethodDescriptor yX21_with.desc).map (fun d => d.parameters.length) = some 2 := ⟨by decide +kernel, by decide +kernel, by decide +kernel⟩
set_option maxHeartbeats 4000000 in
theorem wX21_with {Ω : fg_O} {a0 : Nat} {i1 : Int32} {i2 : Int32} {G : fg_H} {t : Int32 × fg_H} (X : fg_X Ω RX21 "with" cX21_with 3 (some .int) 0) (hF : fX21_with a0 i1 i2 G = some t) (hT : fg_T Ω (.returned (some (.int t.1))) t.2) : fg_W Ω G 0 [(0, .ref a0), (1, .int i1), (2, .int i2)] [] := by
  unfold fX21_with at hF
  refine fg_iload_n X dX21_with_0 rfl 1 rfl ?_
  refine fg_if_eq X (tgt := 12) dX21_with_1 (by decide) (fun hc => ?_) (fun hc => ?_)
  · rw [if_pos hc] at hF
    refine fg_iconst X (v := (0 : Int32)) dX21_with_12 (by decide) ?_
    cases hF
    exact fg_iret X dX21_with_13 (hT)
  · rw [if_neg hc] at hF
    refine fg_iload_n X dX21_with_4 rfl 2 rfl ?_
    refine fg_if_eq X (tgt := 12) dX21_with_5 (by decide) (fun hc => ?_) (fun hc => ?_)
    · rw [if_pos hc] at hF
      refine fg_iconst X (v := (0 : Int32)) dX21_with_12 (by decide) ?_
      cases hF
      exact fg_iret X dX21_with_13 (hT)
    · rw [if_neg hc] at hF
      refine fg_iconst X (v := (1 : Int32)) dX21_with_8 (by decide) ?_
      refine fg_goto X (tgt := 13) dX21_with_9 (by decide) ?_
      cases hF
      exact fg_iret X dX21_with_13 (hT)
theorem mX21_with (l : Launch) (D : fg_D) {a0 : Nat} {i1 : Int32} {i2 : Int32} {G : fg_H} {t : Int32 × fg_H} (hF : fX21_with a0 i1 i2 G = some t) : fg_M l D yX21_with cX21_with 3 (some .int) 0 [.ref a0, .int i1, .int i2] G (.returned (some (.int t.1))) t.2 :=
  fg_Mof (own := RX21) (nm := "with") (L := [(0, .ref a0), (1, .int i1), (2, .int i2)]) (plainFor_of_name pn_X21) rfl rfl rfl (Nat.le_of_ble_eq_true rfl) (fun Ω _ _ X hT => wX21_with X hF hT)
theorem hd_X22_with : yX22_with.cls ≠ "java/lang/invoke/MethodHandle" ∧ yX22_with.cls ≠ "java/lang/invoke/VarHandle" ∧ (parseMethodDescriptor yX22_with.desc).map (fun d => d.parameters.length) = some 2 := ⟨by decide +kernel, by decide +kernel, by decide +kernel⟩
set_option maxHeartbeats 4000000 in
theorem wX22_with {Ω : fg_O} {a0 : Nat} {i1 : Int32} {i2 : Int32} {G : fg_H} {t : Int32 × fg_H} (X : fg_X Ω RX22 "with" cX22_with 3 (some .int) 0) (hF : fX22_with a0 i1 i2 G = some t) (hT : fg_T Ω (.returned (some (.int t.1))) t.2) : fg_W Ω G 0 [(0, .ref a0), (1, .int i1), (2, .int i2)] [] := by
  unfold fX22_with at hF
  refine fg_iload_n X dX22_with_0 rfl 1 rfl ?_
  refine fg_if_ne X (tgt := 8) dX22_with_1 (by decide) (fun hc => ?_) (fun hc => ?_)
  · rw [if_neg hc] at hF
    refine fg_iconst X (v := (1 : Int32)) dX22_with_8 (by decide) ?_
    refine fg_goto X (tgt := 13) dX22_with_9 (by decide) ?_
    cases hF
    exact fg_iret X dX22_with_13 (hT)
  · rw [if_pos hc] at hF
    refine fg_iload_n X dX22_with_4 rfl 2 rfl ?_
    refine fg_if_eq X (tgt := 12) dX22_with_5 (by decide) (fun hc => ?_) (fun hc => ?_)
    · rw [if_pos hc] at hF
      refine fg_iconst X (v := (0 : Int32)) dX22_with_12 (by decide) ?_
      cases hF
      exact fg_iret X dX22_with_13 (hT)
    · rw [if_neg hc] at hF
      refine fg_iconst X (v := (1 : Int32)) dX22_with_8 (by decide) ?_
      refine fg_goto X (tgt := 13) dX22_with_9 (by decide) ?_
      cases hF
      exact fg_iret X dX22_with_13 (hT)
theorem mX22_with (l : Launch) (D : fg_D) {a0 : Nat} {i1 : Int32} {i2 : Int32} {G : fg_H} {t : Int32 × fg_H} (hF : fX22_with a0 i1 i2 G = some t) : fg_M l D yX22_with cX22_with 3 (some .int) 0 [.ref a0, .int i1, .int i2] G (.returned (some (.int t.1))) t.2 :=
  fg_Mof (own := RX22) (nm := "with") (L := [(0, .ref a0), (1, .int i1), (2, .int i2)]) (plainFor_of_name pn_X22) rfl rfl rfl (Nat.le_of_ble_eq_true rfl) (fun Ω _ _ X hT => wX22_with X hF hT)
theorem hv_X15_with : "FogNets$Link" ≠ "java/lang/invoke/MethodHandle" ∧ "FogNets$Link" ≠ "java/lang/invoke/VarHandle" ∧ (parseMethodDescriptor "(II)I").map (fun d => d.parameters.length) = some 2 := ⟨by decide +kernel, by decide +kernel, by decide +kernel⟩
theorem cvX15_with {Ω : fg_O} {own nm : String} {cc : ByteArray} {nL d : Nat} {ret : Option FieldType} {G G1 : fg_H} {pc a0 index : Nat} {L : List (Nat × Value)} {st : List Value} {x : Int32} {i1 : Int32} {i2 : Int32} (X : fg_X Ω own nm cc nL ret d) (e : vX15_with a0 i1 i2 G = some (x, G1)) (hdd : 1 ≤ d) (q : Cond.methodLink own index ({ cls := "FogNets$Link", name := "with", desc := "(II)I" } : MethodName) ∈ lw_all) (hW : (st.map fun v => v.category).sum ≤ 8) (hd : decode cc pc = .ok (.invokevirtual index, 3)) (kk : fg_W Ω G1 (pc + 3) L (.int x :: st)) : fg_W Ω G pc L (.int i2 :: .int i1 :: .ref a0 :: st) := by
  unfold vX15_with at e
  by_cases h16 : fg_rc G a0 16 = true
  · rw [if_pos h16] at e
    obtain ⟨fs, eo⟩ := fg_rc_get h16
    exact fg_callU X (C := "FogNets$Times") (mX16_with Ω.2.2.2.2.1 Ω.1 e) q q1163 q1183 q1182 q120 q1184 (Or.inl q1162) hv_X15_with (by decide) rfl eo ⟨by omega, by decide⟩ rfl rfl hW hd kk
  rw [if_neg h16] at e
  by_cases h17 : fg_rc G a0 17 = true
  · rw [if_pos h17] at e
    obtain ⟨fs, eo⟩ := fg_rc_get h17
    exact fg_callU X (C := "FogNets$Plus") (mX17_with Ω.2.2.2.2.1 Ω.1 e) q q1163 q1177 q1176 q124 q1178 (Or.inl q1162) hv_X15_with (by decide) rfl eo ⟨by omega, by decide⟩ rfl rfl hW hd kk
  rw [if_neg h17] at e
  by_cases h18 : fg_rc G a0 18 = true
  · rw [if_pos h18] at e
    obtain ⟨fs, eo⟩ := fg_rc_get h18
    exact fg_callU X (C := "FogNets$Minus") (mX18_with Ω.2.2.2.2.1 Ω.1 e) q q1163 q1171 q1170 q125 q1172 (Or.inl q1162) hv_X15_with (by decide) rfl eo ⟨by omega, by decide⟩ rfl rfl hW hd kk
  rw [if_neg h18] at e
  by_cases h19 : fg_rc G a0 19 = true
  · rw [if_pos h19] at e
    obtain ⟨fs, eo⟩ := fg_rc_get h19
    exact fg_callU X (C := "FogNets$Less") (mX19_with Ω.2.2.2.2.1 Ω.1 e) q q1163 q1168 q1167 q126 q1169 (Or.inl q1162) hv_X15_with (by decide) rfl eo ⟨by omega, by decide⟩ rfl rfl hW hd kk
  rw [if_neg h19] at e
  by_cases h20 : fg_rc G a0 20 = true
  · rw [if_pos h20] at e
    obtain ⟨fs, eo⟩ := fg_rc_get h20
    exact fg_callU X (C := "FogNets$Same") (mX20_with Ω.2.2.2.2.1 Ω.1 e) q q1163 q1180 q1179 q127 q1181 (Or.inl q1162) hv_X15_with (by decide) rfl eo ⟨by omega, by decide⟩ rfl rfl hW hd kk
  rw [if_neg h20] at e
  by_cases h21 : fg_rc G a0 21 = true
  · rw [if_pos h21] at e
    obtain ⟨fs, eo⟩ := fg_rc_get h21
    exact fg_callU X (C := "FogNets$And") (mX21_with Ω.2.2.2.2.1 Ω.1 e) q q1163 q1165 q1164 q128 q1166 (Or.inl q1162) hv_X15_with (by decide) rfl eo ⟨by omega, by decide⟩ rfl rfl hW hd kk
  rw [if_neg h21] at e
  by_cases h22 : fg_rc G a0 22 = true
  · rw [if_pos h22] at e
    obtain ⟨fs, eo⟩ := fg_rc_get h22
    exact fg_callU X (C := "FogNets$Or") (mX22_with Ω.2.2.2.2.1 Ω.1 e) q q1163 q1174 q1173 q129 q1175 (Or.inl q1162) hv_X15_with (by decide) rfl eo ⟨by omega, by decide⟩ rfl rfl hW hd kk
  rw [if_neg h22] at e
  cases e
theorem hd_X15_on : yX15_on.cls ≠ "java/lang/invoke/MethodHandle" ∧ yX15_on.cls ≠ "java/lang/invoke/VarHandle" ∧ (parseMethodDescriptor yX15_on.desc).map (fun d => d.parameters.length) = some 2 := ⟨by decide +kernel, by decide +kernel, by decide +kernel⟩
set_option maxHeartbeats 4000000 in
theorem wX15_on {Ω : fg_O} {vo : (Nat → Option Nat → fg_H → Option (Int32 × fg_H))} {n : Nat} (hvo : fg_RV vo n) {a0 : Nat} {i1 : Int32} {r2 : Option Nat} {G : fg_H} {t : Int32 × fg_H} (X : fg_X Ω RX15 "on" cX15_on 3 (some .int) (n + 1)) (hF : fX15_on vo a0 i1 r2 G = some t) (hT : fg_T Ω (.returned (some (.int t.1))) t.2) : fg_W Ω G 0 [(0, .ref a0), (1, .int i1), (2, va_rf r2)] [] := by
  unfold fX15_on at hF
  refine fg_aload_n X (r := (some a0)) dX15_on_0 rfl 0 rfl ?_
  refine fg_iload_n X dX15_on_1 rfl 1 rfl ?_
  refine fg_aload_n X (r := (some a0)) dX15_on_2 rfl 0 rfl ?_
  replace hF := fg_ob_some hF
  obtain ⟨rz1, e_1, hF⟩ := hF
  refine fg_getr X ff_X15_e q826 e_1 dX15_on_3 ?_
  refine fg_aload_n X (r := r2) dX15_on_6 rfl 2 rfl ?_
  replace hF := fg_ob_some hF
  obtain ⟨az2, rfl, hF⟩ := hF
  replace hF := fg_oc_some hF
  obtain ⟨xz4, Gz3, e_2, hF⟩ := hF
  refine hvo.use X (st := [.int i1, .ref a0]) e_2 (by omega) q1160 (Nat.le_of_ble_eq_true rfl) dX15_on_7 ?_
  replace hF := fg_oc_some hF
  obtain ⟨xz6, Gz5, e_3, hF⟩ := hF
  refine cvX15_with X (st := []) e_3 (by omega) q1161 (Nat.le_of_ble_eq_true rfl) dX15_on_10 ?_
  cases hF
  exact fg_iret X dX15_on_13 (hT)
theorem mX15_on (l : Launch) (D : fg_D) {vo : (Nat → Option Nat → fg_H → Option (Int32 × fg_H))} {n : Nat} (hvo : fg_RV vo n) {a0 : Nat} {i1 : Int32} {r2 : Option Nat} {G : fg_H} {t : Int32 × fg_H} (hF : fX15_on vo a0 i1 r2 G = some t) : fg_M l D yX15_on cX15_on 3 (some .int) (n + 1) [.ref a0, .int i1, va_rf r2] G (.returned (some (.int t.1))) t.2 :=
  fg_Mof (own := RX15) (nm := "on") (L := [(0, .ref a0), (1, .int i1), (2, va_rf r2)]) (plainFor_of_name pn_X15) rfl rfl (by cases r2 <;> rfl) (by cases r2 <;> exact Nat.le_of_ble_eq_true rfl) (fun Ω _ _ X hT => wX15_on hvo X hF hT)
theorem hv_X15_on : "FogNets$Link" ≠ "java/lang/invoke/MethodHandle" ∧ "FogNets$Link" ≠ "java/lang/invoke/VarHandle" ∧ (parseMethodDescriptor "(ILFogNets$Facts;)I").map (fun d => d.parameters.length) = some 2 := ⟨by decide +kernel, by decide +kernel, by decide +kernel⟩
theorem cvX15_on {vo : (Nat → Option Nat → fg_H → Option (Int32 × fg_H))} {n : Nat} (hvo : fg_RV vo n) {Ω : fg_O} {own nm : String} {cc : ByteArray} {nL d : Nat} {ret : Option FieldType} {G G1 : fg_H} {pc a0 index : Nat} {L : List (Nat × Value)} {st : List Value} {x : Int32} {i1 : Int32} {r2 : Option Nat} (X : fg_X Ω own nm cc nL ret d) (e : vX15_on vo a0 i1 r2 G = some (x, G1)) (hdd : n + 2 ≤ d) (q : Cond.methodLink own index ({ cls := "FogNets$Link", name := "on", desc := "(ILFogNets$Facts;)I" } : MethodName) ∈ lw_all) (hW : (st.map fun v => v.category).sum ≤ 8) (hd : decode cc pc = .ok (.invokevirtual index, 3)) (kk : fg_W Ω G1 (pc + 3) L (.int x :: st)) : fg_W Ω G pc L (va_rf r2 :: .int i1 :: .ref a0 :: st) := by
  unfold vX15_on at e
  by_cases h16 : fg_rc G a0 16 = true
  · rw [if_pos h16] at e
    obtain ⟨fs, eo⟩ := fg_rc_get h16
    exact fg_callU X (C := "FogNets$Times") (mX15_on Ω.2.2.2.2.1 Ω.1 hvo e) q q1151 q1150 q1158 q119 q1159 (Or.inr ⟨q1150, _, _, _, q1159⟩) hv_X15_on (by decide) rfl eo ⟨by omega, by decide⟩ rfl rfl hW hd kk
  rw [if_neg h16] at e
  by_cases h17 : fg_rc G a0 17 = true
  · rw [if_pos h17] at e
    obtain ⟨fs, eo⟩ := fg_rc_get h17
    exact fg_callU X (C := "FogNets$Plus") (mX15_on Ω.2.2.2.2.1 Ω.1 hvo e) q q1151 q1150 q1156 q119 q1159 (Or.inr ⟨q1150, _, _, _, q1159⟩) hv_X15_on (by decide) rfl eo ⟨by omega, by decide⟩ rfl rfl hW hd kk
  rw [if_neg h17] at e
  by_cases h18 : fg_rc G a0 18 = true
  · rw [if_pos h18] at e
    obtain ⟨fs, eo⟩ := fg_rc_get h18
    exact fg_callU X (C := "FogNets$Minus") (mX15_on Ω.2.2.2.2.1 Ω.1 hvo e) q q1151 q1150 q1154 q119 q1159 (Or.inr ⟨q1150, _, _, _, q1159⟩) hv_X15_on (by decide) rfl eo ⟨by omega, by decide⟩ rfl rfl hW hd kk
  rw [if_neg h18] at e
  by_cases h19 : fg_rc G a0 19 = true
  · rw [if_pos h19] at e
    obtain ⟨fs, eo⟩ := fg_rc_get h19
    exact fg_callU X (C := "FogNets$Less") (mX15_on Ω.2.2.2.2.1 Ω.1 hvo e) q q1151 q1150 q1153 q119 q1159 (Or.inr ⟨q1150, _, _, _, q1159⟩) hv_X15_on (by decide) rfl eo ⟨by omega, by decide⟩ rfl rfl hW hd kk
  rw [if_neg h19] at e
  by_cases h20 : fg_rc G a0 20 = true
  · rw [if_pos h20] at e
    obtain ⟨fs, eo⟩ := fg_rc_get h20
    exact fg_callU X (C := "FogNets$Same") (mX15_on Ω.2.2.2.2.1 Ω.1 hvo e) q q1151 q1150 q1157 q119 q1159 (Or.inr ⟨q1150, _, _, _, q1159⟩) hv_X15_on (by decide) rfl eo ⟨by omega, by decide⟩ rfl rfl hW hd kk
  rw [if_neg h20] at e
  by_cases h21 : fg_rc G a0 21 = true
  · rw [if_pos h21] at e
    obtain ⟨fs, eo⟩ := fg_rc_get h21
    exact fg_callU X (C := "FogNets$And") (mX15_on Ω.2.2.2.2.1 Ω.1 hvo e) q q1151 q1150 q1152 q119 q1159 (Or.inr ⟨q1150, _, _, _, q1159⟩) hv_X15_on (by decide) rfl eo ⟨by omega, by decide⟩ rfl rfl hW hd kk
  rw [if_neg h21] at e
  by_cases h22 : fg_rc G a0 22 = true
  · rw [if_pos h22] at e
    obtain ⟨fs, eo⟩ := fg_rc_get h22
    exact fg_callU X (C := "FogNets$Or") (mX15_on Ω.2.2.2.2.1 Ω.1 hvo e) q q1151 q1150 q1155 q119 q1159 (Or.inr ⟨q1150, _, _, _, q1159⟩) hv_X15_on (by decide) rfl eo ⟨by omega, by decide⟩ rfl rfl hW hd kk
  rw [if_neg h22] at e
  cases e
theorem hd_X14_of : yX14_of.cls ≠ "java/lang/invoke/MethodHandle" ∧ yX14_of.cls ≠ "java/lang/invoke/VarHandle" ∧ (parseMethodDescriptor yX14_of.desc).map (fun d => d.parameters.length) = some 1 := ⟨by decide +kernel, by decide +kernel, by decide +kernel⟩
set_option maxHeartbeats 4000000 in
theorem wX14_of_11b {Ω : fg_O} {vo : (Nat → Option Nat → fg_H → Option (Int32 × fg_H))} {n : Nat} (hvo : fg_RV vo n) {a0 : Nat} {r1 : Option Nat} {i2 : Int32} {i3 : Int32} {G : fg_H} {t : ((Nat × Option Nat × Int32 × Int32 × fg_H) ⊕ (Int32 × fg_H))} (X : fg_X Ω RX14 "of" cX14_of 4 (some .int) (n + 3)) (hF : fX14_of_11b vo a0 r1 i2 i3 G = some t) (h11 : ∀ z, t = (.inl z) → fg_W Ω z.2.2.2.2 11 [(0, .ref z.1), (1, va_rf z.2.1), (2, .int z.2.2.1), (3, .int z.2.2.2.1)] []) (hT : ∀ u, t = (.inr u) → fg_T Ω (.returned (some (.int u.1))) u.2) : fg_W Ω G 11 [(0, .ref a0), (1, va_rf r1), (2, .int i2), (3, .int i3)] [] := by
  unfold fX14_of_11b at hF
  refine fg_iload_n X dX14_of_11 rfl 3 rfl ?_
  refine fg_aload_n X (r := (some a0)) dX14_of_12 rfl 0 rfl ?_
  replace hF := fg_ob_some hF
  obtain ⟨rz5, e_1, hF⟩ := hF
  refine fg_getr X ff_X14_links q810 e_1 dX14_of_13 ?_
  replace hF := fg_ob_some hF
  obtain ⟨az6, rfl, hF⟩ := hF
  replace hF := fg_gd_some hF
  obtain ⟨eg_2, hF⟩ := hF
  obtain ⟨fs_3, eo_4⟩ := fg_rc_get eg_2
  replace hF := fg_oc_some hF
  obtain ⟨xz8, Gz7, e_5, hF⟩ := hF
  refine fg_callV X (st := [.int i3]) (mJ2_size Ω.2.2.2.2.1 Ω.1 e_5) q1146 q424 q425 q98 q426 hd_J2_size (by decide) rfl eo_4 ⟨by omega, by decide⟩ rfl rfl (Nat.le_of_ble_eq_true rfl) dX14_of_16 ?_
  refine fg_icmp_ge X (tgt := 45) dX14_of_19 (by decide) (fun hc => ?_) (fun hc => ?_)
  · rw [if_pos hc] at hF
    replace hF := fg_rt_some hF
    obtain ⟨tz9, hF, ht_6⟩ := hF
    subst ht_6
    replace hT := hT _ rfl
    refine fg_iload_n X dX14_of_45 rfl 2 rfl ?_
    cases hF
    exact fg_iret X dX14_of_46 (hT)
  · rw [if_neg hc] at hF
    refine fg_aload_n X (r := (some a0)) dX14_of_22 rfl 0 rfl ?_
    replace hF := fg_ob_some hF
    obtain ⟨rz10, e_7, hF⟩ := hF
    refine fg_getr X ff_X14_links q810 e_7 dX14_of_23 ?_
    refine fg_iload_n X dX14_of_26 rfl 3 rfl ?_
    replace hF := fg_ob_some hF
    obtain ⟨az11, rfl, hF⟩ := hF
    replace hF := fg_gd_some hF
    obtain ⟨eg_8, hF⟩ := hF
    obtain ⟨fs_9, eo_10⟩ := fg_rc_get eg_8
    replace hF := fg_oc_some hF
    obtain ⟨rz13, Gz12, e_11, hF⟩ := hF
    refine fg_callV X (st := []) (mJ2_get Ω.2.2.2.2.1 Ω.1 e_11) q1147 q428 q429 q98 q430 hd_J2_get (by decide) rfl eo_10 ⟨by omega, by decide⟩ rfl rfl (Nat.le_of_ble_eq_true rfl) dX14_of_27 ?_
    replace hF := fg_gd_some hF
    obtain ⟨eg_12, hF⟩ := hF
    refine fg_cast X (r := rz13) q1148 fg_link_castable eg_12 dX14_of_30 ?_
    refine fg_iload_n X dX14_of_33 rfl 2 rfl ?_
    refine fg_aload_n X (r := r1) dX14_of_34 rfl 1 rfl ?_
    replace hF := fg_ob_some hF
    obtain ⟨az14, rfl, hF⟩ := hF
    replace hF := fg_oc_some hF
    obtain ⟨xz16, Gz15, e_13, hF⟩ := hF
    refine cvX15_on hvo X (st := []) e_13 (by omega) q1149 (Nat.le_of_ble_eq_true rfl) dX14_of_35 ?_
    refine fg_istore_n X (L' := [(2, .int xz16), (0, .ref a0), (1, va_rf r1), (3, .int i3)]) dX14_of_38 rfl (by decide) (by cases r1 <;> rfl) ?_
    refine fg_iinc X (v := (i3 + (1 : Int32))) (L' := [(3, .int (i3 + (1 : Int32))), (2, .int xz16), (0, .ref a0), (1, va_rf r1)]) dX14_of_39 3 rfl rfl (by decide) rfl ?_
    refine fg_goto X (tgt := 11) dX14_of_42 (by decide) ?_
    refine fg_sub [2, 3, 1, 0] rfl ?_
    exact h11 _ (Option.some.inj hF).symm
set_option maxHeartbeats 4000000 in
seal fX14_of_11b in
theorem wX14_of_11 {Ω : fg_O} {vo : (Nat → Option Nat → fg_H → Option (Int32 × fg_H))} {n : Nat} (hvo : fg_RV vo n) {a0 : Nat} {r1 : Option Nat} {i2 : Int32} {i3 : Int32} {G : fg_H} {t : (Int32 × fg_H)} (X : fg_X Ω RX14 "of" cX14_of 4 (some .int) (n + 3)) (hF : fX14_of_11 vo a0 r1 i2 i3 G = some t) (hT : fg_T Ω (.returned (some (.int t.1))) t.2) : fg_W Ω G 11 [(0, .ref a0), (1, va_rf r1), (2, .int i2), (3, .int i3)] [] := by
  unfold fX14_of_11 at hF
  exact fg_lp_walk (P := fun z => fg_W Ω z.2.2.2.2 11 [(0, .ref z.1), (1, va_rf z.2.1), (2, .int z.2.2.1), (3, .int z.2.2.2.1)] []) (fun y o ho hl hr => wX14_of_11b hvo X ho (fun z e => hl z e) (fun u e => by rw [hr _ e]; exact hT)) hF
set_option maxHeartbeats 4000000 in
theorem wX14_of {Ω : fg_O} {vo : (Nat → Option Nat → fg_H → Option (Int32 × fg_H))} {n : Nat} (hvo : fg_RV vo n) {a0 : Nat} {r1 : Option Nat} {G : fg_H} {t : Int32 × fg_H} (X : fg_X Ω RX14 "of" cX14_of 4 (some .int) (n + 3)) (hF : fX14_of vo a0 r1 G = some t) (hT : fg_T Ω (.returned (some (.int t.1))) t.2) : fg_W Ω G 0 [(0, .ref a0), (1, va_rf r1)] [] := by
  unfold fX14_of at hF
  refine fg_aload_n X (r := (some a0)) dX14_of_0 rfl 0 rfl ?_
  replace hF := fg_ob_some hF
  obtain ⟨rz1, e_1, hF⟩ := hF
  refine fg_getr X ff_X14_first q809 e_1 dX14_of_1 ?_
  refine fg_aload_n X (r := r1) dX14_of_4 rfl 1 rfl ?_
  replace hF := fg_ob_some hF
  obtain ⟨az2, rfl, hF⟩ := hF
  replace hF := fg_oc_some hF
  obtain ⟨xz4, Gz3, e_2, hF⟩ := hF
  refine hvo.use X (st := []) e_2 (by omega) q1138 (Nat.le_of_ble_eq_true rfl) dX14_of_5 ?_
  refine fg_istore_n X (L' := [(2, .int xz4), (0, .ref a0), (1, va_rf r1)]) dX14_of_8 rfl (by decide) (by cases r1 <;> rfl) ?_
  refine fg_iconst X (v := (0 : Int32)) dX14_of_9 (by decide) ?_
  refine fg_istore_n X (L' := [(3, .int (0 : Int32)), (2, .int xz4), (0, .ref a0), (1, va_rf r1)]) dX14_of_10 rfl (by decide) rfl ?_
  refine fg_sub [2, 3, 1, 0] rfl ?_
  exact wX14_of_11 hvo X hF hT
theorem mX14_of (l : Launch) (D : fg_D) {vo : (Nat → Option Nat → fg_H → Option (Int32 × fg_H))} {n : Nat} (hvo : fg_RV vo n) {a0 : Nat} {r1 : Option Nat} {G : fg_H} {t : Int32 × fg_H} (hF : fX14_of vo a0 r1 G = some t) : fg_M l D yX14_of cX14_of 4 (some .int) (n + 3) [.ref a0, va_rf r1] G (.returned (some (.int t.1))) t.2 :=
  fg_Mof (own := RX14) (nm := "of") (L := [(0, .ref a0), (1, va_rf r1)]) (plainFor_of_name pn_X14) rfl rfl (by cases r1 <;> rfl) (by cases r1 <;> exact Nat.le_of_ble_eq_true rfl) (fun Ω _ _ X hT => wX14_of hvo X hF hT)
theorem hv_X10_of : "FogNets$Expression" ≠ "java/lang/invoke/MethodHandle" ∧ "FogNets$Expression" ≠ "java/lang/invoke/VarHandle" ∧ (parseMethodDescriptor "(LFogNets$Facts;)I").map (fun d => d.parameters.length) = some 1 := ⟨by decide +kernel, by decide +kernel, by decide +kernel⟩
theorem vX10_of_ok : ∀ m : Nat, fg_RV (vX10_of m) (3 * m)
  | 0 => by intro Ω own nm cc nL d ret G G1 pc a0 r1 index L st x X e; cases e
  | m + 1 => by
    intro Ω own nm cc nL d ret G G1 pc a0 r1 index L st x X e hdd q hW hd kk
    have ih := vX10_of_ok m
    unfold vX10_of at e
    by_cases h11 : fg_rc G a0 11 = true
    · rw [if_pos h11] at e
      obtain ⟨fs, eo⟩ := fg_rc_get h11
      exact fg_callU X (C := "FogNets$Fact") (mX11_of Ω.2.2.2.2.1 Ω.1 e) q q1134 q1139 q1185 q115 q1140 (Or.inl q1133) hv_X10_of (by decide) rfl eo ⟨by omega, by decide⟩ rfl rfl hW hd kk
    rw [if_neg h11] at e
    by_cases h12 : fg_rc G a0 12 = true
    · rw [if_pos h12] at e
      obtain ⟨fs, eo⟩ := fg_rc_get h12
      exact fg_callU X (C := "FogNets$Plain") (mX12_of Ω.2.2.2.2.1 Ω.1 e) q q1134 q1144 q1187 q116 q1145 (Or.inl q1133) hv_X10_of (by decide) rfl eo ⟨by omega, by decide⟩ rfl rfl hW hd kk
    rw [if_neg h12] at e
    by_cases h13 : fg_rc G a0 13 = true
    · rw [if_pos h13] at e
      obtain ⟨fs, eo⟩ := fg_rc_get h13
      exact fg_callU X (C := "FogNets$Not") (mX13_of Ω.2.2.2.2.1 Ω.1 ih e) q q1134 q1141 q1186 q117 q1142 (Or.inl q1133) hv_X10_of (by decide) rfl eo ⟨by omega, by decide⟩ rfl rfl hW hd kk
    rw [if_neg h13] at e
    by_cases h14 : fg_rc G a0 14 = true
    · rw [if_pos h14] at e
      obtain ⟨fs, eo⟩ := fg_rc_get h14
      exact fg_callU X (C := "FogNets$Chain") (mX14_of Ω.2.2.2.2.1 Ω.1 ih e) q q1134 q1136 q1135 q118 q1137 (Or.inl q1133) hv_X10_of (by decide) rfl eo ⟨by omega, by decide⟩ rfl rfl hW hd kk
    rw [if_neg h14] at e
    cases e
theorem hd_X3_wind : yX3_wind.cls ≠ "java/lang/invoke/MethodHandle" ∧ yX3_wind.cls ≠ "java/lang/invoke/VarHandle" ∧ (parseMethodDescriptor yX3_wind.desc).map (fun d => d.parameters.length) = some 2 := ⟨by decide +kernel, by decide +kernel, by decide +kernel⟩
set_option maxHeartbeats 4000000 in
theorem wX3_wind {Ω : fg_O} {a0 : Nat} {i1 : Int32} {i2 : Int32} {G : fg_H} {t : Int32 × fg_H} (X : fg_X Ω RX3 "wind" cX3_wind 3 (some .int) 121) (hF : fX3_wind a0 i1 i2 G = some t) (hT : fg_T Ω (.returned (some (.int t.1))) t.2) : fg_W Ω G 0 [(0, .ref a0), (1, .int i1), (2, .int i2)] [] := by
  unfold fX3_wind at hF
  refine fg_aload_n X (r := (some a0)) dX3_wind_0 rfl 0 rfl ?_
  replace hF := fg_ob_some hF
  obtain ⟨rz1, e_1, hF⟩ := hF
  refine fg_getr X ff_X3_wind q295 e_1 dX3_wind_1 ?_
  refine fg_ifnonnull X (r := rz1) (tgt := 9) dX3_wind_4 (by decide) (fun az2 hc => ?_) (fun hc => ?_)
  · subst hc
    unfold fg_on at hF
    dsimp only at hF
    refine fg_aload_n X (r := (some a0)) dX3_wind_9 rfl 0 rfl ?_
    replace hF := fg_ob_some hF
    obtain ⟨rz3, e_2, hF⟩ := hF
    refine fg_getr X ff_X3_facts q316 e_2 dX3_wind_10 ?_
    replace hF := fg_ob_some hF
    obtain ⟨az4, rfl, hF⟩ := hF
    replace hF := fg_ob_some hF
    obtain ⟨rz5, e_3, hF⟩ := hF
    refine fg_getr X ff_X4_of q276 e_3 dX3_wind_13 ?_
    refine fg_iconst X (v := (0 : Int32)) dX3_wind_16 (by decide) ?_
    refine fg_iload_n X dX3_wind_17 rfl 2 rfl ?_
    replace hF := fg_ob_some hF
    obtain ⟨az6, rfl, hF⟩ := hF
    replace hF := fg_ob_some hF
    obtain ⟨Gz7, e_4, hF⟩ := hF
    refine fg_iast X e_4 dX3_wind_18 ?_
    refine fg_aload_n X (r := (some a0)) dX3_wind_19 rfl 0 rfl ?_
    replace hF := fg_ob_some hF
    obtain ⟨rz8, e_5, hF⟩ := hF
    refine fg_getr X ff_X3_facts q316 e_5 dX3_wind_20 ?_
    replace hF := fg_ob_some hF
    obtain ⟨az9, rfl, hF⟩ := hF
    replace hF := fg_ob_some hF
    obtain ⟨rz10, e_6, hF⟩ := hF
    refine fg_getr X ff_X4_of q276 e_6 dX3_wind_23 ?_
    refine fg_iconst X (v := (1 : Int32)) dX3_wind_26 (by decide) ?_
    refine fg_iload_n X dX3_wind_27 rfl 1 rfl ?_
    replace hF := fg_ob_some hF
    obtain ⟨az11, rfl, hF⟩ := hF
    replace hF := fg_ob_some hF
    obtain ⟨Gz12, e_7, hF⟩ := hF
    refine fg_iast X e_7 dX3_wind_28 ?_
    refine fg_aload_n X (r := (some a0)) dX3_wind_29 rfl 0 rfl ?_
    replace hF := fg_ob_some hF
    obtain ⟨rz13, e_8, hF⟩ := hF
    refine fg_getr X ff_X3_wind q295 e_8 dX3_wind_30 ?_
    refine fg_aload_n X (r := (some a0)) dX3_wind_33 rfl 0 rfl ?_
    replace hF := fg_ob_some hF
    obtain ⟨rz14, e_9, hF⟩ := hF
    refine fg_getr X ff_X3_facts q316 e_9 dX3_wind_34 ?_
    replace hF := fg_ob_some hF
    obtain ⟨az15, rfl, hF⟩ := hF
    replace hF := fg_oc_some hF
    obtain ⟨xz17, Gz16, e_10, hF⟩ := hF
    refine (vX10_of_ok 40).use X (st := []) e_10 (by decide) q1132 (Nat.le_of_ble_eq_true rfl) dX3_wind_37 ?_
    refine fg_iconst X (v := (4 : Int32)) dX3_wind_40 (by decide) ?_
    replace hF := fg_oc_some hF
    obtain ⟨xz19, Gz18, e_11, hF⟩ := hF
    refine fg_callS X (st := []) (mJ7_floorMod Ω.2.2.2.2.1 Ω.1 e_11) q1188 q1189 q108 q1190 hd_J7_floorMod (by decide) rfl rfl (Nat.le_of_ble_eq_true rfl) dX3_wind_41 ?_
    cases hF
    exact fg_iret X dX3_wind_44 (hT)
  · subst hc
    unfold fg_on at hF
    dsimp only at hF
    refine fg_iconst X (v := (0 : Int32)) dX3_wind_7 (by decide) ?_
    cases hF
    exact fg_iret X dX3_wind_8 (hT)
theorem mX3_wind (l : Launch) (D : fg_D) {a0 : Nat} {i1 : Int32} {i2 : Int32} {G : fg_H} {t : Int32 × fg_H} (hF : fX3_wind a0 i1 i2 G = some t) : fg_M l D yX3_wind cX3_wind 3 (some .int) 121 [.ref a0, .int i1, .int i2] G (.returned (some (.int t.1))) t.2 :=
  fg_Mof (own := RX3) (nm := "wind") (L := [(0, .ref a0), (1, .int i1), (2, .int i2)]) (plainFor_of_name pn_X3) rfl rfl rfl (Nat.le_of_ble_eq_true rfl) (fun Ω _ _ X hT => wX3_wind X hF hT)
theorem hd_X1_wind : yX1_wind.cls ≠ "java/lang/invoke/MethodHandle" ∧ yX1_wind.cls ≠ "java/lang/invoke/VarHandle" ∧ (parseMethodDescriptor yX1_wind.desc).map (fun d => d.parameters.length) = some 1 := ⟨by decide +kernel, by decide +kernel, by decide +kernel⟩
set_option maxHeartbeats 4000000 in
theorem wX1_wind {Ω : fg_O} {a0 : Nat} {i1 : Int32} {G : fg_H} {t : Int32 × fg_H} (X : fg_X Ω RX1 "wind" cX1_wind 2 (some .int) 122) (hF : fX1_wind a0 i1 G = some t) (hT : fg_T Ω (.returned (some (.int t.1))) t.2) : fg_W Ω G 0 [(0, .ref a0), (1, .int i1)] [] := by
  unfold fX1_wind at hF
  refine fg_aload_n X (r := (some a0)) dX1_wind_0 rfl 0 rfl ?_
  refine fg_iload_n X dX1_wind_1 rfl 1 rfl ?_
  replace hF := fg_gd_some hF
  obtain ⟨eg_1, hF⟩ := hF
  obtain ⟨fs_2, eo_3⟩ := fg_rc_get eg_1
  replace hF := fg_oc_some hF
  obtain ⟨xz2, Gz1, e_4, hF⟩ := hF
  refine fg_callV X (st := []) (mX1_isHour Ω.2.2.2.2.1 Ω.1 e_4) q1124 q1126 qs28 q93 q1127 hd_X1_isHour (by decide) rfl eo_3 (by decide) rfl rfl (Nat.le_of_ble_eq_true rfl) dX1_wind_2 ?_
  refine fg_if_eq X (tgt := 23) dX1_wind_5 (by decide) (fun hc => ?_) (fun hc => ?_)
  · rw [if_pos hc] at hF
    refine fg_iconst X (v := (-1 : Int32)) dX1_wind_23 (by decide) ?_
    cases hF
    exact fg_iret X dX1_wind_24 (hT)
  · rw [if_neg hc] at hF
    refine fg_aload_n X (r := (some a0)) dX1_wind_8 rfl 0 rfl ?_
    replace hF := fg_ob_some hF
    obtain ⟨rz3, e_5, hF⟩ := hF
    refine fg_getr X ff_X1_ridge q447 e_5 dX1_wind_9 ?_
    refine fg_aload_n X (r := (some a0)) dX1_wind_12 rfl 0 rfl ?_
    replace hF := fg_ob_some hF
    obtain ⟨xz4, e_6, hF⟩ := hF
    refine fg_geti X ff_X1_night q453 e_6 dX1_wind_13 ?_
    refine fg_iload_n X dX1_wind_16 rfl 1 rfl ?_
    replace hF := fg_ob_some hF
    obtain ⟨az5, rfl, hF⟩ := hF
    replace hF := fg_gd_some hF
    obtain ⟨eg_7, hF⟩ := hF
    obtain ⟨fs_8, eo_9⟩ := fg_rc_get eg_7
    replace hF := fg_oc_some hF
    obtain ⟨xz7, Gz6, e_10, hF⟩ := hF
    refine fg_callV X (st := []) (mX3_wind Ω.2.2.2.2.1 Ω.1 e_10) q1128 q1129 q1130 q95 q1131 hd_X3_wind (by decide) rfl eo_9 (by decide) rfl rfl (Nat.le_of_ble_eq_true rfl) dX1_wind_17 ?_
    refine fg_goto X (tgt := 24) dX1_wind_20 (by decide) ?_
    cases hF
    exact fg_iret X dX1_wind_24 (hT)
theorem mX1_wind (l : Launch) (D : fg_D) {a0 : Nat} {i1 : Int32} {G : fg_H} {t : Int32 × fg_H} (hF : fX1_wind a0 i1 G = some t) : fg_M l D yX1_wind cX1_wind 2 (some .int) 122 [.ref a0, .int i1] G (.returned (some (.int t.1))) t.2 :=
  fg_Mof (own := RX1) (nm := "wind") (L := [(0, .ref a0), (1, .int i1)]) (plainFor_of_name pn_X1) rfl rfl rfl (Nat.le_of_ble_eq_true rfl) (fun Ω _ _ X hT => wX1_wind X hF hT)
theorem hd_J7_max : yJ7_max.cls ≠ "java/lang/invoke/MethodHandle" ∧ yJ7_max.cls ≠ "java/lang/invoke/VarHandle" ∧ (parseMethodDescriptor yJ7_max.desc).map (fun d => d.parameters.length) = some 2 := ⟨by decide +kernel, by decide +kernel, by decide +kernel⟩
set_option maxHeartbeats 4000000 in
theorem wJ7_max {Ω : fg_O} {i0 : Int32} {i1 : Int32} {G : fg_H} {t : Int32 × fg_H} (X : fg_X Ω RJ7 "max" cJ7_max 2 (some .int) 0) (hF : fJ7_max i0 i1 G = some t) (hT : fg_T Ω (.returned (some (.int t.1))) t.2) : fg_W Ω G 0 [(0, .int i0), (1, .int i1)] [] := by
  unfold fJ7_max at hF
  refine fg_iload_n X dJ7_max_0 rfl 0 rfl ?_
  refine fg_iload_n X dJ7_max_1 rfl 1 rfl ?_
  refine fg_icmp_lt X (tgt := 9) dJ7_max_2 (by decide) (fun hc => ?_) (fun hc => ?_)
  · rw [if_pos hc] at hF
    refine fg_iload_n X dJ7_max_9 rfl 1 rfl ?_
    cases hF
    exact fg_iret X dJ7_max_10 (hT)
  · rw [if_neg hc] at hF
    refine fg_iload_n X dJ7_max_5 rfl 0 rfl ?_
    refine fg_goto X (tgt := 10) dJ7_max_6 (by decide) ?_
    cases hF
    exact fg_iret X dJ7_max_10 (hT)
theorem mJ7_max (l : Launch) (D : fg_D) {i0 : Int32} {i1 : Int32} {G : fg_H} {t : Int32 × fg_H} (hF : fJ7_max i0 i1 G = some t) : fg_M l D yJ7_max cJ7_max 2 (some .int) 0 [.int i0, .int i1] G (.returned (some (.int t.1))) t.2 :=
  fg_Mof (own := RJ7) (nm := "max") (L := [(0, .int i0), (1, .int i1)]) (by decide +kernel) rfl rfl rfl (Nat.le_of_ble_eq_true rfl) (fun Ω _ _ X hT => wJ7_max X hF hT)
theorem hd_X3_fog : yX3_fog.cls ≠ "java/lang/invoke/MethodHandle" ∧ yX3_fog.cls ≠ "java/lang/invoke/VarHandle" ∧ (parseMethodDescriptor yX3_fog.desc).map (fun d => d.parameters.length) = some 4 := ⟨by decide +kernel, by decide +kernel, by decide +kernel⟩
set_option maxHeartbeats 4000000 in
theorem wX3_fog {Ω : fg_O} {a0 : Nat} {i1 : Int32} {i2 : Int32} {i3 : Int32} {i4 : Int32} {G : fg_H} {t : Int32 × fg_H} (X : fg_X Ω RX3 "fog" cX3_fog 5 (some .int) 121) (hF : fX3_fog a0 i1 i2 i3 i4 G = some t) (hT : fg_T Ω (.returned (some (.int t.1))) t.2) : fg_W Ω G 0 [(0, .ref a0), (1, .int i1), (2, .int i2), (3, .int i3), (4, .int i4)] [] := by
  unfold fX3_fog at hF
  refine fg_aload_n X (r := (some a0)) dX3_fog_0 rfl 0 rfl ?_
  replace hF := fg_ob_some hF
  obtain ⟨rz1, e_1, hF⟩ := hF
  refine fg_getr X ff_X3_fog q297 e_1 dX3_fog_1 ?_
  refine fg_ifnonnull X (r := rz1) (tgt := 10) dX3_fog_4 (by decide) (fun az2 hc => ?_) (fun hc => ?_)
  · subst hc
    unfold fg_on at hF
    dsimp only at hF
    refine fg_aload_n X (r := (some a0)) dX3_fog_10 rfl 0 rfl ?_
    replace hF := fg_ob_some hF
    obtain ⟨rz3, e_2, hF⟩ := hF
    refine fg_getr X ff_X3_facts q316 e_2 dX3_fog_11 ?_
    replace hF := fg_ob_some hF
    obtain ⟨az4, rfl, hF⟩ := hF
    replace hF := fg_ob_some hF
    obtain ⟨rz5, e_3, hF⟩ := hF
    refine fg_getr X ff_X4_of q276 e_3 dX3_fog_14 ?_
    refine fg_iconst X (v := (0 : Int32)) dX3_fog_17 (by decide) ?_
    refine fg_iload_n X dX3_fog_18 rfl 2 rfl ?_
    replace hF := fg_ob_some hF
    obtain ⟨az6, rfl, hF⟩ := hF
    replace hF := fg_ob_some hF
    obtain ⟨Gz7, e_4, hF⟩ := hF
    refine fg_iast X e_4 dX3_fog_19 ?_
    refine fg_aload_n X (r := (some a0)) dX3_fog_20 rfl 0 rfl ?_
    replace hF := fg_ob_some hF
    obtain ⟨rz8, e_5, hF⟩ := hF
    refine fg_getr X ff_X3_facts q316 e_5 dX3_fog_21 ?_
    replace hF := fg_ob_some hF
    obtain ⟨az9, rfl, hF⟩ := hF
    replace hF := fg_ob_some hF
    obtain ⟨rz10, e_6, hF⟩ := hF
    refine fg_getr X ff_X4_of q276 e_6 dX3_fog_24 ?_
    refine fg_iconst X (v := (1 : Int32)) dX3_fog_27 (by decide) ?_
    refine fg_iload_n X dX3_fog_28 rfl 1 rfl ?_
    replace hF := fg_ob_some hF
    obtain ⟨az11, rfl, hF⟩ := hF
    replace hF := fg_ob_some hF
    obtain ⟨Gz12, e_7, hF⟩ := hF
    refine fg_iast X e_7 dX3_fog_29 ?_
    refine fg_aload_n X (r := (some a0)) dX3_fog_30 rfl 0 rfl ?_
    replace hF := fg_ob_some hF
    obtain ⟨rz13, e_8, hF⟩ := hF
    refine fg_getr X ff_X3_facts q316 e_8 dX3_fog_31 ?_
    replace hF := fg_ob_some hF
    obtain ⟨az14, rfl, hF⟩ := hF
    replace hF := fg_ob_some hF
    obtain ⟨rz15, e_9, hF⟩ := hF
    refine fg_getr X ff_X4_of q276 e_9 dX3_fog_34 ?_
    refine fg_iconst X (v := (2 : Int32)) dX3_fog_37 (by decide) ?_
    refine fg_iload_n X dX3_fog_38 rfl 3 rfl ?_
    replace hF := fg_ob_some hF
    obtain ⟨az16, rfl, hF⟩ := hF
    replace hF := fg_ob_some hF
    obtain ⟨Gz17, e_10, hF⟩ := hF
    refine fg_iast X e_10 dX3_fog_39 ?_
    refine fg_aload_n X (r := (some a0)) dX3_fog_40 rfl 0 rfl ?_
    replace hF := fg_ob_some hF
    obtain ⟨rz18, e_11, hF⟩ := hF
    refine fg_getr X ff_X3_facts q316 e_11 dX3_fog_41 ?_
    replace hF := fg_ob_some hF
    obtain ⟨az19, rfl, hF⟩ := hF
    replace hF := fg_ob_some hF
    obtain ⟨rz20, e_12, hF⟩ := hF
    refine fg_getr X ff_X4_of q276 e_12 dX3_fog_44 ?_
    refine fg_iconst X (v := (3 : Int32)) dX3_fog_47 (by decide) ?_
    refine fg_iload X dX3_fog_48 4 rfl ?_
    replace hF := fg_ob_some hF
    obtain ⟨az21, rfl, hF⟩ := hF
    replace hF := fg_ob_some hF
    obtain ⟨Gz22, e_13, hF⟩ := hF
    refine fg_iast X e_13 dX3_fog_50 ?_
    refine fg_iconst X (v := (0 : Int32)) dX3_fog_51 (by decide) ?_
    refine fg_sipush X (v := (999 : Int32)) dX3_fog_52 (by decide) ?_
    refine fg_aload_n X (r := (some a0)) dX3_fog_55 rfl 0 rfl ?_
    replace hF := fg_ob_some hF
    obtain ⟨rz23, e_14, hF⟩ := hF
    refine fg_getr X ff_X3_fog q297 e_14 dX3_fog_56 ?_
    refine fg_aload_n X (r := (some a0)) dX3_fog_59 rfl 0 rfl ?_
    replace hF := fg_ob_some hF
    obtain ⟨rz24, e_15, hF⟩ := hF
    refine fg_getr X ff_X3_facts q316 e_15 dX3_fog_60 ?_
    replace hF := fg_ob_some hF
    obtain ⟨az25, rfl, hF⟩ := hF
    replace hF := fg_oc_some hF
    obtain ⟨xz27, Gz26, e_16, hF⟩ := hF
    refine (vX10_of_ok 40).use X (st := [.int (999 : Int32), .int (0 : Int32)]) e_16 (by decide) q1132 (Nat.le_of_ble_eq_true rfl) dX3_fog_63 ?_
    replace hF := fg_oc_some hF
    obtain ⟨xz29, Gz28, e_17, hF⟩ := hF
    refine fg_callS X (st := [.int (0 : Int32)]) (mJ7_min Ω.2.2.2.2.1 Ω.1 e_17) q1203 q562 q108 q563 hd_J7_min (by decide) rfl rfl (Nat.le_of_ble_eq_true rfl) dX3_fog_66 ?_
    replace hF := fg_oc_some hF
    obtain ⟨xz31, Gz30, e_18, hF⟩ := hF
    refine fg_callS X (st := []) (mJ7_max Ω.2.2.2.2.1 Ω.1 e_18) q1204 q559 q108 q560 hd_J7_max (by decide) rfl rfl (Nat.le_of_ble_eq_true rfl) dX3_fog_69 ?_
    cases hF
    exact fg_iret X dX3_fog_72 (hT)
  · subst hc
    unfold fg_on at hF
    dsimp only at hF
    refine fg_bipush X (v := (20 : Int32)) dX3_fog_7 (by decide) ?_
    cases hF
    exact fg_iret X dX3_fog_9 (hT)
theorem mX3_fog (l : Launch) (D : fg_D) {a0 : Nat} {i1 : Int32} {i2 : Int32} {i3 : Int32} {i4 : Int32} {G : fg_H} {t : Int32 × fg_H} (hF : fX3_fog a0 i1 i2 i3 i4 G = some t) : fg_M l D yX3_fog cX3_fog 5 (some .int) 121 [.ref a0, .int i1, .int i2, .int i3, .int i4] G (.returned (some (.int t.1))) t.2 :=
  fg_Mof (own := RX3) (nm := "fog") (L := [(0, .ref a0), (1, .int i1), (2, .int i2), (3, .int i3), (4, .int i4)]) (plainFor_of_name pn_X3) rfl rfl rfl (Nat.le_of_ble_eq_true rfl) (fun Ω _ _ X hT => wX3_fog X hF hT)
theorem hd_X3_lines : yX3_lines.cls ≠ "java/lang/invoke/MethodHandle" ∧ yX3_lines.cls ≠ "java/lang/invoke/VarHandle" ∧ (parseMethodDescriptor yX3_lines.desc).map (fun d => d.parameters.length) = some 1 := ⟨by decide +kernel, by decide +kernel, by decide +kernel⟩
set_option maxHeartbeats 4000000 in
theorem wX3_lines {Ω : fg_O} {a0 : Nat} {i1 : Int32} {G : fg_H} {t : Int32 × fg_H} (X : fg_X Ω RX3 "lines" cX3_lines 2 (some .int) 0) (hF : fX3_lines a0 i1 G = some t) (hT : fg_T Ω (.returned (some (.int t.1))) t.2) : fg_W Ω G 0 [(0, .ref a0), (1, .int i1)] [] := by
  unfold fX3_lines at hF
  refine fg_iload_n X dX3_lines_0 rfl 1 rfl ?_
  refine fg_iconst X (v := (2 : Int32)) dX3_lines_1 (by decide) ?_
  refine fg_icmp_ge X (tgt := 12) dX3_lines_2 (by decide) (fun hc => ?_) (fun hc => ?_)
  · rw [if_pos hc] at hF
    refine fg_aload_n X (r := (some a0)) dX3_lines_12 rfl 0 rfl ?_
    replace hF := fg_ob_some hF
    obtain ⟨xz1, e_1, hF⟩ := hF
    refine fg_geti X ff_X3_columns q280 e_1 dX3_lines_13 ?_
    cases hF
    exact fg_iret X dX3_lines_16 (hT)
  · rw [if_neg hc] at hF
    refine fg_aload_n X (r := (some a0)) dX3_lines_5 rfl 0 rfl ?_
    replace hF := fg_ob_some hF
    obtain ⟨xz2, e_2, hF⟩ := hF
    refine fg_geti X ff_X3_rows q283 e_2 dX3_lines_6 ?_
    refine fg_goto X (tgt := 16) dX3_lines_9 (by decide) ?_
    cases hF
    exact fg_iret X dX3_lines_16 (hT)
theorem mX3_lines (l : Launch) (D : fg_D) {a0 : Nat} {i1 : Int32} {G : fg_H} {t : Int32 × fg_H} (hF : fX3_lines a0 i1 G = some t) : fg_M l D yX3_lines cX3_lines 2 (some .int) 0 [.ref a0, .int i1] G (.returned (some (.int t.1))) t.2 :=
  fg_Mof (own := RX3) (nm := "lines") (L := [(0, .ref a0), (1, .int i1)]) (plainFor_of_name pn_X3) rfl rfl rfl (Nat.le_of_ble_eq_true rfl) (fun Ω _ _ X hT => wX3_lines X hF hT)
theorem hd_X3_length : yX3_length.cls ≠ "java/lang/invoke/MethodHandle" ∧ yX3_length.cls ≠ "java/lang/invoke/VarHandle" ∧ (parseMethodDescriptor yX3_length.desc).map (fun d => d.parameters.length) = some 1 := ⟨by decide +kernel, by decide +kernel, by decide +kernel⟩
set_option maxHeartbeats 4000000 in
theorem wX3_length {Ω : fg_O} {a0 : Nat} {i1 : Int32} {G : fg_H} {t : Int32 × fg_H} (X : fg_X Ω RX3 "length" cX3_length 2 (some .int) 0) (hF : fX3_length a0 i1 G = some t) (hT : fg_T Ω (.returned (some (.int t.1))) t.2) : fg_W Ω G 0 [(0, .ref a0), (1, .int i1)] [] := by
  unfold fX3_length at hF
  refine fg_iload_n X dX3_length_0 rfl 1 rfl ?_
  refine fg_iconst X (v := (2 : Int32)) dX3_length_1 (by decide) ?_
  refine fg_icmp_ge X (tgt := 12) dX3_length_2 (by decide) (fun hc => ?_) (fun hc => ?_)
  · rw [if_pos hc] at hF
    refine fg_aload_n X (r := (some a0)) dX3_length_12 rfl 0 rfl ?_
    replace hF := fg_ob_some hF
    obtain ⟨xz1, e_1, hF⟩ := hF
    refine fg_geti X ff_X3_rows q283 e_1 dX3_length_13 ?_
    cases hF
    exact fg_iret X dX3_length_16 (hT)
  · rw [if_neg hc] at hF
    refine fg_aload_n X (r := (some a0)) dX3_length_5 rfl 0 rfl ?_
    replace hF := fg_ob_some hF
    obtain ⟨xz2, e_2, hF⟩ := hF
    refine fg_geti X ff_X3_columns q280 e_2 dX3_length_6 ?_
    refine fg_goto X (tgt := 16) dX3_length_9 (by decide) ?_
    cases hF
    exact fg_iret X dX3_length_16 (hT)
theorem mX3_length (l : Launch) (D : fg_D) {a0 : Nat} {i1 : Int32} {G : fg_H} {t : Int32 × fg_H} (hF : fX3_length a0 i1 G = some t) : fg_M l D yX3_length cX3_length 2 (some .int) 0 [.ref a0, .int i1] G (.returned (some (.int t.1))) t.2 :=
  fg_Mof (own := RX3) (nm := "length") (L := [(0, .ref a0), (1, .int i1)]) (plainFor_of_name pn_X3) rfl rfl rfl (Nat.le_of_ble_eq_true rfl) (fun Ω _ _ X hT => wX3_length X hF hT)
theorem hd_X3_place : yX3_place.cls ≠ "java/lang/invoke/MethodHandle" ∧ yX3_place.cls ≠ "java/lang/invoke/VarHandle" ∧ (parseMethodDescriptor yX3_place.desc).map (fun d => d.parameters.length) = some 3 := ⟨by decide +kernel, by decide +kernel, by decide +kernel⟩
set_option maxHeartbeats 4000000 in
theorem wX3_place {Ω : fg_O} {a0 : Nat} {i1 : Int32} {i2 : Int32} {i3 : Int32} {G : fg_H} {t : Int32 × fg_H} (X : fg_X Ω RX3 "place" cX3_place 4 (some .int) 0) (hF : fX3_place a0 i1 i2 i3 G = some t) (hT : fg_T Ω (.returned (some (.int t.1))) t.2) : fg_W Ω G 0 [(0, .ref a0), (1, .int i1), (2, .int i2), (3, .int i3)] [] := by
  unfold fX3_place at hF
  refine fg_iload_n X dX3_place_0 rfl 1 rfl ?_
  by_cases e0 : i1 = (0 : Int32)
  · rw [if_pos e0] at hF
    refine fg_tableIn X (tgt := 28) (off := 27) dX3_place_1 (by rw [e0]; decide) (by rw [e0]; decide) (by rw [e0]; decide) (by decide) ?_
    refine fg_bipush X (v := (8 : Int32)) dX3_place_28 (by decide) ?_
    refine fg_iload_n X dX3_place_30 rfl 2 rfl ?_
    refine fg_imul X dX3_place_31 ?_
    refine fg_iload_n X dX3_place_32 rfl 3 rfl ?_
    refine fg_iadd X dX3_place_33 ?_
    cases hF
    exact fg_iret X dX3_place_34 (hT)
  rw [if_neg e0] at hF
  by_cases e1 : i1 = (1 : Int32)
  · rw [if_pos e1] at hF
    refine fg_tableIn X (tgt := 35) (off := 34) dX3_place_1 (by rw [e1]; decide) (by rw [e1]; decide) (by rw [e1]; decide) (by decide) ?_
    refine fg_bipush X (v := (8 : Int32)) dX3_place_35 (by decide) ?_
    refine fg_iload_n X dX3_place_37 rfl 2 rfl ?_
    refine fg_imul X dX3_place_38 ?_
    refine fg_aload_n X (r := (some a0)) dX3_place_39 rfl 0 rfl ?_
    replace hF := fg_ob_some hF
    obtain ⟨xz1, e_1, hF⟩ := hF
    refine fg_geti X ff_X3_columns q280 e_1 dX3_place_40 ?_
    refine fg_iadd X dX3_place_43 ?_
    refine fg_iconst X (v := (1 : Int32)) dX3_place_44 (by decide) ?_
    refine fg_isub X dX3_place_45 ?_
    refine fg_iload_n X dX3_place_46 rfl 3 rfl ?_
    refine fg_isub X dX3_place_47 ?_
    cases hF
    exact fg_iret X dX3_place_48 (hT)
  rw [if_neg e1] at hF
  by_cases e2 : i1 = (2 : Int32)
  · rw [if_pos e2] at hF
    refine fg_tableIn X (tgt := 49) (off := 48) dX3_place_1 (by rw [e2]; decide) (by rw [e2]; decide) (by rw [e2]; decide) (by decide) ?_
    refine fg_bipush X (v := (8 : Int32)) dX3_place_49 (by decide) ?_
    refine fg_iload_n X dX3_place_51 rfl 3 rfl ?_
    refine fg_imul X dX3_place_52 ?_
    refine fg_iload_n X dX3_place_53 rfl 2 rfl ?_
    refine fg_iadd X dX3_place_54 ?_
    cases hF
    exact fg_iret X dX3_place_55 (hT)
  rw [if_neg e2] at hF
  refine fg_tableOut X (tgt := 56) dX3_place_1 (fg_swout 3 (x := i1) (lo := 0) (hi := 2) (by decide) (fun j hj => ?_)) (by decide) ?_
  · rcases fg_lt3 hj with rfl | rfl | rfl
    · exact fun hh => e0 (Int32.toInt_inj.mp (hh.trans (by decide)))
    · exact fun hh => e1 (Int32.toInt_inj.mp (hh.trans (by decide)))
    · exact fun hh => e2 (Int32.toInt_inj.mp (hh.trans (by decide)))
  refine fg_bipush X (v := (8 : Int32)) dX3_place_56 (by decide) ?_
  refine fg_aload_n X (r := (some a0)) dX3_place_58 rfl 0 rfl ?_
  replace hF := fg_ob_some hF
  obtain ⟨xz2, e_2, hF⟩ := hF
  refine fg_geti X ff_X3_rows q283 e_2 dX3_place_59 ?_
  refine fg_iconst X (v := (1 : Int32)) dX3_place_62 (by decide) ?_
  refine fg_isub X dX3_place_63 ?_
  refine fg_iload_n X dX3_place_64 rfl 3 rfl ?_
  refine fg_isub X dX3_place_65 ?_
  refine fg_imul X dX3_place_66 ?_
  refine fg_iload_n X dX3_place_67 rfl 2 rfl ?_
  refine fg_iadd X dX3_place_68 ?_
  cases hF
  exact fg_iret X dX3_place_69 (hT)
theorem mX3_place (l : Launch) (D : fg_D) {a0 : Nat} {i1 : Int32} {i2 : Int32} {i3 : Int32} {G : fg_H} {t : Int32 × fg_H} (hF : fX3_place a0 i1 i2 i3 G = some t) : fg_M l D yX3_place cX3_place 4 (some .int) 0 [.ref a0, .int i1, .int i2, .int i3] G (.returned (some (.int t.1))) t.2 :=
  fg_Mof (own := RX3) (nm := "place") (L := [(0, .ref a0), (1, .int i1), (2, .int i2), (3, .int i3)]) (plainFor_of_name pn_X3) rfl rfl rfl (Nat.le_of_ble_eq_true rfl) (fun Ω _ _ X hT => wX3_place X hF hT)
theorem hd_X23_takes : yX23_takes.cls ≠ "java/lang/invoke/MethodHandle" ∧ yX23_takes.cls ≠ "java/lang/invoke/VarHandle" ∧ (parseMethodDescriptor yX23_takes.desc).map (fun d => d.parameters.length) = some 3 := ⟨by decide +kernel, by decide +kernel, by decide +kernel⟩
set_option maxHeartbeats 4000000 in
theorem wX23_takes {Ω : fg_O} {a0 : Nat} {i1 : Int32} {i2 : Int32} {i3 : Int32} {G : fg_H} {t : Int32 × fg_H} (X : fg_X Ω RX23 "takes" cX23_takes 4 (some .int) 0) (hF : fX23_takes a0 i1 i2 i3 G = some t) (hT : fg_T Ω (.returned (some (.int t.1))) t.2) : fg_W Ω G 0 [(0, .ref a0), (1, .int i1), (2, .int i2), (3, .int i3)] [] := by
  unfold fX23_takes at hF
  refine fg_iload_n X dX23_takes_0 rfl 1 rfl ?_
  refine fg_aload_n X (r := (some a0)) dX23_takes_1 rfl 0 rfl ?_
  replace hF := fg_ob_some hF
  obtain ⟨xz1, e_1, hF⟩ := hF
  refine fg_geti X ff_X23_mesh q1020 e_1 dX23_takes_2 ?_
  refine fg_imul X dX23_takes_5 ?_
  refine fg_bipush X (v := (10 : Int32)) dX23_takes_6 (by decide) ?_
  refine fg_idiv X dX23_takes_8 (by decide) ?_
  cases hF
  exact fg_iret X dX23_takes_9 (hT)
theorem mX23_takes (l : Launch) (D : fg_D) {a0 : Nat} {i1 : Int32} {i2 : Int32} {i3 : Int32} {G : fg_H} {t : Int32 × fg_H} (hF : fX23_takes a0 i1 i2 i3 G = some t) : fg_M l D yX23_takes cX23_takes 4 (some .int) 0 [.ref a0, .int i1, .int i2, .int i3] G (.returned (some (.int t.1))) t.2 :=
  fg_Mof (own := RX23) (nm := "takes") (L := [(0, .ref a0), (1, .int i1), (2, .int i2), (3, .int i3)]) (plainFor_of_name pn_X23) rfl rfl rfl (Nat.le_of_ble_eq_true rfl) (fun Ω _ _ X hT => wX23_takes X hF hT)
theorem hz_X23_takes : yX23_takes.name ≠ "<init>" ∧ (parseMethodDescriptor yX23_takes.desc).map (fun d => d.parameters.length) = some 3 := ⟨by decide +kernel, by decide +kernel⟩
theorem hd_X24_takes : yX24_takes.cls ≠ "java/lang/invoke/MethodHandle" ∧ yX24_takes.cls ≠ "java/lang/invoke/VarHandle" ∧ (parseMethodDescriptor yX24_takes.desc).map (fun d => d.parameters.length) = some 3 := ⟨by decide +kernel, by decide +kernel, by decide +kernel⟩
set_option maxHeartbeats 4000000 in
theorem wX24_takes {Ω : fg_O} {a0 : Nat} {i1 : Int32} {i2 : Int32} {i3 : Int32} {G : fg_H} {t : Int32 × fg_H} (X : fg_X Ω RX24 "takes" cX24_takes 4 (some .int) 1) (hF : fX24_takes a0 i1 i2 i3 G = some t) (hT : fg_T Ω (.returned (some (.int t.1))) t.2) : fg_W Ω G 0 [(0, .ref a0), (1, .int i1), (2, .int i2), (3, .int i3)] [] := by
  unfold fX24_takes at hF
  refine fg_iconst X (v := (4 : Int32)) dX24_takes_0 (by decide) ?_
  refine fg_aload_n X (r := (some a0)) dX24_takes_1 rfl 0 rfl ?_
  refine fg_iload_n X dX24_takes_2 rfl 1 rfl ?_
  refine fg_iload_n X dX24_takes_3 rfl 2 rfl ?_
  refine fg_iload_n X dX24_takes_4 rfl 3 rfl ?_
  replace hF := fg_gd_some hF
  obtain ⟨eg_1, hF⟩ := hF
  obtain ⟨fs_2, eo_3⟩ := fg_rc_get eg_1
  replace hF := fg_oc_some hF
  obtain ⟨xz2, Gz1, e_4, hF⟩ := hF
  refine fg_callZ X (C := "FogNets$Shroud") (st := [.int (4 : Int32)]) (mX23_takes Ω.2.2.2.2.1 Ω.1 e_4) q1239 q1226 q1026 q1224 q133 q1231 hz_X23_takes (by decide) rfl eo_3 (by decide) rfl rfl (Nat.le_of_ble_eq_true rfl) dX24_takes_5 ?_
  replace hF := fg_oc_some hF
  obtain ⟨xz4, Gz3, e_5, hF⟩ := hF
  refine fg_callS X (st := []) (mJ7_min Ω.2.2.2.2.1 Ω.1 e_5) q1240 q562 q108 q563 hd_J7_min (by decide) rfl rfl (Nat.le_of_ble_eq_true rfl) dX24_takes_8 ?_
  cases hF
  exact fg_iret X dX24_takes_11 (hT)
theorem mX24_takes (l : Launch) (D : fg_D) {a0 : Nat} {i1 : Int32} {i2 : Int32} {i3 : Int32} {G : fg_H} {t : Int32 × fg_H} (hF : fX24_takes a0 i1 i2 i3 G = some t) : fg_M l D yX24_takes cX24_takes 4 (some .int) 1 [.ref a0, .int i1, .int i2, .int i3] G (.returned (some (.int t.1))) t.2 :=
  fg_Mof (own := RX24) (nm := "takes") (L := [(0, .ref a0), (1, .int i1), (2, .int i2), (3, .int i3)]) (plainFor_of_name pn_X24) rfl rfl rfl (Nat.le_of_ble_eq_true rfl) (fun Ω _ _ X hT => wX24_takes X hF hT)
theorem hd_X25_takes : yX25_takes.cls ≠ "java/lang/invoke/MethodHandle" ∧ yX25_takes.cls ≠ "java/lang/invoke/VarHandle" ∧ (parseMethodDescriptor yX25_takes.desc).map (fun d => d.parameters.length) = some 3 := ⟨by decide +kernel, by decide +kernel, by decide +kernel⟩
set_option maxHeartbeats 4000000 in
theorem wX25_takes {Ω : fg_O} {a0 : Nat} {i1 : Int32} {i2 : Int32} {i3 : Int32} {G : fg_H} {t : Int32 × fg_H} (X : fg_X Ω RX25 "takes" cX25_takes 4 (some .int) 1) (hF : fX25_takes a0 i1 i2 i3 G = some t) (hT : fg_T Ω (.returned (some (.int t.1))) t.2) : fg_W Ω G 0 [(0, .ref a0), (1, .int i1), (2, .int i2), (3, .int i3)] [] := by
  unfold fX25_takes at hF
  refine fg_iload_n X dX25_takes_0 rfl 2 rfl ?_
  refine fg_iconst X (v := (2 : Int32)) dX25_takes_1 (by decide) ?_
  refine fg_irem X dX25_takes_2 (by decide) ?_
  refine fg_iconst X (v := (1 : Int32)) dX25_takes_3 (by decide) ?_
  refine fg_icmp_ne X (tgt := 11) dX25_takes_4 (by decide) (fun hc => ?_) (fun hc => ?_)
  · rw [if_neg hc] at hF
    refine fg_aload_n X (r := (some a0)) dX25_takes_11 rfl 0 rfl ?_
    refine fg_iload_n X dX25_takes_12 rfl 1 rfl ?_
    refine fg_iload_n X dX25_takes_13 rfl 2 rfl ?_
    refine fg_iload_n X dX25_takes_14 rfl 3 rfl ?_
    replace hF := fg_gd_some hF
    obtain ⟨eg_1, hF⟩ := hF
    obtain ⟨fs_2, eo_3⟩ := fg_rc_get eg_1
    replace hF := fg_oc_some hF
    obtain ⟨xz2, Gz1, e_4, hF⟩ := hF
    refine fg_callZ X (C := "FogNets$Birds") (st := []) (mX23_takes Ω.2.2.2.2.1 Ω.1 e_4) q1230 q1226 q1035 q1224 q133 q1231 hz_X23_takes (by decide) rfl eo_3 (by decide) rfl rfl (Nat.le_of_ble_eq_true rfl) dX25_takes_15 ?_
    cases hF
    exact fg_iret X dX25_takes_18 (hT)
  · rw [if_pos hc] at hF
    refine fg_iconst X (v := (0 : Int32)) dX25_takes_7 (by decide) ?_
    refine fg_goto X (tgt := 18) dX25_takes_8 (by decide) ?_
    cases hF
    exact fg_iret X dX25_takes_18 (hT)
theorem mX25_takes (l : Launch) (D : fg_D) {a0 : Nat} {i1 : Int32} {i2 : Int32} {i3 : Int32} {G : fg_H} {t : Int32 × fg_H} (hF : fX25_takes a0 i1 i2 i3 G = some t) : fg_M l D yX25_takes cX25_takes 4 (some .int) 1 [.ref a0, .int i1, .int i2, .int i3] G (.returned (some (.int t.1))) t.2 :=
  fg_Mof (own := RX25) (nm := "takes") (L := [(0, .ref a0), (1, .int i1), (2, .int i2), (3, .int i3)]) (plainFor_of_name pn_X25) rfl rfl rfl (Nat.le_of_ble_eq_true rfl) (fun Ω _ _ X hT => wX25_takes X hF hT)
theorem hd_X26_takes : yX26_takes.cls ≠ "java/lang/invoke/MethodHandle" ∧ yX26_takes.cls ≠ "java/lang/invoke/VarHandle" ∧ (parseMethodDescriptor yX26_takes.desc).map (fun d => d.parameters.length) = some 3 := ⟨by decide +kernel, by decide +kernel, by decide +kernel⟩
set_option maxHeartbeats 4000000 in
theorem wX26_takes {Ω : fg_O} {a0 : Nat} {i1 : Int32} {i2 : Int32} {i3 : Int32} {G : fg_H} {t : Int32 × fg_H} (X : fg_X Ω RX26 "takes" cX26_takes 4 (some .int) 1) (hF : fX26_takes a0 i1 i2 i3 G = some t) (hT : fg_T Ω (.returned (some (.int t.1))) t.2) : fg_W Ω G 0 [(0, .ref a0), (1, .int i1), (2, .int i2), (3, .int i3)] [] := by
  unfold fX26_takes at hF
  refine fg_aload_n X (r := (some a0)) dX26_takes_0 rfl 0 rfl ?_
  refine fg_iload_n X dX26_takes_1 rfl 1 rfl ?_
  refine fg_iload_n X dX26_takes_2 rfl 2 rfl ?_
  refine fg_iload_n X dX26_takes_3 rfl 3 rfl ?_
  replace hF := fg_gd_some hF
  obtain ⟨eg_1, hF⟩ := hF
  obtain ⟨fs_2, eo_3⟩ := fg_rc_get eg_1
  replace hF := fg_oc_some hF
  obtain ⟨xz2, Gz1, e_4, hF⟩ := hF
  refine fg_callZ X (C := "FogNets$Torn") (st := []) (mX23_takes Ω.2.2.2.2.1 Ω.1 e_4) q1245 q1226 q1044 q1224 q133 q1231 hz_X23_takes (by decide) rfl eo_3 (by decide) rfl rfl (Nat.le_of_ble_eq_true rfl) dX26_takes_4 ?_
  refine fg_iload_n X dX26_takes_7 rfl 3 rfl ?_
  refine fg_if_eq X (tgt := 15) dX26_takes_8 (by decide) (fun hc => ?_) (fun hc => ?_)
  · rw [if_pos hc] at hF
    refine fg_iconst X (v := (2 : Int32)) dX26_takes_15 (by decide) ?_
    refine fg_idiv X dX26_takes_16 (by decide) ?_
    cases hF
    exact fg_iret X dX26_takes_17 (hT)
  · rw [if_neg hc] at hF
    refine fg_iconst X (v := (1 : Int32)) dX26_takes_11 (by decide) ?_
    refine fg_goto X (tgt := 16) dX26_takes_12 (by decide) ?_
    refine fg_idiv X dX26_takes_16 (by decide) ?_
    cases hF
    exact fg_iret X dX26_takes_17 (hT)
theorem mX26_takes (l : Launch) (D : fg_D) {a0 : Nat} {i1 : Int32} {i2 : Int32} {i3 : Int32} {G : fg_H} {t : Int32 × fg_H} (hF : fX26_takes a0 i1 i2 i3 G = some t) : fg_M l D yX26_takes cX26_takes 4 (some .int) 1 [.ref a0, .int i1, .int i2, .int i3] G (.returned (some (.int t.1))) t.2 :=
  fg_Mof (own := RX26) (nm := "takes") (L := [(0, .ref a0), (1, .int i1), (2, .int i2), (3, .int i3)]) (plainFor_of_name pn_X26) rfl rfl rfl (Nat.le_of_ble_eq_true rfl) (fun Ω _ _ X hT => wX26_takes X hF hT)
theorem hd_X28_takes : yX28_takes.cls ≠ "java/lang/invoke/MethodHandle" ∧ yX28_takes.cls ≠ "java/lang/invoke/VarHandle" ∧ (parseMethodDescriptor yX28_takes.desc).map (fun d => d.parameters.length) = some 3 := ⟨by decide +kernel, by decide +kernel, by decide +kernel⟩
set_option maxHeartbeats 4000000 in
theorem wX28_takes {Ω : fg_O} {a0 : Nat} {i1 : Int32} {i2 : Int32} {i3 : Int32} {G : fg_H} {t : Int32 × fg_H} (X : fg_X Ω RX28 "takes" cX28_takes 4 (some .int) 1) (hF : fX28_takes a0 i1 i2 i3 G = some t) (hT : fg_T Ω (.returned (some (.int t.1))) t.2) : fg_W Ω G 0 [(0, .ref a0), (1, .int i1), (2, .int i2), (3, .int i3)] [] := by
  unfold fX28_takes at hF
  refine fg_iload_n X dX28_takes_0 rfl 1 rfl ?_
  refine fg_bipush X (v := (10 : Int32)) dX28_takes_1 (by decide) ?_
  refine fg_icmp_ge X (tgt := 10) dX28_takes_3 (by decide) (fun hc => ?_) (fun hc => ?_)
  · rw [if_pos hc] at hF
    refine fg_aload_n X (r := (some a0)) dX28_takes_10 rfl 0 rfl ?_
    refine fg_iload_n X dX28_takes_11 rfl 1 rfl ?_
    refine fg_iload_n X dX28_takes_12 rfl 2 rfl ?_
    refine fg_iload_n X dX28_takes_13 rfl 3 rfl ?_
    replace hF := fg_gd_some hF
    obtain ⟨eg_1, hF⟩ := hF
    obtain ⟨fs_2, eo_3⟩ := fg_rc_get eg_1
    replace hF := fg_oc_some hF
    obtain ⟨xz2, Gz1, e_4, hF⟩ := hF
    refine fg_callZ X (C := "FogNets$High") (st := []) (mX23_takes Ω.2.2.2.2.1 Ω.1 e_4) q1235 q1226 q1062 q1224 q133 q1231 hz_X23_takes (by decide) rfl eo_3 (by decide) rfl rfl (Nat.le_of_ble_eq_true rfl) dX28_takes_14 ?_
    cases hF
    exact fg_iret X dX28_takes_17 (hT)
  · rw [if_neg hc] at hF
    refine fg_iconst X (v := (0 : Int32)) dX28_takes_6 (by decide) ?_
    refine fg_goto X (tgt := 17) dX28_takes_7 (by decide) ?_
    cases hF
    exact fg_iret X dX28_takes_17 (hT)
theorem mX28_takes (l : Launch) (D : fg_D) {a0 : Nat} {i1 : Int32} {i2 : Int32} {i3 : Int32} {G : fg_H} {t : Int32 × fg_H} (hF : fX28_takes a0 i1 i2 i3 G = some t) : fg_M l D yX28_takes cX28_takes 4 (some .int) 1 [.ref a0, .int i1, .int i2, .int i3] G (.returned (some (.int t.1))) t.2 :=
  fg_Mof (own := RX28) (nm := "takes") (L := [(0, .ref a0), (1, .int i1), (2, .int i2), (3, .int i3)]) (plainFor_of_name pn_X28) rfl rfl rfl (Nat.le_of_ble_eq_true rfl) (fun Ω _ _ X hT => wX28_takes X hF hT)

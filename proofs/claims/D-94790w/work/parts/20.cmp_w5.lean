set_option maxRecDepth 100000
theorem hd_X1_isSo : yX1_isSo.cls ≠ "java/lang/invoke/MethodHandle" ∧ yX1_isSo.cls ≠ "java/lang/invoke/VarHandle" ∧ (parseMethodDescriptor yX1_isSo.desc).map (fun d => d.parameters.length) = some 1 := ⟨by decide +kernel, by decide +kernel, by decide +kernel⟩
set_option maxHeartbeats 4000000 in
theorem wX1_isSo_18b {Ω : fg_O} {a0 : Nat} {i1 : Int32} {i2 : Int32} {i3 : Int32} {i4 : Int32} {G : fg_H} {t : ((Nat × Int32 × Int32 × Int32 × Int32 × fg_H) ⊕ ((Nat × Int32 × Int32 × fg_H) ⊕ (Int32 × fg_H)))} (X : fg_X Ω RX1 "isSo" cX1_isSo 5 (some .boolean) 3) (hF : fX1_isSo_18b a0 i1 i2 i3 i4 G = some t) (h2 : ∀ z, t = (.inr (.inl z)) → fg_W Ω z.2.2.2 2 [(0, .ref z.1), (1, .int z.2.1), (2, .int z.2.2.1)] []) (h18 : ∀ z, t = (.inl z) → fg_W Ω z.2.2.2.2.2 18 [(0, .ref z.1), (1, .int z.2.1), (2, .int z.2.2.1), (3, .int z.2.2.2.1), (4, .int z.2.2.2.2.1)] []) (hT : ∀ u, t = (.inr (.inr u)) → fg_T Ω (.returned (some (.int u.1))) u.2) : fg_W Ω G 18 [(0, .ref a0), (1, .int i1), (2, .int i2), (3, .int i3), (4, .int i4)] [] := by
  unfold fX1_isSo_18b at hF
  refine fg_iload X dX1_isSo_18 4 rfl ?_
  refine fg_aload_n X (r := (some a0)) dX1_isSo_20 rfl 0 rfl ?_
  replace hF := fg_ob_some hF
  obtain ⟨rz6, e_1, hF⟩ := hF
  refine fg_getr X ff_X1_ridge q447 e_1 dX1_isSo_21 ?_
  replace hF := fg_ob_some hF
  obtain ⟨az7, rfl, hF⟩ := hF
  replace hF := fg_ob_some hF
  obtain ⟨xz8, e_2, hF⟩ := hF
  refine fg_geti X ff_X3_hours q288 e_2 dX1_isSo_24 ?_
  refine fg_icmp_ge X (tgt := 74) dX1_isSo_27 (by decide) (fun hc => ?_) (fun hc => ?_)
  · rw [if_pos hc] at hF
    replace hF := fg_rt_some hF
    obtain ⟨tz9, hF, ht_3⟩ := hF
    subst ht_3
    replace h2 := fun z q => h2 z (congrArg Sum.inr q)
    replace hT := fun u q => hT u (congrArg Sum.inr q)
    refine fg_iload_n X dX1_isSo_74 rfl 3 rfl ?_
    refine fg_aload_n X (r := (some a0)) dX1_isSo_75 rfl 0 rfl ?_
    replace hF := fg_ob_some hF
    obtain ⟨rz10, e_4, hF⟩ := hF
    refine fg_getr X ff_X1_jars q457 e_4 dX1_isSo_76 ?_
    refine fg_iload_n X dX1_isSo_79 rfl 2 rfl ?_
    replace hF := fg_ob_some hF
    obtain ⟨az11, rfl, hF⟩ := hF
    replace hF := fg_gd_some hF
    obtain ⟨eg_5, hF⟩ := hF
    obtain ⟨fs_6, eo_7⟩ := fg_rc_get eg_5
    replace hF := fg_oc_some hF
    obtain ⟨rz13, Gz12, e_8, hF⟩ := hF
    refine fg_callV X (st := [.int i3]) (mJ2_get Ω.2.2.2.2.1 Ω.1 e_8) q1363 q428 q429 q98 q430 hd_J2_get (by decide) rfl eo_7 (by decide) rfl rfl (Nat.le_of_ble_eq_true rfl) dX1_isSo_80 ?_
    replace hF := fg_gd_some hF
    obtain ⟨eg_9, hF⟩ := hF
    refine fg_castI X (r := rz13) q1364 eg_9 dX1_isSo_83 ?_
    refine fg_iconst X (v := (1 : Int32)) dX1_isSo_86 (by decide) ?_
    replace hF := fg_ob_some hF
    obtain ⟨az14, rfl, hF⟩ := hF
    replace hF := fg_ob_some hF
    obtain ⟨xz15, e_10, hF⟩ := hF
    refine fg_iald X e_10 dX1_isSo_87 ?_
    refine fg_icmp_eq X (tgt := 93) dX1_isSo_88 (by decide) (fun hc => ?_) (fun hc => ?_)
    · rw [if_pos hc] at hF
      refine fg_iinc X (v := (i2 + (1 : Int32))) (L' := [(2, .int (i2 + (1 : Int32))), (0, .ref a0), (1, .int i1), (3, .int i3), (4, .int i4)]) dX1_isSo_93 2 rfl rfl (by decide) rfl ?_
      refine fg_goto X (tgt := 2) dX1_isSo_96 (by decide) ?_
      refine fg_sub [1, 2, 0] rfl ?_
      exact h2 _ (Option.some.inj hF).symm
    · rw [if_neg hc] at hF
      replace hF := fg_rt_some hF
      obtain ⟨tz16, hF, ht_11⟩ := hF
      subst ht_11
      replace hT := hT _ rfl
      refine fg_iconst X (v := (0 : Int32)) dX1_isSo_91 (by decide) ?_
      cases hF
      exact fg_zret X (by decide) dX1_isSo_92 (hT)
  · rw [if_neg hc] at hF
    refine fg_iload_n X dX1_isSo_30 rfl 3 rfl ?_
    refine fg_aload_n X (r := (some a0)) dX1_isSo_31 rfl 0 rfl ?_
    replace hF := fg_ob_some hF
    obtain ⟨rz17, e_12, hF⟩ := hF
    refine fg_getr X ff_X1_takenBy q462 e_12 dX1_isSo_32 ?_
    refine fg_bipush X (v := (12 : Int32)) dX1_isSo_35 (by decide) ?_
    refine fg_iconst X (v := (4 : Int32)) dX1_isSo_37 (by decide) ?_
    refine fg_iload X dX1_isSo_38 4 rfl ?_
    refine fg_imul X dX1_isSo_40 ?_
    refine fg_iload_n X dX1_isSo_41 rfl 1 rfl ?_
    refine fg_iconst X (v := (2 : Int32)) dX1_isSo_42 (by decide) ?_
    refine fg_iload X dX1_isSo_43 4 rfl ?_
    refine fg_imul X dX1_isSo_45 ?_
    refine fg_ishr X dX1_isSo_46 ?_
    refine fg_iconst X (v := (3 : Int32)) dX1_isSo_47 (by decide) ?_
    refine fg_iand X dX1_isSo_48 ?_
    refine fg_iadd X dX1_isSo_49 ?_
    refine fg_imul X dX1_isSo_50 ?_
    refine fg_aload_n X (r := (some a0)) dX1_isSo_51 rfl 0 rfl ?_
    replace hF := fg_ob_some hF
    obtain ⟨rz18, e_13, hF⟩ := hF
    refine fg_getr X ff_X1_jars q457 e_13 dX1_isSo_52 ?_
    refine fg_iload_n X dX1_isSo_55 rfl 2 rfl ?_
    replace hF := fg_ob_some hF
    obtain ⟨az19, rfl, hF⟩ := hF
    replace hF := fg_gd_some hF
    obtain ⟨eg_14, hF⟩ := hF
    obtain ⟨fs_15, eo_16⟩ := fg_rc_get eg_14
    replace hF := fg_oc_some hF
    obtain ⟨rz21, Gz20, e_17, hF⟩ := hF
    refine fg_callV X (st := [.int ((12 : Int32) * (((4 : Int32) * i4) + ((i1 >>> (((2 : Int32) * i4) &&& 31)) &&& (3 : Int32)))), va_rf rz17, .int i3]) (mJ2_get Ω.2.2.2.2.1 Ω.1 e_17) q1363 q428 q429 q98 q430 hd_J2_get (by decide) rfl eo_16 (by decide) rfl rfl (by cases rz17 <;> exact Nat.le_of_ble_eq_true rfl) dX1_isSo_56 ?_
    replace hF := fg_gd_some hF
    obtain ⟨eg_18, hF⟩ := hF
    refine fg_castI X (r := rz21) q1364 eg_18 dX1_isSo_59 ?_
    refine fg_iconst X (v := (0 : Int32)) dX1_isSo_62 (by decide) ?_
    replace hF := fg_ob_some hF
    obtain ⟨az22, rfl, hF⟩ := hF
    replace hF := fg_ob_some hF
    obtain ⟨xz23, e_19, hF⟩ := hF
    refine fg_iald X e_19 dX1_isSo_63 ?_
    refine fg_iadd X dX1_isSo_64 ?_
    replace hF := fg_ob_some hF
    obtain ⟨az24, rfl, hF⟩ := hF
    replace hF := fg_ob_some hF
    obtain ⟨xz25, e_20, hF⟩ := hF
    refine fg_iald X e_20 dX1_isSo_65 ?_
    refine fg_iadd X dX1_isSo_66 ?_
    replace hF := fg_ob_some hF
    obtain ⟨vz26, ex_21, hF⟩ := hF
    refine fg_topi (Option.some.inj ex_21) ?_
    refine fg_istore_n X (L' := [(3, .int vz26), (0, .ref a0), (1, .int i1), (2, .int i2), (4, .int i4)]) dX1_isSo_67 rfl (by decide) rfl ?_
    refine fg_iinc X (v := (i4 + (1 : Int32))) (L' := [(4, .int (i4 + (1 : Int32))), (3, .int vz26), (0, .ref a0), (1, .int i1), (2, .int i2)]) dX1_isSo_68 4 rfl rfl (by decide) rfl ?_
    refine fg_goto X (tgt := 18) dX1_isSo_71 (by decide) ?_
    refine fg_sub [2, 3, 4, 1, 0] rfl ?_
    exact h18 _ (Option.some.inj hF).symm
set_option maxHeartbeats 4000000 in
seal fX1_isSo_18b in
theorem wX1_isSo_18 {Ω : fg_O} {a0 : Nat} {i1 : Int32} {i2 : Int32} {i3 : Int32} {i4 : Int32} {G : fg_H} {t : ((Nat × Int32 × Int32 × fg_H) ⊕ (Int32 × fg_H))} (X : fg_X Ω RX1 "isSo" cX1_isSo 5 (some .boolean) 3) (hF : fX1_isSo_18 a0 i1 i2 i3 i4 G = some t) (h2 : ∀ z, t = (.inl z) → fg_W Ω z.2.2.2 2 [(0, .ref z.1), (1, .int z.2.1), (2, .int z.2.2.1)] []) (hT : ∀ u, t = (.inr u) → fg_T Ω (.returned (some (.int u.1))) u.2) : fg_W Ω G 18 [(0, .ref a0), (1, .int i1), (2, .int i2), (3, .int i3), (4, .int i4)] [] := by
  unfold fX1_isSo_18 at hF
  exact fg_lp_walk (P := fun z => fg_W Ω z.2.2.2.2.2 18 [(0, .ref z.1), (1, .int z.2.1), (2, .int z.2.2.1), (3, .int z.2.2.2.1), (4, .int z.2.2.2.2.1)] []) (fun y o ho hl hr => wX1_isSo_18b X ho (fun z e => h2 z (hr _ e).symm) (fun z e => hl z e) (fun u e => hT u (hr _ e).symm)) hF
set_option maxHeartbeats 4000000 in
theorem wX1_isSo_2b {Ω : fg_O} {a0 : Nat} {i1 : Int32} {i2 : Int32} {G : fg_H} {t : ((Nat × Int32 × Int32 × fg_H) ⊕ (Int32 × fg_H))} (X : fg_X Ω RX1 "isSo" cX1_isSo 5 (some .boolean) 3) (hF : fX1_isSo_2b a0 i1 i2 G = some t) (h2 : ∀ z, t = (.inl z) → fg_W Ω z.2.2.2 2 [(0, .ref z.1), (1, .int z.2.1), (2, .int z.2.2.1)] []) (hT : ∀ u, t = (.inr u) → fg_T Ω (.returned (some (.int u.1))) u.2) : fg_W Ω G 2 [(0, .ref a0), (1, .int i1), (2, .int i2)] [] := by
  unfold fX1_isSo_2b at hF
  refine fg_iload_n X dX1_isSo_2 rfl 2 rfl ?_
  refine fg_aload_n X (r := (some a0)) dX1_isSo_3 rfl 0 rfl ?_
  replace hF := fg_ob_some hF
  obtain ⟨rz1, e_1, hF⟩ := hF
  refine fg_getr X ff_X1_jars q457 e_1 dX1_isSo_4 ?_
  replace hF := fg_ob_some hF
  obtain ⟨az2, rfl, hF⟩ := hF
  replace hF := fg_gd_some hF
  obtain ⟨eg_2, hF⟩ := hF
  obtain ⟨fs_3, eo_4⟩ := fg_rc_get eg_2
  replace hF := fg_oc_some hF
  obtain ⟨xz4, Gz3, e_5, hF⟩ := hF
  refine fg_callV X (st := [.int i2]) (mJ2_size Ω.2.2.2.2.1 Ω.1 e_5) q1119 q424 q425 q98 q426 hd_J2_size (by decide) rfl eo_4 (by decide) rfl rfl (Nat.le_of_ble_eq_true rfl) dX1_isSo_7 ?_
  refine fg_icmp_ge X (tgt := 99) dX1_isSo_10 (by decide) (fun hc => ?_) (fun hc => ?_)
  · rw [if_pos hc] at hF
    replace hF := fg_rt_some hF
    obtain ⟨tz5, hF, ht_6⟩ := hF
    subst ht_6
    replace hT := hT _ rfl
    refine fg_iconst X (v := (1 : Int32)) dX1_isSo_99 (by decide) ?_
    cases hF
    exact fg_zret X (by decide) dX1_isSo_100 (hT)
  · rw [if_neg hc] at hF
    refine fg_iconst X (v := (0 : Int32)) dX1_isSo_13 (by decide) ?_
    refine fg_istore_n X (L' := [(3, .int (0 : Int32)), (0, .ref a0), (1, .int i1), (2, .int i2)]) dX1_isSo_14 rfl (by decide) rfl ?_
    refine fg_iconst X (v := (0 : Int32)) dX1_isSo_15 (by decide) ?_
    refine fg_istore X (L' := [(4, .int (0 : Int32)), (3, .int (0 : Int32)), (0, .ref a0), (1, .int i1), (2, .int i2)]) dX1_isSo_16 (by decide) rfl ?_
    refine fg_sub [2, 3, 4, 1, 0] rfl ?_
    exact wX1_isSo_18 X hF h2 hT
set_option maxHeartbeats 4000000 in
seal fX1_isSo_2b in
theorem wX1_isSo_2 {Ω : fg_O} {a0 : Nat} {i1 : Int32} {i2 : Int32} {G : fg_H} {t : (Int32 × fg_H)} (X : fg_X Ω RX1 "isSo" cX1_isSo 5 (some .boolean) 3) (hF : fX1_isSo_2 a0 i1 i2 G = some t) (hT : fg_T Ω (.returned (some (.int t.1))) t.2) : fg_W Ω G 2 [(0, .ref a0), (1, .int i1), (2, .int i2)] [] := by
  unfold fX1_isSo_2 at hF
  exact fg_lp_walk (P := fun z => fg_W Ω z.2.2.2 2 [(0, .ref z.1), (1, .int z.2.1), (2, .int z.2.2.1)] []) (fun y o ho hl hr => wX1_isSo_2b X ho (fun z e => hl z e) (fun u e => by rw [hr _ e]; exact hT)) hF
set_option maxHeartbeats 4000000 in
theorem wX1_isSo {Ω : fg_O} {a0 : Nat} {i1 : Int32} {G : fg_H} {t : Int32 × fg_H} (X : fg_X Ω RX1 "isSo" cX1_isSo 5 (some .boolean) 3) (hF : fX1_isSo a0 i1 G = some t) (hT : fg_T Ω (.returned (some (.int t.1))) t.2) : fg_W Ω G 0 [(0, .ref a0), (1, .int i1)] [] := by
  unfold fX1_isSo at hF
  refine fg_iconst X (v := (0 : Int32)) dX1_isSo_0 (by decide) ?_
  refine fg_istore_n X (L' := [(2, .int (0 : Int32)), (0, .ref a0), (1, .int i1)]) dX1_isSo_1 rfl (by decide) rfl ?_
  refine fg_sub [1, 2, 0] rfl ?_
  exact wX1_isSo_2 X hF hT
theorem mX1_isSo (l : Launch) (D : fg_D) {a0 : Nat} {i1 : Int32} {G : fg_H} {t : Int32 × fg_H} (hF : fX1_isSo a0 i1 G = some t) : fg_M l D yX1_isSo cX1_isSo 5 (some .boolean) 3 [.ref a0, .int i1] G (.returned (some (.int t.1))) t.2 :=
  fg_Mof (own := RX1) (nm := "isSo") (L := [(0, .ref a0), (1, .int i1)]) (plainFor_of_name pn_X1) rfl rfl rfl (Nat.le_of_ble_eq_true rfl) (fun Ω _ _ X hT => wX1_isSo X hF hT)
theorem hd_X1_findsWinds : yX1_findsWinds.cls ≠ "java/lang/invoke/MethodHandle" ∧ yX1_findsWinds.cls ≠ "java/lang/invoke/VarHandle" ∧ (parseMethodDescriptor yX1_findsWinds.desc).map (fun d => d.parameters.length) = some 1 := ⟨by decide +kernel, by decide +kernel, by decide +kernel⟩
set_option maxHeartbeats 4000000 in
theorem wX1_findsWinds_29b {Ω : fg_O} {a0 : Nat} {i1 : Int32} {i2 : Int32} {i3 : Int32} {G : fg_H} {t : ((Nat × Int32 × Int32 × Int32 × fg_H) ⊕ (Int32 × fg_H))} (X : fg_X Ω RX1 "findsWinds" cX1_findsWinds 4 (some .int) 123) (hF : fX1_findsWinds_29b a0 i1 i2 i3 G = some t) (h29 : ∀ z, t = (.inl z) → fg_W Ω z.2.2.2.2 29 [(0, .ref z.1), (1, .int z.2.1), (2, .int z.2.2.1), (3, .int z.2.2.2.1)] []) (hT : ∀ u, t = (.inr u) → fg_T Ω (.returned (some (.int u.1))) u.2) : fg_W Ω G 29 [(0, .ref a0), (1, .int i1), (2, .int i2), (3, .int i3)] [] := by
  unfold fX1_findsWinds_29b at hF
  refine fg_iload_n X dX1_findsWinds_29 rfl 3 rfl ?_
  refine fg_iconst X (v := (1 : Int32)) dX1_findsWinds_30 (by decide) ?_
  refine fg_iconst X (v := (2 : Int32)) dX1_findsWinds_31 (by decide) ?_
  refine fg_aload_n X (r := (some a0)) dX1_findsWinds_32 rfl 0 rfl ?_
  replace hF := fg_ob_some hF
  obtain ⟨rz6, e_1, hF⟩ := hF
  refine fg_getr X ff_X1_ridge q447 e_1 dX1_findsWinds_33 ?_
  replace hF := fg_ob_some hF
  obtain ⟨az7, rfl, hF⟩ := hF
  replace hF := fg_ob_some hF
  obtain ⟨xz8, e_2, hF⟩ := hF
  refine fg_geti X ff_X3_hours q288 e_2 dX1_findsWinds_36 ?_
  refine fg_imul X dX1_findsWinds_39 ?_
  refine fg_ishl X dX1_findsWinds_40 ?_
  refine fg_icmp_ge X (tgt := 71) dX1_findsWinds_41 (by decide) (fun hc => ?_) (fun hc => ?_)
  · rw [if_pos hc] at hF
    replace hF := fg_rt_some hF
    obtain ⟨tz9, hF, ht_3⟩ := hF
    subst ht_3
    replace hT := hT _ rfl
    refine fg_iload_n X dX1_findsWinds_71 rfl 1 rfl ?_
    refine fg_iconst X (v := (-1 : Int32)) dX1_findsWinds_72 (by decide) ?_
    refine fg_icmp_ne X (tgt := 80) dX1_findsWinds_73 (by decide) (fun hc => ?_) (fun hc => ?_)
    · rw [if_neg hc] at hF
      refine fg_iconst X (v := (-1 : Int32)) dX1_findsWinds_80 (by decide) ?_
      cases hF
      exact fg_iret X dX1_findsWinds_81 (hT)
    · rw [if_pos hc] at hF
      refine fg_iload_n X dX1_findsWinds_76 rfl 2 rfl ?_
      refine fg_goto X (tgt := 81) dX1_findsWinds_77 (by decide) ?_
      cases hF
      exact fg_iret X dX1_findsWinds_81 (hT)
  · rw [if_neg hc] at hF
    refine fg_aload_n X (r := (some a0)) dX1_findsWinds_44 rfl 0 rfl ?_
    refine fg_iload_n X dX1_findsWinds_45 rfl 3 rfl ?_
    replace hF := fg_gd_some hF
    obtain ⟨eg_4, hF⟩ := hF
    obtain ⟨fs_5, eo_6⟩ := fg_rc_get eg_4
    replace hF := fg_oc_some hF
    obtain ⟨xz11, Gz10, e_7, hF⟩ := hF
    refine fg_callV X (st := []) (mX1_isSo Ω.2.2.2.2.1 Ω.1 e_7) q1427 q1429 qs38 q93 q1430 hd_X1_isSo (by decide) rfl eo_6 (by decide) rfl rfl (Nat.le_of_ble_eq_true rfl) dX1_findsWinds_46 ?_
    refine fg_if_ne X (tgt := 55) dX1_findsWinds_49 (by decide) (fun hc => ?_) (fun hc => ?_)
    · rw [if_neg hc] at hF
      refine fg_iload_n X dX1_findsWinds_55 rfl 2 rfl ?_
      refine fg_iload_n X dX1_findsWinds_56 rfl 1 rfl ?_
      refine fg_icmp_ne X (tgt := 62) dX1_findsWinds_57 (by decide) (fun hc => ?_) (fun hc => ?_)
      · rw [if_neg hc] at hF
        refine fg_iinc X (v := (i2 + (1 : Int32))) (L' := [(2, .int (i2 + (1 : Int32))), (0, .ref a0), (1, .int i1), (3, .int i3)]) dX1_findsWinds_62 2 rfl rfl (by decide) rfl ?_
        refine fg_iinc X (v := (i3 + (1 : Int32))) (L' := [(3, .int (i3 + (1 : Int32))), (2, .int (i2 + (1 : Int32))), (0, .ref a0), (1, .int i1)]) dX1_findsWinds_65 3 rfl rfl (by decide) rfl ?_
        refine fg_goto X (tgt := 29) dX1_findsWinds_68 (by decide) ?_
        refine fg_sub [2, 3, 1, 0] rfl ?_
        exact h29 _ (Option.some.inj hF).symm
      · rw [if_pos hc] at hF
        replace hF := fg_rt_some hF
        obtain ⟨tz12, hF, ht_8⟩ := hF
        subst ht_8
        replace hT := hT _ rfl
        refine fg_iload_n X dX1_findsWinds_60 rfl 3 rfl ?_
        cases hF
        exact fg_iret X dX1_findsWinds_61 (hT)
    · rw [if_pos hc] at hF
      refine fg_goto X (tgt := 65) dX1_findsWinds_52 (by decide) ?_
      refine fg_iinc X (v := (i3 + (1 : Int32))) (L' := [(3, .int (i3 + (1 : Int32))), (0, .ref a0), (1, .int i1), (2, .int i2)]) dX1_findsWinds_65 3 rfl rfl (by decide) rfl ?_
      refine fg_goto X (tgt := 29) dX1_findsWinds_68 (by decide) ?_
      refine fg_sub [1, 2, 3, 0] rfl ?_
      exact h29 _ (Option.some.inj hF).symm
set_option maxHeartbeats 4000000 in
seal fX1_findsWinds_29b in
theorem wX1_findsWinds_29 {Ω : fg_O} {a0 : Nat} {i1 : Int32} {i2 : Int32} {i3 : Int32} {G : fg_H} {t : (Int32 × fg_H)} (X : fg_X Ω RX1 "findsWinds" cX1_findsWinds 4 (some .int) 123) (hF : fX1_findsWinds_29 a0 i1 i2 i3 G = some t) (hT : fg_T Ω (.returned (some (.int t.1))) t.2) : fg_W Ω G 29 [(0, .ref a0), (1, .int i1), (2, .int i2), (3, .int i3)] [] := by
  unfold fX1_findsWinds_29 at hF
  exact fg_lp_walk (P := fun z => fg_W Ω z.2.2.2.2 29 [(0, .ref z.1), (1, .int z.2.1), (2, .int z.2.2.1), (3, .int z.2.2.2.1)] []) (fun y o ho hl hr => wX1_findsWinds_29b X ho (fun z e => hl z e) (fun u e => by rw [hr _ e]; exact hT)) hF
set_option maxHeartbeats 4000000 in
theorem wX1_findsWinds {Ω : fg_O} {a0 : Nat} {i1 : Int32} {G : fg_H} {t : Int32 × fg_H} (X : fg_X Ω RX1 "findsWinds" cX1_findsWinds 4 (some .int) 123) (hF : fX1_findsWinds a0 i1 G = some t) (hT : fg_T Ω (.returned (some (.int t.1))) t.2) : fg_W Ω G 0 [(0, .ref a0), (1, .int i1)] [] := by
  unfold fX1_findsWinds at hF
  refine fg_aload_n X (r := (some a0)) dX1_findsWinds_0 rfl 0 rfl ?_
  replace hF := fg_ob_some hF
  obtain ⟨rz1, e_1, hF⟩ := hF
  refine fg_getr X ff_X1_ridge q447 e_1 dX1_findsWinds_1 ?_
  replace hF := fg_ob_some hF
  obtain ⟨az2, rfl, hF⟩ := hF
  replace hF := fg_ob_some hF
  obtain ⟨xz3, e_2, hF⟩ := hF
  refine fg_geti X ff_X3_hours q288 e_2 dX1_findsWinds_4 ?_
  refine fg_bipush X (v := (6 : Int32)) dX1_findsWinds_7 (by decide) ?_
  refine fg_icmp_gt X (tgt := 19) dX1_findsWinds_9 (by decide) (fun hc => ?_) (fun hc => ?_)
  · rw [if_pos hc] at hF
    refine fg_iconst X (v := (-1 : Int32)) dX1_findsWinds_19 (by decide) ?_
    cases hF
    exact fg_iret X dX1_findsWinds_20 (hT)
  · rw [if_neg hc] at hF
    refine fg_aload_n X (r := (some a0)) dX1_findsWinds_12 rfl 0 rfl ?_
    replace hF := fg_ob_some hF
    obtain ⟨xz4, e_3, hF⟩ := hF
    refine fg_geti X ff_X1_night q453 e_3 dX1_findsWinds_13 ?_
    refine fg_if_ne X (tgt := 21) dX1_findsWinds_16 (by decide) (fun hc => ?_) (fun hc => ?_)
    · rw [if_neg hc] at hF
      refine fg_aload_n X (r := (some a0)) dX1_findsWinds_21 rfl 0 rfl ?_
      replace hF := fg_gd_some hF
      obtain ⟨eg_4, hF⟩ := hF
      obtain ⟨fs_5, eo_6⟩ := fg_rc_get eg_4
      replace hF := fg_oc_some hF
      obtain ⟨u, Gz5, e_7, hF⟩ := hF
      refine fg_callV X (st := []) (mX1_findsTaken Ω.2.2.2.2.1 Ω.1 e_7) q1423 q1425 qs37 q93 q1426 hd_X1_findsTaken (by decide) rfl eo_6 (by decide) rfl rfl (Nat.le_of_ble_eq_true rfl) dX1_findsWinds_22 ?_
      refine fg_iconst X (v := (0 : Int32)) dX1_findsWinds_25 (by decide) ?_
      refine fg_istore_n X (L' := [(2, .int (0 : Int32)), (0, .ref a0), (1, .int i1)]) dX1_findsWinds_26 rfl (by decide) rfl ?_
      refine fg_iconst X (v := (0 : Int32)) dX1_findsWinds_27 (by decide) ?_
      refine fg_istore_n X (L' := [(3, .int (0 : Int32)), (2, .int (0 : Int32)), (0, .ref a0), (1, .int i1)]) dX1_findsWinds_28 rfl (by decide) rfl ?_
      refine fg_sub [2, 3, 1, 0] rfl ?_
      exact wX1_findsWinds_29 X hF hT
    · rw [if_pos hc] at hF
      refine fg_iconst X (v := (-1 : Int32)) dX1_findsWinds_19 (by decide) ?_
      cases hF
      exact fg_iret X dX1_findsWinds_20 (hT)
theorem mX1_findsWinds (l : Launch) (D : fg_D) {a0 : Nat} {i1 : Int32} {G : fg_H} {t : Int32 × fg_H} (hF : fX1_findsWinds a0 i1 G = some t) : fg_M l D yX1_findsWinds cX1_findsWinds 4 (some .int) 123 [.ref a0, .int i1] G (.returned (some (.int t.1))) t.2 :=
  fg_Mof (own := RX1) (nm := "findsWinds") (L := [(0, .ref a0), (1, .int i1)]) (plainFor_of_name pn_X1) rfl rfl rfl (Nat.le_of_ble_eq_true rfl) (fun Ω _ _ X hT => wX1_findsWinds X hF hT)
theorem hd_X1_winds : yX1_winds.cls ≠ "java/lang/invoke/MethodHandle" ∧ yX1_winds.cls ≠ "java/lang/invoke/VarHandle" ∧ (parseMethodDescriptor yX1_winds.desc).map (fun d => d.parameters.length) = some 0 := ⟨by decide +kernel, by decide +kernel, by decide +kernel⟩
set_option maxHeartbeats 4000000 in
theorem wX1_winds {Ω : fg_O} {a0 : Nat} {G : fg_H} {t : Int32 × fg_H} (X : fg_X Ω RX1 "winds" cX1_winds 1 (some .int) 124) (hF : fX1_winds a0 G = some t) (hT : fg_T Ω (.returned (some (.int t.1))) t.2) : fg_W Ω G 0 [(0, .ref a0)] [] := by
  unfold fX1_winds at hF
  refine fg_aload_n X (r := (some a0)) dX1_winds_0 rfl 0 rfl ?_
  refine fg_iconst X (v := (-1 : Int32)) dX1_winds_1 (by decide) ?_
  replace hF := fg_gd_some hF
  obtain ⟨eg_1, hF⟩ := hF
  obtain ⟨fs_2, eo_3⟩ := fg_rc_get eg_1
  replace hF := fg_oc_some hF
  obtain ⟨xz2, Gz1, e_4, hF⟩ := hF
  refine fg_callV X (st := []) (mX1_findsWinds Ω.2.2.2.2.1 Ω.1 e_4) q1419 q1421 qs36 q93 q1422 hd_X1_findsWinds (by decide) rfl eo_3 (by decide) rfl rfl (Nat.le_of_ble_eq_true rfl) dX1_winds_2 ?_
  cases hF
  exact fg_iret X dX1_winds_5 (hT)
theorem mX1_winds (l : Launch) (D : fg_D) {a0 : Nat} {G : fg_H} {t : Int32 × fg_H} (hF : fX1_winds a0 G = some t) : fg_M l D yX1_winds cX1_winds 1 (some .int) 124 [.ref a0] G (.returned (some (.int t.1))) t.2 :=
  fg_Mof (own := RX1) (nm := "winds") (L := [(0, .ref a0)]) (plainFor_of_name pn_X1) rfl rfl rfl (Nat.le_of_ble_eq_true rfl) (fun Ω _ _ X hT => wX1_winds X hF hT)
theorem hd_X1_windsAt : yX1_windsAt.cls ≠ "java/lang/invoke/MethodHandle" ∧ yX1_windsAt.cls ≠ "java/lang/invoke/VarHandle" ∧ (parseMethodDescriptor yX1_windsAt.desc).map (fun d => d.parameters.length) = some 1 := ⟨by decide +kernel, by decide +kernel, by decide +kernel⟩
set_option maxHeartbeats 4000000 in
theorem wX1_windsAt {Ω : fg_O} {a0 : Nat} {i1 : Int32} {G : fg_H} {t : Int32 × fg_H} (X : fg_X Ω RX1 "windsAt" cX1_windsAt 2 (some .int) 124) (hF : fX1_windsAt a0 i1 G = some t) (hT : fg_T Ω (.returned (some (.int t.1))) t.2) : fg_W Ω G 0 [(0, .ref a0), (1, .int i1)] [] := by
  unfold fX1_windsAt at hF
  refine fg_iload_n X dX1_windsAt_0 rfl 1 rfl ?_
  refine fg_if_ge X (tgt := 8) dX1_windsAt_1 (by decide) (fun hc => ?_) (fun hc => ?_)
  · rw [if_pos hc] at hF
    refine fg_aload_n X (r := (some a0)) dX1_windsAt_8 rfl 0 rfl ?_
    refine fg_iload_n X dX1_windsAt_9 rfl 1 rfl ?_
    replace hF := fg_gd_some hF
    obtain ⟨eg_1, hF⟩ := hF
    obtain ⟨fs_2, eo_3⟩ := fg_rc_get eg_1
    replace hF := fg_oc_some hF
    obtain ⟨xz2, Gz1, e_4, hF⟩ := hF
    refine fg_callV X (st := []) (mX1_findsWinds Ω.2.2.2.2.1 Ω.1 e_4) q1419 q1421 qs36 q93 q1422 hd_X1_findsWinds (by decide) rfl eo_3 (by decide) rfl rfl (Nat.le_of_ble_eq_true rfl) dX1_windsAt_10 ?_
    cases hF
    exact fg_iret X dX1_windsAt_13 (hT)
  · rw [if_neg hc] at hF
    refine fg_iconst X (v := (-1 : Int32)) dX1_windsAt_4 (by decide) ?_
    refine fg_goto X (tgt := 13) dX1_windsAt_5 (by decide) ?_
    cases hF
    exact fg_iret X dX1_windsAt_13 (hT)
theorem mX1_windsAt (l : Launch) (D : fg_D) {a0 : Nat} {i1 : Int32} {G : fg_H} {t : Int32 × fg_H} (hF : fX1_windsAt a0 i1 G = some t) : fg_M l D yX1_windsAt cX1_windsAt 2 (some .int) 124 [.ref a0, .int i1] G (.returned (some (.int t.1))) t.2 :=
  fg_Mof (own := RX1) (nm := "windsAt") (L := [(0, .ref a0), (1, .int i1)]) (plainFor_of_name pn_X1) rfl rfl rfl (Nat.le_of_ble_eq_true rfl) (fun Ω _ _ X hT => wX1_windsAt X hF hT)
theorem hd_X1_draw : yX1_draw.cls ≠ "java/lang/invoke/MethodHandle" ∧ yX1_draw.cls ≠ "java/lang/invoke/VarHandle" ∧ (parseMethodDescriptor yX1_draw.desc).map (fun d => d.parameters.length) = some 1 := ⟨by decide +kernel, by decide +kernel, by decide +kernel⟩
set_option maxHeartbeats 4000000 in
theorem wX1_draw {Ω : fg_O} {a0 : Nat} {i1 : Int32} {G : fg_H} {t : Int32 × fg_H} (X : fg_X Ω RX1 "draw" cX1_draw 2 (some .int) 0) (hF : fX1_draw a0 i1 G = some t) (hT : fg_T Ω (.returned (some (.int t.1))) t.2) : fg_W Ω G 0 [(0, .ref a0), (1, .int i1)] [] := by
  unfold fX1_draw at hF
  refine fg_aload_n X (r := (some a0)) dX1_draw_0 rfl 0 rfl ?_
  refine fg_aload_n X (r := (some a0)) dX1_draw_1 rfl 0 rfl ?_
  replace hF := fg_ob_some hF
  obtain ⟨yz1, e_1, hF⟩ := hF
  refine fg_getl X ff_X1_g q463 e_1 dX1_draw_2 ?_
  refine fg_ldc2 X q1447 dX1_draw_5 ?_
  refine fg_lmul X dX1_draw_8 ?_
  refine fg_ldc2 X q1448 dX1_draw_9 ?_
  refine fg_ladd X dX1_draw_12 ?_
  refine fg_ldc2 X q1449 dX1_draw_13 ?_
  refine fg_lrem X dX1_draw_16 (by decide) ?_
  replace hF := fg_ob_some hF
  obtain ⟨Gz2, e_2, hF⟩ := hF
  refine fg_putv X (ty := .long) (v := .long (((yz1 * (1103515245 : Int64)) + (12345 : Int64)) - ((yz1 * (1103515245 : Int64)) + (12345 : Int64)) / (2147483648 : Int64) * (2147483648 : Int64))) ff_X1_g q463 rfl (Or.inl rfl) rfl rfl rfl e_2 dX1_draw_17 ?_
  refine fg_aload_n X (r := (some a0)) dX1_draw_20 rfl 0 rfl ?_
  replace hF := fg_ob_some hF
  obtain ⟨yz3, e_3, hF⟩ := hF
  refine fg_getl X ff_X1_g q463 e_3 dX1_draw_21 ?_
  refine fg_ldc2 X q1450 dX1_draw_24 ?_
  refine fg_ldiv X dX1_draw_27 (by decide) ?_
  refine fg_iload_n X dX1_draw_28 rfl 1 rfl ?_
  refine fg_i2l X dX1_draw_29 ?_
  replace hF := fg_gd_some hF
  obtain ⟨eg_4, hF⟩ := hF
  refine fg_lrem X dX1_draw_30 (fg_ne0l eg_4) ?_
  refine fg_l2i X dX1_draw_31 ?_
  cases hF
  exact fg_iret X dX1_draw_32 (hT)
theorem mX1_draw (l : Launch) (D : fg_D) {a0 : Nat} {i1 : Int32} {G : fg_H} {t : Int32 × fg_H} (hF : fX1_draw a0 i1 G = some t) : fg_M l D yX1_draw cX1_draw 2 (some .int) 0 [.ref a0, .int i1] G (.returned (some (.int t.1))) t.2 :=
  fg_Mof (own := RX1) (nm := "draw") (L := [(0, .ref a0), (1, .int i1)]) (plainFor_of_name pn_X1) rfl rfl rfl (Nat.le_of_ble_eq_true rfl) (fun Ω _ _ X hT => wX1_draw X hF hT)
theorem hd_X1_drawsNight : yX1_drawsNight.cls ≠ "java/lang/invoke/MethodHandle" ∧ yX1_drawsNight.cls ≠ "java/lang/invoke/VarHandle" ∧ (parseMethodDescriptor yX1_drawsNight.desc).map (fun d => d.parameters.length) = some 1 := ⟨by decide +kernel, by decide +kernel, by decide +kernel⟩
set_option maxHeartbeats 4000000 in
theorem wX1_drawsNight_15b {Ω : fg_O} {a0 : Nat} {i1 : Int32} {i2 : Int32} {G : fg_H} {t : ((Nat × Int32 × Int32 × fg_H) ⊕ (Unit × fg_H))} (X : fg_X Ω RX1 "drawsNight" cX1_drawsNight 3 none 124) (hF : fX1_drawsNight_15b a0 i1 i2 G = some t) (h15 : ∀ z, t = (.inl z) → fg_W Ω z.2.2.2 15 [(0, .ref z.1), (1, .int z.2.1), (2, .int z.2.2.1)] []) (hT : ∀ u, t = (.inr u) → fg_T Ω (.returned none) u.2) : fg_W Ω G 15 [(0, .ref a0), (1, .int i1), (2, .int i2)] [] := by
  unfold fX1_drawsNight_15b at hF
  refine fg_iload_n X dX1_drawsNight_15 rfl 2 rfl ?_
  refine fg_aload_n X (r := (some a0)) dX1_drawsNight_16 rfl 0 rfl ?_
  replace hF := fg_ob_some hF
  obtain ⟨rz6, e_1, hF⟩ := hF
  refine fg_getr X ff_X1_ridge q447 e_1 dX1_drawsNight_17 ?_
  replace hF := fg_ob_some hF
  obtain ⟨az7, rfl, hF⟩ := hF
  replace hF := fg_ob_some hF
  obtain ⟨xz8, e_2, hF⟩ := hF
  refine fg_geti X ff_X3_hours q288 e_2 dX1_drawsNight_20 ?_
  refine fg_icmp_ge X (tgt := 66) dX1_drawsNight_23 (by decide) (fun hc => ?_) (fun hc => ?_)
  · rw [if_pos hc] at hF
    replace hF := fg_rt_some hF
    obtain ⟨tz9, hF, ht_3⟩ := hF
    subst ht_3
    replace hT := hT _ rfl
    refine fg_aload_n X (r := (some a0)) dX1_drawsNight_66 rfl 0 rfl ?_
    replace hF := fg_ob_some hF
    obtain ⟨rz10, e_4, hF⟩ := hF
    refine fg_getr X ff_X1_later q460 e_4 dX1_drawsNight_67 ?_
    refine fg_aload_n X (r := (some a0)) dX1_drawsNight_70 rfl 0 rfl ?_
    replace hF := fg_ob_some hF
    obtain ⟨rz11, e_5, hF⟩ := hF
    refine fg_getr X ff_X1_trial q459 e_5 dX1_drawsNight_71 ?_
    refine fg_aload_n X (r := (some a0)) dX1_drawsNight_74 rfl 0 rfl ?_
    replace hF := fg_ob_some hF
    obtain ⟨rz12, e_6, hF⟩ := hF
    refine fg_getr X ff_X1_sky q458 e_6 dX1_drawsNight_75 ?_
    replace hF := fg_ob_some hF
    obtain ⟨az13, rfl, hF⟩ := hF
    replace hF := fg_gd_some hF
    obtain ⟨eg_7, hF⟩ := hF
    obtain ⟨fs_8, eo_9⟩ := fg_rc_get eg_7
    replace hF := fg_oc_some hF
    obtain ⟨rz15, Gz14, e_10, hF⟩ := hF
    refine fg_callV X (st := [va_rf rz10]) (mX5_takes Ω.2.2.2.2.1 Ω.1 e_10) q1261 q1262 q1263 q100 q1264 hd_X5_takes (by decide) rfl eo_9 (by decide) rfl rfl (by cases rz10 <;> exact Nat.le_of_ble_eq_true rfl) dX1_drawsNight_78 ?_
    replace hF := fg_ob_some hF
    obtain ⟨az16, rfl, hF⟩ := hF
    replace hF := fg_gd_some hF
    obtain ⟨eg_11, hF⟩ := hF
    obtain ⟨fs_12, eo_13⟩ := fg_rc_get eg_11
    replace hF := fg_oc_some hF
    obtain ⟨u, Gz17, e_14, hF⟩ := hF
    refine fg_callV X (st := []) (mX6_passes Ω.2.2.2.2.1 Ω.1 e_14) q1267 q1268 q1269 q101 q1270 hd_X6_passes (by decide) rfl eo_13 (by decide) rfl rfl (Nat.le_of_ble_eq_true rfl) dX1_drawsNight_81 ?_
    cases hF
    exact fg_vret X dX1_drawsNight_84 (hT)
  · rw [if_neg hc] at hF
    refine fg_aload_n X (r := (some a0)) dX1_drawsNight_26 rfl 0 rfl ?_
    refine fg_bipush X (v := (10 : Int32)) dX1_drawsNight_27 (by decide) ?_
    replace hF := fg_gd_some hF
    obtain ⟨eg_15, hF⟩ := hF
    obtain ⟨fs_16, eo_17⟩ := fg_rc_get eg_15
    replace hF := fg_oc_some hF
    obtain ⟨xz19, Gz18, e_18, hF⟩ := hF
    refine fg_callV X (st := []) (mX1_draw Ω.2.2.2.2.1 Ω.1 e_18) q1443 q1445 qs40 q93 q1446 hd_X1_draw (by decide) rfl eo_17 (by decide) rfl rfl (Nat.le_of_ble_eq_true rfl) dX1_drawsNight_29 ?_
    refine fg_aload_n X (r := (some a0)) dX1_drawsNight_32 rfl 0 rfl ?_
    replace hF := fg_ob_some hF
    obtain ⟨rz20, e_19, hF⟩ := hF
    refine fg_getr X ff_X1_ridge q447 e_19 dX1_drawsNight_33 ?_
    replace hF := fg_ob_some hF
    obtain ⟨az21, rfl, hF⟩ := hF
    replace hF := fg_ob_some hF
    obtain ⟨xz22, e_20, hF⟩ := hF
    refine fg_geti X ff_X3_turns q294 e_20 dX1_drawsNight_36 ?_
    refine fg_icmp_ge X (tgt := 60) dX1_drawsNight_39 (by decide) (fun hc => ?_) (fun hc => ?_)
    · rw [if_pos hc] at hF
      refine fg_iinc X (v := (i2 + (1 : Int32))) (L' := [(2, .int (i2 + (1 : Int32))), (0, .ref a0), (1, .int i1)]) dX1_drawsNight_60 2 rfl rfl (by decide) rfl ?_
      refine fg_goto X (tgt := 15) dX1_drawsNight_63 (by decide) ?_
      refine fg_sub [1, 2, 0] rfl ?_
      exact h15 _ (Option.some.inj hF).symm
    · rw [if_neg hc] at hF
      refine fg_aload_n X (r := (some a0)) dX1_drawsNight_42 rfl 0 rfl ?_
      replace hF := fg_ob_some hF
      obtain ⟨rz23, e_21, hF⟩ := hF
      refine fg_getr X ff_X1_sky q458 e_21 dX1_drawsNight_43 ?_
      refine fg_aload_n X (r := (some a0)) dX1_drawsNight_46 rfl 0 rfl ?_
      replace hF := fg_ob_some hF
      obtain ⟨rz24, e_22, hF⟩ := hF
      refine fg_getr X ff_X1_ridge q447 e_22 dX1_drawsNight_47 ?_
      refine fg_iload_n X dX1_drawsNight_50 rfl 1 rfl ?_
      refine fg_iload_n X dX1_drawsNight_51 rfl 2 rfl ?_
      refine fg_aload_n X (r := (some a0)) dX1_drawsNight_52 rfl 0 rfl ?_
      refine fg_iconst X (v := (4 : Int32)) dX1_drawsNight_53 (by decide) ?_
      replace hF := fg_gd_some hF
      obtain ⟨eg_23, hF⟩ := hF
      obtain ⟨fs_24, eo_25⟩ := fg_rc_get eg_23
      replace hF := fg_oc_some hF
      obtain ⟨xz26, Gz25, e_26, hF⟩ := hF
      refine fg_callV X (st := [.int i2, .int i1, va_rf rz24, va_rf rz23]) (mX1_draw Ω.2.2.2.2.1 Ω.1 e_26) q1443 q1445 qs40 q93 q1446 hd_X1_draw (by decide) rfl eo_25 (by decide) rfl rfl (by cases rz23 <;> cases rz24 <;> exact Nat.le_of_ble_eq_true rfl) dX1_drawsNight_54 ?_
      replace hF := fg_ob_some hF
      obtain ⟨az27, rfl, hF⟩ := hF
      replace hF := fg_gd_some hF
      obtain ⟨eg_27, hF⟩ := hF
      obtain ⟨fs_28, eo_29⟩ := fg_rc_get eg_27
      replace hF := fg_oc_some hF
      obtain ⟨u, Gz28, e_30, hF⟩ := hF
      refine fg_callV X (st := []) (mX7_turns Ω.2.2.2.2.1 Ω.1 e_30) q1451 q1256 q1257 q102 q1258 hd_X7_turns (by decide) rfl eo_29 (by decide) rfl rfl (Nat.le_of_ble_eq_true rfl) dX1_drawsNight_57 ?_
      refine fg_iinc X (v := (i2 + (1 : Int32))) (L' := [(2, .int (i2 + (1 : Int32))), (0, .ref a0), (1, .int i1)]) dX1_drawsNight_60 2 rfl rfl (by decide) rfl ?_
      refine fg_goto X (tgt := 15) dX1_drawsNight_63 (by decide) ?_
      refine fg_sub [1, 2, 0] rfl ?_
      exact h15 _ (Option.some.inj hF).symm
set_option maxHeartbeats 4000000 in
seal fX1_drawsNight_15b in
theorem wX1_drawsNight_15 {Ω : fg_O} {a0 : Nat} {i1 : Int32} {i2 : Int32} {G : fg_H} {t : (Unit × fg_H)} (X : fg_X Ω RX1 "drawsNight" cX1_drawsNight 3 none 124) (hF : fX1_drawsNight_15 a0 i1 i2 G = some t) (hT : fg_T Ω (.returned none) t.2) : fg_W Ω G 15 [(0, .ref a0), (1, .int i1), (2, .int i2)] [] := by
  unfold fX1_drawsNight_15 at hF
  exact fg_lp_walk (P := fun z => fg_W Ω z.2.2.2 15 [(0, .ref z.1), (1, .int z.2.1), (2, .int z.2.2.1)] []) (fun y o ho hl hr => wX1_drawsNight_15b X ho (fun z e => hl z e) (fun u e => by rw [hr _ e]; exact hT)) hF
set_option maxHeartbeats 4000000 in
theorem wX1_drawsNight {Ω : fg_O} {a0 : Nat} {i1 : Int32} {G : fg_H} {t : Unit × fg_H} (X : fg_X Ω RX1 "drawsNight" cX1_drawsNight 3 none 124) (hF : fX1_drawsNight a0 i1 G = some t) (hT : fg_T Ω (.returned none) t.2) : fg_W Ω G 0 [(0, .ref a0), (1, .int i1)] [] := by
  unfold fX1_drawsNight at hF
  refine fg_aload_n X (r := (some a0)) dX1_drawsNight_0 rfl 0 rfl ?_
  replace hF := fg_ob_some hF
  obtain ⟨rz1, e_1, hF⟩ := hF
  refine fg_getr X ff_X1_sky q458 e_1 dX1_drawsNight_1 ?_
  refine fg_aload_n X (r := (some a0)) dX1_drawsNight_4 rfl 0 rfl ?_
  replace hF := fg_ob_some hF
  obtain ⟨rz2, e_2, hF⟩ := hF
  refine fg_getr X ff_X1_ridge q447 e_2 dX1_drawsNight_5 ?_
  refine fg_iload_n X dX1_drawsNight_8 rfl 1 rfl ?_
  replace hF := fg_ob_some hF
  obtain ⟨az3, rfl, hF⟩ := hF
  replace hF := fg_gd_some hF
  obtain ⟨eg_3, hF⟩ := hF
  obtain ⟨fs_4, eo_5⟩ := fg_rc_get eg_3
  replace hF := fg_oc_some hF
  obtain ⟨rz5, Gz4, e_6, hF⟩ := hF
  refine fg_callV X (st := []) (mX7_finds Ω.2.2.2.2.1 Ω.1 e_6) q1250 q1251 q1252 q102 q1253 hd_X7_finds (by decide) rfl eo_5 (by decide) rfl rfl (Nat.le_of_ble_eq_true rfl) dX1_drawsNight_9 ?_
  refine fg_pop X dX1_drawsNight_12 (fg_cat _) ?_
  refine fg_iconst X (v := (0 : Int32)) dX1_drawsNight_13 (by decide) ?_
  refine fg_istore_n X (L' := [(2, .int (0 : Int32)), (0, .ref a0), (1, .int i1)]) dX1_drawsNight_14 rfl (by decide) rfl ?_
  refine fg_sub [1, 2, 0] rfl ?_
  exact wX1_drawsNight_15 X hF hT
theorem mX1_drawsNight (l : Launch) (D : fg_D) {a0 : Nat} {i1 : Int32} {G : fg_H} {t : Unit × fg_H} (hF : fX1_drawsNight a0 i1 G = some t) : fg_M l D yX1_drawsNight cX1_drawsNight 3 none 124 [.ref a0, .int i1] G (.returned none) t.2 :=
  fg_Mof (own := RX1) (nm := "drawsNight") (L := [(0, .ref a0), (1, .int i1)]) (plainFor_of_name pn_X1) rfl rfl rfl (Nat.le_of_ble_eq_true rfl) (fun Ω _ _ X hT => wX1_drawsNight X hF hT)
theorem hd_X1_lots : yX1_lots.cls ≠ "java/lang/invoke/MethodHandle" ∧ yX1_lots.cls ≠ "java/lang/invoke/VarHandle" ∧ (parseMethodDescriptor yX1_lots.desc).map (fun d => d.parameters.length) = some 4 := ⟨by decide +kernel, by decide +kernel, by decide +kernel⟩
set_option maxHeartbeats 4000000 in
theorem wX1_lots_113b {Ω : fg_O} {a0 : Nat} {i2 : Int32} {i3 : Int32} {i4 : Int32} {i5 : Int32} {i6 : Int32} {i7 : Int32} {G : fg_H} {t : ((Nat × Int32 × Int32 × Int32 × Int32 × Int32 × Int32 × fg_H) ⊕ ((Nat × Int32 × Int32 × Int32 × Int32 × Int32 × fg_H) ⊕ (Int32 × fg_H)))} (X : fg_X Ω RX1 "lots" cX1_lots 8 (some .int) 125) (hF : fX1_lots_113b a0 i2 i3 i4 i5 i6 i7 G = some t) (h67 : ∀ z, t = (.inr (.inl z)) → fg_W Ω z.2.2.2.2.2.2 67 [(0, .ref z.1), (2, .int z.2.1), (3, .int z.2.2.1), (4, .int z.2.2.2.1), (5, .int z.2.2.2.2.1), (6, .int z.2.2.2.2.2.1)] []) (h113 : ∀ z, t = (.inl z) → fg_W Ω z.2.2.2.2.2.2.2 113 [(0, .ref z.1), (2, .int z.2.1), (3, .int z.2.2.1), (4, .int z.2.2.2.1), (5, .int z.2.2.2.2.1), (6, .int z.2.2.2.2.2.1), (7, .int z.2.2.2.2.2.2.1)] []) (hT : ∀ u, t = (.inr (.inr u)) → fg_T Ω (.returned (some (.int u.1))) u.2) : fg_W Ω G 113 [(0, .ref a0), (2, .int i2), (3, .int i3), (4, .int i4), (5, .int i5), (6, .int i6), (7, .int i7)] [] := by
  unfold fX1_lots_113b at hF
  refine fg_iload X dX1_lots_113 6 rfl ?_
  refine fg_aload_n X (r := (some a0)) dX1_lots_115 rfl 0 rfl ?_
  replace hF := fg_ob_some hF
  obtain ⟨rz21, e_1, hF⟩ := hF
  refine fg_getr X ff_X1_ridge q447 e_1 dX1_lots_116 ?_
  replace hF := fg_ob_some hF
  obtain ⟨az22, rfl, hF⟩ := hF
  replace hF := fg_ob_some hF
  obtain ⟨rz23, e_2, hF⟩ := hF
  refine fg_getr X ff_X3_names q301 e_2 dX1_lots_119 ?_
  replace hF := fg_ob_some hF
  obtain ⟨az24, rfl, hF⟩ := hF
  replace hF := fg_gd_some hF
  obtain ⟨eg_3, hF⟩ := hF
  obtain ⟨fs_4, eo_5⟩ := fg_rc_get eg_3
  replace hF := fg_oc_some hF
  obtain ⟨xz26, Gz25, e_6, hF⟩ := hF
  refine fg_callV X (st := [.int i7]) (mJ2_size Ω.2.2.2.2.1 Ω.1 e_6) q1119 q424 q425 q98 q426 hd_J2_size (by decide) rfl eo_5 (by decide) rfl rfl (Nat.le_of_ble_eq_true rfl) dX1_lots_122 ?_
  refine fg_icmp_ge X (tgt := 178) dX1_lots_125 (by decide) (fun hc => ?_) (fun hc => ?_)
  · rw [if_pos hc] at hF
    replace hF := fg_rt_some hF
    obtain ⟨tz27, hF, ht_7⟩ := hF
    subst ht_7
    replace h67 := fun z q => h67 z (congrArg Sum.inr q)
    replace hT := fun u q => hT u (congrArg Sum.inr q)
    refine fg_iinc X (v := (i6 + (1 : Int32))) (L' := [(6, .int (i6 + (1 : Int32))), (0, .ref a0), (2, .int i2), (3, .int i3), (4, .int i4), (5, .int i5), (7, .int i7)]) dX1_lots_178 5 rfl rfl (by decide) rfl ?_
    refine fg_goto X (tgt := 67) dX1_lots_181 (by decide) ?_
    refine fg_sub [1, 2, 3, 4, 5, 0] rfl ?_
    exact h67 _ (Option.some.inj hF).symm
  · rw [if_neg hc] at hF
    refine fg_iload X dX1_lots_128 4 rfl ?_
    refine fg_iload X dX1_lots_130 3 rfl ?_
    refine fg_if_ne X (tgt := 148) dX1_lots_132 (by decide) (fun hc => ?_) (fun hc => ?_)
    · rw [if_neg hc] at hF
      refine fg_aload_n X (r := (some a0)) dX1_lots_148 rfl 0 rfl ?_
      replace hF := fg_ob_some hF
      obtain ⟨rz28, e_8, hF⟩ := hF
      refine fg_getr X ff_X1_later q460 e_8 dX1_lots_149 ?_
      replace hF := fg_ob_some hF
      obtain ⟨az29, rfl, hF⟩ := hF
      replace hF := fg_ob_some hF
      obtain ⟨rz30, e_9, hF⟩ := hF
      refine fg_getr X ff_X6_lacks q390 e_9 dX1_lots_152 ?_
      refine fg_iload X dX1_lots_155 6 rfl ?_
      replace hF := fg_ob_some hF
      obtain ⟨az31, rfl, hF⟩ := hF
      replace hF := fg_ob_some hF
      obtain ⟨xz32, e_10, hF⟩ := hF
      refine fg_iald X e_10 dX1_lots_157 ?_
      refine fg_aload_n X (r := (some a0)) dX1_lots_158 rfl 0 rfl ?_
      replace hF := fg_ob_some hF
      obtain ⟨rz33, e_11, hF⟩ := hF
      refine fg_getr X ff_X1_tanks q451 e_11 dX1_lots_159 ?_
      replace hF := fg_ob_some hF
      obtain ⟨az34, rfl, hF⟩ := hF
      replace hF := fg_ob_some hF
      obtain ⟨rz35, e_12, hF⟩ := hF
      refine fg_getr X ff_X6_lacks q390 e_12 dX1_lots_162 ?_
      refine fg_iload X dX1_lots_165 6 rfl ?_
      replace hF := fg_ob_some hF
      obtain ⟨az36, rfl, hF⟩ := hF
      replace hF := fg_ob_some hF
      obtain ⟨xz37, e_13, hF⟩ := hF
      refine fg_iald X e_13 dX1_lots_167 ?_
      refine fg_isub X dX1_lots_168 ?_
      refine fg_iadd X dX1_lots_169 ?_
      replace hF := fg_ob_some hF
      obtain ⟨vz38, ex_14, hF⟩ := hF
      refine fg_topi (Option.some.inj ex_14) ?_
      refine fg_istore X (L' := [(5, .int vz38), (0, .ref a0), (2, .int i2), (3, .int i3), (4, .int i4), (6, .int i6), (7, .int i7)]) dX1_lots_170 (by decide) rfl ?_
      refine fg_iinc X (v := (i7 + (1 : Int32))) (L' := [(7, .int (i7 + (1 : Int32))), (5, .int vz38), (0, .ref a0), (2, .int i2), (3, .int i3), (4, .int i4), (6, .int i6)]) dX1_lots_172 6 rfl rfl (by decide) rfl ?_
      refine fg_goto X (tgt := 113) dX1_lots_175 (by decide) ?_
      refine fg_sub [2, 3, 4, 5, 1, 6, 0] rfl ?_
      exact h113 _ (Option.some.inj hF).symm
    · rw [if_pos hc] at hF
      refine fg_aload_n X (r := (some a0)) dX1_lots_135 rfl 0 rfl ?_
      replace hF := fg_ob_some hF
      obtain ⟨rz39, e_15, hF⟩ := hF
      refine fg_getr X ff_X1_later q460 e_15 dX1_lots_136 ?_
      replace hF := fg_ob_some hF
      obtain ⟨az40, rfl, hF⟩ := hF
      replace hF := fg_ob_some hF
      obtain ⟨rz41, e_16, hF⟩ := hF
      refine fg_getr X ff_X6_tank q388 e_16 dX1_lots_139 ?_
      refine fg_iload X dX1_lots_142 6 rfl ?_
      replace hF := fg_ob_some hF
      obtain ⟨az42, rfl, hF⟩ := hF
      replace hF := fg_ob_some hF
      obtain ⟨xz43, e_17, hF⟩ := hF
      refine fg_iald X e_17 dX1_lots_144 ?_
      refine fg_goto X (tgt := 169) dX1_lots_145 (by decide) ?_
      refine fg_iadd X dX1_lots_169 ?_
      replace hF := fg_ob_some hF
      obtain ⟨vz44, ex_18, hF⟩ := hF
      refine fg_topi (Option.some.inj ex_18) ?_
      refine fg_istore X (L' := [(5, .int vz44), (0, .ref a0), (2, .int i2), (3, .int i3), (4, .int i4), (6, .int i6), (7, .int i7)]) dX1_lots_170 (by decide) rfl ?_
      refine fg_iinc X (v := (i7 + (1 : Int32))) (L' := [(7, .int (i7 + (1 : Int32))), (5, .int vz44), (0, .ref a0), (2, .int i2), (3, .int i3), (4, .int i4), (6, .int i6)]) dX1_lots_172 6 rfl rfl (by decide) rfl ?_
      refine fg_goto X (tgt := 113) dX1_lots_175 (by decide) ?_
      refine fg_sub [2, 3, 4, 5, 1, 6, 0] rfl ?_
      exact h113 _ (Option.some.inj hF).symm
set_option maxHeartbeats 4000000 in
seal fX1_lots_113b in
theorem wX1_lots_113 {Ω : fg_O} {a0 : Nat} {i2 : Int32} {i3 : Int32} {i4 : Int32} {i5 : Int32} {i6 : Int32} {i7 : Int32} {G : fg_H} {t : ((Nat × Int32 × Int32 × Int32 × Int32 × Int32 × fg_H) ⊕ (Int32 × fg_H))} (X : fg_X Ω RX1 "lots" cX1_lots 8 (some .int) 125) (hF : fX1_lots_113 a0 i2 i3 i4 i5 i6 i7 G = some t) (h67 : ∀ z, t = (.inl z) → fg_W Ω z.2.2.2.2.2.2 67 [(0, .ref z.1), (2, .int z.2.1), (3, .int z.2.2.1), (4, .int z.2.2.2.1), (5, .int z.2.2.2.2.1), (6, .int z.2.2.2.2.2.1)] []) (hT : ∀ u, t = (.inr u) → fg_T Ω (.returned (some (.int u.1))) u.2) : fg_W Ω G 113 [(0, .ref a0), (2, .int i2), (3, .int i3), (4, .int i4), (5, .int i5), (6, .int i6), (7, .int i7)] [] := by
  unfold fX1_lots_113 at hF
  exact fg_lp_walk (P := fun z => fg_W Ω z.2.2.2.2.2.2.2 113 [(0, .ref z.1), (2, .int z.2.1), (3, .int z.2.2.1), (4, .int z.2.2.2.1), (5, .int z.2.2.2.2.1), (6, .int z.2.2.2.2.2.1), (7, .int z.2.2.2.2.2.2.1)] []) (fun y o ho hl hr => wX1_lots_113b X ho (fun z e => h67 z (hr _ e).symm) (fun z e => hl z e) (fun u e => hT u (hr _ e).symm)) hF
set_option maxHeartbeats 4000000 in
theorem wX1_lots_87b {Ω : fg_O} {a0 : Nat} {i2 : Int32} {i3 : Int32} {i4 : Int32} {i5 : Int32} {i6 : Int32} {i7 : Int32} {G : fg_H} {t : ((Nat × Int32 × Int32 × Int32 × Int32 × Int32 × Int32 × fg_H) ⊕ ((Nat × Int32 × Int32 × Int32 × Int32 × Int32 × fg_H) ⊕ (Int32 × fg_H)))} (X : fg_X Ω RX1 "lots" cX1_lots 8 (some .int) 125) (hF : fX1_lots_87b a0 i2 i3 i4 i5 i6 i7 G = some t) (h67 : ∀ z, t = (.inr (.inl z)) → fg_W Ω z.2.2.2.2.2.2 67 [(0, .ref z.1), (2, .int z.2.1), (3, .int z.2.2.1), (4, .int z.2.2.2.1), (5, .int z.2.2.2.2.1), (6, .int z.2.2.2.2.2.1)] []) (h87 : ∀ z, t = (.inl z) → fg_W Ω z.2.2.2.2.2.2.2 87 [(0, .ref z.1), (2, .int z.2.1), (3, .int z.2.2.1), (4, .int z.2.2.2.1), (5, .int z.2.2.2.2.1), (6, .int z.2.2.2.2.2.1), (7, .int z.2.2.2.2.2.2.1)] []) (hT : ∀ u, t = (.inr (.inr u)) → fg_T Ω (.returned (some (.int u.1))) u.2) : fg_W Ω G 87 [(0, .ref a0), (2, .int i2), (3, .int i3), (4, .int i4), (5, .int i5), (6, .int i6), (7, .int i7)] [] := by
  unfold fX1_lots_87b at hF
  refine fg_iload X dX1_lots_87 6 rfl ?_
  refine fg_iload_n X dX1_lots_89 rfl 2 rfl ?_
  refine fg_icmp_ge X (tgt := 110) dX1_lots_90 (by decide) (fun hc => ?_) (fun hc => ?_)
  · rw [if_pos hc] at hF
    replace hF := fg_rt_some hF
    obtain ⟨tz20, hF, ht_1⟩ := hF
    subst ht_1
    replace h67 := fun z q => h67 z (congrArg Sum.inr q)
    replace hT := fun u q => hT u (congrArg Sum.inr q)
    refine fg_iconst X (v := (0 : Int32)) dX1_lots_110 (by decide) ?_
    refine fg_istore X (L' := [(7, .int (0 : Int32)), (0, .ref a0), (2, .int i2), (3, .int i3), (4, .int i4), (5, .int i5), (6, .int i6)]) dX1_lots_111 (by decide) rfl ?_
    refine fg_sub [1, 2, 3, 4, 5, 6, 0] rfl ?_
    exact wX1_lots_113 X hF h67 hT
  · rw [if_neg hc] at hF
    refine fg_aload_n X (r := (some a0)) dX1_lots_93 rfl 0 rfl ?_
    refine fg_aload_n X (r := (some a0)) dX1_lots_94 rfl 0 rfl ?_
    replace hF := fg_ob_some hF
    obtain ⟨xz45, e_2, hF⟩ := hF
    refine fg_geti X ff_X1_night q453 e_2 dX1_lots_95 ?_
    refine fg_iload X dX1_lots_98 6 rfl ?_
    refine fg_iadd X dX1_lots_100 ?_
    replace hF := fg_gd_some hF
    obtain ⟨eg_3, hF⟩ := hF
    obtain ⟨fs_4, eo_5⟩ := fg_rc_get eg_3
    replace hF := fg_oc_some hF
    obtain ⟨u, Gz46, e_6, hF⟩ := hF
    refine fg_callV X (st := []) (mX1_drawsNight Ω.2.2.2.2.1 Ω.1 e_6) q1439 q1441 qs39 q93 q1442 hd_X1_drawsNight (by decide) rfl eo_5 (by decide) rfl rfl (Nat.le_of_ble_eq_true rfl) dX1_lots_101 ?_
    refine fg_iinc X (v := (i7 + (1 : Int32))) (L' := [(7, .int (i7 + (1 : Int32))), (0, .ref a0), (2, .int i2), (3, .int i3), (4, .int i4), (5, .int i5), (6, .int i6)]) dX1_lots_104 6 rfl rfl (by decide) rfl ?_
    refine fg_goto X (tgt := 87) dX1_lots_107 (by decide) ?_
    refine fg_sub [1, 2, 3, 4, 5, 6, 0] rfl ?_
    exact h87 _ (Option.some.inj hF).symm
set_option maxHeartbeats 4000000 in
seal fX1_lots_87b in
theorem wX1_lots_87 {Ω : fg_O} {a0 : Nat} {i2 : Int32} {i3 : Int32} {i4 : Int32} {i5 : Int32} {i6 : Int32} {i7 : Int32} {G : fg_H} {t : ((Nat × Int32 × Int32 × Int32 × Int32 × Int32 × fg_H) ⊕ (Int32 × fg_H))} (X : fg_X Ω RX1 "lots" cX1_lots 8 (some .int) 125) (hF : fX1_lots_87 a0 i2 i3 i4 i5 i6 i7 G = some t) (h67 : ∀ z, t = (.inl z) → fg_W Ω z.2.2.2.2.2.2 67 [(0, .ref z.1), (2, .int z.2.1), (3, .int z.2.2.1), (4, .int z.2.2.2.1), (5, .int z.2.2.2.2.1), (6, .int z.2.2.2.2.2.1)] []) (hT : ∀ u, t = (.inr u) → fg_T Ω (.returned (some (.int u.1))) u.2) : fg_W Ω G 87 [(0, .ref a0), (2, .int i2), (3, .int i3), (4, .int i4), (5, .int i5), (6, .int i6), (7, .int i7)] [] := by
  unfold fX1_lots_87 at hF
  exact fg_lp_walk (P := fun z => fg_W Ω z.2.2.2.2.2.2.2 87 [(0, .ref z.1), (2, .int z.2.1), (3, .int z.2.2.1), (4, .int z.2.2.2.1), (5, .int z.2.2.2.2.1), (6, .int z.2.2.2.2.2.1), (7, .int z.2.2.2.2.2.2.1)] []) (fun y o ho hl hr => wX1_lots_87b X ho (fun z e => h67 z (hr _ e).symm) (fun z e => hl z e) (fun u e => hT u (hr _ e).symm)) hF
set_option maxHeartbeats 4000000 in
theorem wX1_lots_67b {Ω : fg_O} {a0 : Nat} {i2 : Int32} {i3 : Int32} {i4 : Int32} {i5 : Int32} {i6 : Int32} {G : fg_H} {t : ((Nat × Int32 × Int32 × Int32 × Int32 × Int32 × fg_H) ⊕ (Int32 × fg_H))} (X : fg_X Ω RX1 "lots" cX1_lots 8 (some .int) 125) (hF : fX1_lots_67b a0 i2 i3 i4 i5 i6 G = some t) (h67 : ∀ z, t = (.inl z) → fg_W Ω z.2.2.2.2.2.2 67 [(0, .ref z.1), (2, .int z.2.1), (3, .int z.2.2.1), (4, .int z.2.2.2.1), (5, .int z.2.2.2.2.1), (6, .int z.2.2.2.2.2.1)] []) (hT : ∀ u, t = (.inr u) → fg_T Ω (.returned (some (.int u.1))) u.2) : fg_W Ω G 67 [(0, .ref a0), (2, .int i2), (3, .int i3), (4, .int i4), (5, .int i5), (6, .int i6)] [] := by
  unfold fX1_lots_67b at hF
  refine fg_iload X dX1_lots_67 5 rfl ?_
  refine fg_iload_n X dX1_lots_69 rfl 1 rfl ?_
  refine fg_icmp_ge X (tgt := 184) dX1_lots_70 (by decide) (fun hc => ?_) (fun hc => ?_)
  · rw [if_pos hc] at hF
    replace hF := fg_rt_some hF
    obtain ⟨tz15, hF, ht_1⟩ := hF
    subst ht_1
    replace hT := hT _ rfl
    refine fg_iload X dX1_lots_184 4 rfl ?_
    cases hF
    exact fg_iret X dX1_lots_186 (hT)
  · rw [if_neg hc] at hF
    refine fg_aload_n X (r := (some a0)) dX1_lots_73 rfl 0 rfl ?_
    replace hF := fg_ob_some hF
    obtain ⟨rz16, e_2, hF⟩ := hF
    refine fg_getr X ff_X1_later q460 e_2 dX1_lots_74 ?_
    refine fg_aload_n X (r := (some a0)) dX1_lots_77 rfl 0 rfl ?_
    replace hF := fg_ob_some hF
    obtain ⟨rz17, e_3, hF⟩ := hF
    refine fg_getr X ff_X1_tanks q451 e_3 dX1_lots_78 ?_
    replace hF := fg_ob_some hF
    obtain ⟨az18, rfl, hF⟩ := hF
    replace hF := fg_gd_some hF
    obtain ⟨eg_4, hF⟩ := hF
    obtain ⟨fs_5, eo_6⟩ := fg_rc_get eg_4
    replace hF := fg_oc_some hF
    obtain ⟨u, Gz19, e_7, hF⟩ := hF
    refine fg_callV X (st := []) (mX6_copies Ω.2.2.2.2.1 Ω.1 e_7) q1394 q1395 q1396 q101 q1397 hd_X6_copies (by decide) rfl eo_6 (by decide) rfl rfl (Nat.le_of_ble_eq_true rfl) dX1_lots_81 ?_
    refine fg_iconst X (v := (0 : Int32)) dX1_lots_84 (by decide) ?_
    refine fg_istore X (L' := [(7, .int (0 : Int32)), (0, .ref a0), (2, .int i2), (3, .int i3), (4, .int i4), (5, .int i5), (6, .int i6)]) dX1_lots_85 (by decide) rfl ?_
    refine fg_sub [1, 2, 3, 4, 5, 6, 0] rfl ?_
    exact wX1_lots_87 X hF h67 hT
set_option maxHeartbeats 4000000 in
seal fX1_lots_67b in
theorem wX1_lots_67 {Ω : fg_O} {a0 : Nat} {i2 : Int32} {i3 : Int32} {i4 : Int32} {i5 : Int32} {i6 : Int32} {G : fg_H} {t : (Int32 × fg_H)} (X : fg_X Ω RX1 "lots" cX1_lots 8 (some .int) 125) (hF : fX1_lots_67 a0 i2 i3 i4 i5 i6 G = some t) (hT : fg_T Ω (.returned (some (.int t.1))) t.2) : fg_W Ω G 67 [(0, .ref a0), (2, .int i2), (3, .int i3), (4, .int i4), (5, .int i5), (6, .int i6)] [] := by
  unfold fX1_lots_67 at hF
  exact fg_lp_walk (P := fun z => fg_W Ω z.2.2.2.2.2.2 67 [(0, .ref z.1), (2, .int z.2.1), (3, .int z.2.2.1), (4, .int z.2.2.2.1), (5, .int z.2.2.2.2.1), (6, .int z.2.2.2.2.2.1)] []) (fun y o ho hl hr => wX1_lots_67b X ho (fun z e => hl z e) (fun u e => by rw [hr _ e]; exact hT)) hF
set_option maxHeartbeats 4000000 in
theorem wX1_lots {Ω : fg_O} {a0 : Nat} {i1 : Int32} {i2 : Int32} {i3 : Int32} {i4 : Int32} {G : fg_H} {t : Int32 × fg_H} (X : fg_X Ω RX1 "lots" cX1_lots 8 (some .int) 125) (hF : fX1_lots a0 i1 i2 i3 i4 G = some t) (hT : fg_T Ω (.returned (some (.int t.1))) t.2) : fg_W Ω G 0 [(0, .ref a0), (1, .int i1), (2, .int i2), (3, .int i3), (4, .int i4)] [] := by
  unfold fX1_lots at hF
  refine fg_iload_n X dX1_lots_0 rfl 1 rfl ?_
  refine fg_iconst X (v := (0 : Int32)) dX1_lots_1 (by decide) ?_
  refine fg_sipush X (v := (9999 : Int32)) dX1_lots_2 (by decide) ?_
  replace hF := fg_oc_some hF
  obtain ⟨xz2, Gz1, e_1, hF⟩ := hF
  refine fg_callS X (st := []) (mX1_within Ω.2.2.2.2.1 Ω.1 e_1) q1086 q504 q93 q505 hd_X1_within (by decide) rfl rfl (Nat.le_of_ble_eq_true rfl) dX1_lots_5 ?_
  refine fg_if_eq X (tgt := 41) dX1_lots_8 (by decide) (fun hc => ?_) (fun hc => ?_)
  · rw [if_pos hc] at hF
    refine fg_iconst X (v := (-1 : Int32)) dX1_lots_41 (by decide) ?_
    cases hF
    exact fg_iret X dX1_lots_42 (hT)
  · rw [if_neg hc] at hF
    refine fg_iload_n X dX1_lots_11 rfl 2 rfl ?_
    refine fg_iconst X (v := (1 : Int32)) dX1_lots_12 (by decide) ?_
    refine fg_bipush X (v := (20 : Int32)) dX1_lots_13 (by decide) ?_
    replace hF := fg_oc_some hF
    obtain ⟨xz4, Gz3, e_2, hF⟩ := hF
    refine fg_callS X (st := []) (mX1_within Ω.2.2.2.2.1 Ω.1 e_2) q1086 q504 q93 q505 hd_X1_within (by decide) rfl rfl (Nat.le_of_ble_eq_true rfl) dX1_lots_15 ?_
    refine fg_if_eq X (tgt := 41) dX1_lots_18 (by decide) (fun hc => ?_) (fun hc => ?_)
    · rw [if_pos hc] at hF
      refine fg_iconst X (v := (-1 : Int32)) dX1_lots_41 (by decide) ?_
      cases hF
      exact fg_iret X dX1_lots_42 (hT)
    · rw [if_neg hc] at hF
      refine fg_iload_n X dX1_lots_21 rfl 3 rfl ?_
      refine fg_iconst X (v := (1 : Int32)) dX1_lots_22 (by decide) ?_
      refine fg_bipush X (v := (30 : Int32)) dX1_lots_23 (by decide) ?_
      replace hF := fg_oc_some hF
      obtain ⟨xz6, Gz5, e_3, hF⟩ := hF
      refine fg_callS X (st := []) (mX1_within Ω.2.2.2.2.1 Ω.1 e_3) q1086 q504 q93 q505 hd_X1_within (by decide) rfl rfl (Nat.le_of_ble_eq_true rfl) dX1_lots_25 ?_
      refine fg_if_eq X (tgt := 41) dX1_lots_28 (by decide) (fun hc => ?_) (fun hc => ?_)
      · rw [if_pos hc] at hF
        refine fg_iconst X (v := (-1 : Int32)) dX1_lots_41 (by decide) ?_
        cases hF
        exact fg_iret X dX1_lots_42 (hT)
      · rw [if_neg hc] at hF
        refine fg_iload X dX1_lots_31 4 rfl ?_
        refine fg_iconst X (v := (0 : Int32)) dX1_lots_33 (by decide) ?_
        refine fg_iconst X (v := (1 : Int32)) dX1_lots_34 (by decide) ?_
        replace hF := fg_oc_some hF
        obtain ⟨xz8, Gz7, e_4, hF⟩ := hF
        refine fg_callS X (st := []) (mX1_within Ω.2.2.2.2.1 Ω.1 e_4) q1086 q504 q93 q505 hd_X1_within (by decide) rfl rfl (Nat.le_of_ble_eq_true rfl) dX1_lots_35 ?_
        refine fg_if_ne X (tgt := 43) dX1_lots_38 (by decide) (fun hc => ?_) (fun hc => ?_)
        · rw [if_neg hc] at hF
          refine fg_aload_n X (r := (some a0)) dX1_lots_43 rfl 0 rfl ?_
          refine fg_iload_n X dX1_lots_44 rfl 1 rfl ?_
          refine fg_i2l X dX1_lots_45 ?_
          replace hF := fg_ob_some hF
          obtain ⟨Gz9, e_5, hF⟩ := hF
          refine fg_putv X (ty := .long) (v := .long (i1).toInt64) ff_X1_g q463 rfl (Or.inl rfl) rfl rfl rfl e_5 dX1_lots_46 ?_
          refine fg_iconst X (v := (0 : Int32)) dX1_lots_49 (by decide) ?_
          refine fg_istore X (L' := [(5, .int (0 : Int32)), (0, .ref a0), (1, .int i1), (2, .int i2), (3, .int i3), (4, .int i4)]) dX1_lots_50 (by decide) rfl ?_
          refine fg_aload_n X (r := (some a0)) dX1_lots_52 rfl 1 rfl ?_
          replace hF := fg_ob_some hF
          obtain ⟨rz10, e_6, hF⟩ := hF
          refine fg_getr X ff_X1_trial q459 e_6 dX1_lots_53 ?_
          refine fg_aload_n X (r := (some a0)) dX1_lots_56 rfl 1 rfl ?_
          replace hF := fg_ob_some hF
          obtain ⟨rz11, e_7, hF⟩ := hF
          refine fg_getr X ff_X1_hung q449 e_7 dX1_lots_57 ?_
          replace hF := fg_ob_some hF
          obtain ⟨az12, rfl, hF⟩ := hF
          replace hF := fg_gd_some hF
          obtain ⟨eg_8, hF⟩ := hF
          obtain ⟨fs_9, eo_10⟩ := fg_rc_get eg_8
          replace hF := fg_oc_some hF
          obtain ⟨rz14, Gz13, e_11, hF⟩ := hF
          refine fg_callV X (st := []) (mX5_copies Ω.2.2.2.2.1 Ω.1 e_11) q1205 q1206 q1207 q100 q1208 hd_X5_copies (by decide) rfl eo_10 (by decide) rfl rfl (Nat.le_of_ble_eq_true rfl) dX1_lots_60 ?_
          refine fg_pop X dX1_lots_63 (fg_cat _) ?_
          refine fg_iconst X (v := (0 : Int32)) dX1_lots_64 (by decide) ?_
          refine fg_istore X (L' := [(6, .int (0 : Int32)), (5, .int (0 : Int32)), (0, .ref a0), (1, .int i1), (2, .int i2), (3, .int i3), (4, .int i4)]) dX1_lots_65 (by decide) rfl ?_
          refine fg_sub [2, 4, 5, 6, 1, 0] rfl ?_
          exact wX1_lots_67 X hF hT
        · rw [if_pos hc] at hF
          refine fg_iconst X (v := (-1 : Int32)) dX1_lots_41 (by decide) ?_
          cases hF
          exact fg_iret X dX1_lots_42 (hT)
theorem mX1_lots (l : Launch) (D : fg_D) {a0 : Nat} {i1 : Int32} {i2 : Int32} {i3 : Int32} {i4 : Int32} {G : fg_H} {t : Int32 × fg_H} (hF : fX1_lots a0 i1 i2 i3 i4 G = some t) : fg_M l D yX1_lots cX1_lots 8 (some .int) 125 [.ref a0, .int i1, .int i2, .int i3, .int i4] G (.returned (some (.int t.1))) t.2 :=
  fg_Mof (own := RX1) (nm := "lots") (L := [(0, .ref a0), (1, .int i1), (2, .int i2), (3, .int i3), (4, .int i4)]) (plainFor_of_name pn_X1) rfl rfl rfl (Nat.le_of_ble_eq_true rfl) (fun Ω _ _ X hT => wX1_lots X hF hT)
theorem hd_X29_init : yX29_init.cls ≠ "java/lang/invoke/MethodHandle" ∧ yX29_init.cls ≠ "java/lang/invoke/VarHandle" ∧ (parseMethodDescriptor yX29_init.desc).map (fun d => d.parameters.length) = some 1 := ⟨by decide +kernel, by decide +kernel, by decide +kernel⟩
set_option maxHeartbeats 4000000 in
theorem wX29_init_101b {Ω : fg_O} {a0 : Nat} {a1 : Nat} {i2 : Int32} {G : fg_H} {t : ((Nat × Nat × Int32 × fg_H) ⊕ (Unit × fg_H))} (X : fg_X Ω RX29 "<init>" cX29_init 3 none 7) (hF : fX29_init_101b a0 a1 i2 G = some t) (h101 : ∀ z, t = (.inl z) → fg_W Ω z.2.2.2 101 [(0, .ref z.1), (1, .ref z.2.1), (2, .int z.2.2.1)] []) (hT : ∀ u, t = (.inr u) → fg_T Ω (.returned none) u.2) : fg_W Ω G 101 [(0, .ref a0), (1, .ref a1), (2, .int i2)] [] := by
  unfold fX29_init_101b at hF
  refine fg_iload_n X dX29_init_101 rfl 2 rfl ?_
  refine fg_aload_n X (r := (some a1)) dX29_init_102 rfl 1 rfl ?_
  replace hF := fg_ob_some hF
  obtain ⟨rz35, e_1, hF⟩ := hF
  refine fg_getrN X ff_X1_jars q456 e_1 dX29_init_103 ?_
  replace hF := fg_ob_some hF
  obtain ⟨az36, rfl, hF⟩ := hF
  replace hF := fg_gd_some hF
  obtain ⟨eg_2, hF⟩ := hF
  obtain ⟨fs_3, eo_4⟩ := fg_rc_get eg_2
  replace hF := fg_oc_some hF
  obtain ⟨xz38, Gz37, e_5, hF⟩ := hF
  refine fg_callV X (st := [.int i2]) (mJ2_size Ω.2.2.2.2.1 Ω.1 e_5) q1470 q424 q425 q98 q426 hd_J2_size (by decide) rfl eo_4 (by decide) rfl rfl (Nat.le_of_ble_eq_true rfl) dX29_init_106 ?_
  refine fg_icmp_ge X (tgt := 137) dX29_init_109 (by decide) (fun hc => ?_) (fun hc => ?_)
  · rw [if_pos hc] at hF
    replace hF := fg_rt_some hF
    obtain ⟨tz39, hF, ht_6⟩ := hF
    subst ht_6
    replace hT := hT _ rfl
    cases hF
    exact fg_vret X dX29_init_137 (hT)
  · rw [if_neg hc] at hF
    refine fg_aload_n X (r := (some a0)) dX29_init_112 rfl 0 rfl ?_
    replace hF := fg_ob_some hF
    obtain ⟨rz40, e_7, hF⟩ := hF
    refine fg_getr X ff_X29_jars q1484 e_7 dX29_init_113 ?_
    refine fg_aload_n X (r := (some a1)) dX29_init_116 rfl 1 rfl ?_
    replace hF := fg_ob_some hF
    obtain ⟨rz41, e_8, hF⟩ := hF
    refine fg_getrN X ff_X1_jars q456 e_8 dX29_init_117 ?_
    refine fg_iload_n X dX29_init_120 rfl 2 rfl ?_
    replace hF := fg_ob_some hF
    obtain ⟨az42, rfl, hF⟩ := hF
    replace hF := fg_gd_some hF
    obtain ⟨eg_9, hF⟩ := hF
    obtain ⟨fs_10, eo_11⟩ := fg_rc_get eg_9
    replace hF := fg_oc_some hF
    obtain ⟨rz44, Gz43, e_12, hF⟩ := hF
    refine fg_callV X (st := [va_rf rz40]) (mJ2_get Ω.2.2.2.2.1 Ω.1 e_12) q1471 q428 q429 q98 q430 hd_J2_get (by decide) rfl eo_11 (by decide) rfl rfl (by cases rz40 <;> exact Nat.le_of_ble_eq_true rfl) dX29_init_121 ?_
    replace hF := fg_gd_some hF
    obtain ⟨eg_13, hF⟩ := hF
    refine fg_castI X (r := rz44) q1472 eg_13 dX29_init_124 ?_
    replace hF := fg_ob_some hF
    obtain ⟨az45, rfl, hF⟩ := hF
    replace hF := fg_gd_some hF
    obtain ⟨eg_14, hF⟩ := hF
    obtain ⟨fs_15, eo_16⟩ := fg_rc_get eg_14
    replace hF := fg_oc_some hF
    obtain ⟨xz47, Gz46, e_17, hF⟩ := hF
    refine fg_callV X (st := []) (mJ2_add Ω.2.2.2.2.1 Ω.1 e_17) q1473 q831 q832 q98 q833 hd_J2_add (by decide) rfl eo_16 (by decide) rfl rfl (Nat.le_of_ble_eq_true rfl) dX29_init_127 ?_
    refine fg_pop X dX29_init_130 rfl ?_
    refine fg_iinc X (v := (i2 + (1 : Int32))) (L' := [(2, .int (i2 + (1 : Int32))), (0, .ref a0), (1, .ref a1)]) dX29_init_131 2 rfl rfl (by decide) rfl ?_
    refine fg_goto X (tgt := 101) dX29_init_134 (by decide) ?_
    refine fg_sub [1, 2, 0] rfl ?_
    exact h101 _ (Option.some.inj hF).symm
set_option maxHeartbeats 4000000 in
seal fX29_init_101b in
theorem wX29_init_101 {Ω : fg_O} {a0 : Nat} {a1 : Nat} {i2 : Int32} {G : fg_H} {t : (Unit × fg_H)} (X : fg_X Ω RX29 "<init>" cX29_init 3 none 7) (hF : fX29_init_101 a0 a1 i2 G = some t) (hT : fg_T Ω (.returned none) t.2) : fg_W Ω G 101 [(0, .ref a0), (1, .ref a1), (2, .int i2)] [] := by
  unfold fX29_init_101 at hF
  exact fg_lp_walk (P := fun z => fg_W Ω z.2.2.2 101 [(0, .ref z.1), (1, .ref z.2.1), (2, .int z.2.2.1)] []) (fun y o ho hl hr => wX29_init_101b X ho (fun z e => hl z e) (fun u e => by rw [hr _ e]; exact hT)) hF
set_option maxHeartbeats 4000000 in
theorem wX29_init {Ω : fg_O} {a0 : Nat} {r1 : Option Nat} {G : fg_H} {t : Unit × fg_H} (X : fg_X Ω RX29 "<init>" cX29_init 3 none 7) (hF : fX29_init a0 r1 G = some t) (hT : fg_T Ω (.returned none) t.2) : fg_W Ω G 0 [(0, .ref a0), (1, va_rf r1)] [] := by
  unfold fX29_init at hF
  refine fg_aload_n X (r := (some a0)) dX29_init_0 rfl 0 rfl ?_
  refine fg_objInit X q1460 q148 q149 (by decide) (Nat.le_of_ble_eq_true rfl) dX29_init_1 ?_
  refine fg_aload_n X (r := (some a0)) dX29_init_4 rfl 0 rfl ?_
  replace hF := fg_oc_some hF
  obtain ⟨az1, Gz2, e_1, hF⟩ := hF
  refine fg_newo X q1461 q345 q100 rfl (by decide) tyX5_ok nwk_X5 e_1 dX29_init_5 ?_
  refine fg_dup X dX29_init_8 rfl ?_
  replace hF := fg_oc_some hF
  obtain ⟨u, Gz3, e_2, hF⟩ := hF
  refine fg_callIN X (st := [.ref az1, .ref a0]) (mX5_init Ω.2.2.2.2.1 Ω.1 e_2) q1462 q347 q100 q348 rfl hd_X5_init (by decide) rfl rfl (Nat.le_of_ble_eq_true rfl) dX29_init_9 ?_
  replace hF := fg_ob_some hF
  obtain ⟨Gz4, e_3, hF⟩ := hF
  refine fg_putv X (ty := (.object "FogNets$Hung")) (v := .ref az1) ff_X29_hung q1476 rfl (Or.inr ⟨rfl, rfl⟩) rfl rfl rfl e_3 dX29_init_12 ?_
  refine fg_aload_n X (r := (some a0)) dX29_init_15 rfl 0 rfl ?_
  replace hF := fg_oc_some hF
  obtain ⟨az5, Gz6, e_4, hF⟩ := hF
  refine fg_newo X q1463 q382 q101 rfl (by decide) tyX6_ok nwk_X6 e_4 dX29_init_16 ?_
  refine fg_dup X dX29_init_19 rfl ?_
  replace hF := fg_oc_some hF
  obtain ⟨u, Gz7, e_5, hF⟩ := hF
  refine fg_callIN X (st := [.ref az5, .ref a0]) (mX6_init Ω.2.2.2.2.1 Ω.1 e_5) q1464 q384 q101 q385 rfl hd_X6_init (by decide) rfl rfl (Nat.le_of_ble_eq_true rfl) dX29_init_20 ?_
  replace hF := fg_ob_some hF
  obtain ⟨Gz8, e_6, hF⟩ := hF
  refine fg_putv X (ty := (.object "FogNets$Tanks")) (v := .ref az5) ff_X29_tanks q1478 rfl (Or.inr ⟨rfl, rfl⟩) rfl rfl rfl e_6 dX29_init_23 ?_
  refine fg_aload_n X (r := (some a0)) dX29_init_26 rfl 0 rfl ?_
  refine fg_bipush X (v := (12 : Int32)) dX29_init_27 (by decide) ?_
  replace hF := fg_oc_some hF
  obtain ⟨az9, Gz10, e_7, hF⟩ := hF
  refine fg_newa X (kd := 0) (atype := .int) q232 (by decide) rfl (by decide) (fun _ _ => rfl) e_7 dX29_init_29 ?_
  replace hF := fg_ob_some hF
  obtain ⟨Gz11, e_8, hF⟩ := hF
  refine fg_putv X (ty := (.array .int)) (v := .ref az9) ff_X29_took q1482 rfl (Or.inr ⟨rfl, rfl⟩) rfl rfl rfl e_8 dX29_init_31 ?_
  refine fg_aload_n X (r := (some a0)) dX29_init_34 rfl 0 rfl ?_
  replace hF := fg_oc_some hF
  obtain ⟨az12, Gz13, e_9, hF⟩ := hF
  refine fg_newo X q1465 q241 q98 rfl (by decide) tyJ2_ok nwk_J2 e_9 dX29_init_35 ?_
  refine fg_dup X dX29_init_38 rfl ?_
  replace hF := fg_oc_some hF
  obtain ⟨u, Gz14, e_10, hF⟩ := hF
  refine fg_callI X (st := [.ref az12, .ref a0]) (mJ2_init_2 Ω.2.2.2.2.1 Ω.1 e_10) q1466 q398 q98 q399 rfl hd_J2_init_2 (by decide) rfl rfl (Nat.le_of_ble_eq_true rfl) dX29_init_39 ?_
  replace hF := fg_ob_some hF
  obtain ⟨Gz15, e_11, hF⟩ := hF
  refine fg_putv X (ty := (.object "java/util/ArrayList")) (v := .ref az12) ff_X29_jars q1484 rfl (Or.inr ⟨rfl, rfl⟩) rfl rfl rfl e_11 dX29_init_42 ?_
  refine fg_aload_n X (r := (some a0)) dX29_init_45 rfl 0 rfl ?_
  refine fg_aload_n X (r := r1) dX29_init_46 rfl 1 rfl ?_
  replace hF := fg_ob_some hF
  obtain ⟨az16, rfl, hF⟩ := hF
  replace hF := fg_ob_some hF
  obtain ⟨rz17, e_12, hF⟩ := hF
  refine fg_getrN X ff_X1_ridge q446 e_12 dX29_init_47 ?_
  replace hF := fg_ob_some hF
  obtain ⟨Gz18, e_13, hF⟩ := hF
  refine fg_putv X (ty := (.object "FogNets$Ridge")) (v := va_rf rz17) ff_X29_ridge q1474 rfl (Or.inr ⟨rfl, rfl⟩) rfl (fg_nrf _ (Or.inl ⟨_, rfl⟩)) (fg_frf _ (Or.inl ⟨_, rfl⟩)) e_13 dX29_init_50 ?_
  refine fg_aload_n X (r := (some a0)) dX29_init_53 rfl 0 rfl ?_
  replace hF := fg_ob_some hF
  obtain ⟨rz19, e_14, hF⟩ := hF
  refine fg_getr X ff_X29_hung q1476 e_14 dX29_init_54 ?_
  refine fg_aload_n X (r := (some az16)) dX29_init_57 rfl 1 rfl ?_
  replace hF := fg_ob_some hF
  obtain ⟨rz20, e_15, hF⟩ := hF
  refine fg_getrN X ff_X1_hung q448 e_15 dX29_init_58 ?_
  replace hF := fg_ob_some hF
  obtain ⟨az21, rfl, hF⟩ := hF
  replace hF := fg_gd_some hF
  obtain ⟨eg_16, hF⟩ := hF
  obtain ⟨fs_17, eo_18⟩ := fg_rc_get eg_16
  replace hF := fg_oc_some hF
  obtain ⟨rz23, Gz22, e_19, hF⟩ := hF
  refine fg_callV X (st := []) (mX5_copies Ω.2.2.2.2.1 Ω.1 e_19) q1467 q1206 q1207 q100 q1208 hd_X5_copies (by decide) rfl eo_18 (by decide) rfl rfl (Nat.le_of_ble_eq_true rfl) dX29_init_61 ?_
  refine fg_pop X dX29_init_64 (fg_cat _) ?_
  refine fg_aload_n X (r := (some a0)) dX29_init_65 rfl 0 rfl ?_
  replace hF := fg_ob_some hF
  obtain ⟨rz24, e_20, hF⟩ := hF
  refine fg_getr X ff_X29_tanks q1478 e_20 dX29_init_66 ?_
  refine fg_aload_n X (r := (some az16)) dX29_init_69 rfl 1 rfl ?_
  replace hF := fg_ob_some hF
  obtain ⟨rz25, e_21, hF⟩ := hF
  refine fg_getrN X ff_X1_tanks q450 e_21 dX29_init_70 ?_
  replace hF := fg_ob_some hF
  obtain ⟨az26, rfl, hF⟩ := hF
  replace hF := fg_gd_some hF
  obtain ⟨eg_22, hF⟩ := hF
  obtain ⟨fs_23, eo_24⟩ := fg_rc_get eg_22
  replace hF := fg_oc_some hF
  obtain ⟨u, Gz27, e_25, hF⟩ := hF
  refine fg_callV X (st := []) (mX6_copies Ω.2.2.2.2.1 Ω.1 e_25) q1468 q1395 q1396 q101 q1397 hd_X6_copies (by decide) rfl eo_24 (by decide) rfl rfl (Nat.le_of_ble_eq_true rfl) dX29_init_73 ?_
  refine fg_aload_n X (r := (some a0)) dX29_init_76 rfl 0 rfl ?_
  refine fg_aload_n X (r := (some az16)) dX29_init_77 rfl 1 rfl ?_
  replace hF := fg_ob_some hF
  obtain ⟨xz28, e_26, hF⟩ := hF
  refine fg_getiN X ff_X1_night q452 e_26 dX29_init_78 ?_
  replace hF := fg_ob_some hF
  obtain ⟨Gz29, e_27, hF⟩ := hF
  refine fg_putv X (ty := .int) (v := .int xz28) ff_X29_night q1480 rfl (Or.inr ⟨rfl, rfl⟩) rfl rfl rfl e_27 dX29_init_81 ?_
  refine fg_aload_n X (r := (some az16)) dX29_init_84 rfl 1 rfl ?_
  replace hF := fg_ob_some hF
  obtain ⟨rz30, e_28, hF⟩ := hF
  refine fg_getrN X ff_X1_lastTook q454 e_28 dX29_init_85 ?_
  refine fg_iconst X (v := (0 : Int32)) dX29_init_88 (by decide) ?_
  refine fg_aload_n X (r := (some a0)) dX29_init_89 rfl 0 rfl ?_
  replace hF := fg_ob_some hF
  obtain ⟨rz31, e_29, hF⟩ := hF
  refine fg_getr X ff_X29_took q1482 e_29 dX29_init_90 ?_
  refine fg_iconst X (v := (0 : Int32)) dX29_init_93 (by decide) ?_
  refine fg_bipush X (v := (12 : Int32)) dX29_init_94 (by decide) ?_
  replace hF := fg_ob_some hF
  obtain ⟨az32, rfl, hF⟩ := hF
  replace hF := fg_ob_some hF
  obtain ⟨az33, rfl, hF⟩ := hF
  replace hF := fg_ob_some hF
  obtain ⟨Gz34, e_30, hF⟩ := hF
  refine fg_copyi X q1469 q899 q898 q123 (by decide) e_30 (Nat.le_of_ble_eq_true rfl) dX29_init_96 ?_
  refine fg_iconst X (v := (0 : Int32)) dX29_init_99 (by decide) ?_
  refine fg_istore_n X (L' := [(2, .int (0 : Int32)), (0, .ref a0), (1, .ref az16)]) dX29_init_100 rfl (by decide) rfl ?_
  refine fg_sub [1, 2, 0] rfl ?_
  exact wX29_init_101 X hF hT
theorem mX29_init (l : Launch) (D : fg_D) {a0 : Nat} {r1 : Option Nat} {G : fg_H} {t : Unit × fg_H} (hF : fX29_init a0 r1 G = some t) : fg_M l D yX29_init cX29_init 3 none 7 [.ref a0, va_rf r1] G (.returned none) t.2 :=
  fg_Mof (own := RX29) (nm := "<init>") (L := [(0, .ref a0), (1, va_rf r1)]) (plainFor_of_name pn_X29) rfl rfl (by cases r1 <;> rfl) (by cases r1 <;> exact Nat.le_of_ble_eq_true rfl) (fun Ω _ _ X hT => wX29_init X hF hT)
theorem hd_X1_mark : yX1_mark.cls ≠ "java/lang/invoke/MethodHandle" ∧ yX1_mark.cls ≠ "java/lang/invoke/VarHandle" ∧ (parseMethodDescriptor yX1_mark.desc).map (fun d => d.parameters.length) = some 2 := ⟨by decide +kernel, by decide +kernel, by decide +kernel⟩
set_option maxHeartbeats 4000000 in
theorem wX1_mark_115b {Ω : fg_O} {a0 : Nat} {a3 : Nat} {i4 : Int32} {G : fg_H} {t : ((Nat × Nat × Int32 × fg_H) ⊕ (Int32 × fg_H))} (X : fg_X Ω RX1 "mark" cX1_mark 5 (some .boolean) 8) (hF : fX1_mark_115b a0 a3 i4 G = some t) (h115 : ∀ z, t = (.inl z) → fg_W Ω z.2.2.2 115 [(0, .ref z.1), (3, .ref z.2.1), (4, .int z.2.2.1)] []) (hT : ∀ u, t = (.inr u) → fg_T Ω (.returned (some (.int u.1))) u.2) : fg_W Ω G 115 [(0, .ref a0), (3, .ref a3), (4, .int i4)] [] := by
  unfold fX1_mark_115b at hF
  refine fg_iload X dX1_mark_115 2 rfl ?_
  refine fg_aload_n X (r := (some a3)) dX1_mark_117 rfl 1 rfl ?_
  replace hF := fg_ob_some hF
  obtain ⟨rz28, e_1, hF⟩ := hF
  refine fg_getr X ff_X29_jars q1485 e_1 dX1_mark_118 ?_
  replace hF := fg_ob_some hF
  obtain ⟨az29, rfl, hF⟩ := hF
  replace hF := fg_gd_some hF
  obtain ⟨eg_2, hF⟩ := hF
  obtain ⟨fs_3, eo_4⟩ := fg_rc_get eg_2
  replace hF := fg_oc_some hF
  obtain ⟨xz31, Gz30, e_5, hF⟩ := hF
  refine fg_callV X (st := [.int i4]) (mJ2_size Ω.2.2.2.2.1 Ω.1 e_5) q1119 q424 q425 q98 q426 hd_J2_size (by decide) rfl eo_4 (by decide) rfl rfl (Nat.le_of_ble_eq_true rfl) dX1_mark_121 ?_
  refine fg_icmp_ge X (tgt := 153) dX1_mark_124 (by decide) (fun hc => ?_) (fun hc => ?_)
  · rw [if_pos hc] at hF
    replace hF := fg_rt_some hF
    obtain ⟨tz32, hF, ht_6⟩ := hF
    subst ht_6
    replace hT := hT _ rfl
    refine fg_iconst X (v := (1 : Int32)) dX1_mark_153 (by decide) ?_
    cases hF
    exact fg_zret X (by decide) dX1_mark_154 (hT)
  · rw [if_neg hc] at hF
    refine fg_aload_n X (r := (some a0)) dX1_mark_127 rfl 0 rfl ?_
    replace hF := fg_ob_some hF
    obtain ⟨rz33, e_7, hF⟩ := hF
    refine fg_getr X ff_X1_jars q457 e_7 dX1_mark_128 ?_
    refine fg_aload_n X (r := (some a3)) dX1_mark_131 rfl 1 rfl ?_
    replace hF := fg_ob_some hF
    obtain ⟨rz34, e_8, hF⟩ := hF
    refine fg_getr X ff_X29_jars q1485 e_8 dX1_mark_132 ?_
    refine fg_iload X dX1_mark_135 2 rfl ?_
    replace hF := fg_ob_some hF
    obtain ⟨az35, rfl, hF⟩ := hF
    replace hF := fg_gd_some hF
    obtain ⟨eg_9, hF⟩ := hF
    obtain ⟨fs_10, eo_11⟩ := fg_rc_get eg_9
    replace hF := fg_oc_some hF
    obtain ⟨rz37, Gz36, e_12, hF⟩ := hF
    refine fg_callV X (st := [va_rf rz33]) (mJ2_get Ω.2.2.2.2.1 Ω.1 e_12) q1363 q428 q429 q98 q430 hd_J2_get (by decide) rfl eo_11 (by decide) rfl rfl (by cases rz33 <;> exact Nat.le_of_ble_eq_true rfl) dX1_mark_137 ?_
    replace hF := fg_gd_some hF
    obtain ⟨eg_13, hF⟩ := hF
    refine fg_castI X (r := rz37) q1364 eg_13 dX1_mark_140 ?_
    replace hF := fg_ob_some hF
    obtain ⟨az38, rfl, hF⟩ := hF
    replace hF := fg_gd_some hF
    obtain ⟨eg_14, hF⟩ := hF
    obtain ⟨fs_15, eo_16⟩ := fg_rc_get eg_14
    replace hF := fg_oc_some hF
    obtain ⟨xz40, Gz39, e_17, hF⟩ := hF
    refine fg_callV X (st := []) (mJ2_add Ω.2.2.2.2.1 Ω.1 e_17) q1358 q831 q832 q98 q833 hd_J2_add (by decide) rfl eo_16 (by decide) rfl rfl (Nat.le_of_ble_eq_true rfl) dX1_mark_143 ?_
    refine fg_pop X dX1_mark_146 rfl ?_
    refine fg_iinc X (v := (i4 + (1 : Int32))) (L' := [(4, .int (i4 + (1 : Int32))), (0, .ref a0), (3, .ref a3)]) dX1_mark_147 2 rfl rfl (by decide) rfl ?_
    refine fg_goto X (tgt := 115) dX1_mark_150 (by decide) ?_
    refine fg_sub [1, 2, 0] rfl ?_
    exact h115 _ (Option.some.inj hF).symm
set_option maxHeartbeats 4000000 in
seal fX1_mark_115b in
theorem wX1_mark_115 {Ω : fg_O} {a0 : Nat} {a3 : Nat} {i4 : Int32} {G : fg_H} {t : (Int32 × fg_H)} (X : fg_X Ω RX1 "mark" cX1_mark 5 (some .boolean) 8) (hF : fX1_mark_115 a0 a3 i4 G = some t) (hT : fg_T Ω (.returned (some (.int t.1))) t.2) : fg_W Ω G 115 [(0, .ref a0), (3, .ref a3), (4, .int i4)] [] := by
  unfold fX1_mark_115 at hF
  exact fg_lp_walk (P := fun z => fg_W Ω z.2.2.2 115 [(0, .ref z.1), (3, .ref z.2.1), (4, .int z.2.2.1)] []) (fun y o ho hl hr => wX1_mark_115b X ho (fun z e => hl z e) (fun u e => by rw [hr _ e]; exact hT)) hF
set_option maxHeartbeats 4000000 in
theorem wX1_mark_24 {Ω : fg_O} {a0 : Nat} {i1 : Int32} {i2 : Int32} {G : fg_H} {t : (Int32 × fg_H)} (X : fg_X Ω RX1 "mark" cX1_mark 5 (some .boolean) 8) (hF : fX1_mark_24 a0 i1 i2 G = some t) (hT : fg_T Ω (.returned (some (.int t.1))) t.2) : fg_W Ω G 24 [(0, .ref a0), (1, .int i1), (2, .int i2)] [] := by
  unfold fX1_mark_24 at hF
  refine fg_iload_n X dX1_mark_24 rfl 2 rfl ?_
  refine fg_if_ne X (tgt := 44) dX1_mark_25 (by decide) (fun hc => ?_) (fun hc => ?_)
  · rw [if_neg hc] at hF
    refine fg_aload_n X (r := (some a0)) dX1_mark_44 rfl 0 rfl ?_
    replace hF := fg_ob_some hF
    obtain ⟨rz3, e_1, hF⟩ := hF
    refine fg_getr X ff_X1_marks q464 e_1 dX1_mark_45 ?_
    refine fg_iload_n X dX1_mark_48 rfl 1 rfl ?_
    replace hF := fg_ob_some hF
    obtain ⟨az4, rfl, hF⟩ := hF
    replace hF := fg_ob_some hF
    obtain ⟨rz5, e_2, hF⟩ := hF
    refine fg_aald X (kd := 6) (by decide) e_2 dX1_mark_49 ?_
    refine fg_astore_n X (r := rz5) (L' := [(3, va_rf rz5), (0, .ref a0), (1, .int i1), (2, .int i2)]) dX1_mark_50 rfl (by decide) rfl ?_
    refine fg_aload_n X (r := (some a0)) dX1_mark_51 rfl 1 rfl ?_
    refine fg_aload_n X (r := rz5) dX1_mark_52 rfl 0 rfl ?_
    replace hF := fg_ob_some hF
    obtain ⟨az6, rfl, hF⟩ := hF
    replace hF := fg_ob_some hF
    obtain ⟨rz7, e_3, hF⟩ := hF
    refine fg_getr X ff_X29_ridge q1475 e_3 dX1_mark_53 ?_
    replace hF := fg_ob_some hF
    obtain ⟨Gz8, e_4, hF⟩ := hF
    refine fg_putv X (ty := (.object "FogNets$Ridge")) (v := va_rf rz7) ff_X1_ridge q447 rfl (Or.inl rfl) rfl (fg_nrf _ (Or.inl ⟨_, rfl⟩)) (fg_frf _ (Or.inl ⟨_, rfl⟩)) e_4 dX1_mark_56 ?_
    refine fg_aload_n X (r := (some a0)) dX1_mark_59 rfl 1 rfl ?_
    replace hF := fg_ob_some hF
    obtain ⟨rz9, e_5, hF⟩ := hF
    refine fg_getr X ff_X1_hung q449 e_5 dX1_mark_60 ?_
    refine fg_aload_n X (r := (some az6)) dX1_mark_63 rfl 0 rfl ?_
    replace hF := fg_ob_some hF
    obtain ⟨rz10, e_6, hF⟩ := hF
    refine fg_getr X ff_X29_hung q1477 e_6 dX1_mark_64 ?_
    replace hF := fg_ob_some hF
    obtain ⟨az11, rfl, hF⟩ := hF
    replace hF := fg_gd_some hF
    obtain ⟨eg_7, hF⟩ := hF
    obtain ⟨fs_8, eo_9⟩ := fg_rc_get eg_7
    replace hF := fg_oc_some hF
    obtain ⟨rz13, Gz12, e_10, hF⟩ := hF
    refine fg_callV X (st := []) (mX5_copies Ω.2.2.2.2.1 Ω.1 e_10) q1205 q1206 q1207 q100 q1208 hd_X5_copies (by decide) rfl eo_9 (by decide) rfl rfl (Nat.le_of_ble_eq_true rfl) dX1_mark_67 ?_
    refine fg_pop X dX1_mark_70 (fg_cat _) ?_
    refine fg_aload_n X (r := (some a0)) dX1_mark_71 rfl 1 rfl ?_
    replace hF := fg_ob_some hF
    obtain ⟨rz14, e_11, hF⟩ := hF
    refine fg_getr X ff_X1_tanks q451 e_11 dX1_mark_72 ?_
    refine fg_aload_n X (r := (some az6)) dX1_mark_75 rfl 0 rfl ?_
    replace hF := fg_ob_some hF
    obtain ⟨rz15, e_12, hF⟩ := hF
    refine fg_getr X ff_X29_tanks q1479 e_12 dX1_mark_76 ?_
    replace hF := fg_ob_some hF
    obtain ⟨az16, rfl, hF⟩ := hF
    replace hF := fg_gd_some hF
    obtain ⟨eg_13, hF⟩ := hF
    obtain ⟨fs_14, eo_15⟩ := fg_rc_get eg_13
    replace hF := fg_oc_some hF
    obtain ⟨u, Gz17, e_16, hF⟩ := hF
    refine fg_callV X (st := []) (mX6_copies Ω.2.2.2.2.1 Ω.1 e_16) q1394 q1395 q1396 q101 q1397 hd_X6_copies (by decide) rfl eo_15 (by decide) rfl rfl (Nat.le_of_ble_eq_true rfl) dX1_mark_79 ?_
    refine fg_aload_n X (r := (some a0)) dX1_mark_82 rfl 1 rfl ?_
    refine fg_aload_n X (r := (some az6)) dX1_mark_83 rfl 0 rfl ?_
    replace hF := fg_ob_some hF
    obtain ⟨xz18, e_17, hF⟩ := hF
    refine fg_geti X ff_X29_night q1481 e_17 dX1_mark_84 ?_
    replace hF := fg_ob_some hF
    obtain ⟨Gz19, e_18, hF⟩ := hF
    refine fg_putv X (ty := .int) (v := .int xz18) ff_X1_night q453 rfl (Or.inl rfl) rfl rfl rfl e_18 dX1_mark_87 ?_
    refine fg_aload_n X (r := (some az6)) dX1_mark_90 rfl 0 rfl ?_
    replace hF := fg_ob_some hF
    obtain ⟨rz20, e_19, hF⟩ := hF
    refine fg_getr X ff_X29_took q1483 e_19 dX1_mark_91 ?_
    refine fg_iconst X (v := (0 : Int32)) dX1_mark_94 (by decide) ?_
    refine fg_aload_n X (r := (some a0)) dX1_mark_95 rfl 1 rfl ?_
    replace hF := fg_ob_some hF
    obtain ⟨rz21, e_20, hF⟩ := hF
    refine fg_getr X ff_X1_lastTook q455 e_20 dX1_mark_96 ?_
    refine fg_iconst X (v := (0 : Int32)) dX1_mark_99 (by decide) ?_
    refine fg_bipush X (v := (12 : Int32)) dX1_mark_100 (by decide) ?_
    replace hF := fg_ob_some hF
    obtain ⟨az22, rfl, hF⟩ := hF
    replace hF := fg_ob_some hF
    obtain ⟨az23, rfl, hF⟩ := hF
    replace hF := fg_ob_some hF
    obtain ⟨Gz24, e_21, hF⟩ := hF
    refine fg_copyi X q1289 q899 q898 q123 (by decide) e_21 (Nat.le_of_ble_eq_true rfl) dX1_mark_102 ?_
    refine fg_aload_n X (r := (some a0)) dX1_mark_105 rfl 1 rfl ?_
    replace hF := fg_ob_some hF
    obtain ⟨rz25, e_22, hF⟩ := hF
    refine fg_getr X ff_X1_jars q457 e_22 dX1_mark_106 ?_
    replace hF := fg_ob_some hF
    obtain ⟨az26, rfl, hF⟩ := hF
    replace hF := fg_gd_some hF
    obtain ⟨eg_23, hF⟩ := hF
    obtain ⟨fs_24, eo_25⟩ := fg_rc_get eg_23
    replace hF := fg_oc_some hF
    obtain ⟨u, Gz27, e_26, hF⟩ := hF
    refine fg_callV X (st := []) (mJ2_clear Ω.2.2.2.2.1 Ω.1 e_26) q1074 q1075 q1076 q98 q1077 hd_J2_clear (by decide) rfl eo_25 (by decide) rfl rfl (Nat.le_of_ble_eq_true rfl) dX1_mark_109 ?_
    refine fg_iconst X (v := (0 : Int32)) dX1_mark_112 (by decide) ?_
    refine fg_istore X (L' := [(4, .int (0 : Int32)), (3, .ref az6), (0, .ref a0), (1, .int i1), (2, .int i2)]) dX1_mark_113 (by decide) rfl ?_
    refine fg_sub [2, 1, 0] rfl ?_
    exact wX1_mark_115 X hF hT
  · rw [if_pos hc] at hF
    refine fg_aload_n X (r := (some a0)) dX1_mark_28 rfl 0 rfl ?_
    replace hF := fg_ob_some hF
    obtain ⟨rz41, e_27, hF⟩ := hF
    refine fg_getr X ff_X1_marks q464 e_27 dX1_mark_29 ?_
    refine fg_iload_n X dX1_mark_32 rfl 1 rfl ?_
    replace hF := fg_oc_some hF
    obtain ⟨az42, Gz43, e_28, hF⟩ := hF
    refine fg_newo X q417 q1456 q141 rfl (by decide) tyX29_ok nwk_X29 e_28 dX1_mark_33 ?_
    refine fg_dup X dX1_mark_36 rfl ?_
    refine fg_aload_n X (r := (some a0)) dX1_mark_37 rfl 0 rfl ?_
    replace hF := fg_oc_some hF
    obtain ⟨u, Gz44, e_29, hF⟩ := hF
    refine fg_callI X (st := [.ref az42, .int i1, va_rf rz41]) (mX29_init Ω.2.2.2.2.1 Ω.1 e_29) q1457 q1458 q141 q1459 rfl hd_X29_init (by decide) rfl rfl (by cases rz41 <;> exact Nat.le_of_ble_eq_true rfl) dX1_mark_38 ?_
    replace hF := fg_ob_some hF
    obtain ⟨az45, rfl, hF⟩ := hF
    replace hF := fg_ob_some hF
    obtain ⟨Gz46, e_30, hF⟩ := hF
    refine fg_aast X (kd := 6) (by decide) (r := (some az42)) e_30 dX1_mark_41 ?_
    refine fg_iconst X (v := (1 : Int32)) dX1_mark_42 (by decide) ?_
    cases hF
    exact fg_zret X (by decide) dX1_mark_43 (hT)
set_option maxHeartbeats 4000000 in
theorem wX1_mark {Ω : fg_O} {a0 : Nat} {i1 : Int32} {i2 : Int32} {G : fg_H} {t : Int32 × fg_H} (X : fg_X Ω RX1 "mark" cX1_mark 5 (some .boolean) 8) (hF : fX1_mark a0 i1 i2 G = some t) (hT : fg_T Ω (.returned (some (.int t.1))) t.2) : fg_W Ω G 0 [(0, .ref a0), (1, .int i1), (2, .int i2)] [] := by
  unfold fX1_mark at hF
  refine fg_iload_n X dX1_mark_0 rfl 1 rfl ?_
  refine fg_iconst X (v := (0 : Int32)) dX1_mark_1 (by decide) ?_
  refine fg_iconst X (v := (3 : Int32)) dX1_mark_2 (by decide) ?_
  replace hF := fg_oc_some hF
  obtain ⟨xz2, Gz1, e_1, hF⟩ := hF
  refine fg_callS X (st := []) (mX1_within Ω.2.2.2.2.1 Ω.1 e_1) q1086 q504 q93 q505 hd_X1_within (by decide) rfl rfl (Nat.le_of_ble_eq_true rfl) dX1_mark_3 ?_
  refine fg_if_eq X (tgt := 22) dX1_mark_6 (by decide) (fun hc => ?_) (fun hc => ?_)
  · rw [if_pos hc] at hF
    refine fg_iconst X (v := (0 : Int32)) dX1_mark_22 (by decide) ?_
    cases hF
    exact fg_zret X (by decide) dX1_mark_23 (hT)
  · rw [if_neg hc] at hF
    refine fg_iload_n X dX1_mark_9 rfl 2 rfl ?_
    refine fg_if_eq X (tgt := 24) dX1_mark_10 (by decide) (fun hc => ?_) (fun hc => ?_)
    · rw [if_pos hc] at hF
      refine fg_sub [0, 1, 2] rfl ?_
      exact wX1_mark_24 X hF hT
    · rw [if_neg hc] at hF
      refine fg_aload_n X (r := (some a0)) dX1_mark_13 rfl 0 rfl ?_
      replace hF := fg_ob_some hF
      obtain ⟨rz47, e_2, hF⟩ := hF
      refine fg_getr X ff_X1_marks q464 e_2 dX1_mark_14 ?_
      refine fg_iload_n X dX1_mark_17 rfl 1 rfl ?_
      replace hF := fg_ob_some hF
      obtain ⟨az48, rfl, hF⟩ := hF
      replace hF := fg_ob_some hF
      obtain ⟨rz49, e_3, hF⟩ := hF
      refine fg_aald X (kd := 6) (by decide) e_3 dX1_mark_18 ?_
      refine fg_ifnonnull X (r := rz49) (tgt := 24) dX1_mark_19 (by decide) (fun az50 hc => ?_) (fun hc => ?_)
      · subst hc
        unfold fg_on at hF
        dsimp only at hF
        refine fg_sub [0, 1, 2] rfl ?_
        exact wX1_mark_24 X hF hT
      · subst hc
        unfold fg_on at hF
        dsimp only at hF
        refine fg_iconst X (v := (0 : Int32)) dX1_mark_22 (by decide) ?_
        cases hF
        exact fg_zret X (by decide) dX1_mark_23 (hT)
theorem mX1_mark (l : Launch) (D : fg_D) {a0 : Nat} {i1 : Int32} {i2 : Int32} {G : fg_H} {t : Int32 × fg_H} (hF : fX1_mark a0 i1 i2 G = some t) : fg_M l D yX1_mark cX1_mark 5 (some .boolean) 8 [.ref a0, .int i1, .int i2] G (.returned (some (.int t.1))) t.2 :=
  fg_Mof (own := RX1) (nm := "mark") (L := [(0, .ref a0), (1, .int i1), (2, .int i2)]) (plainFor_of_name pn_X1) rfl rfl rfl (Nat.le_of_ble_eq_true rfl) (fun Ω _ _ X hT => wX1_mark X hF hT)
theorem hd_X1_count : yX1_count.cls ≠ "java/lang/invoke/MethodHandle" ∧ yX1_count.cls ≠ "java/lang/invoke/VarHandle" ∧ (parseMethodDescriptor yX1_count.desc).map (fun d => d.parameters.length) = some 1 := ⟨by decide +kernel, by decide +kernel, by decide +kernel⟩
set_option maxHeartbeats 4000000 in
theorem wX1_count {Ω : fg_O} {a0 : Nat} {i1 : Int32} {G : fg_H} {t : Int32 × fg_H} (X : fg_X Ω RX1 "count" cX1_count 2 (some .int) 1) (hF : fX1_count a0 i1 G = some t) (hT : fg_T Ω (.returned (some (.int t.1))) t.2) : fg_W Ω G 0 [(0, .ref a0), (1, .int i1)] [] := by
  unfold fX1_count at hF
  refine fg_iload_n X dX1_count_0 rfl 1 rfl ?_
  by_cases e0 : i1 = (0 : Int32)
  · rw [if_pos e0] at hF
    refine fg_tableIn X (tgt := 52) (off := 51) dX1_count_1 (by rw [e0]; decide) (by rw [e0]; decide) (by rw [e0]; decide) (by decide) ?_
    refine fg_aload_n X (r := (some a0)) dX1_count_52 rfl 0 rfl ?_
    replace hF := fg_ob_some hF
    obtain ⟨rz1, e_1, hF⟩ := hF
    refine fg_getr X ff_X1_ridge q447 e_1 dX1_count_53 ?_
    replace hF := fg_ob_some hF
    obtain ⟨az2, rfl, hF⟩ := hF
    replace hF := fg_ob_some hF
    obtain ⟨xz3, e_2, hF⟩ := hF
    refine fg_geti X ff_X3_columns q282 e_2 dX1_count_56 ?_
    cases hF
    exact fg_iret X dX1_count_59 (hT)
  rw [if_neg e0] at hF
  by_cases e1 : i1 = (1 : Int32)
  · rw [if_pos e1] at hF
    refine fg_tableIn X (tgt := 60) (off := 59) dX1_count_1 (by rw [e1]; decide) (by rw [e1]; decide) (by rw [e1]; decide) (by decide) ?_
    refine fg_aload_n X (r := (some a0)) dX1_count_60 rfl 0 rfl ?_
    replace hF := fg_ob_some hF
    obtain ⟨rz4, e_3, hF⟩ := hF
    refine fg_getr X ff_X1_ridge q447 e_3 dX1_count_61 ?_
    replace hF := fg_ob_some hF
    obtain ⟨az5, rfl, hF⟩ := hF
    replace hF := fg_ob_some hF
    obtain ⟨xz6, e_4, hF⟩ := hF
    refine fg_geti X ff_X3_rows q285 e_4 dX1_count_64 ?_
    cases hF
    exact fg_iret X dX1_count_67 (hT)
  rw [if_neg e1] at hF
  by_cases e2 : i1 = (2 : Int32)
  · rw [if_pos e2] at hF
    refine fg_tableIn X (tgt := 68) (off := 67) dX1_count_1 (by rw [e2]; decide) (by rw [e2]; decide) (by rw [e2]; decide) (by decide) ?_
    refine fg_aload_n X (r := (some a0)) dX1_count_68 rfl 0 rfl ?_
    replace hF := fg_ob_some hF
    obtain ⟨rz7, e_5, hF⟩ := hF
    refine fg_getr X ff_X1_ridge q447 e_5 dX1_count_69 ?_
    replace hF := fg_ob_some hF
    obtain ⟨az8, rfl, hF⟩ := hF
    replace hF := fg_ob_some hF
    obtain ⟨rz9, e_6, hF⟩ := hF
    refine fg_getr X ff_X3_names q301 e_6 dX1_count_72 ?_
    replace hF := fg_ob_some hF
    obtain ⟨az10, rfl, hF⟩ := hF
    replace hF := fg_gd_some hF
    obtain ⟨eg_7, hF⟩ := hF
    obtain ⟨fs_8, eo_9⟩ := fg_rc_get eg_7
    replace hF := fg_oc_some hF
    obtain ⟨xz12, Gz11, e_10, hF⟩ := hF
    refine fg_callV X (st := []) (mJ2_size Ω.2.2.2.2.1 Ω.1 e_10) q1119 q424 q425 q98 q426 hd_J2_size (by decide) rfl eo_9 (by decide) rfl rfl (Nat.le_of_ble_eq_true rfl) dX1_count_75 ?_
    cases hF
    exact fg_iret X dX1_count_78 (hT)
  rw [if_neg e2] at hF
  by_cases e3 : i1 = (3 : Int32)
  · rw [if_pos e3] at hF
    refine fg_tableIn X (tgt := 79) (off := 78) dX1_count_1 (by rw [e3]; decide) (by rw [e3]; decide) (by rw [e3]; decide) (by decide) ?_
    refine fg_aload_n X (r := (some a0)) dX1_count_79 rfl 0 rfl ?_
    replace hF := fg_ob_some hF
    obtain ⟨rz13, e_11, hF⟩ := hF
    refine fg_getr X ff_X1_hung q449 e_11 dX1_count_80 ?_
    replace hF := fg_ob_some hF
    obtain ⟨az14, rfl, hF⟩ := hF
    replace hF := fg_ob_some hF
    obtain ⟨xz15, e_12, hF⟩ := hF
    refine fg_geti X ff_X5_many q363 e_12 dX1_count_83 ?_
    cases hF
    exact fg_iret X dX1_count_86 (hT)
  rw [if_neg e3] at hF
  by_cases e4 : i1 = (4 : Int32)
  · rw [if_pos e4] at hF
    refine fg_tableIn X (tgt := 87) (off := 86) dX1_count_1 (by rw [e4]; decide) (by rw [e4]; decide) (by rw [e4]; decide) (by decide) ?_
    refine fg_aload_n X (r := (some a0)) dX1_count_87 rfl 0 rfl ?_
    replace hF := fg_ob_some hF
    obtain ⟨xz16, e_13, hF⟩ := hF
    refine fg_geti X ff_X1_night q453 e_13 dX1_count_88 ?_
    cases hF
    exact fg_iret X dX1_count_91 (hT)
  rw [if_neg e4] at hF
  by_cases e5 : i1 = (5 : Int32)
  · rw [if_pos e5] at hF
    refine fg_tableIn X (tgt := 92) (off := 91) dX1_count_1 (by rw [e5]; decide) (by rw [e5]; decide) (by rw [e5]; decide) (by decide) ?_
    refine fg_aload_n X (r := (some a0)) dX1_count_92 rfl 0 rfl ?_
    replace hF := fg_ob_some hF
    obtain ⟨rz17, e_14, hF⟩ := hF
    refine fg_getr X ff_X1_ridge q447 e_14 dX1_count_93 ?_
    replace hF := fg_ob_some hF
    obtain ⟨az18, rfl, hF⟩ := hF
    replace hF := fg_ob_some hF
    obtain ⟨xz19, e_15, hF⟩ := hF
    refine fg_geti X ff_X3_hours q288 e_15 dX1_count_96 ?_
    cases hF
    exact fg_iret X dX1_count_99 (hT)
  rw [if_neg e5] at hF
  by_cases e6 : i1 = (6 : Int32)
  · rw [if_pos e6] at hF
    refine fg_tableIn X (tgt := 100) (off := 99) dX1_count_1 (by rw [e6]; decide) (by rw [e6]; decide) (by rw [e6]; decide) (by decide) ?_
    refine fg_aload_n X (r := (some a0)) dX1_count_100 rfl 0 rfl ?_
    replace hF := fg_ob_some hF
    obtain ⟨rz20, e_16, hF⟩ := hF
    refine fg_getr X ff_X1_jars q457 e_16 dX1_count_101 ?_
    replace hF := fg_ob_some hF
    obtain ⟨az21, rfl, hF⟩ := hF
    replace hF := fg_gd_some hF
    obtain ⟨eg_17, hF⟩ := hF
    obtain ⟨fs_18, eo_19⟩ := fg_rc_get eg_17
    replace hF := fg_oc_some hF
    obtain ⟨xz23, Gz22, e_20, hF⟩ := hF
    refine fg_callV X (st := []) (mJ2_size Ω.2.2.2.2.1 Ω.1 e_20) q1119 q424 q425 q98 q426 hd_J2_size (by decide) rfl eo_19 (by decide) rfl rfl (Nat.le_of_ble_eq_true rfl) dX1_count_104 ?_
    cases hF
    exact fg_iret X dX1_count_107 (hT)
  rw [if_neg e6] at hF
  by_cases e7 : i1 = (7 : Int32)
  · rw [if_pos e7] at hF
    refine fg_tableIn X (tgt := 108) (off := 107) dX1_count_1 (by rw [e7]; decide) (by rw [e7]; decide) (by rw [e7]; decide) (by decide) ?_
    refine fg_aload_n X (r := (some a0)) dX1_count_108 rfl 0 rfl ?_
    replace hF := fg_ob_some hF
    obtain ⟨rz24, e_21, hF⟩ := hF
    refine fg_getr X ff_X1_ridge q447 e_21 dX1_count_109 ?_
    replace hF := fg_ob_some hF
    obtain ⟨az25, rfl, hF⟩ := hF
    replace hF := fg_ob_some hF
    obtain ⟨xz26, e_22, hF⟩ := hF
    refine fg_geti X ff_X3_turns q294 e_22 dX1_count_112 ?_
    cases hF
    exact fg_iret X dX1_count_115 (hT)
  rw [if_neg e7] at hF
  by_cases e8 : i1 = (8 : Int32)
  · rw [if_pos e8] at hF
    refine fg_tableIn X (tgt := 116) (off := 115) dX1_count_1 (by rw [e8]; decide) (by rw [e8]; decide) (by rw [e8]; decide) (by decide) ?_
    refine fg_aload_n X (r := (some a0)) dX1_count_116 rfl 0 rfl ?_
    replace hF := fg_ob_some hF
    obtain ⟨rz27, e_23, hF⟩ := hF
    refine fg_getr X ff_X1_reader q445 e_23 dX1_count_117 ?_
    replace hF := fg_ob_some hF
    obtain ⟨az28, rfl, hF⟩ := hF
    replace hF := fg_ob_some hF
    obtain ⟨xz29, e_24, hF⟩ := hF
    refine fg_geti X ff_X2_taped q193 e_24 dX1_count_120 ?_
    cases hF
    exact fg_iret X dX1_count_123 (hT)
  rw [if_neg e8] at hF
  refine fg_tableOut X (tgt := 124) dX1_count_1 (fg_swout 9 (x := i1) (lo := 0) (hi := 8) (by decide) (fun j hj => ?_)) (by decide) ?_
  · rcases fg_lt9 hj with rfl | rfl | rfl | rfl | rfl | rfl | rfl | rfl | rfl
    · exact fun hh => e0 (Int32.toInt_inj.mp (hh.trans (by decide)))
    · exact fun hh => e1 (Int32.toInt_inj.mp (hh.trans (by decide)))
    · exact fun hh => e2 (Int32.toInt_inj.mp (hh.trans (by decide)))
    · exact fun hh => e3 (Int32.toInt_inj.mp (hh.trans (by decide)))
    · exact fun hh => e4 (Int32.toInt_inj.mp (hh.trans (by decide)))
    · exact fun hh => e5 (Int32.toInt_inj.mp (hh.trans (by decide)))
    · exact fun hh => e6 (Int32.toInt_inj.mp (hh.trans (by decide)))
    · exact fun hh => e7 (Int32.toInt_inj.mp (hh.trans (by decide)))
    · exact fun hh => e8 (Int32.toInt_inj.mp (hh.trans (by decide)))
  refine fg_iconst X (v := (-1 : Int32)) dX1_count_124 (by decide) ?_
  cases hF
  exact fg_iret X dX1_count_125 (hT)
theorem mX1_count (l : Launch) (D : fg_D) {a0 : Nat} {i1 : Int32} {G : fg_H} {t : Int32 × fg_H} (hF : fX1_count a0 i1 G = some t) : fg_M l D yX1_count cX1_count 2 (some .int) 1 [.ref a0, .int i1] G (.returned (some (.int t.1))) t.2 :=
  fg_Mof (own := RX1) (nm := "count") (L := [(0, .ref a0), (1, .int i1)]) (plainFor_of_name pn_X1) rfl rfl rfl (Nat.le_of_ble_eq_true rfl) (fun Ω _ _ X hT => wX1_count X hF hT)
theorem hd_X1_yields : yX1_yields.cls ≠ "java/lang/invoke/MethodHandle" ∧ yX1_yields.cls ≠ "java/lang/invoke/VarHandle" ∧ (parseMethodDescriptor yX1_yields.desc).map (fun d => d.parameters.length) = some 1 := ⟨by decide +kernel, by decide +kernel, by decide +kernel⟩
set_option maxHeartbeats 4000000 in
theorem wX1_yields_21 {Ω : fg_O} {a0 : Nat} {i1 : Int32} {G : fg_H} {t : ((Int32 ⊕ Nat) × fg_H)} (X : fg_X Ω RX1 "yields" cX1_yields 2 (some .int) 125) (hF : fX1_yields_21 a0 i1 G = some t) (hT : fg_TX Ω (fg_oi t.1) t.2) : fg_W Ω G 21 [(0, .ref a0), (1, .int i1)] [] := by
  unfold fX1_yields_21 at hF
  refine fg_aload_n X (r := (some a0)) dX1_yields_21 rfl 0 rfl ?_
  replace hF := fg_gd_some hF
  obtain ⟨eg_1, hF⟩ := hF
  obtain ⟨fs_2, eo_3⟩ := fg_rc_get eg_1
  replace hF := fg_oc_some hF
  obtain ⟨rz2, Gz1, e_4, hF⟩ := hF
  refine fg_callV X (st := []) (mX1_tries Ω.2.2.2.2.1 Ω.1 e_4) q1327 q1329 qs29 q93 q1330 hd_X1_tries (by decide) rfl eo_3 (by decide) rfl rfl (Nat.le_of_ble_eq_true rfl) dX1_yields_22 ?_
  refine fg_aload_n X (r := (some a0)) dX1_yields_25 rfl 0 rfl ?_
  replace hF := fg_ob_some hF
  obtain ⟨rz3, e_5, hF⟩ := hF
  refine fg_getr X ff_X1_sky q458 e_5 dX1_yields_26 ?_
  replace hF := fg_ob_some hF
  obtain ⟨az4, rfl, hF⟩ := hF
  replace hF := fg_gd_some hF
  obtain ⟨eg_6, hF⟩ := hF
  obtain ⟨fs_7, eo_8⟩ := fg_rc_get eg_6
  replace hF := fg_oc_some hF
  obtain ⟨rz6, Gz5, e_9, hF⟩ := hF
  refine fg_callV X (st := []) (mX5_takes Ω.2.2.2.2.1 Ω.1 e_9) q1261 q1262 q1263 q100 q1264 hd_X5_takes (by decide) rfl eo_8 (by decide) rfl rfl (Nat.le_of_ble_eq_true rfl) dX1_yields_29 ?_
  refine fg_iload_n X dX1_yields_32 rfl 1 rfl ?_
  replace hF := fg_ob_some hF
  obtain ⟨az7, rfl, hF⟩ := hF
  replace hF := fg_gd_some hF
  obtain ⟨eg_10, hF⟩ := hF
  obtain ⟨fs_11, eo_12⟩ := fg_rc_get eg_10
  replace hF := fg_oc_some hF
  obtain ⟨xz9, Gz8, e_13, hF⟩ := hF
  refine fg_callV X (st := []) (mX5_yields Ω.2.2.2.2.1 Ω.1 e_13) q1333 q1273 q1274 q100 q1275 hd_X5_yields (by decide) rfl eo_12 (by decide) rfl rfl (Nat.le_of_ble_eq_true rfl) dX1_yields_33 ?_
  cases hF
  exact fg_iret X dX1_yields_36 ((hT).1)
set_option maxHeartbeats 4000000 in
theorem wX1_yields {Ω : fg_O} {a0 : Nat} {i1 : Int32} {G : fg_H} {t : (Int32 ⊕ Nat) × fg_H} (X : fg_X Ω RX1 "yields" cX1_yields 2 (some .int) 125) (hF : fX1_yields a0 i1 G = some t) (hT : fg_TX Ω (fg_oi t.1) t.2) : fg_W Ω G 0 [(0, .ref a0), (1, .int i1)] [] := by
  unfold fX1_yields at hF
  refine fg_iload_n X dX1_yields_0 rfl 1 rfl ?_
  refine fg_iconst X (v := (-1 : Int32)) dX1_yields_1 (by decide) ?_
  refine fg_icmp_eq X (tgt := 21) dX1_yields_2 (by decide) (fun hc => ?_) (fun hc => ?_)
  · rw [if_pos hc] at hF
    refine fg_sub [0, 1] rfl ?_
    exact wX1_yields_21 X hF hT
  · rw [if_neg hc] at hF
    refine fg_aload_n X (r := (some a0)) dX1_yields_5 rfl 0 rfl ?_
    refine fg_iload_n X dX1_yields_6 rfl 1 rfl ?_
    replace hF := fg_gd_some hF
    obtain ⟨eg_1, hF⟩ := hF
    obtain ⟨fs_2, eo_3⟩ := fg_rc_get eg_1
    replace hF := fg_oc_some hF
    obtain ⟨xz11, Gz10, e_4, hF⟩ := hF
    refine fg_callV X (st := []) (mX1_isVillage Ω.2.2.2.2.1 Ω.1 e_4) q1115 q1117 qs27 q93 q1118 hd_X1_isVillage (by decide) rfl eo_3 (by decide) rfl rfl (Nat.le_of_ble_eq_true rfl) dX1_yields_7 ?_
    refine fg_if_ne X (tgt := 21) dX1_yields_10 (by decide) (fun hc => ?_) (fun hc => ?_)
    · rw [if_neg hc] at hF
      refine fg_sub [0, 1] rfl ?_
      exact wX1_yields_21 X hF hT
    · rw [if_pos hc] at hF
      replace hF := fg_oc_some hF
      obtain ⟨az12, Gz13, e_5, hF⟩ := hF
      refine fg_newo X q1511 q1512 q140 rfl (by decide) tyJ17_ok nwk_J17 e_5 dX1_yields_13 ?_
      refine fg_dup X dX1_yields_16 rfl ?_
      replace hF := fg_ob_some hF
      obtain ⟨Gz14, e_6, hF⟩ := hF
      refine fg_ctor32 X q1522 e_6 (by decide) (Nat.le_of_ble_eq_true rfl) dX1_yields_17 ?_
      replace hF := fg_gd_some hF
      obtain ⟨eg_7, hF⟩ := hF
      obtain ⟨fs_8, eo_9⟩ := fg_rc_get eg_7
      cases hF
      exact fg_athrow X rfl (by decide) eo_9 dX1_yields_20 ((hT).1)
theorem mX1_yields (l : Launch) (D : fg_D) {a0 : Nat} {i1 : Int32} {G : fg_H} {t : (Int32 ⊕ Nat) × fg_H} (hF : fX1_yields a0 i1 G = some t) : fg_MX l D yX1_yields cX1_yields 2 (some .int) 125 [.ref a0, .int i1] G (fg_oi t.1) t.2 :=
  fg_MXof (own := RX1) (nm := "yields") (L := [(0, .ref a0), (1, .int i1)]) pn_X1 rfl rfl rfl (Nat.le_of_ble_eq_true rfl) (fun Ω _ _ X hT => wX1_yields X hF hT)
theorem hd_X1_hole : yX1_hole.cls ≠ "java/lang/invoke/MethodHandle" ∧ yX1_hole.cls ≠ "java/lang/invoke/VarHandle" ∧ (parseMethodDescriptor yX1_hole.desc).map (fun d => d.parameters.length) = some 1 := ⟨by decide +kernel, by decide +kernel, by decide +kernel⟩
set_option maxHeartbeats 4000000 in
theorem wX1_hole {Ω : fg_O} {a0 : Nat} {i1 : Int32} {G : fg_H} {t : (Int32 ⊕ Nat) × fg_H} (X : fg_X Ω RX1 "hole" cX1_hole 4 (some .int) 125) (hF : fX1_hole a0 i1 G = some t) (hT : fg_TX Ω (fg_oi t.1) t.2) : fg_W Ω G 0 [(0, .ref a0), (1, .int i1)] [] := by
  unfold fX1_hole at hF
  refine fg_aload_n X (r := (some a0)) dX1_hole_0 rfl 0 rfl ?_
  refine fg_iload_n X dX1_hole_1 rfl 1 rfl ?_
  replace hF := fg_gd_some hF
  obtain ⟨eg_1, hF⟩ := hF
  obtain ⟨fs_2, eo_3⟩ := fg_rc_get eg_1
  replace hF := fg_oc_some hF
  obtain ⟨xz2, Gz1, e_4, hF⟩ := hF
  refine fg_callV X (st := []) (mX1_isNet Ω.2.2.2.2.1 Ω.1 e_4) q1082 q1084 qs26 q93 q1085 hd_X1_isNet (by decide) rfl eo_3 (by decide) rfl rfl (Nat.le_of_ble_eq_true rfl) dX1_hole_2 ?_
  refine fg_if_ne X (tgt := 16) dX1_hole_5 (by decide) (fun hc => ?_) (fun hc => ?_)
  · rw [if_neg hc] at hF
    refine fg_aload_n X (r := (some a0)) dX1_hole_16 rfl 0 rfl ?_
    replace hF := fg_ob_some hF
    obtain ⟨rz3, e_5, hF⟩ := hF
    refine fg_getr X ff_X1_hung q449 e_5 dX1_hole_17 ?_
    replace hF := fg_ob_some hF
    obtain ⟨az4, rfl, hF⟩ := hF
    replace hF := fg_ob_some hF
    obtain ⟨rz5, e_6, hF⟩ := hF
    refine fg_getr X ff_X5_nets q357 e_6 dX1_hole_20 ?_
    refine fg_iload_n X dX1_hole_23 rfl 1 rfl ?_
    replace hF := fg_ob_some hF
    obtain ⟨az6, rfl, hF⟩ := hF
    replace hF := fg_ob_some hF
    obtain ⟨rz7, e_7, hF⟩ := hF
    refine fg_aald X (kd := 5) (by decide) e_7 dX1_hole_24 ?_
    replace hF := fg_ob_some hF
    obtain ⟨az8, rfl, hF⟩ := hF
    replace hF := fg_ob_some hF
    obtain ⟨xz9, e_8, hF⟩ := hF
    refine fg_geti X ff_X23_village q1019 e_8 dX1_hole_25 ?_
    refine fg_istore_n X (L' := [(2, .int xz9), (0, .ref a0), (1, .int i1)]) dX1_hole_28 rfl (by decide) rfl ?_
    refine fg_aload_n X (r := (some a0)) dX1_hole_29 rfl 1 rfl ?_
    replace hF := fg_gd_some hF
    obtain ⟨eg_9, hF⟩ := hF
    obtain ⟨fs_10, eo_11⟩ := fg_rc_get eg_9
    replace hF := fg_oc_some hF
    obtain ⟨rz11, Gz10, e_12, hF⟩ := hF
    refine fg_callV X (st := []) (mX1_tries Ω.2.2.2.2.1 Ω.1 e_12) q1327 q1329 qs29 q93 q1330 hd_X1_tries (by decide) rfl eo_11 (by decide) rfl rfl (Nat.le_of_ble_eq_true rfl) dX1_hole_30 ?_
    refine fg_aload_n X (r := (some a0)) dX1_hole_33 rfl 1 rfl ?_
    replace hF := fg_ob_some hF
    obtain ⟨rz12, e_13, hF⟩ := hF
    refine fg_getr X ff_X1_sky q458 e_13 dX1_hole_34 ?_
    replace hF := fg_ob_some hF
    obtain ⟨az13, rfl, hF⟩ := hF
    replace hF := fg_gd_some hF
    obtain ⟨eg_14, hF⟩ := hF
    obtain ⟨fs_15, eo_16⟩ := fg_rc_get eg_14
    replace hF := fg_oc_some hF
    obtain ⟨rz15, Gz14, e_17, hF⟩ := hF
    refine fg_callV X (st := []) (mX5_takes Ω.2.2.2.2.1 Ω.1 e_17) q1261 q1262 q1263 q100 q1264 hd_X5_takes (by decide) rfl eo_16 (by decide) rfl rfl (Nat.le_of_ble_eq_true rfl) dX1_hole_37 ?_
    refine fg_pop X dX1_hole_40 (fg_cat _) ?_
    refine fg_aload_n X (r := (some a0)) dX1_hole_41 rfl 1 rfl ?_
    replace hF := fg_ob_some hF
    obtain ⟨rz16, e_18, hF⟩ := hF
    refine fg_getr X ff_X1_trial q459 e_18 dX1_hole_42 ?_
    refine fg_iconst X (v := (-1 : Int32)) dX1_hole_45 (by decide) ?_
    replace hF := fg_ob_some hF
    obtain ⟨az17, rfl, hF⟩ := hF
    replace hF := fg_gd_some hF
    obtain ⟨eg_19, hF⟩ := hF
    obtain ⟨fs_20, eo_21⟩ := fg_rc_get eg_19
    replace hF := fg_oc_some hF
    obtain ⟨xz19, Gz18, e_22, hF⟩ := hF
    refine fg_callV X (st := []) (mX5_yields Ω.2.2.2.2.1 Ω.1 e_22) q1333 q1273 q1274 q100 q1275 hd_X5_yields (by decide) rfl eo_21 (by decide) rfl rfl (Nat.le_of_ble_eq_true rfl) dX1_hole_46 ?_
    refine fg_aload_n X (r := (some a0)) dX1_hole_49 rfl 1 rfl ?_
    replace hF := fg_ob_some hF
    obtain ⟨rz20, e_23, hF⟩ := hF
    refine fg_getr X ff_X1_trial q459 e_23 dX1_hole_50 ?_
    refine fg_iload_n X dX1_hole_53 rfl 0 rfl ?_
    replace hF := fg_ob_some hF
    obtain ⟨az21, rfl, hF⟩ := hF
    replace hF := fg_gd_some hF
    obtain ⟨eg_24, hF⟩ := hF
    obtain ⟨fs_25, eo_26⟩ := fg_rc_get eg_24
    replace hF := fg_oc_some hF
    obtain ⟨xz23, Gz22, e_27, hF⟩ := hF
    refine fg_callV X (st := [.int xz19]) (mX5_yields Ω.2.2.2.2.1 Ω.1 e_27) q1333 q1273 q1274 q100 q1275 hd_X5_yields (by decide) rfl eo_26 (by decide) rfl rfl (Nat.le_of_ble_eq_true rfl) dX1_hole_54 ?_
    refine fg_isub X dX1_hole_57 ?_
    replace hF := fg_ob_some hF
    obtain ⟨vz24, ex_28, hF⟩ := hF
    refine fg_topi (Option.some.inj ex_28) ?_
    refine fg_istore_n X (L' := [(3, .int vz24), (2, .int xz9), (0, .ref a0), (1, .int i1)]) dX1_hole_58 rfl (by decide) rfl ?_
    refine fg_aload_n X (r := (some a0)) dX1_hole_59 rfl 2 rfl ?_
    replace hF := fg_ob_some hF
    obtain ⟨rz25, e_29, hF⟩ := hF
    refine fg_getr X ff_X1_trial q459 e_29 dX1_hole_60 ?_
    replace hF := fg_ob_some hF
    obtain ⟨az26, rfl, hF⟩ := hF
    replace hF := fg_ob_some hF
    obtain ⟨rz27, e_30, hF⟩ := hF
    refine fg_getr X ff_X5_netAt q355 e_30 dX1_hole_63 ?_
    refine fg_aload_n X (r := (some a0)) dX1_hole_66 rfl 2 rfl ?_
    replace hF := fg_ob_some hF
    obtain ⟨rz28, e_31, hF⟩ := hF
    refine fg_getr X ff_X1_trial q459 e_31 dX1_hole_67 ?_
    replace hF := fg_ob_some hF
    obtain ⟨az29, rfl, hF⟩ := hF
    replace hF := fg_ob_some hF
    obtain ⟨rz30, e_32, hF⟩ := hF
    refine fg_getr X ff_X5_at q359 e_32 dX1_hole_70 ?_
    refine fg_iload_n X dX1_hole_73 rfl 3 rfl ?_
    replace hF := fg_ob_some hF
    obtain ⟨az31, rfl, hF⟩ := hF
    replace hF := fg_ob_some hF
    obtain ⟨xz32, e_33, hF⟩ := hF
    refine fg_iald X e_33 dX1_hole_74 ?_
    refine fg_iconst X (v := (0 : Int32)) dX1_hole_75 (by decide) ?_
    replace hF := fg_ob_some hF
    obtain ⟨az33, rfl, hF⟩ := hF
    replace hF := fg_ob_some hF
    obtain ⟨Gz34, e_34, hF⟩ := hF
    refine fg_iast X e_34 dX1_hole_76 ?_
    refine fg_aload_n X (r := (some a0)) dX1_hole_77 rfl 2 rfl ?_
    replace hF := fg_ob_some hF
    obtain ⟨rz35, e_35, hF⟩ := hF
    refine fg_getr X ff_X1_trial q459 e_35 dX1_hole_78 ?_
    refine fg_aload_n X (r := (some a0)) dX1_hole_81 rfl 2 rfl ?_
    replace hF := fg_ob_some hF
    obtain ⟨rz36, e_36, hF⟩ := hF
    refine fg_getr X ff_X1_sky q458 e_36 dX1_hole_82 ?_
    replace hF := fg_ob_some hF
    obtain ⟨az37, rfl, hF⟩ := hF
    replace hF := fg_gd_some hF
    obtain ⟨eg_37, hF⟩ := hF
    obtain ⟨fs_38, eo_39⟩ := fg_rc_get eg_37
    replace hF := fg_oc_some hF
    obtain ⟨rz39, Gz38, e_40, hF⟩ := hF
    refine fg_callV X (st := []) (mX5_takes Ω.2.2.2.2.1 Ω.1 e_40) q1261 q1262 q1263 q100 q1264 hd_X5_takes (by decide) rfl eo_39 (by decide) rfl rfl (Nat.le_of_ble_eq_true rfl) dX1_hole_85 ?_
    refine fg_pop X dX1_hole_88 (fg_cat _) ?_
    refine fg_aload_n X (r := (some a0)) dX1_hole_89 rfl 2 rfl ?_
    replace hF := fg_ob_some hF
    obtain ⟨rz40, e_41, hF⟩ := hF
    refine fg_getr X ff_X1_trial q459 e_41 dX1_hole_90 ?_
    refine fg_iconst X (v := (-1 : Int32)) dX1_hole_93 (by decide) ?_
    replace hF := fg_ob_some hF
    obtain ⟨az41, rfl, hF⟩ := hF
    replace hF := fg_gd_some hF
    obtain ⟨eg_42, hF⟩ := hF
    obtain ⟨fs_43, eo_44⟩ := fg_rc_get eg_42
    replace hF := fg_oc_some hF
    obtain ⟨xz43, Gz42, e_45, hF⟩ := hF
    refine fg_callV X (st := []) (mX5_yields Ω.2.2.2.2.1 Ω.1 e_45) q1333 q1273 q1274 q100 q1275 hd_X5_yields (by decide) rfl eo_44 (by decide) rfl rfl (Nat.le_of_ble_eq_true rfl) dX1_hole_94 ?_
    refine fg_aload_n X (r := (some a0)) dX1_hole_97 rfl 2 rfl ?_
    replace hF := fg_ob_some hF
    obtain ⟨rz44, e_46, hF⟩ := hF
    refine fg_getr X ff_X1_trial q459 e_46 dX1_hole_98 ?_
    refine fg_iload_n X dX1_hole_101 rfl 1 rfl ?_
    replace hF := fg_ob_some hF
    obtain ⟨az45, rfl, hF⟩ := hF
    replace hF := fg_gd_some hF
    obtain ⟨eg_47, hF⟩ := hF
    obtain ⟨fs_48, eo_49⟩ := fg_rc_get eg_47
    replace hF := fg_oc_some hF
    obtain ⟨xz47, Gz46, e_50, hF⟩ := hF
    refine fg_callV X (st := [.int xz43]) (mX5_yields Ω.2.2.2.2.1 Ω.1 e_50) q1333 q1273 q1274 q100 q1275 hd_X5_yields (by decide) rfl eo_49 (by decide) rfl rfl (Nat.le_of_ble_eq_true rfl) dX1_hole_102 ?_
    refine fg_isub X dX1_hole_105 ?_
    refine fg_iload_n X dX1_hole_106 rfl 0 rfl ?_
    refine fg_isub X dX1_hole_107 ?_
    cases hF
    exact fg_iret X dX1_hole_108 ((hT).1)
  · rw [if_pos hc] at hF
    replace hF := fg_oc_some hF
    obtain ⟨az48, Gz49, e_51, hF⟩ := hF
    refine fg_newo X q1511 q1512 q140 rfl (by decide) tyJ17_ok nwk_J17 e_51 dX1_hole_8 ?_
    refine fg_dup X dX1_hole_11 rfl ?_
    replace hF := fg_ob_some hF
    obtain ⟨Gz50, e_52, hF⟩ := hF
    refine fg_ctor32 X q1522 e_52 (by decide) (Nat.le_of_ble_eq_true rfl) dX1_hole_12 ?_
    replace hF := fg_gd_some hF
    obtain ⟨eg_53, hF⟩ := hF
    obtain ⟨fs_54, eo_55⟩ := fg_rc_get eg_53
    cases hF
    exact fg_athrow X rfl (by decide) eo_55 dX1_hole_15 ((hT).1)
theorem mX1_hole (l : Launch) (D : fg_D) {a0 : Nat} {i1 : Int32} {G : fg_H} {t : (Int32 ⊕ Nat) × fg_H} (hF : fX1_hole a0 i1 G = some t) : fg_MX l D yX1_hole cX1_hole 4 (some .int) 125 [.ref a0, .int i1] G (fg_oi t.1) t.2 :=
  fg_MXof (own := RX1) (nm := "hole") (L := [(0, .ref a0), (1, .int i1)]) pn_X1 rfl rfl rfl (Nat.le_of_ble_eq_true rfl) (fun Ω _ _ X hT => wX1_hole X hF hT)

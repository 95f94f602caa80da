set_option maxRecDepth 100000
theorem hd_X1_first : yX1_first.cls ≠ "java/lang/invoke/MethodHandle" ∧ yX1_first.cls ≠ "java/lang/invoke/VarHandle" ∧ (parseMethodDescriptor yX1_first.desc).map (fun d => d.parameters.length) = some 0 := ⟨by decide +kernel, by decide +kernel, by decide +kernel⟩
set_option maxHeartbeats 4000000 in
theorem wX1_first_112 {Ω : fg_O} {a0 : Nat} {i3 : Int32} {i4 : Int32} {G : fg_H} {t : ((Nat × Int32 × Int32 × Int32 × fg_H) ⊕ (Int32 × fg_H))} (X : fg_X Ω RX1 "first" cX1_first 5 (some .int) 125) (hF : fX1_first_112 a0 i3 i4 G = some t) (h11 : ∀ z, t = (.inl z) → fg_W Ω z.2.2.2.2 11 [(0, .ref z.1), (1, .int z.2.1), (2, .int z.2.2.1), (3, .int z.2.2.2.1)] []) (hT : ∀ u, t = (.inr u) → fg_T Ω (.returned (some (.int u.1))) u.2) : fg_W Ω G 112 [(0, .ref a0), (3, .int i3), (4, .int i4)] [] := by
  unfold fX1_first_112 at hF
  refine fg_iload_n X dX1_first_112 rfl 1 rfl ?_
  refine fg_istore_n X (L' := [(1, .int i3), (0, .ref a0), (3, .int i3), (4, .int i4)]) dX1_first_113 rfl (by decide) rfl ?_
  refine fg_iload X dX1_first_114 3 rfl ?_
  refine fg_istore_n X (L' := [(2, .int i4), (1, .int i3), (0, .ref a0), (3, .int i3), (4, .int i4)]) dX1_first_116 rfl (by decide) rfl ?_
  refine fg_iinc X (v := (i3 + (1 : Int32))) (L' := [(3, .int (i3 + (1 : Int32))), (2, .int i4), (1, .int i3), (0, .ref a0), (4, .int i4)]) dX1_first_117 3 rfl rfl (by decide) rfl ?_
  refine fg_goto X (tgt := 11) dX1_first_120 (by decide) ?_
  refine fg_sub [3, 2, 1, 0] rfl ?_
  exact h11 _ (Option.some.inj hF).symm
set_option maxHeartbeats 4000000 in
theorem wX1_first_11b {Ω : fg_O} {a0 : Nat} {i1 : Int32} {i2 : Int32} {i3 : Int32} {G : fg_H} {t : ((Nat × Int32 × Int32 × Int32 × fg_H) ⊕ (Int32 × fg_H))} (X : fg_X Ω RX1 "first" cX1_first 5 (some .int) 125) (hF : fX1_first_11b a0 i1 i2 i3 G = some t) (h11 : ∀ z, t = (.inl z) → fg_W Ω z.2.2.2.2 11 [(0, .ref z.1), (1, .int z.2.1), (2, .int z.2.2.1), (3, .int z.2.2.2.1)] []) (hT : ∀ u, t = (.inr u) → fg_T Ω (.returned (some (.int u.1))) u.2) : fg_W Ω G 11 [(0, .ref a0), (1, .int i1), (2, .int i2), (3, .int i3)] [] := by
  unfold fX1_first_11b at hF
  refine fg_iload_n X dX1_first_11 rfl 3 rfl ?_
  refine fg_aload_n X (r := (some a0)) dX1_first_12 rfl 0 rfl ?_
  replace hF := fg_ob_some hF
  obtain ⟨rz3, e_1, hF⟩ := hF
  refine fg_getr X ff_X1_trial q459 e_1 dX1_first_13 ?_
  replace hF := fg_ob_some hF
  obtain ⟨az4, rfl, hF⟩ := hF
  replace hF := fg_ob_some hF
  obtain ⟨xz5, e_2, hF⟩ := hF
  refine fg_geti X ff_X5_many q363 e_2 dX1_first_16 ?_
  refine fg_icmp_ge X (tgt := 123) dX1_first_19 (by decide) (fun hc => ?_) (fun hc => ?_)
  · rw [if_pos hc] at hF
    replace hF := fg_rt_some hF
    obtain ⟨tz6, hF, ht_3⟩ := hF
    subst ht_3
    replace hT := hT _ rfl
    refine fg_iload_n X dX1_first_123 rfl 1 rfl ?_
    cases hF
    exact fg_iret X dX1_first_124 (hT)
  · rw [if_neg hc] at hF
    refine fg_aload_n X (r := (some a0)) dX1_first_22 rfl 0 rfl ?_
    replace hF := fg_ob_some hF
    obtain ⟨rz7, e_4, hF⟩ := hF
    refine fg_getr X ff_X1_trial q459 e_4 dX1_first_23 ?_
    replace hF := fg_ob_some hF
    obtain ⟨az8, rfl, hF⟩ := hF
    replace hF := fg_ob_some hF
    obtain ⟨rz9, e_5, hF⟩ := hF
    refine fg_getr X ff_X5_nets q357 e_5 dX1_first_26 ?_
    refine fg_iload_n X dX1_first_29 rfl 3 rfl ?_
    replace hF := fg_ob_some hF
    obtain ⟨az10, rfl, hF⟩ := hF
    replace hF := fg_ob_some hF
    obtain ⟨rz11, e_6, hF⟩ := hF
    refine fg_aald X (kd := 5) (by decide) e_6 dX1_first_30 ?_
    replace hF := fg_ob_some hF
    obtain ⟨az12, rfl, hF⟩ := hF
    replace hF := fg_oc_some hF
    obtain ⟨xz14, Gz13, e_7, hF⟩ := hF
    refine cvX23_tears X (st := []) e_7 (by decide) q1294 (Nat.le_of_ble_eq_true rfl) dX1_first_31 ?_
    refine fg_if_eq X (tgt := 117) dX1_first_34 (by decide) (fun hc => ?_) (fun hc => ?_)
    · rw [if_pos hc] at hF
      refine fg_iinc X (v := (i3 + (1 : Int32))) (L' := [(3, .int (i3 + (1 : Int32))), (0, .ref a0), (1, .int i1), (2, .int i2)]) dX1_first_117 3 rfl rfl (by decide) rfl ?_
      refine fg_goto X (tgt := 11) dX1_first_120 (by decide) ?_
      refine fg_sub [1, 2, 3, 0] rfl ?_
      exact h11 _ (Option.some.inj hF).symm
    · rw [if_neg hc] at hF
      refine fg_aload_n X (r := (some a0)) dX1_first_37 rfl 0 rfl ?_
      replace hF := fg_ob_some hF
      obtain ⟨rz15, e_8, hF⟩ := hF
      refine fg_getr X ff_X1_trial q459 e_8 dX1_first_38 ?_
      refine fg_iload_n X dX1_first_41 rfl 3 rfl ?_
      replace hF := fg_ob_some hF
      obtain ⟨az16, rfl, hF⟩ := hF
      replace hF := fg_gd_some hF
      obtain ⟨eg_9, hF⟩ := hF
      obtain ⟨fs_10, eo_11⟩ := fg_rc_get eg_9
      replace hF := fg_oc_some hF
      obtain ⟨xz18, Gz17, e_12, hF⟩ := hF
      refine fg_callV X (st := []) (mX5_isMended Ω.2.2.2.2.1 Ω.1 e_12) q1107 q1108 q1109 q100 q1110 hd_X5_isMended (by decide) rfl eo_11 (by decide) rfl rfl (Nat.le_of_ble_eq_true rfl) dX1_first_42 ?_
      refine fg_if_eq X (tgt := 51) dX1_first_45 (by decide) (fun hc => ?_) (fun hc => ?_)
      · rw [if_pos hc] at hF
        refine fg_aload_n X (r := (some a0)) dX1_first_51 rfl 0 rfl ?_
        replace hF := fg_ob_some hF
        obtain ⟨rz19, e_13, hF⟩ := hF
        refine fg_getr X ff_X1_trial q459 e_13 dX1_first_52 ?_
        refine fg_dup X dX1_first_55 (fg_cat _) ?_
        replace hF := fg_ob_some hF
        obtain ⟨az20, rfl, hF⟩ := hF
        replace hF := fg_ob_some hF
        obtain ⟨xz21, e_14, hF⟩ := hF
        refine fg_geti X ff_X5_mended q361 e_14 dX1_first_56 ?_
        refine fg_iconst X (v := (1 : Int32)) dX1_first_59 (by decide) ?_
        refine fg_iload_n X dX1_first_60 rfl 3 rfl ?_
        refine fg_ishl X dX1_first_61 ?_
        refine fg_ixor X dX1_first_62 ?_
        replace hF := fg_ob_some hF
        obtain ⟨Gz22, e_15, hF⟩ := hF
        refine fg_putv X (ty := .int) (v := .int (xz21 ^^^ ((1 : Int32) <<< (i3 &&& 31)))) ff_X5_mended q361 rfl (Or.inl rfl) rfl rfl rfl e_15 dX1_first_63 ?_
        refine fg_aload_n X (r := (some a0)) dX1_first_66 rfl 0 rfl ?_
        replace hF := fg_ob_some hF
        obtain ⟨rz23, e_16, hF⟩ := hF
        refine fg_getr X ff_X1_trial q459 e_16 dX1_first_67 ?_
        refine fg_aload_n X (r := (some a0)) dX1_first_70 rfl 0 rfl ?_
        replace hF := fg_ob_some hF
        obtain ⟨rz24, e_17, hF⟩ := hF
        refine fg_getr X ff_X1_sky q458 e_17 dX1_first_71 ?_
        replace hF := fg_ob_some hF
        obtain ⟨az25, rfl, hF⟩ := hF
        replace hF := fg_gd_some hF
        obtain ⟨eg_18, hF⟩ := hF
        obtain ⟨fs_19, eo_20⟩ := fg_rc_get eg_18
        replace hF := fg_oc_some hF
        obtain ⟨rz27, Gz26, e_21, hF⟩ := hF
        refine fg_callV X (st := []) (mX5_takes Ω.2.2.2.2.1 Ω.1 e_21) q1261 q1262 q1263 q100 q1264 hd_X5_takes (by decide) rfl eo_20 (by decide) rfl rfl (Nat.le_of_ble_eq_true rfl) dX1_first_74 ?_
        refine fg_iconst X (v := (-1 : Int32)) dX1_first_77 (by decide) ?_
        replace hF := fg_ob_some hF
        obtain ⟨az28, rfl, hF⟩ := hF
        replace hF := fg_gd_some hF
        obtain ⟨eg_22, hF⟩ := hF
        obtain ⟨fs_23, eo_24⟩ := fg_rc_get eg_22
        replace hF := fg_oc_some hF
        obtain ⟨xz30, Gz29, e_25, hF⟩ := hF
        refine fg_callV X (st := []) (mX5_yields Ω.2.2.2.2.1 Ω.1 e_25) q1333 q1273 q1274 q100 q1275 hd_X5_yields (by decide) rfl eo_24 (by decide) rfl rfl (Nat.le_of_ble_eq_true rfl) dX1_first_78 ?_
        refine fg_istore X (L' := [(4, .int xz30), (0, .ref a0), (1, .int i1), (2, .int i2), (3, .int i3)]) dX1_first_81 (by decide) rfl ?_
        refine fg_aload_n X (r := (some a0)) dX1_first_83 rfl 1 rfl ?_
        replace hF := fg_ob_some hF
        obtain ⟨rz31, e_26, hF⟩ := hF
        refine fg_getr X ff_X1_trial q459 e_26 dX1_first_84 ?_
        refine fg_dup X dX1_first_87 (fg_cat _) ?_
        replace hF := fg_ob_some hF
        obtain ⟨az32, rfl, hF⟩ := hF
        replace hF := fg_ob_some hF
        obtain ⟨xz33, e_27, hF⟩ := hF
        refine fg_geti X ff_X5_mended q361 e_27 dX1_first_88 ?_
        refine fg_iconst X (v := (1 : Int32)) dX1_first_91 (by decide) ?_
        refine fg_iload_n X dX1_first_92 rfl 4 rfl ?_
        refine fg_ishl X dX1_first_93 ?_
        refine fg_ixor X dX1_first_94 ?_
        replace hF := fg_ob_some hF
        obtain ⟨Gz34, e_28, hF⟩ := hF
        refine fg_putv X (ty := .int) (v := .int (xz33 ^^^ ((1 : Int32) <<< (i3 &&& 31)))) ff_X5_mended q361 rfl (Or.inl rfl) rfl rfl rfl e_28 dX1_first_95 ?_
        refine fg_iload_n X dX1_first_98 rfl 2 rfl ?_
        refine fg_iconst X (v := (-1 : Int32)) dX1_first_99 (by decide) ?_
        refine fg_icmp_eq X (tgt := 112) dX1_first_100 (by decide) (fun hc => ?_) (fun hc => ?_)
        · rw [if_pos hc] at hF
          refine fg_sub [1, 4, 0] rfl ?_
          exact wX1_first_112 X hF h11 hT
        · rw [if_neg hc] at hF
          refine fg_iload X dX1_first_103 0 rfl ?_
          refine fg_iload_n X dX1_first_105 rfl 3 rfl ?_
          refine fg_icmp_gt X (tgt := 112) dX1_first_106 (by decide) (fun hc => ?_) (fun hc => ?_)
          · rw [if_pos hc] at hF
            refine fg_sub [1, 4, 0] rfl ?_
            exact wX1_first_112 X hF h11 hT
          · rw [if_neg hc] at hF
            refine fg_goto X (tgt := 117) dX1_first_109 (by decide) ?_
            refine fg_iinc X (v := (i3 + (1 : Int32))) (L' := [(3, .int (i3 + (1 : Int32))), (4, .int xz30), (0, .ref a0), (1, .int i1), (2, .int i2)]) dX1_first_117 4 rfl rfl (by decide) rfl ?_
            refine fg_goto X (tgt := 11) dX1_first_120 (by decide) ?_
            refine fg_sub [2, 3, 4, 0] rfl ?_
            exact h11 _ (Option.some.inj hF).symm
      · rw [if_neg hc] at hF
        refine fg_goto X (tgt := 117) dX1_first_48 (by decide) ?_
        refine fg_iinc X (v := (i3 + (1 : Int32))) (L' := [(3, .int (i3 + (1 : Int32))), (0, .ref a0), (1, .int i1), (2, .int i2)]) dX1_first_117 3 rfl rfl (by decide) rfl ?_
        refine fg_goto X (tgt := 11) dX1_first_120 (by decide) ?_
        refine fg_sub [1, 2, 3, 0] rfl ?_
        exact h11 _ (Option.some.inj hF).symm
set_option maxHeartbeats 4000000 in
seal fX1_first_11b in
theorem wX1_first_11 {Ω : fg_O} {a0 : Nat} {i1 : Int32} {i2 : Int32} {i3 : Int32} {G : fg_H} {t : (Int32 × fg_H)} (X : fg_X Ω RX1 "first" cX1_first 5 (some .int) 125) (hF : fX1_first_11 a0 i1 i2 i3 G = some t) (hT : fg_T Ω (.returned (some (.int t.1))) t.2) : fg_W Ω G 11 [(0, .ref a0), (1, .int i1), (2, .int i2), (3, .int i3)] [] := by
  unfold fX1_first_11 at hF
  exact fg_lp_walk (P := fun z => fg_W Ω z.2.2.2.2 11 [(0, .ref z.1), (1, .int z.2.1), (2, .int z.2.2.1), (3, .int z.2.2.2.1)] []) (fun y o ho hl hr => wX1_first_11b X ho (fun z e => hl z e) (fun u e => by rw [hr _ e]; exact hT)) hF
set_option maxHeartbeats 4000000 in
theorem wX1_first {Ω : fg_O} {a0 : Nat} {G : fg_H} {t : Int32 × fg_H} (X : fg_X Ω RX1 "first" cX1_first 5 (some .int) 125) (hF : fX1_first a0 G = some t) (hT : fg_T Ω (.returned (some (.int t.1))) t.2) : fg_W Ω G 0 [(0, .ref a0)] [] := by
  unfold fX1_first at hF
  refine fg_aload_n X (r := (some a0)) dX1_first_0 rfl 0 rfl ?_
  replace hF := fg_gd_some hF
  obtain ⟨eg_1, hF⟩ := hF
  obtain ⟨fs_2, eo_3⟩ := fg_rc_get eg_1
  replace hF := fg_oc_some hF
  obtain ⟨rz2, Gz1, e_4, hF⟩ := hF
  refine fg_callV X (st := []) (mX1_tries Ω.2.2.2.2.1 Ω.1 e_4) q1327 q1329 qs29 q93 q1330 hd_X1_tries (by decide) rfl eo_3 (by decide) rfl rfl (Nat.le_of_ble_eq_true rfl) dX1_first_1 ?_
  refine fg_pop X dX1_first_4 (fg_cat _) ?_
  refine fg_iconst X (v := (-1 : Int32)) dX1_first_5 (by decide) ?_
  refine fg_istore_n X (L' := [(1, .int (-1 : Int32)), (0, .ref a0)]) dX1_first_6 rfl (by decide) rfl ?_
  refine fg_iconst X (v := (0 : Int32)) dX1_first_7 (by decide) ?_
  refine fg_istore_n X (L' := [(2, .int (0 : Int32)), (1, .int (-1 : Int32)), (0, .ref a0)]) dX1_first_8 rfl (by decide) rfl ?_
  refine fg_iconst X (v := (0 : Int32)) dX1_first_9 (by decide) ?_
  refine fg_istore_n X (L' := [(3, .int (0 : Int32)), (2, .int (0 : Int32)), (1, .int (-1 : Int32)), (0, .ref a0)]) dX1_first_10 rfl (by decide) rfl ?_
  refine fg_sub [3, 2, 1, 0] rfl ?_
  exact wX1_first_11 X hF hT
theorem mX1_first (l : Launch) (D : fg_D) {a0 : Nat} {G : fg_H} {t : Int32 × fg_H} (hF : fX1_first a0 G = some t) : fg_M l D yX1_first cX1_first 5 (some .int) 125 [.ref a0] G (.returned (some (.int t.1))) t.2 :=
  fg_Mof (own := RX1) (nm := "first") (L := [(0, .ref a0)]) (plainFor_of_name pn_X1) rfl rfl rfl (Nat.le_of_ble_eq_true rfl) (fun Ω _ _ X hT => wX1_first X hF hT)
theorem hd_X1_bits : yX1_bits.cls ≠ "java/lang/invoke/MethodHandle" ∧ yX1_bits.cls ≠ "java/lang/invoke/VarHandle" ∧ (parseMethodDescriptor yX1_bits.desc).map (fun d => d.parameters.length) = some 1 := ⟨by decide +kernel, by decide +kernel, by decide +kernel⟩
set_option maxHeartbeats 4000000 in
theorem wX1_bits_4b {Ω : fg_O} {i1 : Int32} {i2 : Int32} {G : fg_H} {t : ((Int32 × Int32 × fg_H) ⊕ (Int32 × fg_H))} (X : fg_X Ω RX1 "bits" cX1_bits 3 (some .int) 0) (hF : fX1_bits_4b i1 i2 G = some t) (h4 : ∀ z, t = (.inl z) → fg_W Ω z.2.2 4 [(1, .int z.1), (2, .int z.2.1)] []) (hT : ∀ u, t = (.inr u) → fg_T Ω (.returned (some (.int u.1))) u.2) : fg_W Ω G 4 [(1, .int i1), (2, .int i2)] [] := by
  unfold fX1_bits_4b at hF
  refine fg_iload_n X dX1_bits_4 rfl 1 rfl ?_
  refine fg_if_eq X (tgt := 20) dX1_bits_5 (by decide) (fun hc => ?_) (fun hc => ?_)
  · rw [if_pos hc] at hF
    replace hF := fg_rt_some hF
    obtain ⟨tz1, hF, ht_1⟩ := hF
    subst ht_1
    replace hT := hT _ rfl
    refine fg_iload_n X dX1_bits_20 rfl 0 rfl ?_
    cases hF
    exact fg_iret X dX1_bits_21 (hT)
  · rw [if_neg hc] at hF
    refine fg_iinc X (v := (i1 + (1 : Int32))) (L' := [(1, .int (i1 + (1 : Int32))), (2, .int i2)]) dX1_bits_8 0 rfl rfl (by decide) rfl ?_
    refine fg_iload_n X dX1_bits_11 rfl 1 rfl ?_
    refine fg_iload_n X dX1_bits_12 rfl 1 rfl ?_
    refine fg_iconst X (v := (1 : Int32)) dX1_bits_13 (by decide) ?_
    refine fg_isub X dX1_bits_14 ?_
    refine fg_iand X dX1_bits_15 ?_
    replace hF := fg_ob_some hF
    obtain ⟨vz2, ex_2, hF⟩ := hF
    refine fg_topi (Option.some.inj ex_2) ?_
    refine fg_istore_n X (L' := [(2, .int vz2), (1, .int (i1 + (1 : Int32)))]) dX1_bits_16 rfl (by decide) rfl ?_
    refine fg_goto X (tgt := 4) dX1_bits_17 (by decide) ?_
    refine fg_sub [1, 0] rfl ?_
    exact h4 _ (Option.some.inj hF).symm
set_option maxHeartbeats 4000000 in
seal fX1_bits_4b in
theorem wX1_bits_4 {Ω : fg_O} {i1 : Int32} {i2 : Int32} {G : fg_H} {t : (Int32 × fg_H)} (X : fg_X Ω RX1 "bits" cX1_bits 3 (some .int) 0) (hF : fX1_bits_4 i1 i2 G = some t) (hT : fg_T Ω (.returned (some (.int t.1))) t.2) : fg_W Ω G 4 [(1, .int i1), (2, .int i2)] [] := by
  unfold fX1_bits_4 at hF
  exact fg_lp_walk (P := fun z => fg_W Ω z.2.2 4 [(1, .int z.1), (2, .int z.2.1)] []) (fun y o ho hl hr => wX1_bits_4b X ho (fun z e => hl z e) (fun u e => by rw [hr _ e]; exact hT)) hF
set_option maxHeartbeats 4000000 in
theorem wX1_bits {Ω : fg_O} {i0 : Int32} {G : fg_H} {t : Int32 × fg_H} (X : fg_X Ω RX1 "bits" cX1_bits 3 (some .int) 0) (hF : fX1_bits i0 G = some t) (hT : fg_T Ω (.returned (some (.int t.1))) t.2) : fg_W Ω G 0 [(0, .int i0)] [] := by
  unfold fX1_bits at hF
  refine fg_iconst X (v := (0 : Int32)) dX1_bits_0 (by decide) ?_
  refine fg_istore_n X (L' := [(1, .int (0 : Int32)), (0, .int i0)]) dX1_bits_1 rfl (by decide) rfl ?_
  refine fg_iload_n X dX1_bits_2 rfl 1 rfl ?_
  refine fg_istore_n X (L' := [(2, .int i0), (1, .int (0 : Int32)), (0, .int i0)]) dX1_bits_3 rfl (by decide) rfl ?_
  refine fg_sub [1, 0] rfl ?_
  exact wX1_bits_4 X hF hT
theorem mX1_bits (l : Launch) (D : fg_D) {i0 : Int32} {G : fg_H} {t : Int32 × fg_H} (hF : fX1_bits i0 G = some t) : fg_M l D yX1_bits cX1_bits 3 (some .int) 0 [.int i0] G (.returned (some (.int t.1))) t.2 :=
  fg_Mof (own := RX1) (nm := "bits") (L := [(0, .int i0)]) (plainFor_of_name pn_X1) rfl rfl rfl (Nat.le_of_ble_eq_true rfl) (fun Ω _ _ X hT => wX1_bits X hF hT)
theorem hd_X5_shows : yX5_shows.cls ≠ "java/lang/invoke/MethodHandle" ∧ yX5_shows.cls ≠ "java/lang/invoke/VarHandle" ∧ (parseMethodDescriptor yX5_shows.desc).map (fun d => d.parameters.length) = some 2 := ⟨by decide +kernel, by decide +kernel, by decide +kernel⟩
set_option maxHeartbeats 4000000 in
theorem wX5_shows_2b {Ω : fg_O} {a0 : Nat} {i1 : Int32} {i2 : Int32} {i3 : Int32} {G : fg_H} {t : ((Nat × Int32 × Int32 × Int32 × fg_H) ⊕ (Unit × fg_H))} (X : fg_X Ω RX5 "shows" cX5_shows 4 none 0) (hF : fX5_shows_2b a0 i1 i2 i3 G = some t) (h2 : ∀ z, t = (.inl z) → fg_W Ω z.2.2.2.2 2 [(0, .ref z.1), (1, .int z.2.1), (2, .int z.2.2.1), (3, .int z.2.2.2.1)] []) (hT : ∀ u, t = (.inr u) → fg_T Ω (.returned none) u.2) : fg_W Ω G 2 [(0, .ref a0), (1, .int i1), (2, .int i2), (3, .int i3)] [] := by
  unfold fX5_shows_2b at hF
  refine fg_iload_n X dX5_shows_2 rfl 3 rfl ?_
  refine fg_aload_n X (r := (some a0)) dX5_shows_3 rfl 0 rfl ?_
  replace hF := fg_ob_some hF
  obtain ⟨xz1, e_1, hF⟩ := hF
  refine fg_geti X ff_X5_many q362 e_1 dX5_shows_4 ?_
  refine fg_icmp_ge X (tgt := 51) dX5_shows_7 (by decide) (fun hc => ?_) (fun hc => ?_)
  · rw [if_pos hc] at hF
    replace hF := fg_rt_some hF
    obtain ⟨tz2, hF, ht_2⟩ := hF
    subst ht_2
    replace hT := hT _ rfl
    cases hF
    exact fg_vret X dX5_shows_51 (hT)
  · rw [if_neg hc] at hF
    refine fg_aload_n X (r := (some a0)) dX5_shows_10 rfl 0 rfl ?_
    replace hF := fg_ob_some hF
    obtain ⟨rz3, e_3, hF⟩ := hF
    refine fg_getr X ff_X5_nets q356 e_3 dX5_shows_11 ?_
    refine fg_iload_n X dX5_shows_14 rfl 3 rfl ?_
    replace hF := fg_ob_some hF
    obtain ⟨az4, rfl, hF⟩ := hF
    replace hF := fg_ob_some hF
    obtain ⟨rz5, e_4, hF⟩ := hF
    refine fg_aald X (kd := 5) (by decide) e_4 dX5_shows_15 ?_
    replace hF := fg_ob_some hF
    obtain ⟨az6, rfl, hF⟩ := hF
    replace hF := fg_ob_some hF
    obtain ⟨xz7, e_5, hF⟩ := hF
    refine fg_geti X ff_X23_village q1018 e_5 dX5_shows_16 ?_
    refine fg_iload_n X dX5_shows_19 rfl 1 rfl ?_
    refine fg_icmp_ne X (tgt := 45) dX5_shows_20 (by decide) (fun hc => ?_) (fun hc => ?_)
    · rw [if_neg hc] at hF
      refine fg_iinc X (v := (i3 + (1 : Int32))) (L' := [(3, .int (i3 + (1 : Int32))), (0, .ref a0), (1, .int i1), (2, .int i2)]) dX5_shows_45 3 rfl rfl (by decide) rfl ?_
      refine fg_goto X (tgt := 2) dX5_shows_48 (by decide) ?_
      refine fg_sub [1, 2, 3, 0] rfl ?_
      exact h2 _ (Option.some.inj hF).symm
    · rw [if_pos hc] at hF
      refine fg_aload_n X (r := (some a0)) dX5_shows_23 rfl 0 rfl ?_
      replace hF := fg_ob_some hF
      obtain ⟨rz8, e_6, hF⟩ := hF
      refine fg_getr X ff_X5_netAt q354 e_6 dX5_shows_24 ?_
      refine fg_aload_n X (r := (some a0)) dX5_shows_27 rfl 0 rfl ?_
      replace hF := fg_ob_some hF
      obtain ⟨rz9, e_7, hF⟩ := hF
      refine fg_getr X ff_X5_at q358 e_7 dX5_shows_28 ?_
      refine fg_iload_n X dX5_shows_31 rfl 3 rfl ?_
      replace hF := fg_ob_some hF
      obtain ⟨az10, rfl, hF⟩ := hF
      replace hF := fg_ob_some hF
      obtain ⟨xz11, e_8, hF⟩ := hF
      refine fg_iald X e_8 dX5_shows_32 ?_
      refine fg_iload_n X dX5_shows_33 rfl 2 rfl ?_
      refine fg_if_eq X (tgt := 43) dX5_shows_34 (by decide) (fun hc => ?_) (fun hc => ?_)
      · rw [if_pos hc] at hF
        refine fg_iconst X (v := (0 : Int32)) dX5_shows_43 (by decide) ?_
        replace hF := fg_ob_some hF
        obtain ⟨az12, rfl, hF⟩ := hF
        replace hF := fg_ob_some hF
        obtain ⟨Gz13, e_9, hF⟩ := hF
        refine fg_iast X e_9 dX5_shows_44 ?_
        refine fg_iinc X (v := (i3 + (1 : Int32))) (L' := [(3, .int (i3 + (1 : Int32))), (0, .ref a0), (1, .int i1), (2, .int i2)]) dX5_shows_45 3 rfl rfl (by decide) rfl ?_
        refine fg_goto X (tgt := 2) dX5_shows_48 (by decide) ?_
        refine fg_sub [1, 2, 3, 0] rfl ?_
        exact h2 _ (Option.some.inj hF).symm
      · rw [if_neg hc] at hF
        refine fg_iload_n X dX5_shows_37 rfl 3 rfl ?_
        refine fg_iconst X (v := (1 : Int32)) dX5_shows_38 (by decide) ?_
        refine fg_iadd X dX5_shows_39 ?_
        refine fg_goto X (tgt := 44) dX5_shows_40 (by decide) ?_
        replace hF := fg_ob_some hF
        obtain ⟨az14, rfl, hF⟩ := hF
        replace hF := fg_ob_some hF
        obtain ⟨Gz15, e_10, hF⟩ := hF
        refine fg_iast X e_10 dX5_shows_44 ?_
        refine fg_iinc X (v := (i3 + (1 : Int32))) (L' := [(3, .int (i3 + (1 : Int32))), (0, .ref a0), (1, .int i1), (2, .int i2)]) dX5_shows_45 3 rfl rfl (by decide) rfl ?_
        refine fg_goto X (tgt := 2) dX5_shows_48 (by decide) ?_
        refine fg_sub [1, 2, 3, 0] rfl ?_
        exact h2 _ (Option.some.inj hF).symm
set_option maxHeartbeats 4000000 in
seal fX5_shows_2b in
theorem wX5_shows_2 {Ω : fg_O} {a0 : Nat} {i1 : Int32} {i2 : Int32} {i3 : Int32} {G : fg_H} {t : (Unit × fg_H)} (X : fg_X Ω RX5 "shows" cX5_shows 4 none 0) (hF : fX5_shows_2 a0 i1 i2 i3 G = some t) (hT : fg_T Ω (.returned none) t.2) : fg_W Ω G 2 [(0, .ref a0), (1, .int i1), (2, .int i2), (3, .int i3)] [] := by
  unfold fX5_shows_2 at hF
  exact fg_lp_walk (P := fun z => fg_W Ω z.2.2.2.2 2 [(0, .ref z.1), (1, .int z.2.1), (2, .int z.2.2.1), (3, .int z.2.2.2.1)] []) (fun y o ho hl hr => wX5_shows_2b X ho (fun z e => hl z e) (fun u e => by rw [hr _ e]; exact hT)) hF
set_option maxHeartbeats 4000000 in
theorem wX5_shows {Ω : fg_O} {a0 : Nat} {i1 : Int32} {i2 : Int32} {G : fg_H} {t : Unit × fg_H} (X : fg_X Ω RX5 "shows" cX5_shows 4 none 0) (hF : fX5_shows a0 i1 i2 G = some t) (hT : fg_T Ω (.returned none) t.2) : fg_W Ω G 0 [(0, .ref a0), (1, .int i1), (2, .int i2)] [] := by
  unfold fX5_shows at hF
  refine fg_iconst X (v := (0 : Int32)) dX5_shows_0 (by decide) ?_
  refine fg_istore_n X (L' := [(3, .int (0 : Int32)), (0, .ref a0), (1, .int i1), (2, .int i2)]) dX5_shows_1 rfl (by decide) rfl ?_
  refine fg_sub [1, 2, 3, 0] rfl ?_
  exact wX5_shows_2 X hF hT
theorem mX5_shows (l : Launch) (D : fg_D) {a0 : Nat} {i1 : Int32} {i2 : Int32} {G : fg_H} {t : Unit × fg_H} (hF : fX5_shows a0 i1 i2 G = some t) : fg_M l D yX5_shows cX5_shows 4 none 0 [.ref a0, .int i1, .int i2] G (.returned none) t.2 :=
  fg_Mof (own := RX5) (nm := "shows") (L := [(0, .ref a0), (1, .int i1), (2, .int i2)]) (plainFor_of_name pn_X5) rfl rfl rfl (Nat.le_of_ble_eq_true rfl) (fun Ω _ _ X hT => wX5_shows X hF hT)
theorem hd_X1_findsWorth : yX1_findsWorth.cls ≠ "java/lang/invoke/MethodHandle" ∧ yX1_findsWorth.cls ≠ "java/lang/invoke/VarHandle" ∧ (parseMethodDescriptor yX1_findsWorth.desc).map (fun d => d.parameters.length) = some 0 := ⟨by decide +kernel, by decide +kernel, by decide +kernel⟩
set_option maxHeartbeats 4000000 in
theorem wX1_findsWorth_58 {Ω : fg_O} {a0 : Nat} {i1 : Int32} {i2 : Int32} {s0 : Option Nat} {s1 : Int32} {s2 : Int32} {G : fg_H} {t : ((Nat × Int32 × Int32 × fg_H) ⊕ ((Nat × Int32 × fg_H) ⊕ (Unit × fg_H)))} (X : fg_X Ω RX1 "findsWorth" cX1_findsWorth 3 none 125) (hF : fX1_findsWorth_58 a0 i1 i2 s0 s1 s2 G = some t) (h7 : ∀ z, t = (.inr (.inl z)) → fg_W Ω z.2.2 7 [(0, .ref z.1), (1, .int z.2.1)] []) (h25 : ∀ z, t = (.inl z) → fg_W Ω z.2.2.2 25 [(0, .ref z.1), (1, .int z.2.1), (2, .int z.2.2.1)] []) (hT : ∀ u, t = (.inr (.inr u)) → fg_T Ω (.returned none) u.2) : fg_W Ω G 58 [(0, .ref a0), (1, .int i1), (2, .int i2)] [.int s2, .int s1, va_rf s0] := by
  unfold fX1_findsWorth_58 at hF
  replace hF := fg_ob_some hF
  obtain ⟨az29, rfl, hF⟩ := hF
  replace hF := fg_gd_some hF
  obtain ⟨eg_1, hF⟩ := hF
  obtain ⟨fs_2, eo_3⟩ := fg_rc_get eg_1
  replace hF := fg_oc_some hF
  obtain ⟨u, Gz30, e_4, hF⟩ := hF
  refine fg_callV X (st := []) (mX5_shows Ω.2.2.2.2.1 Ω.1 e_4) q1380 q1381 q1382 q100 q1383 hd_X5_shows (by decide) rfl eo_3 (by decide) rfl rfl (Nat.le_of_ble_eq_true rfl) dX1_findsWorth_58 ?_
  refine fg_iinc X (v := (i2 + (1 : Int32))) (L' := [(2, .int (i2 + (1 : Int32))), (0, .ref a0), (1, .int i1)]) dX1_findsWorth_61 2 rfl rfl (by decide) rfl ?_
  refine fg_goto X (tgt := 25) dX1_findsWorth_64 (by decide) ?_
  refine fg_sub [1, 2, 0] rfl ?_
  exact h25 _ (Option.some.inj hF).symm
set_option maxHeartbeats 4000000 in
theorem wX1_findsWorth_25b {Ω : fg_O} {a0 : Nat} {i1 : Int32} {i2 : Int32} {G : fg_H} {t : ((Nat × Int32 × Int32 × fg_H) ⊕ ((Nat × Int32 × fg_H) ⊕ (Unit × fg_H)))} (X : fg_X Ω RX1 "findsWorth" cX1_findsWorth 3 none 125) (hF : fX1_findsWorth_25b a0 i1 i2 G = some t) (h7 : ∀ z, t = (.inr (.inl z)) → fg_W Ω z.2.2 7 [(0, .ref z.1), (1, .int z.2.1)] []) (h25 : ∀ z, t = (.inl z) → fg_W Ω z.2.2.2 25 [(0, .ref z.1), (1, .int z.2.1), (2, .int z.2.2.1)] []) (hT : ∀ u, t = (.inr (.inr u)) → fg_T Ω (.returned none) u.2) : fg_W Ω G 25 [(0, .ref a0), (1, .int i1), (2, .int i2)] [] := by
  unfold fX1_findsWorth_25b at hF
  refine fg_iload_n X dX1_findsWorth_25 rfl 2 rfl ?_
  refine fg_aload_n X (r := (some a0)) dX1_findsWorth_26 rfl 0 rfl ?_
  replace hF := fg_ob_some hF
  obtain ⟨rz10, e_1, hF⟩ := hF
  refine fg_getr X ff_X1_ridge q447 e_1 dX1_findsWorth_27 ?_
  replace hF := fg_ob_some hF
  obtain ⟨az11, rfl, hF⟩ := hF
  replace hF := fg_ob_some hF
  obtain ⟨rz12, e_2, hF⟩ := hF
  refine fg_getr X ff_X3_names q301 e_2 dX1_findsWorth_30 ?_
  replace hF := fg_ob_some hF
  obtain ⟨az13, rfl, hF⟩ := hF
  replace hF := fg_gd_some hF
  obtain ⟨eg_3, hF⟩ := hF
  obtain ⟨fs_4, eo_5⟩ := fg_rc_get eg_3
  replace hF := fg_oc_some hF
  obtain ⟨xz15, Gz14, e_6, hF⟩ := hF
  refine fg_callV X (st := [.int i2]) (mJ2_size Ω.2.2.2.2.1 Ω.1 e_6) q1119 q424 q425 q98 q426 hd_J2_size (by decide) rfl eo_5 (by decide) rfl rfl (Nat.le_of_ble_eq_true rfl) dX1_findsWorth_33 ?_
  refine fg_icmp_ge X (tgt := 67) dX1_findsWorth_36 (by decide) (fun hc => ?_) (fun hc => ?_)
  · rw [if_pos hc] at hF
    replace hF := fg_rt_some hF
    obtain ⟨tz16, hF, ht_7⟩ := hF
    subst ht_7
    replace h7 := fun z q => h7 z (congrArg Sum.inr q)
    replace hT := fun u q => hT u (congrArg Sum.inr q)
    refine fg_aload_n X (r := (some a0)) dX1_findsWorth_67 rfl 0 rfl ?_
    replace hF := fg_ob_some hF
    obtain ⟨rz17, e_8, hF⟩ := hF
    refine fg_getr X ff_X1_worth q461 e_8 dX1_findsWorth_68 ?_
    refine fg_iload_n X dX1_findsWorth_71 rfl 1 rfl ?_
    refine fg_aload_n X (r := (some a0)) dX1_findsWorth_72 rfl 0 rfl ?_
    replace hF := fg_ob_some hF
    obtain ⟨rz18, e_9, hF⟩ := hF
    refine fg_getr X ff_X1_trial q459 e_9 dX1_findsWorth_73 ?_
    refine fg_aload_n X (r := (some a0)) dX1_findsWorth_76 rfl 0 rfl ?_
    replace hF := fg_ob_some hF
    obtain ⟨rz19, e_10, hF⟩ := hF
    refine fg_getr X ff_X1_sky q458 e_10 dX1_findsWorth_77 ?_
    replace hF := fg_ob_some hF
    obtain ⟨az20, rfl, hF⟩ := hF
    replace hF := fg_gd_some hF
    obtain ⟨eg_11, hF⟩ := hF
    obtain ⟨fs_12, eo_13⟩ := fg_rc_get eg_11
    replace hF := fg_oc_some hF
    obtain ⟨rz22, Gz21, e_14, hF⟩ := hF
    refine fg_callV X (st := [.int i1, va_rf rz17]) (mX5_takes Ω.2.2.2.2.1 Ω.1 e_14) q1261 q1262 q1263 q100 q1264 hd_X5_takes (by decide) rfl eo_13 (by decide) rfl rfl (by cases rz17 <;> exact Nat.le_of_ble_eq_true rfl) dX1_findsWorth_80 ?_
    refine fg_iconst X (v := (-1 : Int32)) dX1_findsWorth_83 (by decide) ?_
    replace hF := fg_ob_some hF
    obtain ⟨az23, rfl, hF⟩ := hF
    replace hF := fg_gd_some hF
    obtain ⟨eg_15, hF⟩ := hF
    obtain ⟨fs_16, eo_17⟩ := fg_rc_get eg_15
    replace hF := fg_oc_some hF
    obtain ⟨xz25, Gz24, e_18, hF⟩ := hF
    refine fg_callV X (st := [.int i1, va_rf rz17]) (mX5_yields Ω.2.2.2.2.1 Ω.1 e_18) q1333 q1273 q1274 q100 q1275 hd_X5_yields (by decide) rfl eo_17 (by decide) rfl rfl (by cases rz17 <;> exact Nat.le_of_ble_eq_true rfl) dX1_findsWorth_84 ?_
    replace hF := fg_ob_some hF
    obtain ⟨az26, rfl, hF⟩ := hF
    replace hF := fg_ob_some hF
    obtain ⟨Gz27, e_19, hF⟩ := hF
    refine fg_iast X e_19 dX1_findsWorth_87 ?_
    refine fg_iinc X (v := (i1 + (1 : Int32))) (L' := [(1, .int (i1 + (1 : Int32))), (0, .ref a0), (2, .int i2)]) dX1_findsWorth_88 1 rfl rfl (by decide) rfl ?_
    refine fg_goto X (tgt := 7) dX1_findsWorth_91 (by decide) ?_
    refine fg_sub [1, 0] rfl ?_
    exact h7 _ (Option.some.inj hF).symm
  · rw [if_neg hc] at hF
    refine fg_aload_n X (r := (some a0)) dX1_findsWorth_39 rfl 0 rfl ?_
    replace hF := fg_ob_some hF
    obtain ⟨rz28, e_20, hF⟩ := hF
    refine fg_getr X ff_X1_trial q459 e_20 dX1_findsWorth_40 ?_
    refine fg_iload_n X dX1_findsWorth_43 rfl 2 rfl ?_
    refine fg_iload_n X dX1_findsWorth_44 rfl 1 rfl ?_
    refine fg_iload_n X dX1_findsWorth_45 rfl 2 rfl ?_
    refine fg_ishr X dX1_findsWorth_46 ?_
    refine fg_iconst X (v := (1 : Int32)) dX1_findsWorth_47 (by decide) ?_
    refine fg_iand X dX1_findsWorth_48 ?_
    refine fg_iconst X (v := (1 : Int32)) dX1_findsWorth_49 (by decide) ?_
    refine fg_icmp_ne X (tgt := 57) dX1_findsWorth_50 (by decide) (fun hc => ?_) (fun hc => ?_)
    · rw [if_neg hc] at hF
      refine fg_iconst X (v := (0 : Int32)) dX1_findsWorth_57 (by decide) ?_
      refine fg_sub [0, 1, 2] rfl ?_
      exact wX1_findsWorth_58 X hF h7 h25 hT
    · rw [if_pos hc] at hF
      refine fg_iconst X (v := (1 : Int32)) dX1_findsWorth_53 (by decide) ?_
      refine fg_goto X (tgt := 58) dX1_findsWorth_54 (by decide) ?_
      refine fg_sub [0, 1, 2] rfl ?_
      exact wX1_findsWorth_58 X hF h7 h25 hT
set_option maxHeartbeats 4000000 in
seal fX1_findsWorth_25b in
theorem wX1_findsWorth_25 {Ω : fg_O} {a0 : Nat} {i1 : Int32} {i2 : Int32} {G : fg_H} {t : ((Nat × Int32 × fg_H) ⊕ (Unit × fg_H))} (X : fg_X Ω RX1 "findsWorth" cX1_findsWorth 3 none 125) (hF : fX1_findsWorth_25 a0 i1 i2 G = some t) (h7 : ∀ z, t = (.inl z) → fg_W Ω z.2.2 7 [(0, .ref z.1), (1, .int z.2.1)] []) (hT : ∀ u, t = (.inr u) → fg_T Ω (.returned none) u.2) : fg_W Ω G 25 [(0, .ref a0), (1, .int i1), (2, .int i2)] [] := by
  unfold fX1_findsWorth_25 at hF
  exact fg_lp_walk (P := fun z => fg_W Ω z.2.2.2 25 [(0, .ref z.1), (1, .int z.2.1), (2, .int z.2.2.1)] []) (fun y o ho hl hr => wX1_findsWorth_25b X ho (fun z e => h7 z (hr _ e).symm) (fun z e => hl z e) (fun u e => hT u (hr _ e).symm)) hF
set_option maxHeartbeats 4000000 in
theorem wX1_findsWorth_7b {Ω : fg_O} {a0 : Nat} {i1 : Int32} {G : fg_H} {t : ((Nat × Int32 × fg_H) ⊕ (Unit × fg_H))} (X : fg_X Ω RX1 "findsWorth" cX1_findsWorth 3 none 125) (hF : fX1_findsWorth_7b a0 i1 G = some t) (h7 : ∀ z, t = (.inl z) → fg_W Ω z.2.2 7 [(0, .ref z.1), (1, .int z.2.1)] []) (hT : ∀ u, t = (.inr u) → fg_T Ω (.returned none) u.2) : fg_W Ω G 7 [(0, .ref a0), (1, .int i1)] [] := by
  unfold fX1_findsWorth_7b at hF
  refine fg_iload_n X dX1_findsWorth_7 rfl 1 rfl ?_
  refine fg_iconst X (v := (1 : Int32)) dX1_findsWorth_8 (by decide) ?_
  refine fg_aload_n X (r := (some a0)) dX1_findsWorth_9 rfl 0 rfl ?_
  replace hF := fg_ob_some hF
  obtain ⟨rz3, e_1, hF⟩ := hF
  refine fg_getr X ff_X1_ridge q447 e_1 dX1_findsWorth_10 ?_
  replace hF := fg_ob_some hF
  obtain ⟨az4, rfl, hF⟩ := hF
  replace hF := fg_ob_some hF
  obtain ⟨rz5, e_2, hF⟩ := hF
  refine fg_getr X ff_X3_names q301 e_2 dX1_findsWorth_13 ?_
  replace hF := fg_ob_some hF
  obtain ⟨az6, rfl, hF⟩ := hF
  replace hF := fg_gd_some hF
  obtain ⟨eg_3, hF⟩ := hF
  obtain ⟨fs_4, eo_5⟩ := fg_rc_get eg_3
  replace hF := fg_oc_some hF
  obtain ⟨xz8, Gz7, e_6, hF⟩ := hF
  refine fg_callV X (st := [.int (1 : Int32), .int i1]) (mJ2_size Ω.2.2.2.2.1 Ω.1 e_6) q1119 q424 q425 q98 q426 hd_J2_size (by decide) rfl eo_5 (by decide) rfl rfl (Nat.le_of_ble_eq_true rfl) dX1_findsWorth_16 ?_
  refine fg_ishl X dX1_findsWorth_19 ?_
  refine fg_icmp_ge X (tgt := 94) dX1_findsWorth_20 (by decide) (fun hc => ?_) (fun hc => ?_)
  · rw [if_pos hc] at hF
    replace hF := fg_rt_some hF
    obtain ⟨tz9, hF, ht_7⟩ := hF
    subst ht_7
    replace hT := hT _ rfl
    cases hF
    exact fg_vret X dX1_findsWorth_94 (hT)
  · rw [if_neg hc] at hF
    refine fg_iconst X (v := (0 : Int32)) dX1_findsWorth_23 (by decide) ?_
    refine fg_istore_n X (L' := [(2, .int (0 : Int32)), (0, .ref a0), (1, .int i1)]) dX1_findsWorth_24 rfl (by decide) rfl ?_
    refine fg_sub [1, 2, 0] rfl ?_
    exact wX1_findsWorth_25 X hF h7 hT
set_option maxHeartbeats 4000000 in
seal fX1_findsWorth_7b in
theorem wX1_findsWorth_7 {Ω : fg_O} {a0 : Nat} {i1 : Int32} {G : fg_H} {t : (Unit × fg_H)} (X : fg_X Ω RX1 "findsWorth" cX1_findsWorth 3 none 125) (hF : fX1_findsWorth_7 a0 i1 G = some t) (hT : fg_T Ω (.returned none) t.2) : fg_W Ω G 7 [(0, .ref a0), (1, .int i1)] [] := by
  unfold fX1_findsWorth_7 at hF
  exact fg_lp_walk (P := fun z => fg_W Ω z.2.2 7 [(0, .ref z.1), (1, .int z.2.1)] []) (fun y o ho hl hr => wX1_findsWorth_7b X ho (fun z e => hl z e) (fun u e => by rw [hr _ e]; exact hT)) hF
set_option maxHeartbeats 4000000 in
theorem wX1_findsWorth {Ω : fg_O} {a0 : Nat} {G : fg_H} {t : Unit × fg_H} (X : fg_X Ω RX1 "findsWorth" cX1_findsWorth 3 none 125) (hF : fX1_findsWorth a0 G = some t) (hT : fg_T Ω (.returned none) t.2) : fg_W Ω G 0 [(0, .ref a0)] [] := by
  unfold fX1_findsWorth at hF
  refine fg_aload_n X (r := (some a0)) dX1_findsWorth_0 rfl 0 rfl ?_
  replace hF := fg_gd_some hF
  obtain ⟨eg_1, hF⟩ := hF
  obtain ⟨fs_2, eo_3⟩ := fg_rc_get eg_1
  replace hF := fg_oc_some hF
  obtain ⟨rz2, Gz1, e_4, hF⟩ := hF
  refine fg_callV X (st := []) (mX1_tries Ω.2.2.2.2.1 Ω.1 e_4) q1327 q1329 qs29 q93 q1330 hd_X1_tries (by decide) rfl eo_3 (by decide) rfl rfl (Nat.le_of_ble_eq_true rfl) dX1_findsWorth_1 ?_
  refine fg_pop X dX1_findsWorth_4 (fg_cat _) ?_
  refine fg_iconst X (v := (0 : Int32)) dX1_findsWorth_5 (by decide) ?_
  refine fg_istore_n X (L' := [(1, .int (0 : Int32)), (0, .ref a0)]) dX1_findsWorth_6 rfl (by decide) rfl ?_
  refine fg_sub [1, 0] rfl ?_
  exact wX1_findsWorth_7 X hF hT
theorem mX1_findsWorth (l : Launch) (D : fg_D) {a0 : Nat} {G : fg_H} {t : Unit × fg_H} (hF : fX1_findsWorth a0 G = some t) : fg_M l D yX1_findsWorth cX1_findsWorth 3 none 125 [.ref a0] G (.returned none) t.2 :=
  fg_Mof (own := RX1) (nm := "findsWorth") (L := [(0, .ref a0)]) (plainFor_of_name pn_X1) rfl rfl rfl (Nat.le_of_ble_eq_true rfl) (fun Ω _ _ X hT => wX1_findsWorth X hF hT)
theorem hd_X1_orders : yX1_orders.cls ≠ "java/lang/invoke/MethodHandle" ∧ yX1_orders.cls ≠ "java/lang/invoke/VarHandle" ∧ (parseMethodDescriptor yX1_orders.desc).map (fun d => d.parameters.length) = some 1 := ⟨by decide +kernel, by decide +kernel, by decide +kernel⟩
set_option maxHeartbeats 4000000 in
theorem wX1_orders_4b {Ω : fg_O} {i0 : Int32} {i1 : Int32} {i2 : Int32} {G : fg_H} {t : ((Int32 × Int32 × Int32 × fg_H) ⊕ (Int32 × fg_H))} (X : fg_X Ω RX1 "orders" cX1_orders 3 (some .int) 0) (hF : fX1_orders_4b i0 i1 i2 G = some t) (h4 : ∀ z, t = (.inl z) → fg_W Ω z.2.2.2 4 [(0, .int z.1), (1, .int z.2.1), (2, .int z.2.2.1)] []) (hT : ∀ u, t = (.inr u) → fg_T Ω (.returned (some (.int u.1))) u.2) : fg_W Ω G 4 [(0, .int i0), (1, .int i1), (2, .int i2)] [] := by
  unfold fX1_orders_4b at hF
  refine fg_iload_n X dX1_orders_4 rfl 2 rfl ?_
  refine fg_iload_n X dX1_orders_5 rfl 0 rfl ?_
  refine fg_icmp_gt X (tgt := 19) dX1_orders_6 (by decide) (fun hc => ?_) (fun hc => ?_)
  · rw [if_pos hc] at hF
    replace hF := fg_rt_some hF
    obtain ⟨tz1, hF, ht_1⟩ := hF
    subst ht_1
    replace hT := hT _ rfl
    refine fg_iload_n X dX1_orders_19 rfl 1 rfl ?_
    cases hF
    exact fg_iret X dX1_orders_20 (hT)
  · rw [if_neg hc] at hF
    refine fg_iload_n X dX1_orders_9 rfl 1 rfl ?_
    refine fg_iload_n X dX1_orders_10 rfl 2 rfl ?_
    refine fg_imul X dX1_orders_11 ?_
    replace hF := fg_ob_some hF
    obtain ⟨vz2, ex_2, hF⟩ := hF
    refine fg_topi (Option.some.inj ex_2) ?_
    refine fg_istore_n X (L' := [(1, .int vz2), (0, .int i0), (2, .int i2)]) dX1_orders_12 rfl (by decide) rfl ?_
    refine fg_iinc X (v := (i2 + (1 : Int32))) (L' := [(2, .int (i2 + (1 : Int32))), (1, .int vz2), (0, .int i0)]) dX1_orders_13 2 rfl rfl (by decide) rfl ?_
    refine fg_goto X (tgt := 4) dX1_orders_16 (by decide) ?_
    refine fg_sub [2, 1, 0] rfl ?_
    exact h4 _ (Option.some.inj hF).symm
set_option maxHeartbeats 4000000 in
seal fX1_orders_4b in
theorem wX1_orders_4 {Ω : fg_O} {i0 : Int32} {i1 : Int32} {i2 : Int32} {G : fg_H} {t : (Int32 × fg_H)} (X : fg_X Ω RX1 "orders" cX1_orders 3 (some .int) 0) (hF : fX1_orders_4 i0 i1 i2 G = some t) (hT : fg_T Ω (.returned (some (.int t.1))) t.2) : fg_W Ω G 4 [(0, .int i0), (1, .int i1), (2, .int i2)] [] := by
  unfold fX1_orders_4 at hF
  exact fg_lp_walk (P := fun z => fg_W Ω z.2.2.2 4 [(0, .int z.1), (1, .int z.2.1), (2, .int z.2.2.1)] []) (fun y o ho hl hr => wX1_orders_4b X ho (fun z e => hl z e) (fun u e => by rw [hr _ e]; exact hT)) hF
set_option maxHeartbeats 4000000 in
theorem wX1_orders {Ω : fg_O} {i0 : Int32} {G : fg_H} {t : Int32 × fg_H} (X : fg_X Ω RX1 "orders" cX1_orders 3 (some .int) 0) (hF : fX1_orders i0 G = some t) (hT : fg_T Ω (.returned (some (.int t.1))) t.2) : fg_W Ω G 0 [(0, .int i0)] [] := by
  unfold fX1_orders at hF
  refine fg_iconst X (v := (1 : Int32)) dX1_orders_0 (by decide) ?_
  refine fg_istore_n X (L' := [(1, .int (1 : Int32)), (0, .int i0)]) dX1_orders_1 rfl (by decide) rfl ?_
  refine fg_iconst X (v := (2 : Int32)) dX1_orders_2 (by decide) ?_
  refine fg_istore_n X (L' := [(2, .int (2 : Int32)), (1, .int (1 : Int32)), (0, .int i0)]) dX1_orders_3 rfl (by decide) rfl ?_
  refine fg_sub [2, 1, 0] rfl ?_
  exact wX1_orders_4 X hF hT
theorem mX1_orders (l : Launch) (D : fg_D) {i0 : Int32} {G : fg_H} {t : Int32 × fg_H} (hF : fX1_orders i0 G = some t) : fg_M l D yX1_orders cX1_orders 3 (some .int) 0 [.int i0] G (.returned (some (.int t.1))) t.2 :=
  fg_Mof (own := RX1) (nm := "orders") (L := [(0, .int i0)]) (plainFor_of_name pn_X1) rfl rfl rfl (Nat.le_of_ble_eq_true rfl) (fun Ω _ _ X hT => wX1_orders X hF hT)
theorem hd_X1_share : yX1_share.cls ≠ "java/lang/invoke/MethodHandle" ∧ yX1_share.cls ≠ "java/lang/invoke/VarHandle" ∧ (parseMethodDescriptor yX1_share.desc).map (fun d => d.parameters.length) = some 2 := ⟨by decide +kernel, by decide +kernel, by decide +kernel⟩
set_option maxHeartbeats 4000000 in
theorem wX1_share_122b {Ω : fg_O} {i2 : Int32} {i3 : Int32} {i4 : Int32} {i5 : Int32} {i6 : Int32} {G : fg_H} {t : ((Int32 × Int32 × Int32 × Int32 × Int32 × fg_H) ⊕ (Int32 × fg_H))} (X : fg_X Ω RX1 "share" cX1_share 8 (some .int) 126) (hF : fX1_share_122b i2 i3 i4 i5 i6 G = some t) (h122 : ∀ z, t = (.inl z) → fg_W Ω z.2.2.2.2.2 122 [(2, .int z.1), (3, .int z.2.1), (4, .int z.2.2.1), (5, .int z.2.2.2.1), (6, .int z.2.2.2.2.1)] []) (hT : ∀ u, t = (.inr u) → fg_T Ω (.returned (some (.int u.1))) u.2) : fg_W Ω G 122 [(2, .int i2), (3, .int i3), (4, .int i4), (5, .int i5), (6, .int i6)] [] := by
  unfold fX1_share_122b at hF
  refine fg_iload X dX1_share_122 4 rfl ?_
  refine fg_if_eq X (tgt := 145) dX1_share_124 (by decide) (fun hc => ?_) (fun hc => ?_)
  · rw [if_pos hc] at hF
    replace hF := fg_rt_some hF
    obtain ⟨tz17, hF, ht_1⟩ := hF
    subst ht_1
    replace hT := hT _ rfl
    refine fg_iload_n X dX1_share_145 rfl 0 rfl ?_
    refine fg_if_ne X (tgt := 157) dX1_share_146 (by decide) (fun hc => ?_) (fun hc => ?_)
    · rw [if_neg hc] at hF
      refine fg_iload_n X dX1_share_157 rfl 1 rfl ?_
      replace hF := fg_oc_some hF
      obtain ⟨xz19, Gz18, e_2, hF⟩ := hF
      refine fg_callS X (st := []) (mX1_orders Ω.2.2.2.2.1 Ω.1 e_2) q1387 q1388 q93 q1389 hd_X1_orders (by decide) rfl rfl (Nat.le_of_ble_eq_true rfl) dX1_share_158 ?_
      refine fg_iload X dX1_share_161 3 rfl ?_
      replace hF := fg_gd_some hF
      obtain ⟨eg_3, hF⟩ := hF
      refine fg_idiv X dX1_share_163 (fg_ne0 eg_3) ?_
      cases hF
      exact fg_iret X dX1_share_164 (hT)
    · rw [if_pos hc] at hF
      refine fg_iload X dX1_share_149 2 rfl ?_
      refine fg_iload X dX1_share_151 3 rfl ?_
      replace hF := fg_gd_some hF
      obtain ⟨eg_4, hF⟩ := hF
      refine fg_idiv X dX1_share_153 (fg_ne0 eg_4) ?_
      refine fg_goto X (tgt := 164) dX1_share_154 (by decide) ?_
      cases hF
      exact fg_iret X dX1_share_164 (hT)
  · rw [if_neg hc] at hF
    refine fg_iload X dX1_share_127 3 rfl ?_
    refine fg_iload X dX1_share_129 4 rfl ?_
    replace hF := fg_gd_some hF
    obtain ⟨eg_5, hF⟩ := hF
    refine fg_irem X dX1_share_131 (fg_ne0 eg_5) ?_
    replace hF := fg_ob_some hF
    obtain ⟨vz20, ex_6, hF⟩ := hF
    refine fg_topi (Option.some.inj ex_6) ?_
    refine fg_istore X (L' := [(7, .int vz20), (2, .int i2), (3, .int i3), (4, .int i4), (5, .int i5), (6, .int i6)]) dX1_share_132 (by decide) rfl ?_
    refine fg_iload X dX1_share_134 5 rfl ?_
    refine fg_istore X (L' := [(5, .int i6), (7, .int vz20), (2, .int i2), (3, .int i3), (4, .int i4), (6, .int i6)]) dX1_share_136 (by decide) rfl ?_
    refine fg_iload X dX1_share_138 1 rfl ?_
    refine fg_istore X (L' := [(6, .int vz20), (5, .int i6), (7, .int vz20), (2, .int i2), (3, .int i3), (4, .int i4)]) dX1_share_140 (by decide) rfl ?_
    refine fg_goto X (tgt := 122) dX1_share_142 (by decide) ?_
    refine fg_sub [3, 4, 5, 1, 0] rfl ?_
    exact h122 _ (Option.some.inj hF).symm
set_option maxHeartbeats 4000000 in
seal fX1_share_122b in
theorem wX1_share_122 {Ω : fg_O} {i2 : Int32} {i3 : Int32} {i4 : Int32} {i5 : Int32} {i6 : Int32} {G : fg_H} {t : (Int32 × fg_H)} (X : fg_X Ω RX1 "share" cX1_share 8 (some .int) 126) (hF : fX1_share_122 i2 i3 i4 i5 i6 G = some t) (hT : fg_T Ω (.returned (some (.int t.1))) t.2) : fg_W Ω G 122 [(2, .int i2), (3, .int i3), (4, .int i4), (5, .int i5), (6, .int i6)] [] := by
  unfold fX1_share_122 at hF
  exact fg_lp_walk (P := fun z => fg_W Ω z.2.2.2.2.2 122 [(2, .int z.1), (3, .int z.2.1), (4, .int z.2.2.1), (5, .int z.2.2.2.1), (6, .int z.2.2.2.2.1)] []) (fun y o ho hl hr => wX1_share_122b X ho (fun z e => hl z e) (fun u e => by rw [hr _ e]; exact hT)) hF
set_option maxHeartbeats 4000000 in
theorem wX1_share_40b {Ω : fg_O} {a0 : Nat} {i1 : Int32} {i2 : Int32} {i3 : Int32} {i4 : Int32} {i5 : Int32} {G : fg_H} {t : ((Nat × Int32 × Int32 × Int32 × Int32 × Int32 × fg_H) ⊕ (Int32 × fg_H))} (X : fg_X Ω RX1 "share" cX1_share 8 (some .int) 126) (hF : fX1_share_40b a0 i1 i2 i3 i4 i5 G = some t) (h40 : ∀ z, t = (.inl z) → fg_W Ω z.2.2.2.2.2.2 40 [(0, .ref z.1), (1, .int z.2.1), (2, .int z.2.2.1), (3, .int z.2.2.2.1), (4, .int z.2.2.2.2.1), (5, .int z.2.2.2.2.2.1)] []) (hT : ∀ u, t = (.inr u) → fg_T Ω (.returned (some (.int u.1))) u.2) : fg_W Ω G 40 [(0, .ref a0), (1, .int i1), (2, .int i2), (3, .int i3), (4, .int i4), (5, .int i5)] [] := by
  unfold fX1_share_40b at hF
  refine fg_iload X dX1_share_40 5 rfl ?_
  refine fg_iconst X (v := (1 : Int32)) dX1_share_42 (by decide) ?_
  refine fg_iload_n X dX1_share_43 rfl 3 rfl ?_
  refine fg_ishl X dX1_share_44 ?_
  refine fg_icmp_ge X (tgt := 109) dX1_share_45 (by decide) (fun hc => ?_) (fun hc => ?_)
  · rw [if_pos hc] at hF
    replace hF := fg_rt_some hF
    obtain ⟨tz12, hF, ht_1⟩ := hF
    subst ht_1
    replace hT := hT _ rfl
    refine fg_iload X dX1_share_109 4 rfl ?_
    replace hF := fg_oc_some hF
    obtain ⟨xz14, Gz13, e_2, hF⟩ := hF
    refine fg_callS X (st := []) (mJ7_abs Ω.2.2.2.2.1 Ω.1 e_2) q1365 q1366 q108 q1367 hd_J7_abs (by decide) rfl rfl (Nat.le_of_ble_eq_true rfl) dX1_share_111 ?_
    refine fg_istore X (L' := [(5, .int xz14), (0, .ref a0), (1, .int i1), (2, .int i2), (3, .int i3), (4, .int i4)]) dX1_share_114 (by decide) rfl ?_
    refine fg_iload_n X dX1_share_116 rfl 4 rfl ?_
    replace hF := fg_oc_some hF
    obtain ⟨xz16, Gz15, e_3, hF⟩ := hF
    refine fg_callS X (st := []) (mX1_orders Ω.2.2.2.2.1 Ω.1 e_3) q1387 q1388 q93 q1389 hd_X1_orders (by decide) rfl rfl (Nat.le_of_ble_eq_true rfl) dX1_share_117 ?_
    refine fg_istore X (L' := [(6, .int xz16), (5, .int xz14), (0, .ref a0), (1, .int i1), (2, .int i2), (3, .int i3), (4, .int i4)]) dX1_share_120 (by decide) rfl ?_
    refine fg_sub [4, 5, 6, 1, 0] rfl ?_
    exact wX1_share_122 X hF hT
  · rw [if_neg hc] at hF
    refine fg_iload X dX1_share_48 5 rfl ?_
    refine fg_iload_n X dX1_share_50 rfl 1 rfl ?_
    refine fg_ishr X dX1_share_51 ?_
    refine fg_iconst X (v := (1 : Int32)) dX1_share_52 (by decide) ?_
    refine fg_iand X dX1_share_53 ?_
    refine fg_if_ne X (tgt := 103) dX1_share_54 (by decide) (fun hc => ?_) (fun hc => ?_)
    · rw [if_neg hc] at hF
      refine fg_iinc X (v := (i5 + (1 : Int32))) (L' := [(5, .int (i5 + (1 : Int32))), (0, .ref a0), (1, .int i1), (2, .int i2), (3, .int i3), (4, .int i4)]) dX1_share_103 5 rfl rfl (by decide) rfl ?_
      refine fg_goto X (tgt := 40) dX1_share_106 (by decide) ?_
      refine fg_sub [1, 2, 3, 4, 5, 0] rfl ?_
      exact h40 _ (Option.some.inj hF).symm
    · rw [if_pos hc] at hF
      refine fg_iload X dX1_share_57 4 rfl ?_
      refine fg_iload X dX1_share_59 5 rfl ?_
      replace hF := fg_oc_some hF
      obtain ⟨xz22, Gz21, e_4, hF⟩ := hF
      refine fg_callS X (st := [.int i4]) (mX1_bits Ω.2.2.2.2.1 Ω.1 e_4) q1384 q1385 q93 q1386 hd_X1_bits (by decide) rfl rfl (Nat.le_of_ble_eq_true rfl) dX1_share_61 ?_
      replace hF := fg_oc_some hF
      obtain ⟨xz24, Gz23, e_5, hF⟩ := hF
      refine fg_callS X (st := [.int i4]) (mX1_orders Ω.2.2.2.2.1 Ω.1 e_5) q1387 q1388 q93 q1389 hd_X1_orders (by decide) rfl rfl (Nat.le_of_ble_eq_true rfl) dX1_share_64 ?_
      refine fg_iload_n X dX1_share_67 rfl 3 rfl ?_
      refine fg_iload X dX1_share_68 5 rfl ?_
      replace hF := fg_oc_some hF
      obtain ⟨xz26, Gz25, e_6, hF⟩ := hF
      refine fg_callS X (st := [.int i3, .int xz24, .int i4]) (mX1_bits Ω.2.2.2.2.1 Ω.1 e_6) q1384 q1385 q93 q1386 hd_X1_bits (by decide) rfl rfl (Nat.le_of_ble_eq_true rfl) dX1_share_70 ?_
      refine fg_isub X dX1_share_73 ?_
      refine fg_iconst X (v := (1 : Int32)) dX1_share_74 (by decide) ?_
      refine fg_isub X dX1_share_75 ?_
      replace hF := fg_oc_some hF
      obtain ⟨xz28, Gz27, e_7, hF⟩ := hF
      refine fg_callS X (st := [.int xz24, .int i4]) (mX1_orders Ω.2.2.2.2.1 Ω.1 e_7) q1387 q1388 q93 q1389 hd_X1_orders (by decide) rfl rfl (Nat.le_of_ble_eq_true rfl) dX1_share_76 ?_
      refine fg_imul X dX1_share_79 ?_
      refine fg_aload_n X (r := (some a0)) dX1_share_80 rfl 0 rfl ?_
      replace hF := fg_ob_some hF
      obtain ⟨rz29, e_8, hF⟩ := hF
      refine fg_getr X ff_X1_worth q461 e_8 dX1_share_81 ?_
      refine fg_iload X dX1_share_84 5 rfl ?_
      refine fg_iconst X (v := (1 : Int32)) dX1_share_86 (by decide) ?_
      refine fg_iload_n X dX1_share_87 rfl 1 rfl ?_
      refine fg_ishl X dX1_share_88 ?_
      refine fg_ior X dX1_share_89 ?_
      replace hF := fg_ob_some hF
      obtain ⟨az30, rfl, hF⟩ := hF
      replace hF := fg_ob_some hF
      obtain ⟨xz31, e_9, hF⟩ := hF
      refine fg_iald X e_9 dX1_share_90 ?_
      refine fg_aload_n X (r := (some a0)) dX1_share_91 rfl 0 rfl ?_
      replace hF := fg_ob_some hF
      obtain ⟨rz32, e_10, hF⟩ := hF
      refine fg_getr X ff_X1_worth q461 e_10 dX1_share_92 ?_
      refine fg_iload X dX1_share_95 5 rfl ?_
      replace hF := fg_ob_some hF
      obtain ⟨az33, rfl, hF⟩ := hF
      replace hF := fg_ob_some hF
      obtain ⟨xz34, e_11, hF⟩ := hF
      refine fg_iald X e_11 dX1_share_97 ?_
      refine fg_isub X dX1_share_98 ?_
      refine fg_imul X dX1_share_99 ?_
      refine fg_iadd X dX1_share_100 ?_
      replace hF := fg_ob_some hF
      obtain ⟨vz35, ex_12, hF⟩ := hF
      refine fg_topi (Option.some.inj ex_12) ?_
      refine fg_istore X (L' := [(4, .int vz35), (0, .ref a0), (1, .int i1), (2, .int i2), (3, .int i3), (5, .int i5)]) dX1_share_101 (by decide) rfl ?_
      refine fg_iinc X (v := (i5 + (1 : Int32))) (L' := [(5, .int (i5 + (1 : Int32))), (4, .int vz35), (0, .ref a0), (1, .int i1), (2, .int i2), (3, .int i3)]) dX1_share_103 5 rfl rfl (by decide) rfl ?_
      refine fg_goto X (tgt := 40) dX1_share_106 (by decide) ?_
      refine fg_sub [2, 3, 4, 5, 1, 0] rfl ?_
      exact h40 _ (Option.some.inj hF).symm
set_option maxHeartbeats 4000000 in
seal fX1_share_40b in
theorem wX1_share_40 {Ω : fg_O} {a0 : Nat} {i1 : Int32} {i2 : Int32} {i3 : Int32} {i4 : Int32} {i5 : Int32} {G : fg_H} {t : (Int32 × fg_H)} (X : fg_X Ω RX1 "share" cX1_share 8 (some .int) 126) (hF : fX1_share_40 a0 i1 i2 i3 i4 i5 G = some t) (hT : fg_T Ω (.returned (some (.int t.1))) t.2) : fg_W Ω G 40 [(0, .ref a0), (1, .int i1), (2, .int i2), (3, .int i3), (4, .int i4), (5, .int i5)] [] := by
  unfold fX1_share_40 at hF
  exact fg_lp_walk (P := fun z => fg_W Ω z.2.2.2.2.2.2 40 [(0, .ref z.1), (1, .int z.2.1), (2, .int z.2.2.1), (3, .int z.2.2.2.1), (4, .int z.2.2.2.2.1), (5, .int z.2.2.2.2.2.1)] []) (fun y o ho hl hr => wX1_share_40b X ho (fun z e => hl z e) (fun u e => by rw [hr _ e]; exact hT)) hF
set_option maxHeartbeats 4000000 in
theorem wX1_share {Ω : fg_O} {a0 : Nat} {i1 : Int32} {i2 : Int32} {G : fg_H} {t : Int32 × fg_H} (X : fg_X Ω RX1 "share" cX1_share 8 (some .int) 126) (hF : fX1_share a0 i1 i2 G = some t) (hT : fg_T Ω (.returned (some (.int t.1))) t.2) : fg_W Ω G 0 [(0, .ref a0), (1, .int i1), (2, .int i2)] [] := by
  unfold fX1_share at hF
  refine fg_aload_n X (r := (some a0)) dX1_share_0 rfl 0 rfl ?_
  refine fg_iload_n X dX1_share_1 rfl 1 rfl ?_
  replace hF := fg_gd_some hF
  obtain ⟨eg_1, hF⟩ := hF
  obtain ⟨fs_2, eo_3⟩ := fg_rc_get eg_1
  replace hF := fg_oc_some hF
  obtain ⟨xz2, Gz1, e_4, hF⟩ := hF
  refine fg_callV X (st := []) (mX1_isVillage Ω.2.2.2.2.1 Ω.1 e_4) q1115 q1117 qs27 q93 q1118 hd_X1_isVillage (by decide) rfl eo_3 (by decide) rfl rfl (Nat.le_of_ble_eq_true rfl) dX1_share_2 ?_
  refine fg_if_eq X (tgt := 17) dX1_share_5 (by decide) (fun hc => ?_) (fun hc => ?_)
  · rw [if_pos hc] at hF
    refine fg_iconst X (v := (-1 : Int32)) dX1_share_17 (by decide) ?_
    cases hF
    exact fg_iret X dX1_share_18 (hT)
  · rw [if_neg hc] at hF
    refine fg_iload_n X dX1_share_8 rfl 2 rfl ?_
    refine fg_iconst X (v := (0 : Int32)) dX1_share_9 (by decide) ?_
    refine fg_iconst X (v := (1 : Int32)) dX1_share_10 (by decide) ?_
    replace hF := fg_oc_some hF
    obtain ⟨xz4, Gz3, e_5, hF⟩ := hF
    refine fg_callS X (st := []) (mX1_within Ω.2.2.2.2.1 Ω.1 e_5) q1086 q504 q93 q505 hd_X1_within (by decide) rfl rfl (Nat.le_of_ble_eq_true rfl) dX1_share_11 ?_
    refine fg_if_ne X (tgt := 19) dX1_share_14 (by decide) (fun hc => ?_) (fun hc => ?_)
    · rw [if_neg hc] at hF
      refine fg_aload_n X (r := (some a0)) dX1_share_19 rfl 0 rfl ?_
      replace hF := fg_gd_some hF
      obtain ⟨eg_6, hF⟩ := hF
      obtain ⟨fs_7, eo_8⟩ := fg_rc_get eg_6
      replace hF := fg_oc_some hF
      obtain ⟨u, Gz5, e_9, hF⟩ := hF
      refine fg_callV X (st := []) (mX1_findsWorth Ω.2.2.2.2.1 Ω.1 e_9) q1376 q1378 qs34 q93 q1379 hd_X1_findsWorth (by decide) rfl eo_8 (by decide) rfl rfl (Nat.le_of_ble_eq_true rfl) dX1_share_20 ?_
      refine fg_aload_n X (r := (some a0)) dX1_share_23 rfl 0 rfl ?_
      replace hF := fg_ob_some hF
      obtain ⟨rz6, e_10, hF⟩ := hF
      refine fg_getr X ff_X1_ridge q447 e_10 dX1_share_24 ?_
      replace hF := fg_ob_some hF
      obtain ⟨az7, rfl, hF⟩ := hF
      replace hF := fg_ob_some hF
      obtain ⟨rz8, e_11, hF⟩ := hF
      refine fg_getr X ff_X3_names q301 e_11 dX1_share_27 ?_
      replace hF := fg_ob_some hF
      obtain ⟨az9, rfl, hF⟩ := hF
      replace hF := fg_gd_some hF
      obtain ⟨eg_12, hF⟩ := hF
      obtain ⟨fs_13, eo_14⟩ := fg_rc_get eg_12
      replace hF := fg_oc_some hF
      obtain ⟨xz11, Gz10, e_15, hF⟩ := hF
      refine fg_callV X (st := []) (mJ2_size Ω.2.2.2.2.1 Ω.1 e_15) q1119 q424 q425 q98 q426 hd_J2_size (by decide) rfl eo_14 (by decide) rfl rfl (Nat.le_of_ble_eq_true rfl) dX1_share_30 ?_
      refine fg_istore_n X (L' := [(3, .int xz11), (0, .ref a0), (1, .int i1), (2, .int i2)]) dX1_share_33 rfl (by decide) rfl ?_
      refine fg_iconst X (v := (0 : Int32)) dX1_share_34 (by decide) ?_
      refine fg_istore X (L' := [(4, .int (0 : Int32)), (3, .int xz11), (0, .ref a0), (1, .int i1), (2, .int i2)]) dX1_share_35 (by decide) rfl ?_
      refine fg_iconst X (v := (0 : Int32)) dX1_share_37 (by decide) ?_
      refine fg_istore X (L' := [(5, .int (0 : Int32)), (4, .int (0 : Int32)), (3, .int xz11), (0, .ref a0), (1, .int i1), (2, .int i2)]) dX1_share_38 (by decide) rfl ?_
      refine fg_sub [3, 4, 5, 2, 1, 0] rfl ?_
      exact wX1_share_40 X hF hT
    · rw [if_pos hc] at hF
      refine fg_iconst X (v := (-1 : Int32)) dX1_share_17 (by decide) ?_
      cases hF
      exact fg_iret X dX1_share_18 (hT)
theorem mX1_share (l : Launch) (D : fg_D) {a0 : Nat} {i1 : Int32} {i2 : Int32} {G : fg_H} {t : Int32 × fg_H} (hF : fX1_share a0 i1 i2 G = some t) : fg_M l D yX1_share cX1_share 8 (some .int) 126 [.ref a0, .int i1, .int i2] G (.returned (some (.int t.1))) t.2 :=
  fg_Mof (own := RX1) (nm := "share") (L := [(0, .ref a0), (1, .int i1), (2, .int i2)]) (plainFor_of_name pn_X1) rfl rfl rfl (Nat.le_of_ble_eq_true rfl) (fun Ω _ _ X hT => wX1_share X hF hT)
theorem hd_X1_goesOn : yX1_goesOn.cls ≠ "java/lang/invoke/MethodHandle" ∧ yX1_goesOn.cls ≠ "java/lang/invoke/VarHandle" ∧ (parseMethodDescriptor yX1_goesOn.desc).map (fun d => d.parameters.length) = some 1 := ⟨by decide +kernel, by decide +kernel, by decide +kernel⟩
set_option maxHeartbeats 4000000 in
theorem wX1_goesOn {Ω : fg_O} {a0 : Nat} {i1 : Int32} {G : fg_H} {t : Unit × fg_H} (X : fg_X Ω RX1 "goesOn" cX1_goesOn 2 none 124) (hF : fX1_goesOn a0 i1 G = some t) (hT : fg_T Ω (.returned none) t.2) : fg_W Ω G 0 [(0, .ref a0), (1, .int i1)] [] := by
  unfold fX1_goesOn at hF
  refine fg_aload_n X (r := (some a0)) dX1_goesOn_0 rfl 0 rfl ?_
  replace hF := fg_ob_some hF
  obtain ⟨rz1, e_1, hF⟩ := hF
  refine fg_getr X ff_X1_trial q459 e_1 dX1_goesOn_1 ?_
  refine fg_aload_n X (r := (some a0)) dX1_goesOn_4 rfl 0 rfl ?_
  replace hF := fg_ob_some hF
  obtain ⟨rz2, e_2, hF⟩ := hF
  refine fg_getr X ff_X1_sky q458 e_2 dX1_goesOn_5 ?_
  refine fg_aload_n X (r := (some a0)) dX1_goesOn_8 rfl 0 rfl ?_
  replace hF := fg_ob_some hF
  obtain ⟨rz3, e_3, hF⟩ := hF
  refine fg_getr X ff_X1_ridge q447 e_3 dX1_goesOn_9 ?_
  refine fg_iload_n X dX1_goesOn_12 rfl 1 rfl ?_
  replace hF := fg_ob_some hF
  obtain ⟨az4, rfl, hF⟩ := hF
  replace hF := fg_gd_some hF
  obtain ⟨eg_4, hF⟩ := hF
  obtain ⟨fs_5, eo_6⟩ := fg_rc_get eg_4
  replace hF := fg_oc_some hF
  obtain ⟨rz6, Gz5, e_7, hF⟩ := hF
  refine fg_callV X (st := [va_rf rz1]) (mX7_finds Ω.2.2.2.2.1 Ω.1 e_7) q1250 q1251 q1252 q102 q1253 hd_X7_finds (by decide) rfl eo_6 (by decide) rfl rfl (by cases rz1 <;> exact Nat.le_of_ble_eq_true rfl) dX1_goesOn_13 ?_
  replace hF := fg_ob_some hF
  obtain ⟨az7, rfl, hF⟩ := hF
  replace hF := fg_gd_some hF
  obtain ⟨eg_8, hF⟩ := hF
  obtain ⟨fs_9, eo_10⟩ := fg_rc_get eg_8
  replace hF := fg_oc_some hF
  obtain ⟨rz9, Gz8, e_11, hF⟩ := hF
  refine fg_callV X (st := []) (mX5_takes Ω.2.2.2.2.1 Ω.1 e_11) q1261 q1262 q1263 q100 q1264 hd_X5_takes (by decide) rfl eo_10 (by decide) rfl rfl (Nat.le_of_ble_eq_true rfl) dX1_goesOn_16 ?_
  refine fg_pop X dX1_goesOn_19 (fg_cat _) ?_
  refine fg_aload_n X (r := (some a0)) dX1_goesOn_20 rfl 0 rfl ?_
  replace hF := fg_ob_some hF
  obtain ⟨rz10, e_12, hF⟩ := hF
  refine fg_getr X ff_X1_later q460 e_12 dX1_goesOn_21 ?_
  refine fg_aload_n X (r := (some a0)) dX1_goesOn_24 rfl 0 rfl ?_
  replace hF := fg_ob_some hF
  obtain ⟨rz11, e_13, hF⟩ := hF
  refine fg_getr X ff_X1_trial q459 e_13 dX1_goesOn_25 ?_
  replace hF := fg_ob_some hF
  obtain ⟨az12, rfl, hF⟩ := hF
  replace hF := fg_gd_some hF
  obtain ⟨eg_14, hF⟩ := hF
  obtain ⟨fs_15, eo_16⟩ := fg_rc_get eg_14
  replace hF := fg_oc_some hF
  obtain ⟨u, Gz13, e_17, hF⟩ := hF
  refine fg_callV X (st := []) (mX6_passes Ω.2.2.2.2.1 Ω.1 e_17) q1267 q1268 q1269 q101 q1270 hd_X6_passes (by decide) rfl eo_16 (by decide) rfl rfl (Nat.le_of_ble_eq_true rfl) dX1_goesOn_28 ?_
  cases hF
  exact fg_vret X dX1_goesOn_31 (hT)
theorem mX1_goesOn (l : Launch) (D : fg_D) {a0 : Nat} {i1 : Int32} {G : fg_H} {t : Unit × fg_H} (hF : fX1_goesOn a0 i1 G = some t) : fg_M l D yX1_goesOn cX1_goesOn 2 none 124 [.ref a0, .int i1] G (.returned none) t.2 :=
  fg_Mof (own := RX1) (nm := "goesOn") (L := [(0, .ref a0), (1, .int i1)]) (plainFor_of_name pn_X1) rfl rfl rfl (Nat.le_of_ble_eq_true rfl) (fun Ω _ _ X hT => wX1_goesOn X hF hT)
theorem hd_X6_copies : yX6_copies.cls ≠ "java/lang/invoke/MethodHandle" ∧ yX6_copies.cls ≠ "java/lang/invoke/VarHandle" ∧ (parseMethodDescriptor yX6_copies.desc).map (fun d => d.parameters.length) = some 1 := ⟨by decide +kernel, by decide +kernel, by decide +kernel⟩
set_option maxHeartbeats 4000000 in
theorem wX6_copies {Ω : fg_O} {a0 : Nat} {r1 : Option Nat} {G : fg_H} {t : Unit × fg_H} (X : fg_X Ω RX6 "copies" cX6_copies 2 none 1) (hF : fX6_copies a0 r1 G = some t) (hT : fg_T Ω (.returned none) t.2) : fg_W Ω G 0 [(0, .ref a0), (1, va_rf r1)] [] := by
  unfold fX6_copies at hF
  refine fg_aload_n X (r := r1) dX6_copies_0 rfl 1 rfl ?_
  replace hF := fg_ob_some hF
  obtain ⟨az1, rfl, hF⟩ := hF
  replace hF := fg_ob_some hF
  obtain ⟨rz2, e_1, hF⟩ := hF
  refine fg_getr X ff_X6_tank q387 e_1 dX6_copies_1 ?_
  refine fg_iconst X (v := (0 : Int32)) dX6_copies_4 (by decide) ?_
  refine fg_aload_n X (r := (some a0)) dX6_copies_5 rfl 0 rfl ?_
  replace hF := fg_ob_some hF
  obtain ⟨rz3, e_2, hF⟩ := hF
  refine fg_getr X ff_X6_tank q387 e_2 dX6_copies_6 ?_
  refine fg_iconst X (v := (0 : Int32)) dX6_copies_9 (by decide) ?_
  refine fg_bipush X (v := (6 : Int32)) dX6_copies_10 (by decide) ?_
  replace hF := fg_ob_some hF
  obtain ⟨az4, rfl, hF⟩ := hF
  replace hF := fg_ob_some hF
  obtain ⟨az5, rfl, hF⟩ := hF
  replace hF := fg_ob_some hF
  obtain ⟨Gz6, e_3, hF⟩ := hF
  refine fg_copyi X q1073 q899 q898 q123 (by decide) e_3 (Nat.le_of_ble_eq_true rfl) dX6_copies_12 ?_
  refine fg_aload_n X (r := (some az1)) dX6_copies_15 rfl 1 rfl ?_
  replace hF := fg_ob_some hF
  obtain ⟨rz7, e_4, hF⟩ := hF
  refine fg_getr X ff_X6_lacks q389 e_4 dX6_copies_16 ?_
  refine fg_iconst X (v := (0 : Int32)) dX6_copies_19 (by decide) ?_
  refine fg_aload_n X (r := (some a0)) dX6_copies_20 rfl 0 rfl ?_
  replace hF := fg_ob_some hF
  obtain ⟨rz8, e_5, hF⟩ := hF
  refine fg_getr X ff_X6_lacks q389 e_5 dX6_copies_21 ?_
  refine fg_iconst X (v := (0 : Int32)) dX6_copies_24 (by decide) ?_
  refine fg_bipush X (v := (6 : Int32)) dX6_copies_25 (by decide) ?_
  replace hF := fg_ob_some hF
  obtain ⟨az9, rfl, hF⟩ := hF
  replace hF := fg_ob_some hF
  obtain ⟨az10, rfl, hF⟩ := hF
  replace hF := fg_ob_some hF
  obtain ⟨Gz11, e_6, hF⟩ := hF
  refine fg_copyi X q1073 q899 q898 q123 (by decide) e_6 (Nat.le_of_ble_eq_true rfl) dX6_copies_27 ?_
  cases hF
  exact fg_vret X dX6_copies_30 (hT)
theorem mX6_copies (l : Launch) (D : fg_D) {a0 : Nat} {r1 : Option Nat} {G : fg_H} {t : Unit × fg_H} (hF : fX6_copies a0 r1 G = some t) : fg_M l D yX6_copies cX6_copies 2 none 1 [.ref a0, va_rf r1] G (.returned none) t.2 :=
  fg_Mof (own := RX6) (nm := "copies") (L := [(0, .ref a0), (1, va_rf r1)]) (plainFor_of_name pn_X6) rfl rfl (by cases r1 <;> rfl) (by cases r1 <;> exact Nat.le_of_ble_eq_true rfl) (fun Ω _ _ X hT => wX6_copies X hF hT)
theorem hd_X1_dry : yX1_dry.cls ≠ "java/lang/invoke/MethodHandle" ∧ yX1_dry.cls ≠ "java/lang/invoke/VarHandle" ∧ (parseMethodDescriptor yX1_dry.desc).map (fun d => d.parameters.length) = some 1 := ⟨by decide +kernel, by decide +kernel, by decide +kernel⟩
set_option maxHeartbeats 4000000 in
theorem wX1_dry_35b {Ω : fg_O} {a0 : Nat} {i1 : Int32} {i2 : Int32} {G : fg_H} {t : ((Nat × Int32 × Int32 × fg_H) ⊕ (Int32 × fg_H))} (X : fg_X Ω RX1 "dry" cX1_dry 3 (some .int) 125) (hF : fX1_dry_35b a0 i1 i2 G = some t) (h35 : ∀ z, t = (.inl z) → fg_W Ω z.2.2.2 35 [(0, .ref z.1), (1, .int z.2.1), (2, .int z.2.2.1)] []) (hT : ∀ u, t = (.inr u) → fg_T Ω (.returned (some (.int u.1))) u.2) : fg_W Ω G 35 [(0, .ref a0), (1, .int i1), (2, .int i2)] [] := by
  unfold fX1_dry_35b at hF
  refine fg_iload_n X dX1_dry_35 rfl 2 rfl ?_
  refine fg_bipush X (v := (100 : Int32)) dX1_dry_36 (by decide) ?_
  refine fg_icmp_gt X (tgt := 82) dX1_dry_38 (by decide) (fun hc => ?_) (fun hc => ?_)
  · rw [if_pos hc] at hF
    replace hF := fg_rt_some hF
    obtain ⟨tz12, hF, ht_1⟩ := hF
    subst ht_1
    replace hT := hT _ rfl
    refine fg_iconst X (v := (-1 : Int32)) dX1_dry_82 (by decide) ?_
    cases hF
    exact fg_iret X dX1_dry_83 (hT)
  · rw [if_neg hc] at hF
    refine fg_aload_n X (r := (some a0)) dX1_dry_41 rfl 0 rfl ?_
    refine fg_aload_n X (r := (some a0)) dX1_dry_42 rfl 0 rfl ?_
    replace hF := fg_ob_some hF
    obtain ⟨xz13, e_2, hF⟩ := hF
    refine fg_geti X ff_X1_night q453 e_2 dX1_dry_43 ?_
    refine fg_iload_n X dX1_dry_46 rfl 2 rfl ?_
    refine fg_iadd X dX1_dry_47 ?_
    refine fg_iconst X (v := (1 : Int32)) dX1_dry_48 (by decide) ?_
    refine fg_isub X dX1_dry_49 ?_
    replace hF := fg_gd_some hF
    obtain ⟨eg_3, hF⟩ := hF
    obtain ⟨fs_4, eo_5⟩ := fg_rc_get eg_3
    replace hF := fg_oc_some hF
    obtain ⟨u, Gz14, e_6, hF⟩ := hF
    refine fg_callV X (st := []) (mX1_goesOn Ω.2.2.2.2.1 Ω.1 e_6) q1398 q1400 qs35 q93 q1401 hd_X1_goesOn (by decide) rfl eo_5 (by decide) rfl rfl (Nat.le_of_ble_eq_true rfl) dX1_dry_50 ?_
    refine fg_aload_n X (r := (some a0)) dX1_dry_53 rfl 0 rfl ?_
    replace hF := fg_ob_some hF
    obtain ⟨rz15, e_7, hF⟩ := hF
    refine fg_getr X ff_X1_later q460 e_7 dX1_dry_54 ?_
    replace hF := fg_ob_some hF
    obtain ⟨az16, rfl, hF⟩ := hF
    replace hF := fg_ob_some hF
    obtain ⟨rz17, e_8, hF⟩ := hF
    refine fg_getr X ff_X6_lacks q390 e_8 dX1_dry_57 ?_
    refine fg_iload_n X dX1_dry_60 rfl 1 rfl ?_
    replace hF := fg_ob_some hF
    obtain ⟨az18, rfl, hF⟩ := hF
    replace hF := fg_ob_some hF
    obtain ⟨xz19, e_9, hF⟩ := hF
    refine fg_iald X e_9 dX1_dry_61 ?_
    refine fg_aload_n X (r := (some a0)) dX1_dry_62 rfl 0 rfl ?_
    replace hF := fg_ob_some hF
    obtain ⟨rz20, e_10, hF⟩ := hF
    refine fg_getr X ff_X1_tanks q451 e_10 dX1_dry_63 ?_
    replace hF := fg_ob_some hF
    obtain ⟨az21, rfl, hF⟩ := hF
    replace hF := fg_ob_some hF
    obtain ⟨rz22, e_11, hF⟩ := hF
    refine fg_getr X ff_X6_lacks q390 e_11 dX1_dry_66 ?_
    refine fg_iload_n X dX1_dry_69 rfl 1 rfl ?_
    replace hF := fg_ob_some hF
    obtain ⟨az23, rfl, hF⟩ := hF
    replace hF := fg_ob_some hF
    obtain ⟨xz24, e_12, hF⟩ := hF
    refine fg_iald X e_12 dX1_dry_70 ?_
    refine fg_icmp_le X (tgt := 76) dX1_dry_71 (by decide) (fun hc => ?_) (fun hc => ?_)
    · rw [if_pos hc] at hF
      refine fg_iinc X (v := (i2 + (1 : Int32))) (L' := [(2, .int (i2 + (1 : Int32))), (0, .ref a0), (1, .int i1)]) dX1_dry_76 2 rfl rfl (by decide) rfl ?_
      refine fg_goto X (tgt := 35) dX1_dry_79 (by decide) ?_
      refine fg_sub [1, 2, 0] rfl ?_
      exact h35 _ (Option.some.inj hF).symm
    · rw [if_neg hc] at hF
      replace hF := fg_rt_some hF
      obtain ⟨tz25, hF, ht_13⟩ := hF
      subst ht_13
      replace hT := hT _ rfl
      refine fg_iload_n X dX1_dry_74 rfl 2 rfl ?_
      cases hF
      exact fg_iret X dX1_dry_75 (hT)
set_option maxHeartbeats 4000000 in
seal fX1_dry_35b in
theorem wX1_dry_35 {Ω : fg_O} {a0 : Nat} {i1 : Int32} {i2 : Int32} {G : fg_H} {t : (Int32 × fg_H)} (X : fg_X Ω RX1 "dry" cX1_dry 3 (some .int) 125) (hF : fX1_dry_35 a0 i1 i2 G = some t) (hT : fg_T Ω (.returned (some (.int t.1))) t.2) : fg_W Ω G 35 [(0, .ref a0), (1, .int i1), (2, .int i2)] [] := by
  unfold fX1_dry_35 at hF
  exact fg_lp_walk (P := fun z => fg_W Ω z.2.2.2 35 [(0, .ref z.1), (1, .int z.2.1), (2, .int z.2.2.1)] []) (fun y o ho hl hr => wX1_dry_35b X ho (fun z e => hl z e) (fun u e => by rw [hr _ e]; exact hT)) hF
set_option maxHeartbeats 4000000 in
theorem wX1_dry {Ω : fg_O} {a0 : Nat} {i1 : Int32} {G : fg_H} {t : Int32 × fg_H} (X : fg_X Ω RX1 "dry" cX1_dry 3 (some .int) 125) (hF : fX1_dry a0 i1 G = some t) (hT : fg_T Ω (.returned (some (.int t.1))) t.2) : fg_W Ω G 0 [(0, .ref a0), (1, .int i1)] [] := by
  unfold fX1_dry at hF
  refine fg_aload_n X (r := (some a0)) dX1_dry_0 rfl 0 rfl ?_
  refine fg_iload_n X dX1_dry_1 rfl 1 rfl ?_
  replace hF := fg_gd_some hF
  obtain ⟨eg_1, hF⟩ := hF
  obtain ⟨fs_2, eo_3⟩ := fg_rc_get eg_1
  replace hF := fg_oc_some hF
  obtain ⟨xz2, Gz1, e_4, hF⟩ := hF
  refine fg_callV X (st := []) (mX1_isVillage Ω.2.2.2.2.1 Ω.1 e_4) q1115 q1117 qs27 q93 q1118 hd_X1_isVillage (by decide) rfl eo_3 (by decide) rfl rfl (Nat.le_of_ble_eq_true rfl) dX1_dry_2 ?_
  refine fg_if_ne X (tgt := 10) dX1_dry_5 (by decide) (fun hc => ?_) (fun hc => ?_)
  · rw [if_neg hc] at hF
    refine fg_aload_n X (r := (some a0)) dX1_dry_10 rfl 0 rfl ?_
    replace hF := fg_ob_some hF
    obtain ⟨rz3, e_5, hF⟩ := hF
    refine fg_getr X ff_X1_trial q459 e_5 dX1_dry_11 ?_
    refine fg_aload_n X (r := (some a0)) dX1_dry_14 rfl 0 rfl ?_
    replace hF := fg_ob_some hF
    obtain ⟨rz4, e_6, hF⟩ := hF
    refine fg_getr X ff_X1_hung q449 e_6 dX1_dry_15 ?_
    replace hF := fg_ob_some hF
    obtain ⟨az5, rfl, hF⟩ := hF
    replace hF := fg_gd_some hF
    obtain ⟨eg_7, hF⟩ := hF
    obtain ⟨fs_8, eo_9⟩ := fg_rc_get eg_7
    replace hF := fg_oc_some hF
    obtain ⟨rz7, Gz6, e_10, hF⟩ := hF
    refine fg_callV X (st := []) (mX5_copies Ω.2.2.2.2.1 Ω.1 e_10) q1205 q1206 q1207 q100 q1208 hd_X5_copies (by decide) rfl eo_9 (by decide) rfl rfl (Nat.le_of_ble_eq_true rfl) dX1_dry_18 ?_
    refine fg_pop X dX1_dry_21 (fg_cat _) ?_
    refine fg_aload_n X (r := (some a0)) dX1_dry_22 rfl 0 rfl ?_
    replace hF := fg_ob_some hF
    obtain ⟨rz8, e_11, hF⟩ := hF
    refine fg_getr X ff_X1_later q460 e_11 dX1_dry_23 ?_
    refine fg_aload_n X (r := (some a0)) dX1_dry_26 rfl 0 rfl ?_
    replace hF := fg_ob_some hF
    obtain ⟨rz9, e_12, hF⟩ := hF
    refine fg_getr X ff_X1_tanks q451 e_12 dX1_dry_27 ?_
    replace hF := fg_ob_some hF
    obtain ⟨az10, rfl, hF⟩ := hF
    replace hF := fg_gd_some hF
    obtain ⟨eg_13, hF⟩ := hF
    obtain ⟨fs_14, eo_15⟩ := fg_rc_get eg_13
    replace hF := fg_oc_some hF
    obtain ⟨u, Gz11, e_16, hF⟩ := hF
    refine fg_callV X (st := []) (mX6_copies Ω.2.2.2.2.1 Ω.1 e_16) q1394 q1395 q1396 q101 q1397 hd_X6_copies (by decide) rfl eo_15 (by decide) rfl rfl (Nat.le_of_ble_eq_true rfl) dX1_dry_30 ?_
    refine fg_iconst X (v := (1 : Int32)) dX1_dry_33 (by decide) ?_
    refine fg_istore_n X (L' := [(2, .int (1 : Int32)), (0, .ref a0), (1, .int i1)]) dX1_dry_34 rfl (by decide) rfl ?_
    refine fg_sub [1, 2, 0] rfl ?_
    exact wX1_dry_35 X hF hT
  · rw [if_pos hc] at hF
    refine fg_iconst X (v := (-1 : Int32)) dX1_dry_8 (by decide) ?_
    cases hF
    exact fg_iret X dX1_dry_9 (hT)
theorem mX1_dry (l : Launch) (D : fg_D) {a0 : Nat} {i1 : Int32} {G : fg_H} {t : Int32 × fg_H} (hF : fX1_dry a0 i1 G = some t) : fg_M l D yX1_dry cX1_dry 3 (some .int) 125 [.ref a0, .int i1] G (.returned (some (.int t.1))) t.2 :=
  fg_Mof (own := RX1) (nm := "dry") (L := [(0, .ref a0), (1, .int i1)]) (plainFor_of_name pn_X1) rfl rfl rfl (Nat.le_of_ble_eq_true rfl) (fun Ω _ _ X hT => wX1_dry X hF hT)
theorem hd_X1_stored : yX1_stored.cls ≠ "java/lang/invoke/MethodHandle" ∧ yX1_stored.cls ≠ "java/lang/invoke/VarHandle" ∧ (parseMethodDescriptor yX1_stored.desc).map (fun d => d.parameters.length) = some 2 := ⟨by decide +kernel, by decide +kernel, by decide +kernel⟩
set_option maxHeartbeats 4000000 in
theorem wX1_stored_45b {Ω : fg_O} {a0 : Nat} {i1 : Int32} {i2 : Int32} {i3 : Int32} {G : fg_H} {t : ((Nat × Int32 × Int32 × Int32 × fg_H) ⊕ (Int32 × fg_H))} (X : fg_X Ω RX1 "stored" cX1_stored 4 (some .int) 125) (hF : fX1_stored_45b a0 i1 i2 i3 G = some t) (h45 : ∀ z, t = (.inl z) → fg_W Ω z.2.2.2.2 45 [(0, .ref z.1), (1, .int z.2.1), (2, .int z.2.2.1), (3, .int z.2.2.2.1)] []) (hT : ∀ u, t = (.inr u) → fg_T Ω (.returned (some (.int u.1))) u.2) : fg_W Ω G 45 [(0, .ref a0), (1, .int i1), (2, .int i2), (3, .int i3)] [] := by
  unfold fX1_stored_45b at hF
  refine fg_iload_n X dX1_stored_45 rfl 3 rfl ?_
  refine fg_iload_n X dX1_stored_46 rfl 2 rfl ?_
  refine fg_icmp_ge X (tgt := 66) dX1_stored_47 (by decide) (fun hc => ?_) (fun hc => ?_)
  · rw [if_pos hc] at hF
    replace hF := fg_rt_some hF
    obtain ⟨tz14, hF, ht_1⟩ := hF
    subst ht_1
    replace hT := hT _ rfl
    refine fg_aload_n X (r := (some a0)) dX1_stored_66 rfl 0 rfl ?_
    replace hF := fg_ob_some hF
    obtain ⟨rz15, e_2, hF⟩ := hF
    refine fg_getr X ff_X1_later q460 e_2 dX1_stored_67 ?_
    replace hF := fg_ob_some hF
    obtain ⟨az16, rfl, hF⟩ := hF
    replace hF := fg_ob_some hF
    obtain ⟨rz17, e_3, hF⟩ := hF
    refine fg_getr X ff_X6_tank q388 e_3 dX1_stored_70 ?_
    refine fg_iload_n X dX1_stored_73 rfl 1 rfl ?_
    replace hF := fg_ob_some hF
    obtain ⟨az18, rfl, hF⟩ := hF
    replace hF := fg_ob_some hF
    obtain ⟨xz19, e_4, hF⟩ := hF
    refine fg_iald X e_4 dX1_stored_74 ?_
    cases hF
    exact fg_iret X dX1_stored_75 (hT)
  · rw [if_neg hc] at hF
    refine fg_aload_n X (r := (some a0)) dX1_stored_50 rfl 0 rfl ?_
    refine fg_aload_n X (r := (some a0)) dX1_stored_51 rfl 0 rfl ?_
    replace hF := fg_ob_some hF
    obtain ⟨xz20, e_5, hF⟩ := hF
    refine fg_geti X ff_X1_night q453 e_5 dX1_stored_52 ?_
    refine fg_iload_n X dX1_stored_55 rfl 3 rfl ?_
    refine fg_iadd X dX1_stored_56 ?_
    replace hF := fg_gd_some hF
    obtain ⟨eg_6, hF⟩ := hF
    obtain ⟨fs_7, eo_8⟩ := fg_rc_get eg_6
    replace hF := fg_oc_some hF
    obtain ⟨u, Gz21, e_9, hF⟩ := hF
    refine fg_callV X (st := []) (mX1_goesOn Ω.2.2.2.2.1 Ω.1 e_9) q1398 q1400 qs35 q93 q1401 hd_X1_goesOn (by decide) rfl eo_8 (by decide) rfl rfl (Nat.le_of_ble_eq_true rfl) dX1_stored_57 ?_
    refine fg_iinc X (v := (i3 + (1 : Int32))) (L' := [(3, .int (i3 + (1 : Int32))), (0, .ref a0), (1, .int i1), (2, .int i2)]) dX1_stored_60 3 rfl rfl (by decide) rfl ?_
    refine fg_goto X (tgt := 45) dX1_stored_63 (by decide) ?_
    refine fg_sub [1, 2, 3, 0] rfl ?_
    exact h45 _ (Option.some.inj hF).symm
set_option maxHeartbeats 4000000 in
seal fX1_stored_45b in
theorem wX1_stored_45 {Ω : fg_O} {a0 : Nat} {i1 : Int32} {i2 : Int32} {i3 : Int32} {G : fg_H} {t : (Int32 × fg_H)} (X : fg_X Ω RX1 "stored" cX1_stored 4 (some .int) 125) (hF : fX1_stored_45 a0 i1 i2 i3 G = some t) (hT : fg_T Ω (.returned (some (.int t.1))) t.2) : fg_W Ω G 45 [(0, .ref a0), (1, .int i1), (2, .int i2), (3, .int i3)] [] := by
  unfold fX1_stored_45 at hF
  exact fg_lp_walk (P := fun z => fg_W Ω z.2.2.2.2 45 [(0, .ref z.1), (1, .int z.2.1), (2, .int z.2.2.1), (3, .int z.2.2.2.1)] []) (fun y o ho hl hr => wX1_stored_45b X ho (fun z e => hl z e) (fun u e => by rw [hr _ e]; exact hT)) hF
set_option maxHeartbeats 4000000 in
theorem wX1_stored {Ω : fg_O} {a0 : Nat} {i1 : Int32} {i2 : Int32} {G : fg_H} {t : Int32 × fg_H} (X : fg_X Ω RX1 "stored" cX1_stored 4 (some .int) 125) (hF : fX1_stored a0 i1 i2 G = some t) (hT : fg_T Ω (.returned (some (.int t.1))) t.2) : fg_W Ω G 0 [(0, .ref a0), (1, .int i1), (2, .int i2)] [] := by
  unfold fX1_stored at hF
  refine fg_aload_n X (r := (some a0)) dX1_stored_0 rfl 0 rfl ?_
  refine fg_iload_n X dX1_stored_1 rfl 1 rfl ?_
  replace hF := fg_gd_some hF
  obtain ⟨eg_1, hF⟩ := hF
  obtain ⟨fs_2, eo_3⟩ := fg_rc_get eg_1
  replace hF := fg_oc_some hF
  obtain ⟨xz2, Gz1, e_4, hF⟩ := hF
  refine fg_callV X (st := []) (mX1_isVillage Ω.2.2.2.2.1 Ω.1 e_4) q1115 q1117 qs27 q93 q1118 hd_X1_isVillage (by decide) rfl eo_3 (by decide) rfl rfl (Nat.le_of_ble_eq_true rfl) dX1_stored_2 ?_
  refine fg_if_eq X (tgt := 18) dX1_stored_5 (by decide) (fun hc => ?_) (fun hc => ?_)
  · rw [if_pos hc] at hF
    refine fg_iconst X (v := (-1 : Int32)) dX1_stored_18 (by decide) ?_
    cases hF
    exact fg_iret X dX1_stored_19 (hT)
  · rw [if_neg hc] at hF
    refine fg_iload_n X dX1_stored_8 rfl 2 rfl ?_
    refine fg_iconst X (v := (0 : Int32)) dX1_stored_9 (by decide) ?_
    refine fg_bipush X (v := (100 : Int32)) dX1_stored_10 (by decide) ?_
    replace hF := fg_oc_some hF
    obtain ⟨xz4, Gz3, e_5, hF⟩ := hF
    refine fg_callS X (st := []) (mX1_within Ω.2.2.2.2.1 Ω.1 e_5) q1086 q504 q93 q505 hd_X1_within (by decide) rfl rfl (Nat.le_of_ble_eq_true rfl) dX1_stored_12 ?_
    refine fg_if_ne X (tgt := 20) dX1_stored_15 (by decide) (fun hc => ?_) (fun hc => ?_)
    · rw [if_neg hc] at hF
      refine fg_aload_n X (r := (some a0)) dX1_stored_20 rfl 0 rfl ?_
      replace hF := fg_ob_some hF
      obtain ⟨rz5, e_6, hF⟩ := hF
      refine fg_getr X ff_X1_trial q459 e_6 dX1_stored_21 ?_
      refine fg_aload_n X (r := (some a0)) dX1_stored_24 rfl 0 rfl ?_
      replace hF := fg_ob_some hF
      obtain ⟨rz6, e_7, hF⟩ := hF
      refine fg_getr X ff_X1_hung q449 e_7 dX1_stored_25 ?_
      replace hF := fg_ob_some hF
      obtain ⟨az7, rfl, hF⟩ := hF
      replace hF := fg_gd_some hF
      obtain ⟨eg_8, hF⟩ := hF
      obtain ⟨fs_9, eo_10⟩ := fg_rc_get eg_8
      replace hF := fg_oc_some hF
      obtain ⟨rz9, Gz8, e_11, hF⟩ := hF
      refine fg_callV X (st := []) (mX5_copies Ω.2.2.2.2.1 Ω.1 e_11) q1205 q1206 q1207 q100 q1208 hd_X5_copies (by decide) rfl eo_10 (by decide) rfl rfl (Nat.le_of_ble_eq_true rfl) dX1_stored_28 ?_
      refine fg_pop X dX1_stored_31 (fg_cat _) ?_
      refine fg_aload_n X (r := (some a0)) dX1_stored_32 rfl 0 rfl ?_
      replace hF := fg_ob_some hF
      obtain ⟨rz10, e_12, hF⟩ := hF
      refine fg_getr X ff_X1_later q460 e_12 dX1_stored_33 ?_
      refine fg_aload_n X (r := (some a0)) dX1_stored_36 rfl 0 rfl ?_
      replace hF := fg_ob_some hF
      obtain ⟨rz11, e_13, hF⟩ := hF
      refine fg_getr X ff_X1_tanks q451 e_13 dX1_stored_37 ?_
      replace hF := fg_ob_some hF
      obtain ⟨az12, rfl, hF⟩ := hF
      replace hF := fg_gd_some hF
      obtain ⟨eg_14, hF⟩ := hF
      obtain ⟨fs_15, eo_16⟩ := fg_rc_get eg_14
      replace hF := fg_oc_some hF
      obtain ⟨u, Gz13, e_17, hF⟩ := hF
      refine fg_callV X (st := []) (mX6_copies Ω.2.2.2.2.1 Ω.1 e_17) q1394 q1395 q1396 q101 q1397 hd_X6_copies (by decide) rfl eo_16 (by decide) rfl rfl (Nat.le_of_ble_eq_true rfl) dX1_stored_40 ?_
      refine fg_iconst X (v := (0 : Int32)) dX1_stored_43 (by decide) ?_
      refine fg_istore_n X (L' := [(3, .int (0 : Int32)), (0, .ref a0), (1, .int i1), (2, .int i2)]) dX1_stored_44 rfl (by decide) rfl ?_
      refine fg_sub [1, 2, 3, 0] rfl ?_
      exact wX1_stored_45 X hF hT
    · rw [if_pos hc] at hF
      refine fg_iconst X (v := (-1 : Int32)) dX1_stored_18 (by decide) ?_
      cases hF
      exact fg_iret X dX1_stored_19 (hT)
theorem mX1_stored (l : Launch) (D : fg_D) {a0 : Nat} {i1 : Int32} {i2 : Int32} {G : fg_H} {t : Int32 × fg_H} (hF : fX1_stored a0 i1 i2 G = some t) : fg_M l D yX1_stored cX1_stored 4 (some .int) 125 [.ref a0, .int i1, .int i2] G (.returned (some (.int t.1))) t.2 :=
  fg_Mof (own := RX1) (nm := "stored") (L := [(0, .ref a0), (1, .int i1), (2, .int i2)]) (plainFor_of_name pn_X1) rfl rfl rfl (Nat.le_of_ble_eq_true rfl) (fun Ω _ _ X hT => wX1_stored X hF hT)
theorem hd_X1_jar : yX1_jar.cls ≠ "java/lang/invoke/MethodHandle" ∧ yX1_jar.cls ≠ "java/lang/invoke/VarHandle" ∧ (parseMethodDescriptor yX1_jar.desc).map (fun d => d.parameters.length) = some 2 := ⟨by decide +kernel, by decide +kernel, by decide +kernel⟩
set_option maxHeartbeats 4000000 in
theorem wX1_jar {Ω : fg_O} {a0 : Nat} {i1 : Int32} {i2 : Int32} {G : fg_H} {t : Int32 × fg_H} (X : fg_X Ω RX1 "jar" cX1_jar 3 (some .int) 7) (hF : fX1_jar a0 i1 i2 G = some t) (hT : fg_T Ω (.returned (some (.int t.1))) t.2) : fg_W Ω G 0 [(0, .ref a0), (1, .int i1), (2, .int i2)] [] := by
  unfold fX1_jar at hF
  refine fg_aload_n X (r := (some a0)) dX1_jar_0 rfl 0 rfl ?_
  refine fg_iload_n X dX1_jar_1 rfl 1 rfl ?_
  replace hF := fg_gd_some hF
  obtain ⟨eg_1, hF⟩ := hF
  obtain ⟨fs_2, eo_3⟩ := fg_rc_get eg_1
  replace hF := fg_oc_some hF
  obtain ⟨xz2, Gz1, e_4, hF⟩ := hF
  refine fg_callV X (st := []) (mX1_isNet Ω.2.2.2.2.1 Ω.1 e_4) q1082 q1084 qs26 q93 q1085 hd_X1_isNet (by decide) rfl eo_3 (by decide) rfl rfl (Nat.le_of_ble_eq_true rfl) dX1_jar_2 ?_
  refine fg_if_eq X (tgt := 31) dX1_jar_5 (by decide) (fun hc => ?_) (fun hc => ?_)
  · rw [if_pos hc] at hF
    refine fg_iconst X (v := (-1 : Int32)) dX1_jar_31 (by decide) ?_
    cases hF
    exact fg_iret X dX1_jar_32 (hT)
  · rw [if_neg hc] at hF
    refine fg_iload_n X dX1_jar_8 rfl 2 rfl ?_
    refine fg_iconst X (v := (0 : Int32)) dX1_jar_9 (by decide) ?_
    refine fg_ldcw X q1410 dX1_jar_10 ?_
    replace hF := fg_oc_some hF
    obtain ⟨xz4, Gz3, e_5, hF⟩ := hF
    refine fg_callS X (st := []) (mX1_within Ω.2.2.2.2.1 Ω.1 e_5) q1086 q504 q93 q505 hd_X1_within (by decide) rfl rfl (Nat.le_of_ble_eq_true rfl) dX1_jar_13 ?_
    refine fg_if_eq X (tgt := 31) dX1_jar_16 (by decide) (fun hc => ?_) (fun hc => ?_)
    · rw [if_pos hc] at hF
      refine fg_iconst X (v := (-1 : Int32)) dX1_jar_31 (by decide) ?_
      cases hF
      exact fg_iret X dX1_jar_32 (hT)
    · rw [if_neg hc] at hF
      refine fg_aload_n X (r := (some a0)) dX1_jar_19 rfl 0 rfl ?_
      replace hF := fg_ob_some hF
      obtain ⟨rz5, e_6, hF⟩ := hF
      refine fg_getr X ff_X1_jars q457 e_6 dX1_jar_20 ?_
      replace hF := fg_ob_some hF
      obtain ⟨az6, rfl, hF⟩ := hF
      replace hF := fg_gd_some hF
      obtain ⟨eg_7, hF⟩ := hF
      obtain ⟨fs_8, eo_9⟩ := fg_rc_get eg_7
      replace hF := fg_oc_some hF
      obtain ⟨xz8, Gz7, e_10, hF⟩ := hF
      refine fg_callV X (st := []) (mJ2_size Ω.2.2.2.2.1 Ω.1 e_10) q1119 q424 q425 q98 q426 hd_J2_size (by decide) rfl eo_9 (by decide) rfl rfl (Nat.le_of_ble_eq_true rfl) dX1_jar_23 ?_
      refine fg_bipush X (v := (8 : Int32)) dX1_jar_26 (by decide) ?_
      refine fg_icmp_ne X (tgt := 33) dX1_jar_28 (by decide) (fun hc => ?_) (fun hc => ?_)
      · rw [if_neg hc] at hF
        refine fg_aload_n X (r := (some a0)) dX1_jar_33 rfl 0 rfl ?_
        replace hF := fg_ob_some hF
        obtain ⟨rz9, e_11, hF⟩ := hF
        refine fg_getr X ff_X1_jars q457 e_11 dX1_jar_34 ?_
        refine fg_iconst X (v := (2 : Int32)) dX1_jar_37 (by decide) ?_
        replace hF := fg_oc_some hF
        obtain ⟨az10, Gz11, e_12, hF⟩ := hF
        refine fg_newa X (kd := 0) (atype := .int) q232 (by decide) rfl (by decide) (fun _ _ => rfl) e_12 dX1_jar_38 ?_
        refine fg_dup X dX1_jar_40 rfl ?_
        refine fg_iconst X (v := (0 : Int32)) dX1_jar_41 (by decide) ?_
        refine fg_iload_n X dX1_jar_42 rfl 1 rfl ?_
        replace hF := fg_ob_some hF
        obtain ⟨Gz12, e_13, hF⟩ := hF
        refine fg_iast X e_13 dX1_jar_43 ?_
        refine fg_dup X dX1_jar_44 rfl ?_
        refine fg_iconst X (v := (1 : Int32)) dX1_jar_45 (by decide) ?_
        refine fg_iload_n X dX1_jar_46 rfl 2 rfl ?_
        replace hF := fg_ob_some hF
        obtain ⟨Gz13, e_14, hF⟩ := hF
        refine fg_iast X e_14 dX1_jar_47 ?_
        replace hF := fg_ob_some hF
        obtain ⟨az14, rfl, hF⟩ := hF
        replace hF := fg_gd_some hF
        obtain ⟨eg_15, hF⟩ := hF
        obtain ⟨fs_16, eo_17⟩ := fg_rc_get eg_15
        replace hF := fg_oc_some hF
        obtain ⟨xz16, Gz15, e_18, hF⟩ := hF
        refine fg_callV X (st := []) (mJ2_add Ω.2.2.2.2.1 Ω.1 e_18) q1358 q831 q832 q98 q833 hd_J2_add (by decide) rfl eo_17 (by decide) rfl rfl (Nat.le_of_ble_eq_true rfl) dX1_jar_48 ?_
        refine fg_pop X dX1_jar_51 rfl ?_
        refine fg_aload_n X (r := (some a0)) dX1_jar_52 rfl 0 rfl ?_
        replace hF := fg_ob_some hF
        obtain ⟨rz17, e_19, hF⟩ := hF
        refine fg_getr X ff_X1_jars q457 e_19 dX1_jar_53 ?_
        replace hF := fg_ob_some hF
        obtain ⟨az18, rfl, hF⟩ := hF
        replace hF := fg_gd_some hF
        obtain ⟨eg_20, hF⟩ := hF
        obtain ⟨fs_21, eo_22⟩ := fg_rc_get eg_20
        replace hF := fg_oc_some hF
        obtain ⟨xz20, Gz19, e_23, hF⟩ := hF
        refine fg_callV X (st := []) (mJ2_size Ω.2.2.2.2.1 Ω.1 e_23) q1119 q424 q425 q98 q426 hd_J2_size (by decide) rfl eo_22 (by decide) rfl rfl (Nat.le_of_ble_eq_true rfl) dX1_jar_56 ?_
        cases hF
        exact fg_iret X dX1_jar_59 (hT)
      · rw [if_pos hc] at hF
        refine fg_iconst X (v := (-1 : Int32)) dX1_jar_31 (by decide) ?_
        cases hF
        exact fg_iret X dX1_jar_32 (hT)
theorem mX1_jar (l : Launch) (D : fg_D) {a0 : Nat} {i1 : Int32} {i2 : Int32} {G : fg_H} {t : Int32 × fg_H} (hF : fX1_jar a0 i1 i2 G = some t) : fg_M l D yX1_jar cX1_jar 3 (some .int) 7 [.ref a0, .int i1, .int i2] G (.returned (some (.int t.1))) t.2 :=
  fg_Mof (own := RX1) (nm := "jar") (L := [(0, .ref a0), (1, .int i1), (2, .int i2)]) (plainFor_of_name pn_X1) rfl rfl rfl (Nat.le_of_ble_eq_true rfl) (fun Ω _ _ X hT => wX1_jar X hF hT)
theorem hd_J2_clear : yJ2_clear.cls ≠ "java/lang/invoke/MethodHandle" ∧ yJ2_clear.cls ≠ "java/lang/invoke/VarHandle" ∧ (parseMethodDescriptor yJ2_clear.desc).map (fun d => d.parameters.length) = some 0 := ⟨by decide +kernel, by decide +kernel, by decide +kernel⟩
set_option maxHeartbeats 4000000 in
theorem wJ2_clear_27b {Ω : fg_O} {r1 : Option Nat} {i2 : Int32} {i3 : Int32} {G : fg_H} {t : ((Option Nat × Int32 × Int32 × fg_H) ⊕ (Unit × fg_H))} (X : fg_X Ω RJ2 "clear" cJ2_clear 4 none 0) (hF : fJ2_clear_27b r1 i2 i3 G = some t) (h27 : ∀ z, t = (.inl z) → fg_W Ω z.2.2.2 27 [(1, va_rf z.1), (2, .int z.2.1), (3, .int z.2.2.1)] []) (hT : ∀ u, t = (.inr u) → fg_T Ω (.returned none) u.2) : fg_W Ω G 27 [(1, va_rf r1), (2, .int i2), (3, .int i3)] [] := by
  unfold fJ2_clear_27b at hF
  refine fg_iload_n X dJ2_clear_27 rfl 2 rfl ?_
  refine fg_iload_n X dJ2_clear_28 rfl 1 rfl ?_
  refine fg_icmp_ge X (tgt := 42) dJ2_clear_29 (by decide) (fun hc => ?_) (fun hc => ?_)
  · rw [if_pos hc] at hF
    replace hF := fg_rt_some hF
    obtain ⟨tz6, hF, ht_1⟩ := hF
    subst ht_1
    replace hT := hT _ rfl
    cases hF
    exact fg_vret X dJ2_clear_42 (hT)
  · rw [if_neg hc] at hF
    refine fg_aload_n X (r := r1) dJ2_clear_32 rfl 0 rfl ?_
    refine fg_iload_n X dJ2_clear_33 rfl 2 rfl ?_
    refine fg_anull X dJ2_clear_34 ?_
    replace hF := fg_ob_some hF
    obtain ⟨az7, rfl, hF⟩ := hF
    replace hF := fg_ob_some hF
    obtain ⟨Gz8, e_2, hF⟩ := hF
    refine fg_aast X (kd := 4) (by decide) (r := none) e_2 dJ2_clear_35 ?_
    refine fg_iinc X (v := (i3 + (1 : Int32))) (L' := [(3, .int (i3 + (1 : Int32))), (1, .ref az7), (2, .int i2)]) dJ2_clear_36 2 rfl rfl (by decide) rfl ?_
    refine fg_goto X (tgt := 27) dJ2_clear_39 (by decide) ?_
    refine fg_sub [1, 2, 0] rfl ?_
    exact h27 _ (Option.some.inj hF).symm
set_option maxHeartbeats 4000000 in
seal fJ2_clear_27b in
theorem wJ2_clear_27 {Ω : fg_O} {r1 : Option Nat} {i2 : Int32} {i3 : Int32} {G : fg_H} {t : (Unit × fg_H)} (X : fg_X Ω RJ2 "clear" cJ2_clear 4 none 0) (hF : fJ2_clear_27 r1 i2 i3 G = some t) (hT : fg_T Ω (.returned none) t.2) : fg_W Ω G 27 [(1, va_rf r1), (2, .int i2), (3, .int i3)] [] := by
  unfold fJ2_clear_27 at hF
  exact fg_lp_walk (P := fun z => fg_W Ω z.2.2.2 27 [(1, va_rf z.1), (2, .int z.2.1), (3, .int z.2.2.1)] []) (fun y o ho hl hr => wJ2_clear_27b X ho (fun z e => hl z e) (fun u e => by rw [hr _ e]; exact hT)) hF
set_option maxHeartbeats 4000000 in
theorem wJ2_clear {Ω : fg_O} {a0 : Nat} {G : fg_H} {t : Unit × fg_H} (X : fg_X Ω RJ2 "clear" cJ2_clear 4 none 0) (hF : fJ2_clear a0 G = some t) (hT : fg_T Ω (.returned none) t.2) : fg_W Ω G 0 [(0, .ref a0)] [] := by
  unfold fJ2_clear at hF
  refine fg_aload_n X (r := (some a0)) dJ2_clear_0 rfl 0 rfl ?_
  refine fg_dup X dJ2_clear_1 rfl ?_
  replace hF := fg_ob_some hF
  obtain ⟨xz1, e_1, hF⟩ := hF
  refine fg_getiS X ff_J1_modCount q259 q260 e_1 dJ2_clear_2 ?_
  refine fg_iconst X (v := (1 : Int32)) dJ2_clear_5 (by decide) ?_
  refine fg_iadd X dJ2_clear_6 ?_
  replace hF := fg_ob_some hF
  obtain ⟨Gz2, e_2, hF⟩ := hF
  refine fg_putvS X (ty := .int) (v := .int (xz1 + (1 : Int32))) ff_J1_modCount q259 q260 (Or.inl rfl) rfl rfl rfl e_2 dJ2_clear_7 ?_
  refine fg_aload_n X (r := (some a0)) dJ2_clear_10 rfl 0 rfl ?_
  replace hF := fg_ob_some hF
  obtain ⟨rz3, e_3, hF⟩ := hF
  refine fg_getr X ff_J2_elementData q256 e_3 dJ2_clear_11 ?_
  refine fg_astore_n X (r := rz3) (L' := [(1, va_rf rz3), (0, .ref a0)]) dJ2_clear_14 rfl (by decide) rfl ?_
  refine fg_aload_n X (r := (some a0)) dJ2_clear_15 rfl 1 rfl ?_
  replace hF := fg_ob_some hF
  obtain ⟨xz4, e_4, hF⟩ := hF
  refine fg_geti X ff_J2_size q257 e_4 dJ2_clear_16 ?_
  refine fg_istore_n X (L' := [(2, .int xz4), (1, va_rf rz3), (0, .ref a0)]) dJ2_clear_19 rfl (by decide) (by cases rz3 <;> rfl) ?_
  refine fg_aload_n X (r := (some a0)) dJ2_clear_20 rfl 2 rfl ?_
  refine fg_iconst X (v := (0 : Int32)) dJ2_clear_21 (by decide) ?_
  refine fg_dup_x1 X dJ2_clear_22 rfl rfl ?_
  replace hF := fg_ob_some hF
  obtain ⟨Gz5, e_5, hF⟩ := hF
  refine fg_putv X (ty := .int) (v := .int (0 : Int32)) ff_J2_size q257 rfl (Or.inl rfl) rfl rfl rfl e_5 dJ2_clear_23 ?_
  refine fg_istore_n X (L' := [(3, .int (0 : Int32)), (2, .int xz4), (1, va_rf rz3), (0, .ref a0)]) dJ2_clear_26 rfl (by decide) rfl ?_
  refine fg_sub [2, 1, 0] rfl ?_
  exact wJ2_clear_27 X hF hT
theorem mJ2_clear (l : Launch) (D : fg_D) {a0 : Nat} {G : fg_H} {t : Unit × fg_H} (hF : fJ2_clear a0 G = some t) : fg_M l D yJ2_clear cJ2_clear 4 none 0 [.ref a0] G (.returned none) t.2 :=
  fg_Mof (own := RJ2) (nm := "clear") (L := [(0, .ref a0)]) (plainFor_of_name pn_J2) rfl rfl rfl (Nat.le_of_ble_eq_true rfl) (fun Ω _ _ X hT => wJ2_clear X hF hT)
theorem hd_X1_clear : yX1_clear.cls ≠ "java/lang/invoke/MethodHandle" ∧ yX1_clear.cls ≠ "java/lang/invoke/VarHandle" ∧ (parseMethodDescriptor yX1_clear.desc).map (fun d => d.parameters.length) = some 0 := ⟨by decide +kernel, by decide +kernel, by decide +kernel⟩
set_option maxHeartbeats 4000000 in
theorem wX1_clear {Ω : fg_O} {a0 : Nat} {G : fg_H} {t : Int32 × fg_H} (X : fg_X Ω RX1 "clear" cX1_clear 1 (some .boolean) 1) (hF : fX1_clear a0 G = some t) (hT : fg_T Ω (.returned (some (.int t.1))) t.2) : fg_W Ω G 0 [(0, .ref a0)] [] := by
  unfold fX1_clear at hF
  refine fg_aload_n X (r := (some a0)) dX1_clear_0 rfl 0 rfl ?_
  replace hF := fg_ob_some hF
  obtain ⟨rz1, e_1, hF⟩ := hF
  refine fg_getr X ff_X1_jars q457 e_1 dX1_clear_1 ?_
  replace hF := fg_ob_some hF
  obtain ⟨az2, rfl, hF⟩ := hF
  replace hF := fg_gd_some hF
  obtain ⟨eg_2, hF⟩ := hF
  obtain ⟨fs_3, eo_4⟩ := fg_rc_get eg_2
  replace hF := fg_oc_some hF
  obtain ⟨u, Gz3, e_5, hF⟩ := hF
  refine fg_callV X (st := []) (mJ2_clear Ω.2.2.2.2.1 Ω.1 e_5) q1074 q1075 q1076 q98 q1077 hd_J2_clear (by decide) rfl eo_4 (by decide) rfl rfl (Nat.le_of_ble_eq_true rfl) dX1_clear_4 ?_
  refine fg_iconst X (v := (1 : Int32)) dX1_clear_7 (by decide) ?_
  cases hF
  exact fg_zret X (by decide) dX1_clear_8 (hT)
theorem mX1_clear (l : Launch) (D : fg_D) {a0 : Nat} {G : fg_H} {t : Int32 × fg_H} (hF : fX1_clear a0 G = some t) : fg_M l D yX1_clear cX1_clear 1 (some .boolean) 1 [.ref a0] G (.returned (some (.int t.1))) t.2 :=
  fg_Mof (own := RX1) (nm := "clear") (L := [(0, .ref a0)]) (plainFor_of_name pn_X1) rfl rfl rfl (Nat.le_of_ble_eq_true rfl) (fun Ω _ _ X hT => wX1_clear X hF hT)
theorem hd_X1_findsTaken : yX1_findsTaken.cls ≠ "java/lang/invoke/MethodHandle" ∧ yX1_findsTaken.cls ≠ "java/lang/invoke/VarHandle" ∧ (parseMethodDescriptor yX1_findsTaken.desc).map (fun d => d.parameters.length) = some 0 := ⟨by decide +kernel, by decide +kernel, by decide +kernel⟩
set_option maxHeartbeats 4000000 in
theorem wX1_findsTaken_63b {Ω : fg_O} {a0 : Nat} {i1 : Int32} {i2 : Int32} {i3 : Int32} {G : fg_H} {t : ((Nat × Int32 × Int32 × Int32 × fg_H) ⊕ ((Nat × Int32 × Int32 × fg_H) ⊕ ((Nat × Int32 × fg_H) ⊕ (Unit × fg_H))))} (X : fg_X Ω RX1 "findsTaken" cX1_findsTaken 4 none 122) (hF : fX1_findsTaken_63b a0 i1 i2 i3 G = some t) (h14 : ∀ z, t = (.inr (.inr (.inl z))) → fg_W Ω z.2.2 14 [(0, .ref z.1), (1, .int z.2.1)] []) (h27 : ∀ z, t = (.inr (.inl z)) → fg_W Ω z.2.2.2 27 [(0, .ref z.1), (1, .int z.2.1), (2, .int z.2.2.1)] []) (h63 : ∀ z, t = (.inl z) → fg_W Ω z.2.2.2.2 63 [(0, .ref z.1), (1, .int z.2.1), (2, .int z.2.2.1), (3, .int z.2.2.2.1)] []) (hT : ∀ u, t = (.inr (.inr (.inr u))) → fg_T Ω (.returned none) u.2) : fg_W Ω G 63 [(0, .ref a0), (1, .int i1), (2, .int i2), (3, .int i3)] [] := by
  unfold fX1_findsTaken_63b at hF
  refine fg_iload_n X dX1_findsTaken_63 rfl 3 rfl ?_
  refine fg_aload_n X (r := (some a0)) dX1_findsTaken_64 rfl 0 rfl ?_
  replace hF := fg_ob_some hF
  obtain ⟨rz15, e_1, hF⟩ := hF
  refine fg_getr X ff_X1_ridge q447 e_1 dX1_findsTaken_65 ?_
  refine fg_iload_n X dX1_findsTaken_68 rfl 2 rfl ?_
  replace hF := fg_ob_some hF
  obtain ⟨az16, rfl, hF⟩ := hF
  replace hF := fg_gd_some hF
  obtain ⟨eg_2, hF⟩ := hF
  obtain ⟨fs_3, eo_4⟩ := fg_rc_get eg_2
  replace hF := fg_oc_some hF
  obtain ⟨xz18, Gz17, e_5, hF⟩ := hF
  refine fg_callV X (st := [.int i3]) (mX3_lines Ω.2.2.2.2.1 Ω.1 e_5) q1195 q1196 q1197 q95 q1198 hd_X3_lines (by decide) rfl eo_4 (by decide) rfl rfl (Nat.le_of_ble_eq_true rfl) dX1_findsTaken_69 ?_
  refine fg_icmp_ge X (tgt := 108) dX1_findsTaken_72 (by decide) (fun hc => ?_) (fun hc => ?_)
  · rw [if_pos hc] at hF
    replace hF := fg_rt_some hF
    obtain ⟨tz19, hF, ht_6⟩ := hF
    subst ht_6
    replace h14 := fun z q => h14 z (congrArg Sum.inr q)
    replace h27 := fun z q => h27 z (congrArg Sum.inr q)
    replace hT := fun u q => hT u (congrArg Sum.inr q)
    refine fg_aload_n X (r := (some a0)) dX1_findsTaken_108 rfl 0 rfl ?_
    replace hF := fg_ob_some hF
    obtain ⟨rz20, e_7, hF⟩ := hF
    refine fg_getr X ff_X1_trial q459 e_7 dX1_findsTaken_109 ?_
    replace hF := fg_ob_some hF
    obtain ⟨az21, rfl, hF⟩ := hF
    replace hF := fg_ob_some hF
    obtain ⟨rz22, e_8, hF⟩ := hF
    refine fg_getr X ff_X5_took q365 e_8 dX1_findsTaken_112 ?_
    refine fg_iconst X (v := (0 : Int32)) dX1_findsTaken_115 (by decide) ?_
    refine fg_aload_n X (r := (some a0)) dX1_findsTaken_116 rfl 0 rfl ?_
    replace hF := fg_ob_some hF
    obtain ⟨rz23, e_9, hF⟩ := hF
    refine fg_getr X ff_X1_takenBy q462 e_9 dX1_findsTaken_117 ?_
    refine fg_bipush X (v := (12 : Int32)) dX1_findsTaken_120 (by decide) ?_
    refine fg_iconst X (v := (4 : Int32)) dX1_findsTaken_122 (by decide) ?_
    refine fg_iload_n X dX1_findsTaken_123 rfl 1 rfl ?_
    refine fg_imul X dX1_findsTaken_124 ?_
    refine fg_iload_n X dX1_findsTaken_125 rfl 2 rfl ?_
    refine fg_iadd X dX1_findsTaken_126 ?_
    refine fg_imul X dX1_findsTaken_127 ?_
    refine fg_aload_n X (r := (some a0)) dX1_findsTaken_128 rfl 0 rfl ?_
    replace hF := fg_ob_some hF
    obtain ⟨rz24, e_10, hF⟩ := hF
    refine fg_getr X ff_X1_trial q459 e_10 dX1_findsTaken_129 ?_
    replace hF := fg_ob_some hF
    obtain ⟨az25, rfl, hF⟩ := hF
    replace hF := fg_ob_some hF
    obtain ⟨xz26, e_11, hF⟩ := hF
    refine fg_geti X ff_X5_many q363 e_11 dX1_findsTaken_132 ?_
    replace hF := fg_ob_some hF
    obtain ⟨az27, rfl, hF⟩ := hF
    replace hF := fg_ob_some hF
    obtain ⟨az28, rfl, hF⟩ := hF
    replace hF := fg_ob_some hF
    obtain ⟨Gz29, e_12, hF⟩ := hF
    refine fg_copyi X q1289 q899 q898 q123 (by decide) e_12 (Nat.le_of_ble_eq_true rfl) dX1_findsTaken_135 ?_
    refine fg_iinc X (v := (i2 + (1 : Int32))) (L' := [(2, .int (i2 + (1 : Int32))), (0, .ref a0), (1, .int i1), (3, .int i3)]) dX1_findsTaken_138 2 rfl rfl (by decide) rfl ?_
    refine fg_goto X (tgt := 27) dX1_findsTaken_141 (by decide) ?_
    refine fg_sub [1, 2, 0] rfl ?_
    exact h27 _ (Option.some.inj hF).symm
  · rw [if_neg hc] at hF
    refine fg_aload_n X (r := (some a0)) dX1_findsTaken_75 rfl 0 rfl ?_
    replace hF := fg_ob_some hF
    obtain ⟨rz30, e_13, hF⟩ := hF
    refine fg_getr X ff_X1_trial q459 e_13 dX1_findsTaken_76 ?_
    refine fg_iload_n X dX1_findsTaken_79 rfl 2 rfl ?_
    refine fg_iload_n X dX1_findsTaken_80 rfl 3 rfl ?_
    refine fg_aload_n X (r := (some a0)) dX1_findsTaken_81 rfl 0 rfl ?_
    replace hF := fg_ob_some hF
    obtain ⟨rz31, e_14, hF⟩ := hF
    refine fg_getr X ff_X1_ridge q447 e_14 dX1_findsTaken_82 ?_
    refine fg_aload_n X (r := (some a0)) dX1_findsTaken_85 rfl 0 rfl ?_
    replace hF := fg_ob_some hF
    obtain ⟨xz32, e_15, hF⟩ := hF
    refine fg_geti X ff_X1_night q453 e_15 dX1_findsTaken_86 ?_
    refine fg_iconst X (v := (1 : Int32)) dX1_findsTaken_89 (by decide) ?_
    refine fg_isub X dX1_findsTaken_90 ?_
    refine fg_iload_n X dX1_findsTaken_91 rfl 1 rfl ?_
    refine fg_iload_n X dX1_findsTaken_92 rfl 3 rfl ?_
    refine fg_iload_n X dX1_findsTaken_93 rfl 2 rfl ?_
    replace hF := fg_ob_some hF
    obtain ⟨az33, rfl, hF⟩ := hF
    replace hF := fg_gd_some hF
    obtain ⟨eg_16, hF⟩ := hF
    obtain ⟨fs_17, eo_18⟩ := fg_rc_get eg_16
    replace hF := fg_oc_some hF
    obtain ⟨xz35, Gz34, e_19, hF⟩ := hF
    refine fg_callV X (st := [.int i3, .int i2, va_rf rz30]) (mX3_fog Ω.2.2.2.2.1 Ω.1 e_19) q1199 q1200 q1201 q95 q1202 hd_X3_fog (by decide) rfl eo_18 (by decide) rfl rfl (by cases rz30 <;> exact Nat.le_of_ble_eq_true rfl) dX1_findsTaken_94 ?_
    refine fg_iload_n X dX1_findsTaken_97 rfl 1 rfl ?_
    replace hF := fg_ob_some hF
    obtain ⟨az36, rfl, hF⟩ := hF
    replace hF := fg_gd_some hF
    obtain ⟨eg_20, hF⟩ := hF
    obtain ⟨fs_21, eo_22⟩ := fg_rc_get eg_20
    replace hF := fg_oc_some hF
    obtain ⟨xz38, Gz37, e_23, hF⟩ := hF
    refine fg_callV X (st := []) (mX5_blows Ω.2.2.2.2.1 Ω.1 e_23) q1210 q1211 q1212 q100 q1213 hd_X5_blows (by decide) rfl eo_22 (by decide) rfl rfl (Nat.le_of_ble_eq_true rfl) dX1_findsTaken_98 ?_
    refine fg_pop X dX1_findsTaken_101 rfl ?_
    refine fg_iinc X (v := (i3 + (1 : Int32))) (L' := [(3, .int (i3 + (1 : Int32))), (0, .ref a0), (1, .int i1), (2, .int i2)]) dX1_findsTaken_102 3 rfl rfl (by decide) rfl ?_
    refine fg_goto X (tgt := 63) dX1_findsTaken_105 (by decide) ?_
    refine fg_sub [1, 2, 3, 0] rfl ?_
    exact h63 _ (Option.some.inj hF).symm
set_option maxHeartbeats 4000000 in
seal fX1_findsTaken_63b in
theorem wX1_findsTaken_63 {Ω : fg_O} {a0 : Nat} {i1 : Int32} {i2 : Int32} {i3 : Int32} {G : fg_H} {t : ((Nat × Int32 × Int32 × fg_H) ⊕ ((Nat × Int32 × fg_H) ⊕ (Unit × fg_H)))} (X : fg_X Ω RX1 "findsTaken" cX1_findsTaken 4 none 122) (hF : fX1_findsTaken_63 a0 i1 i2 i3 G = some t) (h14 : ∀ z, t = (.inr (.inl z)) → fg_W Ω z.2.2 14 [(0, .ref z.1), (1, .int z.2.1)] []) (h27 : ∀ z, t = (.inl z) → fg_W Ω z.2.2.2 27 [(0, .ref z.1), (1, .int z.2.1), (2, .int z.2.2.1)] []) (hT : ∀ u, t = (.inr (.inr u)) → fg_T Ω (.returned none) u.2) : fg_W Ω G 63 [(0, .ref a0), (1, .int i1), (2, .int i2), (3, .int i3)] [] := by
  unfold fX1_findsTaken_63 at hF
  exact fg_lp_walk (P := fun z => fg_W Ω z.2.2.2.2 63 [(0, .ref z.1), (1, .int z.2.1), (2, .int z.2.2.1), (3, .int z.2.2.2.1)] []) (fun y o ho hl hr => wX1_findsTaken_63b X ho (fun z e => h14 z (hr _ e).symm) (fun z e => h27 z (hr _ e).symm) (fun z e => hl z e) (fun u e => hT u (hr _ e).symm)) hF
set_option maxHeartbeats 4000000 in
theorem wX1_findsTaken_34b {Ω : fg_O} {a0 : Nat} {i1 : Int32} {i2 : Int32} {i3 : Int32} {G : fg_H} {t : ((Nat × Int32 × Int32 × Int32 × fg_H) ⊕ ((Nat × Int32 × Int32 × fg_H) ⊕ ((Nat × Int32 × fg_H) ⊕ (Unit × fg_H))))} (X : fg_X Ω RX1 "findsTaken" cX1_findsTaken 4 none 122) (hF : fX1_findsTaken_34b a0 i1 i2 i3 G = some t) (h14 : ∀ z, t = (.inr (.inr (.inl z))) → fg_W Ω z.2.2 14 [(0, .ref z.1), (1, .int z.2.1)] []) (h27 : ∀ z, t = (.inr (.inl z)) → fg_W Ω z.2.2.2 27 [(0, .ref z.1), (1, .int z.2.1), (2, .int z.2.2.1)] []) (h34 : ∀ z, t = (.inl z) → fg_W Ω z.2.2.2.2 34 [(0, .ref z.1), (1, .int z.2.1), (2, .int z.2.2.1), (3, .int z.2.2.2.1)] []) (hT : ∀ u, t = (.inr (.inr (.inr u))) → fg_T Ω (.returned none) u.2) : fg_W Ω G 34 [(0, .ref a0), (1, .int i1), (2, .int i2), (3, .int i3)] [] := by
  unfold fX1_findsTaken_34b at hF
  refine fg_iload_n X dX1_findsTaken_34 rfl 3 rfl ?_
  refine fg_aload_n X (r := (some a0)) dX1_findsTaken_35 rfl 0 rfl ?_
  replace hF := fg_ob_some hF
  obtain ⟨rz11, e_1, hF⟩ := hF
  refine fg_getr X ff_X1_trial q459 e_1 dX1_findsTaken_36 ?_
  replace hF := fg_ob_some hF
  obtain ⟨az12, rfl, hF⟩ := hF
  replace hF := fg_ob_some hF
  obtain ⟨xz13, e_2, hF⟩ := hF
  refine fg_geti X ff_X5_many q363 e_2 dX1_findsTaken_39 ?_
  refine fg_icmp_ge X (tgt := 61) dX1_findsTaken_42 (by decide) (fun hc => ?_) (fun hc => ?_)
  · rw [if_pos hc] at hF
    replace hF := fg_rt_some hF
    obtain ⟨tz14, hF, ht_3⟩ := hF
    subst ht_3
    replace h14 := fun z q => h14 z (congrArg Sum.inr q)
    replace h27 := fun z q => h27 z (congrArg Sum.inr q)
    replace hT := fun u q => hT u (congrArg Sum.inr q)
    refine fg_iconst X (v := (0 : Int32)) dX1_findsTaken_61 (by decide) ?_
    refine fg_istore_n X (L' := [(3, .int (0 : Int32)), (0, .ref a0), (1, .int i1), (2, .int i2)]) dX1_findsTaken_62 rfl (by decide) rfl ?_
    refine fg_sub [1, 2, 3, 0] rfl ?_
    exact wX1_findsTaken_63 X hF h14 h27 hT
  · rw [if_neg hc] at hF
    refine fg_aload_n X (r := (some a0)) dX1_findsTaken_45 rfl 0 rfl ?_
    replace hF := fg_ob_some hF
    obtain ⟨rz39, e_4, hF⟩ := hF
    refine fg_getr X ff_X1_trial q459 e_4 dX1_findsTaken_46 ?_
    replace hF := fg_ob_some hF
    obtain ⟨az40, rfl, hF⟩ := hF
    replace hF := fg_ob_some hF
    obtain ⟨rz41, e_5, hF⟩ := hF
    refine fg_getr X ff_X5_took q365 e_5 dX1_findsTaken_49 ?_
    refine fg_iload_n X dX1_findsTaken_52 rfl 3 rfl ?_
    refine fg_iconst X (v := (0 : Int32)) dX1_findsTaken_53 (by decide) ?_
    replace hF := fg_ob_some hF
    obtain ⟨az42, rfl, hF⟩ := hF
    replace hF := fg_ob_some hF
    obtain ⟨Gz43, e_6, hF⟩ := hF
    refine fg_iast X e_6 dX1_findsTaken_54 ?_
    refine fg_iinc X (v := (i3 + (1 : Int32))) (L' := [(3, .int (i3 + (1 : Int32))), (0, .ref a0), (1, .int i1), (2, .int i2)]) dX1_findsTaken_55 3 rfl rfl (by decide) rfl ?_
    refine fg_goto X (tgt := 34) dX1_findsTaken_58 (by decide) ?_
    refine fg_sub [1, 2, 3, 0] rfl ?_
    exact h34 _ (Option.some.inj hF).symm
set_option maxHeartbeats 4000000 in
seal fX1_findsTaken_34b in
theorem wX1_findsTaken_34 {Ω : fg_O} {a0 : Nat} {i1 : Int32} {i2 : Int32} {i3 : Int32} {G : fg_H} {t : ((Nat × Int32 × Int32 × fg_H) ⊕ ((Nat × Int32 × fg_H) ⊕ (Unit × fg_H)))} (X : fg_X Ω RX1 "findsTaken" cX1_findsTaken 4 none 122) (hF : fX1_findsTaken_34 a0 i1 i2 i3 G = some t) (h14 : ∀ z, t = (.inr (.inl z)) → fg_W Ω z.2.2 14 [(0, .ref z.1), (1, .int z.2.1)] []) (h27 : ∀ z, t = (.inl z) → fg_W Ω z.2.2.2 27 [(0, .ref z.1), (1, .int z.2.1), (2, .int z.2.2.1)] []) (hT : ∀ u, t = (.inr (.inr u)) → fg_T Ω (.returned none) u.2) : fg_W Ω G 34 [(0, .ref a0), (1, .int i1), (2, .int i2), (3, .int i3)] [] := by
  unfold fX1_findsTaken_34 at hF
  exact fg_lp_walk (P := fun z => fg_W Ω z.2.2.2.2 34 [(0, .ref z.1), (1, .int z.2.1), (2, .int z.2.2.1), (3, .int z.2.2.2.1)] []) (fun y o ho hl hr => wX1_findsTaken_34b X ho (fun z e => h14 z (hr _ e).symm) (fun z e => h27 z (hr _ e).symm) (fun z e => hl z e) (fun u e => hT u (hr _ e).symm)) hF
set_option maxHeartbeats 4000000 in
theorem wX1_findsTaken_27b {Ω : fg_O} {a0 : Nat} {i1 : Int32} {i2 : Int32} {G : fg_H} {t : ((Nat × Int32 × Int32 × fg_H) ⊕ ((Nat × Int32 × fg_H) ⊕ (Unit × fg_H)))} (X : fg_X Ω RX1 "findsTaken" cX1_findsTaken 4 none 122) (hF : fX1_findsTaken_27b a0 i1 i2 G = some t) (h14 : ∀ z, t = (.inr (.inl z)) → fg_W Ω z.2.2 14 [(0, .ref z.1), (1, .int z.2.1)] []) (h27 : ∀ z, t = (.inl z) → fg_W Ω z.2.2.2 27 [(0, .ref z.1), (1, .int z.2.1), (2, .int z.2.2.1)] []) (hT : ∀ u, t = (.inr (.inr u)) → fg_T Ω (.returned none) u.2) : fg_W Ω G 27 [(0, .ref a0), (1, .int i1), (2, .int i2)] [] := by
  unfold fX1_findsTaken_27b at hF
  refine fg_iload_n X dX1_findsTaken_27 rfl 2 rfl ?_
  refine fg_iconst X (v := (4 : Int32)) dX1_findsTaken_28 (by decide) ?_
  refine fg_icmp_ge X (tgt := 144) dX1_findsTaken_29 (by decide) (fun hc => ?_) (fun hc => ?_)
  · rw [if_pos hc] at hF
    replace hF := fg_rt_some hF
    obtain ⟨tz10, hF, ht_1⟩ := hF
    subst ht_1
    replace h14 := fun z q => h14 z (congrArg Sum.inr q)
    replace hT := fun u q => hT u (congrArg Sum.inr q)
    refine fg_iinc X (v := (i1 + (1 : Int32))) (L' := [(1, .int (i1 + (1 : Int32))), (0, .ref a0), (2, .int i2)]) dX1_findsTaken_144 1 rfl rfl (by decide) rfl ?_
    refine fg_goto X (tgt := 14) dX1_findsTaken_147 (by decide) ?_
    refine fg_sub [1, 0] rfl ?_
    exact h14 _ (Option.some.inj hF).symm
  · rw [if_neg hc] at hF
    refine fg_iconst X (v := (0 : Int32)) dX1_findsTaken_32 (by decide) ?_
    refine fg_istore_n X (L' := [(3, .int (0 : Int32)), (0, .ref a0), (1, .int i1), (2, .int i2)]) dX1_findsTaken_33 rfl (by decide) rfl ?_
    refine fg_sub [1, 2, 3, 0] rfl ?_
    exact wX1_findsTaken_34 X hF h14 h27 hT
set_option maxHeartbeats 4000000 in
seal fX1_findsTaken_27b in
theorem wX1_findsTaken_27 {Ω : fg_O} {a0 : Nat} {i1 : Int32} {i2 : Int32} {G : fg_H} {t : ((Nat × Int32 × fg_H) ⊕ (Unit × fg_H))} (X : fg_X Ω RX1 "findsTaken" cX1_findsTaken 4 none 122) (hF : fX1_findsTaken_27 a0 i1 i2 G = some t) (h14 : ∀ z, t = (.inl z) → fg_W Ω z.2.2 14 [(0, .ref z.1), (1, .int z.2.1)] []) (hT : ∀ u, t = (.inr u) → fg_T Ω (.returned none) u.2) : fg_W Ω G 27 [(0, .ref a0), (1, .int i1), (2, .int i2)] [] := by
  unfold fX1_findsTaken_27 at hF
  exact fg_lp_walk (P := fun z => fg_W Ω z.2.2.2 27 [(0, .ref z.1), (1, .int z.2.1), (2, .int z.2.2.1)] []) (fun y o ho hl hr => wX1_findsTaken_27b X ho (fun z e => h14 z (hr _ e).symm) (fun z e => hl z e) (fun u e => hT u (hr _ e).symm)) hF
set_option maxHeartbeats 4000000 in
theorem wX1_findsTaken_14b {Ω : fg_O} {a0 : Nat} {i1 : Int32} {G : fg_H} {t : ((Nat × Int32 × fg_H) ⊕ (Unit × fg_H))} (X : fg_X Ω RX1 "findsTaken" cX1_findsTaken 4 none 122) (hF : fX1_findsTaken_14b a0 i1 G = some t) (h14 : ∀ z, t = (.inl z) → fg_W Ω z.2.2 14 [(0, .ref z.1), (1, .int z.2.1)] []) (hT : ∀ u, t = (.inr u) → fg_T Ω (.returned none) u.2) : fg_W Ω G 14 [(0, .ref a0), (1, .int i1)] [] := by
  unfold fX1_findsTaken_14b at hF
  refine fg_iload_n X dX1_findsTaken_14 rfl 1 rfl ?_
  refine fg_aload_n X (r := (some a0)) dX1_findsTaken_15 rfl 0 rfl ?_
  replace hF := fg_ob_some hF
  obtain ⟨rz6, e_1, hF⟩ := hF
  refine fg_getr X ff_X1_ridge q447 e_1 dX1_findsTaken_16 ?_
  replace hF := fg_ob_some hF
  obtain ⟨az7, rfl, hF⟩ := hF
  replace hF := fg_ob_some hF
  obtain ⟨xz8, e_2, hF⟩ := hF
  refine fg_geti X ff_X3_hours q288 e_2 dX1_findsTaken_19 ?_
  refine fg_icmp_ge X (tgt := 150) dX1_findsTaken_22 (by decide) (fun hc => ?_) (fun hc => ?_)
  · rw [if_pos hc] at hF
    replace hF := fg_rt_some hF
    obtain ⟨tz9, hF, ht_3⟩ := hF
    subst ht_3
    replace hT := hT _ rfl
    cases hF
    exact fg_vret X dX1_findsTaken_150 (hT)
  · rw [if_neg hc] at hF
    refine fg_iconst X (v := (0 : Int32)) dX1_findsTaken_25 (by decide) ?_
    refine fg_istore_n X (L' := [(2, .int (0 : Int32)), (0, .ref a0), (1, .int i1)]) dX1_findsTaken_26 rfl (by decide) rfl ?_
    refine fg_sub [1, 2, 0] rfl ?_
    exact wX1_findsTaken_27 X hF h14 hT
set_option maxHeartbeats 4000000 in
seal fX1_findsTaken_14b in
theorem wX1_findsTaken_14 {Ω : fg_O} {a0 : Nat} {i1 : Int32} {G : fg_H} {t : (Unit × fg_H)} (X : fg_X Ω RX1 "findsTaken" cX1_findsTaken 4 none 122) (hF : fX1_findsTaken_14 a0 i1 G = some t) (hT : fg_T Ω (.returned none) t.2) : fg_W Ω G 14 [(0, .ref a0), (1, .int i1)] [] := by
  unfold fX1_findsTaken_14 at hF
  exact fg_lp_walk (P := fun z => fg_W Ω z.2.2 14 [(0, .ref z.1), (1, .int z.2.1)] []) (fun y o ho hl hr => wX1_findsTaken_14b X ho (fun z e => hl z e) (fun u e => by rw [hr _ e]; exact hT)) hF
set_option maxHeartbeats 4000000 in
theorem wX1_findsTaken {Ω : fg_O} {a0 : Nat} {G : fg_H} {t : Unit × fg_H} (X : fg_X Ω RX1 "findsTaken" cX1_findsTaken 4 none 122) (hF : fX1_findsTaken a0 G = some t) (hT : fg_T Ω (.returned none) t.2) : fg_W Ω G 0 [(0, .ref a0)] [] := by
  unfold fX1_findsTaken at hF
  refine fg_aload_n X (r := (some a0)) dX1_findsTaken_0 rfl 0 rfl ?_
  replace hF := fg_ob_some hF
  obtain ⟨rz1, e_1, hF⟩ := hF
  refine fg_getr X ff_X1_trial q459 e_1 dX1_findsTaken_1 ?_
  refine fg_aload_n X (r := (some a0)) dX1_findsTaken_4 rfl 0 rfl ?_
  replace hF := fg_ob_some hF
  obtain ⟨rz2, e_2, hF⟩ := hF
  refine fg_getr X ff_X1_hung q449 e_2 dX1_findsTaken_5 ?_
  replace hF := fg_ob_some hF
  obtain ⟨az3, rfl, hF⟩ := hF
  replace hF := fg_gd_some hF
  obtain ⟨eg_3, hF⟩ := hF
  obtain ⟨fs_4, eo_5⟩ := fg_rc_get eg_3
  replace hF := fg_oc_some hF
  obtain ⟨rz5, Gz4, e_6, hF⟩ := hF
  refine fg_callV X (st := []) (mX5_copies Ω.2.2.2.2.1 Ω.1 e_6) q1205 q1206 q1207 q100 q1208 hd_X5_copies (by decide) rfl eo_5 (by decide) rfl rfl (Nat.le_of_ble_eq_true rfl) dX1_findsTaken_8 ?_
  refine fg_pop X dX1_findsTaken_11 (fg_cat _) ?_
  refine fg_iconst X (v := (0 : Int32)) dX1_findsTaken_12 (by decide) ?_
  refine fg_istore_n X (L' := [(1, .int (0 : Int32)), (0, .ref a0)]) dX1_findsTaken_13 rfl (by decide) rfl ?_
  refine fg_sub [1, 0] rfl ?_
  exact wX1_findsTaken_14 X hF hT
theorem mX1_findsTaken (l : Launch) (D : fg_D) {a0 : Nat} {G : fg_H} {t : Unit × fg_H} (hF : fX1_findsTaken a0 G = some t) : fg_M l D yX1_findsTaken cX1_findsTaken 4 none 122 [.ref a0] G (.returned none) t.2 :=
  fg_Mof (own := RX1) (nm := "findsTaken") (L := [(0, .ref a0)]) (plainFor_of_name pn_X1) rfl rfl rfl (Nat.le_of_ble_eq_true rfl) (fun Ω _ _ X hT => wX1_findsTaken X hF hT)

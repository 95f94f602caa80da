set_option maxRecDepth 100000
theorem hd_X8_hole : yX8_hole.cls ≠ "java/lang/invoke/MethodHandle" ∧ yX8_hole.cls ≠ "java/lang/invoke/VarHandle" ∧ (parseMethodDescriptor yX8_hole.desc).map (fun d => d.parameters.length) = some 1 := ⟨by decide +kernel, by decide +kernel, by decide +kernel⟩
set_option maxHeartbeats 4000000 in
theorem wX8_hole_14 {Ω : fg_O} {a0 : Nat} {i1 : Int32} {s0 : Nat} {s1 : Int32} {G : fg_H} {t : (Int32 × fg_H)} (X : fg_X Ω RX8 "hole" cX8_hole 3 (some .int) 7) (hF : fX8_hole_14 a0 i1 s0 s1 G = some t) (hT : fg_T Ω (.returned (some (.int t.1))) t.2) : fg_W Ω G 14 [(0, .ref a0), (1, .int i1)] [.int s1, .ref s0] := by
  unfold fX8_hole_14 at hF
  replace hF := fg_ob_some hF
  obtain ⟨G3, e_1, hF⟩ := hF
  refine fg_putv X (ty := .int) (v := .int s1) ff_X8_thrown q1548 rfl (Or.inl rfl) rfl rfl rfl e_1 dX8_hole_14 ?_
  refine fg_aload_n X (r := (some a0)) dX8_hole_17 rfl 0 rfl ?_
  replace hF := fg_ob_some hF
  obtain ⟨x4, e_2, hF⟩ := hF
  refine fg_geti X ff_X8_thrown q1548 e_2 dX8_hole_18 ?_
  refine fg_iconst X (v := (1 : Int32)) dX8_hole_21 (by decide) ?_
  refine fg_icmp_ne X (tgt := 27) dX8_hole_22 (by decide) (fun hc => ?_) (fun hc => ?_)
  · rw [if_neg hc] at hF
    refine fg_aload_n X (r := (some a0)) dX8_hole_27 rfl 0 rfl ?_
    refine fg_aload_n X (r := (some a0)) dX8_hole_28 rfl 0 rfl ?_
    replace hF := fg_gd_some hF
    obtain ⟨eg_3, hF⟩ := hF
    obtain ⟨fs_4, eo_5⟩ := fg_rc_get eg_3
    replace hF := fg_oc_some hF
    obtain ⟨x6, G5, e_6, hF⟩ := hF
    refine fg_callV X (st := [.ref a0]) (mX8_all Ω.2.2.2.2.1 Ω.1 e_6) q1885 q1887 qs75 q105 q1888 hd_X8_all (by decide) rfl eo_5 (by decide) rfl rfl (Nat.le_of_ble_eq_true rfl) dX8_hole_29 ?_
    replace hF := fg_gd_some hF
    obtain ⟨eg_7, hF⟩ := hF
    obtain ⟨fs_8, eo_9⟩ := fg_rc_get eg_7
    replace hF := fg_oc_some hF
    obtain ⟨u, G7, e_10, hF⟩ := hF
    refine fg_callV X (st := []) (mX8_goes Ω.2.2.2.2.1 Ω.1 e_10) q1909 q1911 qs80 q105 q1912 hd_X8_goes (by decide) rfl eo_9 (by decide) rfl rfl (Nat.le_of_ble_eq_true rfl) dX8_hole_32 ?_
    refine fg_aload_n X (r := (some a0)) dX8_hole_35 rfl 0 rfl ?_
    refine fg_iconst X (v := (-1 : Int32)) dX8_hole_36 (by decide) ?_
    refine fg_aload_n X (r := (some a0)) dX8_hole_37 rfl 0 rfl ?_
    replace hF := fg_ob_some hF
    obtain ⟨r8, e_11, hF⟩ := hF
    refine fg_getr X ff_X8_villageOf q1562 e_11 dX8_hole_38 ?_
    refine fg_iload_n X dX8_hole_41 rfl 1 rfl ?_
    replace hF := fg_ob_some hF
    obtain ⟨a9, rfl, hF⟩ := hF
    replace hF := fg_ob_some hF
    obtain ⟨x10, e_12, hF⟩ := hF
    refine fg_iald X e_12 dX8_hole_42 ?_
    replace hF := fg_gd_some hF
    obtain ⟨eg_13, hF⟩ := hF
    obtain ⟨fs_14, eo_15⟩ := fg_rc_get eg_13
    replace hF := fg_oc_some hF
    obtain ⟨x12, G11, e_16, hF⟩ := hF
    refine fg_callV X (st := []) (mX8_yielded Ω.2.2.2.2.1 Ω.1 e_16) q1925 q1927 qs84 q105 q1928 hd_X8_yielded (by decide) rfl eo_15 (by decide) rfl rfl (Nat.le_of_ble_eq_true rfl) dX8_hole_43 ?_
    refine fg_istore_n X (L' := [(2, .int x12), (0, .ref a0), (1, .int i1)]) dX8_hole_46 rfl (by decide) rfl ?_
    refine fg_aload_n X (r := (some a0)) dX8_hole_47 rfl 1 rfl ?_
    refine fg_aload_n X (r := (some a0)) dX8_hole_48 rfl 1 rfl ?_
    replace hF := fg_gd_some hF
    obtain ⟨eg_17, hF⟩ := hF
    obtain ⟨fs_18, eo_19⟩ := fg_rc_get eg_17
    replace hF := fg_oc_some hF
    obtain ⟨x14, G13, e_20, hF⟩ := hF
    refine fg_callV X (st := [.ref a0]) (mX8_all Ω.2.2.2.2.1 Ω.1 e_20) q1885 q1887 qs75 q105 q1888 hd_X8_all (by decide) rfl eo_19 (by decide) rfl rfl (Nat.le_of_ble_eq_true rfl) dX8_hole_49 ?_
    refine fg_iconst X (v := (1 : Int32)) dX8_hole_52 (by decide) ?_
    refine fg_iload_n X dX8_hole_53 rfl 2 rfl ?_
    refine fg_ishl X dX8_hole_54 ?_
    refine fg_iconst X (v := (-1 : Int32)) dX8_hole_55 (by decide) ?_
    refine fg_ixor X dX8_hole_56 ?_
    refine fg_iand X dX8_hole_57 ?_
    replace hF := fg_gd_some hF
    obtain ⟨eg_21, hF⟩ := hF
    obtain ⟨fs_22, eo_23⟩ := fg_rc_get eg_21
    replace hF := fg_oc_some hF
    obtain ⟨u, G15, e_24, hF⟩ := hF
    refine fg_callV X (st := []) (mX8_goes Ω.2.2.2.2.1 Ω.1 e_24) q1909 q1911 qs80 q105 q1912 hd_X8_goes (by decide) rfl eo_23 (by decide) rfl rfl (Nat.le_of_ble_eq_true rfl) dX8_hole_58 ?_
    refine fg_aload_n X (r := (some a0)) dX8_hole_61 rfl 1 rfl ?_
    refine fg_iconst X (v := (-1 : Int32)) dX8_hole_62 (by decide) ?_
    refine fg_aload_n X (r := (some a0)) dX8_hole_63 rfl 1 rfl ?_
    replace hF := fg_ob_some hF
    obtain ⟨r16, e_25, hF⟩ := hF
    refine fg_getr X ff_X8_villageOf q1562 e_25 dX8_hole_64 ?_
    refine fg_iload_n X dX8_hole_67 rfl 2 rfl ?_
    replace hF := fg_ob_some hF
    obtain ⟨a17, rfl, hF⟩ := hF
    replace hF := fg_ob_some hF
    obtain ⟨x18, e_26, hF⟩ := hF
    refine fg_iald X e_26 dX8_hole_68 ?_
    replace hF := fg_gd_some hF
    obtain ⟨eg_27, hF⟩ := hF
    obtain ⟨fs_28, eo_29⟩ := fg_rc_get eg_27
    replace hF := fg_oc_some hF
    obtain ⟨x20, G19, e_30, hF⟩ := hF
    refine fg_callV X (st := []) (mX8_yielded Ω.2.2.2.2.1 Ω.1 e_30) q1925 q1927 qs84 q105 q1928 hd_X8_yielded (by decide) rfl eo_29 (by decide) rfl rfl (Nat.le_of_ble_eq_true rfl) dX8_hole_69 ?_
    refine fg_iload_n X dX8_hole_72 rfl 0 rfl ?_
    refine fg_isub X dX8_hole_73 ?_
    cases hF
    exact fg_iret X dX8_hole_74 (hT)
  · rw [if_pos hc] at hF
    refine fg_iconst X (v := (0 : Int32)) dX8_hole_25 (by decide) ?_
    cases hF
    exact fg_iret X dX8_hole_26 (hT)
set_option maxHeartbeats 4000000 in
theorem wX8_hole {Ω : fg_O} {a0 : Nat} {i1 : Int32} {G : fg_H} {t : Int32 × fg_H} (X : fg_X Ω RX8 "hole" cX8_hole 3 (some .int) 7) (hF : fX8_hole a0 i1 G = some t) (hT : fg_T Ω (.returned (some (.int t.1))) t.2) : fg_W Ω G 0 [(0, .ref a0), (1, .int i1)] [] := by
  unfold fX8_hole at hF
  refine fg_aload_n X (r := (some a0)) dX8_hole_0 rfl 0 rfl ?_
  refine fg_aload_n X (r := (some a0)) dX8_hole_1 rfl 0 rfl ?_
  refine fg_iload_n X dX8_hole_2 rfl 1 rfl ?_
  replace hF := fg_gd_some hF
  obtain ⟨eg_1, hF⟩ := hF
  obtain ⟨fs_2, eo_3⟩ := fg_rc_get eg_1
  replace hF := fg_oc_some hF
  obtain ⟨x2, G1, e_4, hF⟩ := hF
  refine fg_callV X (st := [.ref a0]) (mX8_isNet Ω.2.2.2.2.1 Ω.1 e_4) q1828 q1830 qs64 q105 q1831 hd_X8_isNet (by decide) rfl eo_3 (by decide) rfl rfl (Nat.le_of_ble_eq_true rfl) dX8_hole_3 ?_
  refine fg_if_eq X (tgt := 13) dX8_hole_6 (by decide) (fun hc => ?_) (fun hc => ?_)
  · rw [if_pos hc] at hF
    refine fg_iconst X (v := (1 : Int32)) dX8_hole_13 (by decide) ?_
    refine fg_sub [0, 1] rfl ?_
    exact wX8_hole_14 X hF hT
  · rw [if_neg hc] at hF
    refine fg_iconst X (v := (0 : Int32)) dX8_hole_9 (by decide) ?_
    refine fg_goto X (tgt := 14) dX8_hole_10 (by decide) ?_
    refine fg_sub [0, 1] rfl ?_
    exact wX8_hole_14 X hF hT
theorem mX8_hole (l : Launch) (D : fg_D) {a0 : Nat} {i1 : Int32} {G : fg_H} {t : Int32 × fg_H} (hF : fX8_hole a0 i1 G = some t) : fg_M l D yX8_hole cX8_hole 3 (some .int) 7 [.ref a0, .int i1] G (.returned (some (.int t.1))) t.2 :=
  fg_Mof (own := RX8) (nm := "hole") (L := [(0, .ref a0), (1, .int i1)]) (plainFor_of_name pn_X8) rfl rfl rfl (Nat.le_of_ble_eq_true rfl) (fun Ω _ _ X hT => wX8_hole X hF hT)
theorem hd_X8_first : yX8_first.cls ≠ "java/lang/invoke/MethodHandle" ∧ yX8_first.cls ≠ "java/lang/invoke/VarHandle" ∧ (parseMethodDescriptor yX8_first.desc).map (fun d => d.parameters.length) = some 0 := ⟨by decide +kernel, by decide +kernel, by decide +kernel⟩
set_option maxHeartbeats 4000000 in
theorem wX8_first_97 {Ω : fg_O} {a0 : Nat} {i3 : Int32} {i4 : Int32} {G : fg_H} {t : ((Nat × Int32 × Int32 × Int32 × fg_H) ⊕ (Int32 × fg_H))} (X : fg_X Ω RX8 "first" cX8_first 5 (some .int) 7) (hF : fX8_first_97 a0 i3 i4 G = some t) (h11 : ∀ z, t = (.inl z) → fg_W Ω z.2.2.2.2 11 [(0, .ref z.1), (1, .int z.2.1), (2, .int z.2.2.1), (3, .int z.2.2.2.1)] []) (hT : ∀ u, t = (.inr u) → fg_T Ω (.returned (some (.int u.1))) u.2) : fg_W Ω G 97 [(0, .ref a0), (3, .int i3), (4, .int i4)] [] := by
  unfold fX8_first_97 at hF
  refine fg_iload_n X dX8_first_97 rfl 1 rfl ?_
  refine fg_istore_n X (L' := [(1, .int i3), (0, .ref a0), (3, .int i3), (4, .int i4)]) dX8_first_98 rfl (by decide) rfl ?_
  refine fg_iload X dX8_first_99 3 rfl ?_
  refine fg_istore_n X (L' := [(2, .int i4), (1, .int i3), (0, .ref a0), (3, .int i3), (4, .int i4)]) dX8_first_101 rfl (by decide) rfl ?_
  refine fg_iinc X (v := (i3 + (1 : Int32))) (L' := [(3, .int (i3 + (1 : Int32))), (2, .int i4), (1, .int i3), (0, .ref a0), (4, .int i4)]) dX8_first_102 3 rfl rfl (by decide) rfl ?_
  refine fg_goto X (tgt := 11) dX8_first_105 (by decide) ?_
  refine fg_sub [3, 2, 1, 0] rfl ?_
  exact h11 _ (Option.some.inj hF).symm
set_option maxHeartbeats 4000000 in
theorem wX8_first_11b {Ω : fg_O} {a0 : Nat} {i1 : Int32} {i2 : Int32} {i3 : Int32} {G : fg_H} {t : ((Nat × Int32 × Int32 × Int32 × fg_H) ⊕ (Int32 × fg_H))} (X : fg_X Ω RX8 "first" cX8_first 5 (some .int) 7) (hF : fX8_first_11b a0 i1 i2 i3 G = some t) (h11 : ∀ z, t = (.inl z) → fg_W Ω z.2.2.2.2 11 [(0, .ref z.1), (1, .int z.2.1), (2, .int z.2.2.1), (3, .int z.2.2.2.1)] []) (hT : ∀ u, t = (.inr u) → fg_T Ω (.returned (some (.int u.1))) u.2) : fg_W Ω G 11 [(0, .ref a0), (1, .int i1), (2, .int i2), (3, .int i3)] [] := by
  unfold fX8_first_11b at hF
  refine fg_iload_n X dX8_first_11 rfl 3 rfl ?_
  refine fg_aload_n X (r := (some a0)) dX8_first_12 rfl 0 rfl ?_
  replace hF := fg_ob_some hF
  obtain ⟨r2, e_1, hF⟩ := hF
  refine fg_getr X ff_X8_ridge q1558 e_1 dX8_first_13 ?_
  refine fg_bipush X (v := (6 : Int32)) dX8_first_16 (by decide) ?_
  replace hF := fg_ob_some hF
  obtain ⟨a3, rfl, hF⟩ := hF
  replace hF := fg_ob_some hF
  obtain ⟨x4, e_2, hF⟩ := hF
  refine fg_iald X e_2 dX8_first_18 ?_
  refine fg_icmp_ge X (tgt := 108) dX8_first_19 (by decide) (fun hc => ?_) (fun hc => ?_)
  · rw [if_pos hc] at hF
    replace hF := fg_rt_some hF
    obtain ⟨t5, hF, ht_3⟩ := hF
    subst ht_3
    replace hT := hT _ rfl
    refine fg_iload_n X dX8_first_108 rfl 1 rfl ?_
    cases hF
    exact fg_iret X dX8_first_109 (hT)
  · rw [if_neg hc] at hF
    refine fg_aload_n X (r := (some a0)) dX8_first_22 rfl 0 rfl ?_
    replace hF := fg_ob_some hF
    obtain ⟨r6, e_4, hF⟩ := hF
    refine fg_getr X ff_X8_kind q1565 e_4 dX8_first_23 ?_
    refine fg_iload_n X dX8_first_26 rfl 3 rfl ?_
    replace hF := fg_ob_some hF
    obtain ⟨a7, rfl, hF⟩ := hF
    replace hF := fg_ob_some hF
    obtain ⟨x8, e_5, hF⟩ := hF
    refine fg_iald X e_5 dX8_first_27 ?_
    refine fg_iconst X (v := (3 : Int32)) dX8_first_28 (by decide) ?_
    refine fg_icmp_ne X (tgt := 102) dX8_first_29 (by decide) (fun hc => ?_) (fun hc => ?_)
    · rw [if_neg hc] at hF
      refine fg_iinc X (v := (i3 + (1 : Int32))) (L' := [(3, .int (i3 + (1 : Int32))), (0, .ref a0), (1, .int i1), (2, .int i2)]) dX8_first_102 3 rfl rfl (by decide) rfl ?_
      refine fg_goto X (tgt := 11) dX8_first_105 (by decide) ?_
      refine fg_sub [1, 2, 3, 0] rfl ?_
      exact h11 _ (Option.some.inj hF).symm
    · rw [if_pos hc] at hF
      refine fg_aload_n X (r := (some a0)) dX8_first_32 rfl 0 rfl ?_
      replace hF := fg_ob_some hF
      obtain ⟨r9, e_6, hF⟩ := hF
      refine fg_getr X ff_X8_s q1585 e_6 dX8_first_33 ?_
      refine fg_bipush X (v := (25 : Int32)) dX8_first_36 (by decide) ?_
      refine fg_iload_n X dX8_first_38 rfl 3 rfl ?_
      refine fg_iadd X dX8_first_39 ?_
      replace hF := fg_ob_some hF
      obtain ⟨a10, rfl, hF⟩ := hF
      replace hF := fg_ob_some hF
      obtain ⟨x11, e_7, hF⟩ := hF
      refine fg_iald X e_7 dX8_first_40 ?_
      refine fg_iconst X (v := (1 : Int32)) dX8_first_41 (by decide) ?_
      refine fg_icmp_ne X (tgt := 48) dX8_first_42 (by decide) (fun hc => ?_) (fun hc => ?_)
      · rw [if_neg hc] at hF
        refine fg_aload_n X (r := (some a0)) dX8_first_48 rfl 0 rfl ?_
        replace hF := fg_ob_some hF
        obtain ⟨r12, e_8, hF⟩ := hF
        refine fg_getr X ff_X8_s q1585 e_8 dX8_first_49 ?_
        refine fg_bipush X (v := (25 : Int32)) dX8_first_52 (by decide) ?_
        refine fg_iload_n X dX8_first_54 rfl 3 rfl ?_
        refine fg_iadd X dX8_first_55 ?_
        refine fg_iconst X (v := (1 : Int32)) dX8_first_56 (by decide) ?_
        replace hF := fg_ob_some hF
        obtain ⟨a13, rfl, hF⟩ := hF
        replace hF := fg_ob_some hF
        obtain ⟨G14, e_9, hF⟩ := hF
        refine fg_iast X e_9 dX8_first_57 ?_
        refine fg_aload_n X (r := (some a0)) dX8_first_58 rfl 0 rfl ?_
        refine fg_aload_n X (r := (some a0)) dX8_first_59 rfl 0 rfl ?_
        replace hF := fg_gd_some hF
        obtain ⟨eg_10, hF⟩ := hF
        obtain ⟨fs_11, eo_12⟩ := fg_rc_get eg_10
        replace hF := fg_oc_some hF
        obtain ⟨x16, G15, e_13, hF⟩ := hF
        refine fg_callV X (st := [.ref a0]) (mX8_all Ω.2.2.2.2.1 Ω.1 e_13) q1885 q1887 qs75 q105 q1888 hd_X8_all (by decide) rfl eo_12 (by decide) rfl rfl (Nat.le_of_ble_eq_true rfl) dX8_first_60 ?_
        replace hF := fg_gd_some hF
        obtain ⟨eg_14, hF⟩ := hF
        obtain ⟨fs_15, eo_16⟩ := fg_rc_get eg_14
        replace hF := fg_oc_some hF
        obtain ⟨u, G17, e_17, hF⟩ := hF
        refine fg_callV X (st := []) (mX8_goes Ω.2.2.2.2.1 Ω.1 e_17) q1909 q1911 qs80 q105 q1912 hd_X8_goes (by decide) rfl eo_16 (by decide) rfl rfl (Nat.le_of_ble_eq_true rfl) dX8_first_63 ?_
        refine fg_aload_n X (r := (some a0)) dX8_first_66 rfl 0 rfl ?_
        replace hF := fg_ob_some hF
        obtain ⟨r18, e_18, hF⟩ := hF
        refine fg_getr X ff_X8_s q1585 e_18 dX8_first_67 ?_
        refine fg_bipush X (v := (25 : Int32)) dX8_first_70 (by decide) ?_
        refine fg_iload_n X dX8_first_72 rfl 3 rfl ?_
        refine fg_iadd X dX8_first_73 ?_
        refine fg_iconst X (v := (0 : Int32)) dX8_first_74 (by decide) ?_
        replace hF := fg_ob_some hF
        obtain ⟨a19, rfl, hF⟩ := hF
        replace hF := fg_ob_some hF
        obtain ⟨G20, e_19, hF⟩ := hF
        refine fg_iast X e_19 dX8_first_75 ?_
        refine fg_aload_n X (r := (some a0)) dX8_first_76 rfl 0 rfl ?_
        refine fg_iconst X (v := (-1 : Int32)) dX8_first_77 (by decide) ?_
        refine fg_iconst X (v := (-1 : Int32)) dX8_first_78 (by decide) ?_
        replace hF := fg_gd_some hF
        obtain ⟨eg_20, hF⟩ := hF
        obtain ⟨fs_21, eo_22⟩ := fg_rc_get eg_20
        replace hF := fg_oc_some hF
        obtain ⟨x22, G21, e_23, hF⟩ := hF
        refine fg_callV X (st := []) (mX8_yielded Ω.2.2.2.2.1 Ω.1 e_23) q1925 q1927 qs84 q105 q1928 hd_X8_yielded (by decide) rfl eo_22 (by decide) rfl rfl (Nat.le_of_ble_eq_true rfl) dX8_first_79 ?_
        refine fg_istore X (L' := [(4, .int x22), (0, .ref a0), (1, .int i1), (2, .int i2), (3, .int i3)]) dX8_first_82 (by decide) rfl ?_
        refine fg_iload_n X dX8_first_84 rfl 2 rfl ?_
        refine fg_if_lt X (tgt := 97) dX8_first_85 (by decide) (fun hc => ?_) (fun hc => ?_)
        · rw [if_pos hc] at hF
          refine fg_sub [1, 4, 0] rfl ?_
          exact wX8_first_97 X hF h11 hT
        · rw [if_neg hc] at hF
          refine fg_iload X dX8_first_88 0 rfl ?_
          refine fg_iload_n X dX8_first_90 rfl 3 rfl ?_
          refine fg_icmp_gt X (tgt := 97) dX8_first_91 (by decide) (fun hc => ?_) (fun hc => ?_)
          · rw [if_pos hc] at hF
            refine fg_sub [1, 4, 0] rfl ?_
            exact wX8_first_97 X hF h11 hT
          · rw [if_neg hc] at hF
            refine fg_goto X (tgt := 102) dX8_first_94 (by decide) ?_
            refine fg_iinc X (v := (i3 + (1 : Int32))) (L' := [(3, .int (i3 + (1 : Int32))), (4, .int x22), (0, .ref a0), (1, .int i1), (2, .int i2)]) dX8_first_102 4 rfl rfl (by decide) rfl ?_
            refine fg_goto X (tgt := 11) dX8_first_105 (by decide) ?_
            refine fg_sub [2, 3, 4, 0] rfl ?_
            exact h11 _ (Option.some.inj hF).symm
      · rw [if_pos hc] at hF
        refine fg_goto X (tgt := 102) dX8_first_45 (by decide) ?_
        refine fg_iinc X (v := (i3 + (1 : Int32))) (L' := [(3, .int (i3 + (1 : Int32))), (0, .ref a0), (1, .int i1), (2, .int i2)]) dX8_first_102 3 rfl rfl (by decide) rfl ?_
        refine fg_goto X (tgt := 11) dX8_first_105 (by decide) ?_
        refine fg_sub [1, 2, 3, 0] rfl ?_
        exact h11 _ (Option.some.inj hF).symm
set_option maxHeartbeats 4000000 in
seal fX8_first_11b in
theorem wX8_first_11 {Ω : fg_O} {a0 : Nat} {i1 : Int32} {i2 : Int32} {i3 : Int32} {G : fg_H} {t : (Int32 × fg_H)} (X : fg_X Ω RX8 "first" cX8_first 5 (some .int) 7) (hF : fX8_first_11 a0 i1 i2 i3 G = some t) (hT : fg_T Ω (.returned (some (.int t.1))) t.2) : fg_W Ω G 11 [(0, .ref a0), (1, .int i1), (2, .int i2), (3, .int i3)] [] := by
  unfold fX8_first_11 at hF
  exact fg_lp_walk (P := fun z => fg_W Ω z.2.2.2.2 11 [(0, .ref z.1), (1, .int z.2.1), (2, .int z.2.2.1), (3, .int z.2.2.2.1)] []) (fun y o ho hl hr => wX8_first_11b X ho (fun z e => hl z e) (fun u e => by rw [hr _ e]; exact hT)) hF
set_option maxHeartbeats 4000000 in
theorem wX8_first {Ω : fg_O} {a0 : Nat} {G : fg_H} {t : Int32 × fg_H} (X : fg_X Ω RX8 "first" cX8_first 5 (some .int) 7) (hF : fX8_first a0 G = some t) (hT : fg_T Ω (.returned (some (.int t.1))) t.2) : fg_W Ω G 0 [(0, .ref a0)] [] := by
  unfold fX8_first at hF
  refine fg_aload_n X (r := (some a0)) dX8_first_0 rfl 0 rfl ?_
  refine fg_iconst X (v := (0 : Int32)) dX8_first_1 (by decide) ?_
  replace hF := fg_ob_some hF
  obtain ⟨G1, e_1, hF⟩ := hF
  refine fg_putv X (ty := .int) (v := .int (0 : Int32)) ff_X8_thrown q1548 rfl (Or.inl rfl) rfl rfl rfl e_1 dX8_first_2 ?_
  refine fg_iconst X (v := (-1 : Int32)) dX8_first_5 (by decide) ?_
  refine fg_istore_n X (L' := [(1, .int (-1 : Int32)), (0, .ref a0)]) dX8_first_6 rfl (by decide) rfl ?_
  refine fg_iconst X (v := (0 : Int32)) dX8_first_7 (by decide) ?_
  refine fg_istore_n X (L' := [(2, .int (0 : Int32)), (1, .int (-1 : Int32)), (0, .ref a0)]) dX8_first_8 rfl (by decide) rfl ?_
  refine fg_iconst X (v := (0 : Int32)) dX8_first_9 (by decide) ?_
  refine fg_istore_n X (L' := [(3, .int (0 : Int32)), (2, .int (0 : Int32)), (1, .int (-1 : Int32)), (0, .ref a0)]) dX8_first_10 rfl (by decide) rfl ?_
  refine fg_sub [3, 2, 1, 0] rfl ?_
  exact wX8_first_11 X hF hT
theorem mX8_first (l : Launch) (D : fg_D) {a0 : Nat} {G : fg_H} {t : Int32 × fg_H} (hF : fX8_first a0 G = some t) : fg_M l D yX8_first cX8_first 5 (some .int) 7 [.ref a0] G (.returned (some (.int t.1))) t.2 :=
  fg_Mof (own := RX8) (nm := "first") (L := [(0, .ref a0)]) (plainFor_of_name pn_X8) rfl rfl rfl (Nat.le_of_ble_eq_true rfl) (fun Ω _ _ X hT => wX8_first X hF hT)
theorem hd_X8_bits : yX8_bits.cls ≠ "java/lang/invoke/MethodHandle" ∧ yX8_bits.cls ≠ "java/lang/invoke/VarHandle" ∧ (parseMethodDescriptor yX8_bits.desc).map (fun d => d.parameters.length) = some 1 := ⟨by decide +kernel, by decide +kernel, by decide +kernel⟩
set_option maxHeartbeats 4000000 in
theorem wX8_bits_4b {Ω : fg_O} {i0 : Int32} {i1 : Int32} {i2 : Int32} {G : fg_H} {t : ((Int32 × Int32 × Int32 × fg_H) ⊕ (Int32 × fg_H))} (X : fg_X Ω RX8 "bits" cX8_bits 3 (some .int) 0) (hF : fX8_bits_4b i0 i1 i2 G = some t) (h4 : ∀ z, t = (.inl z) → fg_W Ω z.2.2.2 4 [(0, .int z.1), (1, .int z.2.1), (2, .int z.2.2.1)] []) (hT : ∀ u, t = (.inr u) → fg_T Ω (.returned (some (.int u.1))) u.2) : fg_W Ω G 4 [(0, .int i0), (1, .int i1), (2, .int i2)] [] := by
  unfold fX8_bits_4b at hF
  refine fg_iload_n X dX8_bits_4 rfl 2 rfl ?_
  refine fg_bipush X (v := (6 : Int32)) dX8_bits_5 (by decide) ?_
  refine fg_icmp_ge X (tgt := 24) dX8_bits_7 (by decide) (fun hc => ?_) (fun hc => ?_)
  · rw [if_pos hc] at hF
    replace hF := fg_rt_some hF
    obtain ⟨t1, hF, ht_1⟩ := hF
    subst ht_1
    replace hT := hT _ rfl
    refine fg_iload_n X dX8_bits_24 rfl 1 rfl ?_
    cases hF
    exact fg_iret X dX8_bits_25 (hT)
  · rw [if_neg hc] at hF
    refine fg_iload_n X dX8_bits_10 rfl 1 rfl ?_
    refine fg_iload_n X dX8_bits_11 rfl 0 rfl ?_
    refine fg_iload_n X dX8_bits_12 rfl 2 rfl ?_
    refine fg_ishr X dX8_bits_13 ?_
    refine fg_iconst X (v := (1 : Int32)) dX8_bits_14 (by decide) ?_
    refine fg_iand X dX8_bits_15 ?_
    refine fg_iadd X dX8_bits_16 ?_
    replace hF := fg_ob_some hF
    obtain ⟨v2, ex_2, hF⟩ := hF
    refine fg_topi (Option.some.inj ex_2) ?_
    refine fg_istore_n X (L' := [(1, .int v2), (0, .int i0), (2, .int i2)]) dX8_bits_17 rfl (by decide) rfl ?_
    refine fg_iinc X (v := (i2 + (1 : Int32))) (L' := [(2, .int (i2 + (1 : Int32))), (1, .int v2), (0, .int i0)]) dX8_bits_18 2 rfl rfl (by decide) rfl ?_
    refine fg_goto X (tgt := 4) dX8_bits_21 (by decide) ?_
    refine fg_sub [2, 1, 0] rfl ?_
    exact h4 _ (Option.some.inj hF).symm
set_option maxHeartbeats 4000000 in
seal fX8_bits_4b in
theorem wX8_bits_4 {Ω : fg_O} {i0 : Int32} {i1 : Int32} {i2 : Int32} {G : fg_H} {t : (Int32 × fg_H)} (X : fg_X Ω RX8 "bits" cX8_bits 3 (some .int) 0) (hF : fX8_bits_4 i0 i1 i2 G = some t) (hT : fg_T Ω (.returned (some (.int t.1))) t.2) : fg_W Ω G 4 [(0, .int i0), (1, .int i1), (2, .int i2)] [] := by
  unfold fX8_bits_4 at hF
  exact fg_lp_walk (P := fun z => fg_W Ω z.2.2.2 4 [(0, .int z.1), (1, .int z.2.1), (2, .int z.2.2.1)] []) (fun y o ho hl hr => wX8_bits_4b X ho (fun z e => hl z e) (fun u e => by rw [hr _ e]; exact hT)) hF
set_option maxHeartbeats 4000000 in
theorem wX8_bits {Ω : fg_O} {i0 : Int32} {G : fg_H} {t : Int32 × fg_H} (X : fg_X Ω RX8 "bits" cX8_bits 3 (some .int) 0) (hF : fX8_bits i0 G = some t) (hT : fg_T Ω (.returned (some (.int t.1))) t.2) : fg_W Ω G 0 [(0, .int i0)] [] := by
  unfold fX8_bits at hF
  refine fg_iconst X (v := (0 : Int32)) dX8_bits_0 (by decide) ?_
  refine fg_istore_n X (L' := [(1, .int (0 : Int32)), (0, .int i0)]) dX8_bits_1 rfl (by decide) rfl ?_
  refine fg_iconst X (v := (0 : Int32)) dX8_bits_2 (by decide) ?_
  refine fg_istore_n X (L' := [(2, .int (0 : Int32)), (1, .int (0 : Int32)), (0, .int i0)]) dX8_bits_3 rfl (by decide) rfl ?_
  refine fg_sub [2, 1, 0] rfl ?_
  exact wX8_bits_4 X hF hT
theorem mX8_bits (l : Launch) (D : fg_D) {i0 : Int32} {G : fg_H} {t : Int32 × fg_H} (hF : fX8_bits i0 G = some t) : fg_M l D yX8_bits cX8_bits 3 (some .int) 0 [.int i0] G (.returned (some (.int t.1))) t.2 :=
  fg_Mof (own := RX8) (nm := "bits") (L := [(0, .int i0)]) (plainFor_of_name pn_X8) rfl rfl rfl (Nat.le_of_ble_eq_true rfl) (fun Ω _ _ X hT => wX8_bits X hF hT)
theorem hd_X8_gcd : yX8_gcd.cls ≠ "java/lang/invoke/MethodHandle" ∧ yX8_gcd.cls ≠ "java/lang/invoke/VarHandle" ∧ (parseMethodDescriptor yX8_gcd.desc).map (fun d => d.parameters.length) = some 2 := ⟨by decide +kernel, by decide +kernel, by decide +kernel⟩
set_option maxHeartbeats 4000000 in
theorem wX8_gcd_13b {Ω : fg_O} {i2 : Int32} {i3 : Int32} {G : fg_H} {t : ((Int32 × Int32 × fg_H) ⊕ (Int32 × fg_H))} (X : fg_X Ω RX8 "gcd" cX8_gcd 5 (some .int) 0) (hF : fX8_gcd_13b i2 i3 G = some t) (h13 : ∀ z, t = (.inl z) → fg_W Ω z.2.2 13 [(2, .int z.1), (3, .int z.2.1)] []) (hT : ∀ u, t = (.inr u) → fg_T Ω (.returned (some (.int u.1))) u.2) : fg_W Ω G 13 [(2, .int i2), (3, .int i3)] [] := by
  unfold fX8_gcd_13b at hF
  refine fg_iload_n X dX8_gcd_13 rfl 1 rfl ?_
  refine fg_if_eq X (tgt := 30) dX8_gcd_14 (by decide) (fun hc => ?_) (fun hc => ?_)
  · rw [if_pos hc] at hF
    replace hF := fg_rt_some hF
    obtain ⟨t1, hF, ht_1⟩ := hF
    subst ht_1
    replace hT := hT _ rfl
    refine fg_iload_n X dX8_gcd_30 rfl 0 rfl ?_
    cases hF
    exact fg_iret X dX8_gcd_31 (hT)
  · rw [if_neg hc] at hF
    refine fg_iload_n X dX8_gcd_17 rfl 0 rfl ?_
    refine fg_iload_n X dX8_gcd_18 rfl 1 rfl ?_
    replace hF := fg_gd_some hF
    obtain ⟨eg_2, hF⟩ := hF
    refine fg_irem X dX8_gcd_19 (fg_ne0 eg_2) ?_
    replace hF := fg_ob_some hF
    obtain ⟨v2, ex_3, hF⟩ := hF
    refine fg_topi (Option.some.inj ex_3) ?_
    refine fg_istore X (L' := [(4, .int v2), (2, .int i2), (3, .int i3)]) dX8_gcd_20 (by decide) rfl ?_
    refine fg_iload_n X dX8_gcd_22 rfl 2 rfl ?_
    refine fg_istore_n X (L' := [(2, .int i3), (4, .int v2), (3, .int i3)]) dX8_gcd_23 rfl (by decide) rfl ?_
    refine fg_iload X dX8_gcd_24 1 rfl ?_
    refine fg_istore_n X (L' := [(3, .int v2), (2, .int i3), (4, .int v2)]) dX8_gcd_26 rfl (by decide) rfl ?_
    refine fg_goto X (tgt := 13) dX8_gcd_27 (by decide) ?_
    refine fg_sub [1, 0] rfl ?_
    exact h13 _ (Option.some.inj hF).symm
set_option maxHeartbeats 4000000 in
seal fX8_gcd_13b in
theorem wX8_gcd_13 {Ω : fg_O} {i2 : Int32} {i3 : Int32} {G : fg_H} {t : (Int32 × fg_H)} (X : fg_X Ω RX8 "gcd" cX8_gcd 5 (some .int) 0) (hF : fX8_gcd_13 i2 i3 G = some t) (hT : fg_T Ω (.returned (some (.int t.1))) t.2) : fg_W Ω G 13 [(2, .int i2), (3, .int i3)] [] := by
  unfold fX8_gcd_13 at hF
  exact fg_lp_walk (P := fun z => fg_W Ω z.2.2 13 [(2, .int z.1), (3, .int z.2.1)] []) (fun y o ho hl hr => wX8_gcd_13b X ho (fun z e => hl z e) (fun u e => by rw [hr _ e]; exact hT)) hF
set_option maxHeartbeats 4000000 in
theorem wX8_gcd {Ω : fg_O} {i0 : Int32} {i1 : Int32} {G : fg_H} {t : Int32 × fg_H} (X : fg_X Ω RX8 "gcd" cX8_gcd 5 (some .int) 0) (hF : fX8_gcd i0 i1 G = some t) (hT : fg_T Ω (.returned (some (.int t.1))) t.2) : fg_W Ω G 0 [(0, .int i0), (1, .int i1)] [] := by
  unfold fX8_gcd at hF
  refine fg_iload_n X dX8_gcd_0 rfl 0 rfl ?_
  refine fg_if_ge X (tgt := 9) dX8_gcd_1 (by decide) (fun hc => ?_) (fun hc => ?_)
  · rw [if_pos hc] at hF
    refine fg_iload_n X dX8_gcd_9 rfl 0 rfl ?_
    refine fg_istore_n X (L' := [(2, .int i0), (0, .int i0), (1, .int i1)]) dX8_gcd_10 rfl (by decide) rfl ?_
    refine fg_iload_n X dX8_gcd_11 rfl 2 rfl ?_
    refine fg_istore_n X (L' := [(3, .int i1), (2, .int i0), (0, .int i0), (1, .int i1)]) dX8_gcd_12 rfl (by decide) rfl ?_
    refine fg_sub [1, 0] rfl ?_
    exact wX8_gcd_13 X hF hT
  · rw [if_neg hc] at hF
    refine fg_iload_n X dX8_gcd_4 rfl 0 rfl ?_
    refine fg_ineg X dX8_gcd_5 ?_
    refine fg_goto X (tgt := 10) dX8_gcd_6 (by decide) ?_
    replace hF := fg_ob_some hF
    obtain ⟨v3, ex_1, hF⟩ := hF
    refine fg_topi (Option.some.inj ex_1) ?_
    refine fg_istore_n X (L' := [(2, .int v3), (0, .int i0), (1, .int i1)]) dX8_gcd_10 rfl (by decide) rfl ?_
    refine fg_iload_n X dX8_gcd_11 rfl 2 rfl ?_
    refine fg_istore_n X (L' := [(3, .int i1), (2, .int v3), (0, .int i0), (1, .int i1)]) dX8_gcd_12 rfl (by decide) rfl ?_
    refine fg_sub [1, 0] rfl ?_
    exact wX8_gcd_13 X hF hT
theorem mX8_gcd (l : Launch) (D : fg_D) {i0 : Int32} {i1 : Int32} {G : fg_H} {t : Int32 × fg_H} (hF : fX8_gcd i0 i1 G = some t) : fg_M l D yX8_gcd cX8_gcd 5 (some .int) 0 [.int i0, .int i1] G (.returned (some (.int t.1))) t.2 :=
  fg_Mof (own := RX8) (nm := "gcd") (L := [(0, .int i0), (1, .int i1)]) (plainFor_of_name pn_X8) rfl rfl rfl (Nat.le_of_ble_eq_true rfl) (fun Ω _ _ X hT => wX8_gcd X hF hT)
theorem hd_X8_orders : yX8_orders.cls ≠ "java/lang/invoke/MethodHandle" ∧ yX8_orders.cls ≠ "java/lang/invoke/VarHandle" ∧ (parseMethodDescriptor yX8_orders.desc).map (fun d => d.parameters.length) = some 1 := ⟨by decide +kernel, by decide +kernel, by decide +kernel⟩
set_option maxHeartbeats 4000000 in
theorem wX8_orders_4b {Ω : fg_O} {i0 : Int32} {i1 : Int32} {i2 : Int32} {G : fg_H} {t : ((Int32 × Int32 × Int32 × fg_H) ⊕ (Int32 × fg_H))} (X : fg_X Ω RX8 "orders" cX8_orders 3 (some .int) 0) (hF : fX8_orders_4b i0 i1 i2 G = some t) (h4 : ∀ z, t = (.inl z) → fg_W Ω z.2.2.2 4 [(0, .int z.1), (1, .int z.2.1), (2, .int z.2.2.1)] []) (hT : ∀ u, t = (.inr u) → fg_T Ω (.returned (some (.int u.1))) u.2) : fg_W Ω G 4 [(0, .int i0), (1, .int i1), (2, .int i2)] [] := by
  unfold fX8_orders_4b at hF
  refine fg_iload_n X dX8_orders_4 rfl 2 rfl ?_
  refine fg_iload_n X dX8_orders_5 rfl 0 rfl ?_
  refine fg_icmp_gt X (tgt := 19) dX8_orders_6 (by decide) (fun hc => ?_) (fun hc => ?_)
  · rw [if_pos hc] at hF
    replace hF := fg_rt_some hF
    obtain ⟨t1, hF, ht_1⟩ := hF
    subst ht_1
    replace hT := hT _ rfl
    refine fg_iload_n X dX8_orders_19 rfl 1 rfl ?_
    cases hF
    exact fg_iret X dX8_orders_20 (hT)
  · rw [if_neg hc] at hF
    refine fg_iload_n X dX8_orders_9 rfl 1 rfl ?_
    refine fg_iload_n X dX8_orders_10 rfl 2 rfl ?_
    refine fg_imul X dX8_orders_11 ?_
    replace hF := fg_ob_some hF
    obtain ⟨v2, ex_2, hF⟩ := hF
    refine fg_topi (Option.some.inj ex_2) ?_
    refine fg_istore_n X (L' := [(1, .int v2), (0, .int i0), (2, .int i2)]) dX8_orders_12 rfl (by decide) rfl ?_
    refine fg_iinc X (v := (i2 + (1 : Int32))) (L' := [(2, .int (i2 + (1 : Int32))), (1, .int v2), (0, .int i0)]) dX8_orders_13 2 rfl rfl (by decide) rfl ?_
    refine fg_goto X (tgt := 4) dX8_orders_16 (by decide) ?_
    refine fg_sub [2, 1, 0] rfl ?_
    exact h4 _ (Option.some.inj hF).symm
set_option maxHeartbeats 4000000 in
seal fX8_orders_4b in
theorem wX8_orders_4 {Ω : fg_O} {i0 : Int32} {i1 : Int32} {i2 : Int32} {G : fg_H} {t : (Int32 × fg_H)} (X : fg_X Ω RX8 "orders" cX8_orders 3 (some .int) 0) (hF : fX8_orders_4 i0 i1 i2 G = some t) (hT : fg_T Ω (.returned (some (.int t.1))) t.2) : fg_W Ω G 4 [(0, .int i0), (1, .int i1), (2, .int i2)] [] := by
  unfold fX8_orders_4 at hF
  exact fg_lp_walk (P := fun z => fg_W Ω z.2.2.2 4 [(0, .int z.1), (1, .int z.2.1), (2, .int z.2.2.1)] []) (fun y o ho hl hr => wX8_orders_4b X ho (fun z e => hl z e) (fun u e => by rw [hr _ e]; exact hT)) hF
set_option maxHeartbeats 4000000 in
theorem wX8_orders {Ω : fg_O} {i0 : Int32} {G : fg_H} {t : Int32 × fg_H} (X : fg_X Ω RX8 "orders" cX8_orders 3 (some .int) 0) (hF : fX8_orders i0 G = some t) (hT : fg_T Ω (.returned (some (.int t.1))) t.2) : fg_W Ω G 0 [(0, .int i0)] [] := by
  unfold fX8_orders at hF
  refine fg_iconst X (v := (1 : Int32)) dX8_orders_0 (by decide) ?_
  refine fg_istore_n X (L' := [(1, .int (1 : Int32)), (0, .int i0)]) dX8_orders_1 rfl (by decide) rfl ?_
  refine fg_iconst X (v := (2 : Int32)) dX8_orders_2 (by decide) ?_
  refine fg_istore_n X (L' := [(2, .int (2 : Int32)), (1, .int (1 : Int32)), (0, .int i0)]) dX8_orders_3 rfl (by decide) rfl ?_
  refine fg_sub [2, 1, 0] rfl ?_
  exact wX8_orders_4 X hF hT
theorem mX8_orders (l : Launch) (D : fg_D) {i0 : Int32} {G : fg_H} {t : Int32 × fg_H} (hF : fX8_orders i0 G = some t) : fg_M l D yX8_orders cX8_orders 3 (some .int) 0 [.int i0] G (.returned (some (.int t.1))) t.2 :=
  fg_Mof (own := RX8) (nm := "orders") (L := [(0, .int i0)]) (plainFor_of_name pn_X8) rfl rfl rfl (Nat.le_of_ble_eq_true rfl) (fun Ω _ _ X hT => wX8_orders X hF hT)
theorem hd_X8_share : yX8_share.cls ≠ "java/lang/invoke/MethodHandle" ∧ yX8_share.cls ≠ "java/lang/invoke/VarHandle" ∧ (parseMethodDescriptor yX8_share.desc).map (fun d => d.parameters.length) = some 2 := ⟨by decide +kernel, by decide +kernel, by decide +kernel⟩
set_option maxHeartbeats 4000000 in
theorem wX8_share_207 {Ω : fg_O} {i4 : Int32} {i5 : Int32} {s0 : Int32} {G : fg_H} {t : (Int32 × fg_H)} (X : fg_X Ω RX8 "share" cX8_share 7 (some .int) 7) (hF : fX8_share_207 i4 i5 s0 G = some t) (hT : fg_T Ω (.returned (some (.int t.1))) t.2) : fg_W Ω G 207 [(4, .int i4), (5, .int i5)] [.int s0] := by
  unfold fX8_share_207 at hF
  refine fg_iload X dX8_share_207 0 rfl ?_
  refine fg_iload X dX8_share_209 1 rfl ?_
  replace hF := fg_oc_some hF
  obtain ⟨x14, G13, e_1, hF⟩ := hF
  refine fg_callS X (st := [.int s0]) (mX8_gcd Ω.2.2.2.2.1 Ω.1 e_1) q1994 q1995 q105 q1996 hd_X8_gcd (by decide) rfl rfl (Nat.le_of_ble_eq_true rfl) dX8_share_211 ?_
  replace hF := fg_gd_some hF
  obtain ⟨eg_2, hF⟩ := hF
  refine fg_idiv X dX8_share_214 (fg_ne0 eg_2) ?_
  cases hF
  exact fg_iret X dX8_share_215 (hT)
set_option maxHeartbeats 4000000 in
theorem wX8_share_117b {Ω : fg_O} {a0 : Nat} {i1 : Int32} {i2 : Int32} {i3 : Int32} {i4 : Int32} {i5 : Int32} {G : fg_H} {t : ((Nat × Int32 × Int32 × Int32 × Int32 × Int32 × fg_H) ⊕ (Int32 × fg_H))} (X : fg_X Ω RX8 "share" cX8_share 7 (some .int) 7) (hF : fX8_share_117b a0 i1 i2 i3 i4 i5 G = some t) (h117 : ∀ z, t = (.inl z) → fg_W Ω z.2.2.2.2.2.2 117 [(0, .ref z.1), (1, .int z.2.1), (2, .int z.2.2.1), (3, .int z.2.2.2.1), (4, .int z.2.2.2.2.1), (5, .int z.2.2.2.2.2.1)] []) (hT : ∀ u, t = (.inr u) → fg_T Ω (.returned (some (.int u.1))) u.2) : fg_W Ω G 117 [(0, .ref a0), (1, .int i1), (2, .int i2), (3, .int i3), (4, .int i4), (5, .int i5)] [] := by
  unfold fX8_share_117b at hF
  refine fg_iload X dX8_share_117 5 rfl ?_
  refine fg_iconst X (v := (1 : Int32)) dX8_share_119 (by decide) ?_
  refine fg_iload_n X dX8_share_120 rfl 3 rfl ?_
  refine fg_ishl X dX8_share_121 ?_
  refine fg_icmp_ge X (tgt := 190) dX8_share_122 (by decide) (fun hc => ?_) (fun hc => ?_)
  · rw [if_pos hc] at hF
    replace hF := fg_rt_some hF
    obtain ⟨t10, hF, ht_1⟩ := hF
    subst ht_1
    replace hT := hT _ rfl
    refine fg_iload_n X dX8_share_190 rfl 3 rfl ?_
    replace hF := fg_oc_some hF
    obtain ⟨x12, G11, e_2, hF⟩ := hF
    refine fg_callS X (st := []) (mX8_orders Ω.2.2.2.2.1 Ω.1 e_2) q1991 q1992 q105 q1993 hd_X8_orders (by decide) rfl rfl (Nat.le_of_ble_eq_true rfl) dX8_share_191 ?_
    refine fg_istore X (L' := [(5, .int x12), (0, .ref a0), (1, .int i1), (2, .int i2), (3, .int i3), (4, .int i4)]) dX8_share_194 (by decide) rfl ?_
    refine fg_iload_n X dX8_share_196 rfl 3 rfl ?_
    refine fg_if_ne X (tgt := 205) dX8_share_197 (by decide) (fun hc => ?_) (fun hc => ?_)
    · rw [if_neg hc] at hF
      refine fg_iload X dX8_share_205 0 rfl ?_
      refine fg_sub [5, 0] rfl ?_
      exact wX8_share_207 X hF hT
    · rw [if_pos hc] at hF
      refine fg_iload X dX8_share_200 5 rfl ?_
      refine fg_goto X (tgt := 207) dX8_share_202 (by decide) ?_
      refine fg_sub [5, 0] rfl ?_
      exact wX8_share_207 X hF hT
  · rw [if_neg hc] at hF
    refine fg_iload X dX8_share_125 5 rfl ?_
    refine fg_iload_n X dX8_share_127 rfl 1 rfl ?_
    refine fg_ishr X dX8_share_128 ?_
    refine fg_iconst X (v := (1 : Int32)) dX8_share_129 (by decide) ?_
    refine fg_iand X dX8_share_130 ?_
    refine fg_iconst X (v := (1 : Int32)) dX8_share_131 (by decide) ?_
    refine fg_icmp_ne X (tgt := 138) dX8_share_132 (by decide) (fun hc => ?_) (fun hc => ?_)
    · rw [if_neg hc] at hF
      refine fg_iload X dX8_share_138 4 rfl ?_
      refine fg_aload_n X (r := (some a0)) dX8_share_140 rfl 0 rfl ?_
      replace hF := fg_ob_some hF
      obtain ⟨r15, e_3, hF⟩ := hF
      refine fg_getr X ff_X8_worthOf q1592 e_3 dX8_share_141 ?_
      refine fg_iload X dX8_share_144 5 rfl ?_
      refine fg_iconst X (v := (1 : Int32)) dX8_share_146 (by decide) ?_
      refine fg_iload_n X dX8_share_147 rfl 1 rfl ?_
      refine fg_ishl X dX8_share_148 ?_
      refine fg_ior X dX8_share_149 ?_
      replace hF := fg_ob_some hF
      obtain ⟨a16, rfl, hF⟩ := hF
      replace hF := fg_ob_some hF
      obtain ⟨x17, e_4, hF⟩ := hF
      refine fg_iald X e_4 dX8_share_150 ?_
      refine fg_aload_n X (r := (some a0)) dX8_share_151 rfl 0 rfl ?_
      replace hF := fg_ob_some hF
      obtain ⟨r18, e_5, hF⟩ := hF
      refine fg_getr X ff_X8_worthOf q1592 e_5 dX8_share_152 ?_
      refine fg_iload X dX8_share_155 5 rfl ?_
      replace hF := fg_ob_some hF
      obtain ⟨a19, rfl, hF⟩ := hF
      replace hF := fg_ob_some hF
      obtain ⟨x20, e_6, hF⟩ := hF
      refine fg_iald X e_6 dX8_share_157 ?_
      refine fg_isub X dX8_share_158 ?_
      refine fg_iload X dX8_share_159 5 rfl ?_
      replace hF := fg_oc_some hF
      obtain ⟨x22, G21, e_7, hF⟩ := hF
      refine fg_callS X (st := [.int (x17 - x20), .int i4]) (mX8_bits Ω.2.2.2.2.1 Ω.1 e_7) q1988 q1989 q105 q1990 hd_X8_bits (by decide) rfl rfl (Nat.le_of_ble_eq_true rfl) dX8_share_161 ?_
      replace hF := fg_oc_some hF
      obtain ⟨x24, G23, e_8, hF⟩ := hF
      refine fg_callS X (st := [.int (x17 - x20), .int i4]) (mX8_orders Ω.2.2.2.2.1 Ω.1 e_8) q1991 q1992 q105 q1993 hd_X8_orders (by decide) rfl rfl (Nat.le_of_ble_eq_true rfl) dX8_share_164 ?_
      refine fg_imul X dX8_share_167 ?_
      refine fg_iload_n X dX8_share_168 rfl 3 rfl ?_
      refine fg_iconst X (v := (1 : Int32)) dX8_share_169 (by decide) ?_
      refine fg_isub X dX8_share_170 ?_
      refine fg_iload X dX8_share_171 5 rfl ?_
      replace hF := fg_oc_some hF
      obtain ⟨x26, G25, e_9, hF⟩ := hF
      refine fg_callS X (st := [.int (i3 - (1 : Int32)), .int ((x17 - x20) * x24), .int i4]) (mX8_bits Ω.2.2.2.2.1 Ω.1 e_9) q1988 q1989 q105 q1990 hd_X8_bits (by decide) rfl rfl (Nat.le_of_ble_eq_true rfl) dX8_share_173 ?_
      refine fg_isub X dX8_share_176 ?_
      replace hF := fg_oc_some hF
      obtain ⟨x28, G27, e_10, hF⟩ := hF
      refine fg_callS X (st := [.int ((x17 - x20) * x24), .int i4]) (mX8_orders Ω.2.2.2.2.1 Ω.1 e_10) q1991 q1992 q105 q1993 hd_X8_orders (by decide) rfl rfl (Nat.le_of_ble_eq_true rfl) dX8_share_177 ?_
      refine fg_imul X dX8_share_180 ?_
      refine fg_iadd X dX8_share_181 ?_
      replace hF := fg_ob_some hF
      obtain ⟨v29, ex_11, hF⟩ := hF
      refine fg_topi (Option.some.inj ex_11) ?_
      refine fg_istore X (L' := [(4, .int v29), (0, .ref a0), (1, .int i1), (2, .int i2), (3, .int i3), (5, .int i5)]) dX8_share_182 (by decide) rfl ?_
      refine fg_iinc X (v := (i5 + (1 : Int32))) (L' := [(5, .int (i5 + (1 : Int32))), (4, .int v29), (0, .ref a0), (1, .int i1), (2, .int i2), (3, .int i3)]) dX8_share_184 5 rfl rfl (by decide) rfl ?_
      refine fg_goto X (tgt := 117) dX8_share_187 (by decide) ?_
      refine fg_sub [2, 3, 4, 5, 1, 0] rfl ?_
      exact h117 _ (Option.some.inj hF).symm
    · rw [if_pos hc] at hF
      refine fg_goto X (tgt := 184) dX8_share_135 (by decide) ?_
      refine fg_iinc X (v := (i5 + (1 : Int32))) (L' := [(5, .int (i5 + (1 : Int32))), (0, .ref a0), (1, .int i1), (2, .int i2), (3, .int i3), (4, .int i4)]) dX8_share_184 5 rfl rfl (by decide) rfl ?_
      refine fg_goto X (tgt := 117) dX8_share_187 (by decide) ?_
      refine fg_sub [1, 2, 3, 4, 5, 0] rfl ?_
      exact h117 _ (Option.some.inj hF).symm
set_option maxHeartbeats 4000000 in
seal fX8_share_117b in
theorem wX8_share_117 {Ω : fg_O} {a0 : Nat} {i1 : Int32} {i2 : Int32} {i3 : Int32} {i4 : Int32} {i5 : Int32} {G : fg_H} {t : (Int32 × fg_H)} (X : fg_X Ω RX8 "share" cX8_share 7 (some .int) 7) (hF : fX8_share_117 a0 i1 i2 i3 i4 i5 G = some t) (hT : fg_T Ω (.returned (some (.int t.1))) t.2) : fg_W Ω G 117 [(0, .ref a0), (1, .int i1), (2, .int i2), (3, .int i3), (4, .int i4), (5, .int i5)] [] := by
  unfold fX8_share_117 at hF
  exact fg_lp_walk (P := fun z => fg_W Ω z.2.2.2.2.2.2 117 [(0, .ref z.1), (1, .int z.2.1), (2, .int z.2.2.1), (3, .int z.2.2.2.1), (4, .int z.2.2.2.2.1), (5, .int z.2.2.2.2.2.1)] []) (fun y o ho hl hr => wX8_share_117b X ho (fun z e => hl z e) (fun u e => by rw [hr _ e]; exact hT)) hF
set_option maxHeartbeats 4000000 in
theorem wX8_share_48b {Ω : fg_O} {a0 : Nat} {i1 : Int32} {i2 : Int32} {i3 : Int32} {i4 : Int32} {i5 : Int32} {i6 : Int32} {G : fg_H} {t : ((Nat × Int32 × Int32 × Int32 × Int32 × Int32 × Int32 × fg_H) ⊕ ((Nat × Int32 × Int32 × Int32 × Int32 × fg_H) ⊕ (Int32 × fg_H)))} (X : fg_X Ω RX8 "share" cX8_share 7 (some .int) 7) (hF : fX8_share_48b a0 i1 i2 i3 i4 i5 i6 G = some t) (h34 : ∀ z, t = (.inr (.inl z)) → fg_W Ω z.2.2.2.2.2 34 [(0, .ref z.1), (1, .int z.2.1), (2, .int z.2.2.1), (3, .int z.2.2.2.1), (4, .int z.2.2.2.2.1)] []) (h48 : ∀ z, t = (.inl z) → fg_W Ω z.2.2.2.2.2.2.2 48 [(0, .ref z.1), (1, .int z.2.1), (2, .int z.2.2.1), (3, .int z.2.2.2.1), (4, .int z.2.2.2.2.1), (5, .int z.2.2.2.2.2.1), (6, .int z.2.2.2.2.2.2.1)] []) (hT : ∀ u, t = (.inr (.inr u)) → fg_T Ω (.returned (some (.int u.1))) u.2) : fg_W Ω G 48 [(0, .ref a0), (1, .int i1), (2, .int i2), (3, .int i3), (4, .int i4), (5, .int i5), (6, .int i6)] [] := by
  unfold fX8_share_48b at hF
  refine fg_iload X dX8_share_48 6 rfl ?_
  refine fg_iload_n X dX8_share_50 rfl 3 rfl ?_
  refine fg_icmp_ge X (tgt := 86) dX8_share_51 (by decide) (fun hc => ?_) (fun hc => ?_)
  · rw [if_pos hc] at hF
    replace hF := fg_rt_some hF
    obtain ⟨t30, hF, ht_1⟩ := hF
    subst ht_1
    replace h34 := fun z q => h34 z (congrArg Sum.inr q)
    replace hT := fun u q => hT u (congrArg Sum.inr q)
    refine fg_aload_n X (r := (some a0)) dX8_share_86 rfl 0 rfl ?_
    refine fg_iload X dX8_share_87 5 rfl ?_
    replace hF := fg_gd_some hF
    obtain ⟨eg_2, hF⟩ := hF
    obtain ⟨fs_3, eo_4⟩ := fg_rc_get eg_2
    replace hF := fg_oc_some hF
    obtain ⟨u, G31, e_5, hF⟩ := hF
    refine fg_callV X (st := []) (mX8_goes Ω.2.2.2.2.1 Ω.1 e_5) q1909 q1911 qs80 q105 q1912 hd_X8_goes (by decide) rfl eo_4 (by decide) rfl rfl (Nat.le_of_ble_eq_true rfl) dX8_share_89 ?_
    refine fg_aload_n X (r := (some a0)) dX8_share_92 rfl 0 rfl ?_
    replace hF := fg_ob_some hF
    obtain ⟨r32, e_6, hF⟩ := hF
    refine fg_getr X ff_X8_worthOf q1592 e_6 dX8_share_93 ?_
    refine fg_iload X dX8_share_96 4 rfl ?_
    refine fg_aload_n X (r := (some a0)) dX8_share_98 rfl 0 rfl ?_
    refine fg_iconst X (v := (-1 : Int32)) dX8_share_99 (by decide) ?_
    refine fg_iconst X (v := (-1 : Int32)) dX8_share_100 (by decide) ?_
    replace hF := fg_gd_some hF
    obtain ⟨eg_7, hF⟩ := hF
    obtain ⟨fs_8, eo_9⟩ := fg_rc_get eg_7
    replace hF := fg_oc_some hF
    obtain ⟨x34, G33, e_10, hF⟩ := hF
    refine fg_callV X (st := [.int i4, va_rf r32]) (mX8_yielded Ω.2.2.2.2.1 Ω.1 e_10) q1925 q1927 qs84 q105 q1928 hd_X8_yielded (by decide) rfl eo_9 (by decide) rfl rfl (by cases r32 <;> exact Nat.le_of_ble_eq_true rfl) dX8_share_101 ?_
    replace hF := fg_ob_some hF
    obtain ⟨a35, rfl, hF⟩ := hF
    replace hF := fg_ob_some hF
    obtain ⟨G36, e_11, hF⟩ := hF
    refine fg_iast X e_11 dX8_share_104 ?_
    refine fg_iinc X (v := (i4 + (1 : Int32))) (L' := [(4, .int (i4 + (1 : Int32))), (0, .ref a0), (1, .int i1), (2, .int i2), (3, .int i3), (5, .int i5), (6, .int i6)]) dX8_share_105 4 rfl rfl (by decide) rfl ?_
    refine fg_goto X (tgt := 34) dX8_share_108 (by decide) ?_
    refine fg_sub [1, 2, 3, 4, 0] rfl ?_
    exact h34 _ (Option.some.inj hF).symm
  · rw [if_neg hc] at hF
    refine fg_iload X dX8_share_54 5 rfl ?_
    refine fg_iload X dX8_share_56 4 rfl ?_
    refine fg_iload X dX8_share_58 6 rfl ?_
    refine fg_ishr X dX8_share_60 ?_
    refine fg_iconst X (v := (1 : Int32)) dX8_share_61 (by decide) ?_
    refine fg_iand X dX8_share_62 ?_
    refine fg_iconst X (v := (1 : Int32)) dX8_share_63 (by decide) ?_
    refine fg_icmp_ne X (tgt := 76) dX8_share_64 (by decide) (fun hc => ?_) (fun hc => ?_)
    · rw [if_neg hc] at hF
      refine fg_iconst X (v := (0 : Int32)) dX8_share_76 (by decide) ?_
      refine fg_ior X dX8_share_77 ?_
      replace hF := fg_ob_some hF
      obtain ⟨v37, ex_12, hF⟩ := hF
      refine fg_topi (Option.some.inj ex_12) ?_
      refine fg_istore X (L' := [(5, .int v37), (0, .ref a0), (1, .int i1), (2, .int i2), (3, .int i3), (4, .int i4), (6, .int i6)]) dX8_share_78 (by decide) rfl ?_
      refine fg_iinc X (v := (i6 + (1 : Int32))) (L' := [(6, .int (i6 + (1 : Int32))), (5, .int v37), (0, .ref a0), (1, .int i1), (2, .int i2), (3, .int i3), (4, .int i4)]) dX8_share_80 6 rfl rfl (by decide) rfl ?_
      refine fg_goto X (tgt := 48) dX8_share_83 (by decide) ?_
      refine fg_sub [2, 3, 4, 5, 6, 1, 0] rfl ?_
      exact h48 _ (Option.some.inj hF).symm
    · rw [if_pos hc] at hF
      refine fg_aload_n X (r := (some a0)) dX8_share_67 rfl 0 rfl ?_
      refine fg_iload X dX8_share_68 6 rfl ?_
      replace hF := fg_gd_some hF
      obtain ⟨eg_13, hF⟩ := hF
      obtain ⟨fs_14, eo_15⟩ := fg_rc_get eg_13
      replace hF := fg_oc_some hF
      obtain ⟨x39, G38, e_16, hF⟩ := hF
      refine fg_callV X (st := [.int i5]) (mX8_netsOf Ω.2.2.2.2.1 Ω.1 e_16) q1840 q1842 qs66 q105 q1843 hd_X8_netsOf (by decide) rfl eo_15 (by decide) rfl rfl (Nat.le_of_ble_eq_true rfl) dX8_share_70 ?_
      refine fg_goto X (tgt := 77) dX8_share_73 (by decide) ?_
      refine fg_ior X dX8_share_77 ?_
      replace hF := fg_ob_some hF
      obtain ⟨v40, ex_17, hF⟩ := hF
      refine fg_topi (Option.some.inj ex_17) ?_
      refine fg_istore X (L' := [(5, .int v40), (0, .ref a0), (1, .int i1), (2, .int i2), (3, .int i3), (4, .int i4), (6, .int i6)]) dX8_share_78 (by decide) rfl ?_
      refine fg_iinc X (v := (i6 + (1 : Int32))) (L' := [(6, .int (i6 + (1 : Int32))), (5, .int v40), (0, .ref a0), (1, .int i1), (2, .int i2), (3, .int i3), (4, .int i4)]) dX8_share_80 6 rfl rfl (by decide) rfl ?_
      refine fg_goto X (tgt := 48) dX8_share_83 (by decide) ?_
      refine fg_sub [2, 3, 4, 5, 6, 1, 0] rfl ?_
      exact h48 _ (Option.some.inj hF).symm
set_option maxHeartbeats 4000000 in
seal fX8_share_48b in
theorem wX8_share_48 {Ω : fg_O} {a0 : Nat} {i1 : Int32} {i2 : Int32} {i3 : Int32} {i4 : Int32} {i5 : Int32} {i6 : Int32} {G : fg_H} {t : ((Nat × Int32 × Int32 × Int32 × Int32 × fg_H) ⊕ (Int32 × fg_H))} (X : fg_X Ω RX8 "share" cX8_share 7 (some .int) 7) (hF : fX8_share_48 a0 i1 i2 i3 i4 i5 i6 G = some t) (h34 : ∀ z, t = (.inl z) → fg_W Ω z.2.2.2.2.2 34 [(0, .ref z.1), (1, .int z.2.1), (2, .int z.2.2.1), (3, .int z.2.2.2.1), (4, .int z.2.2.2.2.1)] []) (hT : ∀ u, t = (.inr u) → fg_T Ω (.returned (some (.int u.1))) u.2) : fg_W Ω G 48 [(0, .ref a0), (1, .int i1), (2, .int i2), (3, .int i3), (4, .int i4), (5, .int i5), (6, .int i6)] [] := by
  unfold fX8_share_48 at hF
  exact fg_lp_walk (P := fun z => fg_W Ω z.2.2.2.2.2.2.2 48 [(0, .ref z.1), (1, .int z.2.1), (2, .int z.2.2.1), (3, .int z.2.2.2.1), (4, .int z.2.2.2.2.1), (5, .int z.2.2.2.2.2.1), (6, .int z.2.2.2.2.2.2.1)] []) (fun y o ho hl hr => wX8_share_48b X ho (fun z e => h34 z (hr _ e).symm) (fun z e => hl z e) (fun u e => hT u (hr _ e).symm)) hF
set_option maxHeartbeats 4000000 in
theorem wX8_share_34b {Ω : fg_O} {a0 : Nat} {i1 : Int32} {i2 : Int32} {i3 : Int32} {i4 : Int32} {G : fg_H} {t : ((Nat × Int32 × Int32 × Int32 × Int32 × fg_H) ⊕ (Int32 × fg_H))} (X : fg_X Ω RX8 "share" cX8_share 7 (some .int) 7) (hF : fX8_share_34b a0 i1 i2 i3 i4 G = some t) (h34 : ∀ z, t = (.inl z) → fg_W Ω z.2.2.2.2.2 34 [(0, .ref z.1), (1, .int z.2.1), (2, .int z.2.2.1), (3, .int z.2.2.2.1), (4, .int z.2.2.2.2.1)] []) (hT : ∀ u, t = (.inr u) → fg_T Ω (.returned (some (.int u.1))) u.2) : fg_W Ω G 34 [(0, .ref a0), (1, .int i1), (2, .int i2), (3, .int i3), (4, .int i4)] [] := by
  unfold fX8_share_34b at hF
  refine fg_iload X dX8_share_34 4 rfl ?_
  refine fg_iconst X (v := (1 : Int32)) dX8_share_36 (by decide) ?_
  refine fg_iload_n X dX8_share_37 rfl 3 rfl ?_
  refine fg_ishl X dX8_share_38 ?_
  refine fg_icmp_ge X (tgt := 111) dX8_share_39 (by decide) (fun hc => ?_) (fun hc => ?_)
  · rw [if_pos hc] at hF
    replace hF := fg_rt_some hF
    obtain ⟨t9, hF, ht_1⟩ := hF
    subst ht_1
    replace hT := hT _ rfl
    refine fg_iconst X (v := (0 : Int32)) dX8_share_111 (by decide) ?_
    refine fg_istore X (L' := [(4, .int (0 : Int32)), (0, .ref a0), (1, .int i1), (2, .int i2), (3, .int i3)]) dX8_share_112 (by decide) rfl ?_
    refine fg_iconst X (v := (0 : Int32)) dX8_share_114 (by decide) ?_
    refine fg_istore X (L' := [(5, .int (0 : Int32)), (4, .int (0 : Int32)), (0, .ref a0), (1, .int i1), (2, .int i2), (3, .int i3)]) dX8_share_115 (by decide) rfl ?_
    refine fg_sub [2, 3, 4, 5, 1, 0] rfl ?_
    exact wX8_share_117 X hF hT
  · rw [if_neg hc] at hF
    refine fg_iconst X (v := (0 : Int32)) dX8_share_42 (by decide) ?_
    refine fg_istore X (L' := [(5, .int (0 : Int32)), (0, .ref a0), (1, .int i1), (2, .int i2), (3, .int i3), (4, .int i4)]) dX8_share_43 (by decide) rfl ?_
    refine fg_iconst X (v := (0 : Int32)) dX8_share_45 (by decide) ?_
    refine fg_istore X (L' := [(6, .int (0 : Int32)), (5, .int (0 : Int32)), (0, .ref a0), (1, .int i1), (2, .int i2), (3, .int i3), (4, .int i4)]) dX8_share_46 (by decide) rfl ?_
    refine fg_sub [2, 3, 4, 5, 6, 1, 0] rfl ?_
    exact wX8_share_48 X hF h34 hT
set_option maxHeartbeats 4000000 in
seal fX8_share_34b in
theorem wX8_share_34 {Ω : fg_O} {a0 : Nat} {i1 : Int32} {i2 : Int32} {i3 : Int32} {i4 : Int32} {G : fg_H} {t : (Int32 × fg_H)} (X : fg_X Ω RX8 "share" cX8_share 7 (some .int) 7) (hF : fX8_share_34 a0 i1 i2 i3 i4 G = some t) (hT : fg_T Ω (.returned (some (.int t.1))) t.2) : fg_W Ω G 34 [(0, .ref a0), (1, .int i1), (2, .int i2), (3, .int i3), (4, .int i4)] [] := by
  unfold fX8_share_34 at hF
  exact fg_lp_walk (P := fun z => fg_W Ω z.2.2.2.2.2 34 [(0, .ref z.1), (1, .int z.2.1), (2, .int z.2.2.1), (3, .int z.2.2.2.1), (4, .int z.2.2.2.2.1)] []) (fun y o ho hl hr => wX8_share_34b X ho (fun z e => hl z e) (fun u e => by rw [hr _ e]; exact hT)) hF
set_option maxHeartbeats 4000000 in
theorem wX8_share {Ω : fg_O} {a0 : Nat} {i1 : Int32} {i2 : Int32} {G : fg_H} {t : Int32 × fg_H} (X : fg_X Ω RX8 "share" cX8_share 7 (some .int) 7) (hF : fX8_share a0 i1 i2 G = some t) (hT : fg_T Ω (.returned (some (.int t.1))) t.2) : fg_W Ω G 0 [(0, .ref a0), (1, .int i1), (2, .int i2)] [] := by
  unfold fX8_share at hF
  refine fg_aload_n X (r := (some a0)) dX8_share_0 rfl 0 rfl ?_
  refine fg_iconst X (v := (0 : Int32)) dX8_share_1 (by decide) ?_
  replace hF := fg_ob_some hF
  obtain ⟨G1, e_1, hF⟩ := hF
  refine fg_putv X (ty := .int) (v := .int (0 : Int32)) ff_X8_thrown q1548 rfl (Or.inl rfl) rfl rfl rfl e_1 dX8_share_2 ?_
  refine fg_aload_n X (r := (some a0)) dX8_share_5 rfl 0 rfl ?_
  refine fg_iload_n X dX8_share_6 rfl 1 rfl ?_
  replace hF := fg_gd_some hF
  obtain ⟨eg_2, hF⟩ := hF
  obtain ⟨fs_3, eo_4⟩ := fg_rc_get eg_2
  replace hF := fg_oc_some hF
  obtain ⟨x3, G2, e_5, hF⟩ := hF
  refine fg_callV X (st := []) (mX8_isVillage Ω.2.2.2.2.1 Ω.1 e_5) q1836 q1838 qs65 q105 q1839 hd_X8_isVillage (by decide) rfl eo_4 (by decide) rfl rfl (Nat.le_of_ble_eq_true rfl) dX8_share_7 ?_
  refine fg_if_eq X (tgt := 22) dX8_share_10 (by decide) (fun hc => ?_) (fun hc => ?_)
  · rw [if_pos hc] at hF
    refine fg_iconst X (v := (-1 : Int32)) dX8_share_22 (by decide) ?_
    cases hF
    exact fg_iret X dX8_share_23 (hT)
  · rw [if_neg hc] at hF
    refine fg_iload_n X dX8_share_13 rfl 2 rfl ?_
    refine fg_iconst X (v := (0 : Int32)) dX8_share_14 (by decide) ?_
    refine fg_iconst X (v := (1 : Int32)) dX8_share_15 (by decide) ?_
    replace hF := fg_oc_some hF
    obtain ⟨x5, G4, e_6, hF⟩ := hF
    refine fg_callS X (st := []) (mX8_within Ω.2.2.2.2.1 Ω.1 e_6) q1738 q1739 q105 q1740 hd_X8_within (by decide) rfl rfl (Nat.le_of_ble_eq_true rfl) dX8_share_16 ?_
    refine fg_if_ne X (tgt := 24) dX8_share_19 (by decide) (fun hc => ?_) (fun hc => ?_)
    · rw [if_neg hc] at hF
      refine fg_aload_n X (r := (some a0)) dX8_share_24 rfl 0 rfl ?_
      replace hF := fg_ob_some hF
      obtain ⟨r6, e_7, hF⟩ := hF
      refine fg_getr X ff_X8_ridge q1558 e_7 dX8_share_25 ?_
      refine fg_iconst X (v := (5 : Int32)) dX8_share_28 (by decide) ?_
      replace hF := fg_ob_some hF
      obtain ⟨a7, rfl, hF⟩ := hF
      replace hF := fg_ob_some hF
      obtain ⟨x8, e_8, hF⟩ := hF
      refine fg_iald X e_8 dX8_share_29 ?_
      refine fg_istore_n X (L' := [(3, .int x8), (0, .ref a0), (1, .int i1), (2, .int i2)]) dX8_share_30 rfl (by decide) rfl ?_
      refine fg_iconst X (v := (0 : Int32)) dX8_share_31 (by decide) ?_
      refine fg_istore X (L' := [(4, .int (0 : Int32)), (3, .int x8), (0, .ref a0), (1, .int i1), (2, .int i2)]) dX8_share_32 (by decide) rfl ?_
      refine fg_sub [2, 3, 4, 1, 0] rfl ?_
      exact wX8_share_34 X hF hT
    · rw [if_pos hc] at hF
      refine fg_iconst X (v := (-1 : Int32)) dX8_share_22 (by decide) ?_
      cases hF
      exact fg_iret X dX8_share_23 (hT)
theorem mX8_share (l : Launch) (D : fg_D) {a0 : Nat} {i1 : Int32} {i2 : Int32} {G : fg_H} {t : Int32 × fg_H} (hF : fX8_share a0 i1 i2 G = some t) : fg_M l D yX8_share cX8_share 7 (some .int) 7 [.ref a0, .int i1, .int i2] G (.returned (some (.int t.1))) t.2 :=
  fg_Mof (own := RX8) (nm := "share") (L := [(0, .ref a0), (1, .int i1), (2, .int i2)]) (plainFor_of_name pn_X8) rfl rfl rfl (Nat.le_of_ble_eq_true rfl) (fun Ω _ _ X hT => wX8_share X hF hT)
theorem hd_X8_dry : yX8_dry.cls ≠ "java/lang/invoke/MethodHandle" ∧ yX8_dry.cls ≠ "java/lang/invoke/VarHandle" ∧ (parseMethodDescriptor yX8_dry.desc).map (fun d => d.parameters.length) = some 1 := ⟨by decide +kernel, by decide +kernel, by decide +kernel⟩
set_option maxHeartbeats 4000000 in
theorem wX8_dry_83 {Ω : fg_O} {a0 : Nat} {i2 : Int32} {G : fg_H} {t : (Int32 × fg_H)} (X : fg_X Ω RX8 "dry" cX8_dry 5 (some .int) 8) (hF : fX8_dry_83 a0 i2 G = some t) (hT : fg_T Ω (.returned (some (.int t.1))) t.2) : fg_W Ω G 83 [(0, .ref a0), (2, .int i2)] [] := by
  unfold fX8_dry_83 at hF
  refine fg_aload_n X (r := (some a0)) dX8_dry_83 rfl 0 rfl ?_
  replace hF := fg_ob_some hF
  obtain ⟨r8, e_1, hF⟩ := hF
  refine fg_getr X ff_X8_aside q1586 e_1 dX8_dry_84 ?_
  refine fg_iconst X (v := (0 : Int32)) dX8_dry_87 (by decide) ?_
  refine fg_aload_n X (r := (some a0)) dX8_dry_88 rfl 0 rfl ?_
  replace hF := fg_ob_some hF
  obtain ⟨r9, e_2, hF⟩ := hF
  refine fg_getr X ff_X8_s q1585 e_2 dX8_dry_89 ?_
  refine fg_iconst X (v := (0 : Int32)) dX8_dry_92 (by decide) ?_
  replace hF := fg_oc_some hF
  obtain ⟨u, G10, e_3, hF⟩ := hF
  refine fg_callS X (st := []) (mX8_copies Ω.2.2.2.2.1 Ω.1 e_3) q1965 q1966 q105 q1967 hd_X8_copies (by decide) rfl rfl (Nat.le_of_ble_eq_true rfl) dX8_dry_93 ?_
  refine fg_iload_n X dX8_dry_96 rfl 1 rfl ?_
  cases hF
  exact fg_iret X dX8_dry_97 (hT)
set_option maxHeartbeats 4000000 in
theorem wX8_dry_32b {Ω : fg_O} {a0 : Nat} {i1 : Int32} {i2 : Int32} {i3 : Int32} {G : fg_H} {t : ((Nat × Int32 × Int32 × Int32 × fg_H) ⊕ (Int32 × fg_H))} (X : fg_X Ω RX8 "dry" cX8_dry 5 (some .int) 8) (hF : fX8_dry_32b a0 i1 i2 i3 G = some t) (h32 : ∀ z, t = (.inl z) → fg_W Ω z.2.2.2.2 32 [(0, .ref z.1), (1, .int z.2.1), (2, .int z.2.2.1), (3, .int z.2.2.2.1)] []) (hT : ∀ u, t = (.inr u) → fg_T Ω (.returned (some (.int u.1))) u.2) : fg_W Ω G 32 [(0, .ref a0), (1, .int i1), (2, .int i2), (3, .int i3)] [] := by
  unfold fX8_dry_32b at hF
  refine fg_iload_n X dX8_dry_32 rfl 3 rfl ?_
  refine fg_bipush X (v := (100 : Int32)) dX8_dry_33 (by decide) ?_
  refine fg_icmp_gt X (tgt := 83) dX8_dry_35 (by decide) (fun hc => ?_) (fun hc => ?_)
  · rw [if_pos hc] at hF
    replace hF := fg_rt_some hF
    obtain ⟨t7, hF, ht_1⟩ := hF
    subst ht_1
    replace hT := hT _ rfl
    refine fg_sub [0, 2] rfl ?_
    exact wX8_dry_83 X hF hT
  · rw [if_neg hc] at hF
    refine fg_iload_n X dX8_dry_38 rfl 2 rfl ?_
    refine fg_if_ge X (tgt := 83) dX8_dry_39 (by decide) (fun hc => ?_) (fun hc => ?_)
    · rw [if_pos hc] at hF
      replace hF := fg_rt_some hF
      obtain ⟨t11, hF, ht_2⟩ := hF
      subst ht_2
      replace hT := hT _ rfl
      refine fg_sub [0, 2] rfl ?_
      exact wX8_dry_83 X hF hT
    · rw [if_neg hc] at hF
      refine fg_aload_n X (r := (some a0)) dX8_dry_42 rfl 0 rfl ?_
      replace hF := fg_ob_some hF
      obtain ⟨r12, e_3, hF⟩ := hF
      refine fg_getr X ff_X8_s q1585 e_3 dX8_dry_43 ?_
      refine fg_bipush X (v := (6 : Int32)) dX8_dry_46 (by decide) ?_
      refine fg_iload_n X dX8_dry_48 rfl 1 rfl ?_
      refine fg_iadd X dX8_dry_49 ?_
      replace hF := fg_ob_some hF
      obtain ⟨a13, rfl, hF⟩ := hF
      replace hF := fg_ob_some hF
      obtain ⟨x14, e_4, hF⟩ := hF
      refine fg_iald X e_4 dX8_dry_50 ?_
      refine fg_istore X (L' := [(4, .int x14), (0, .ref a0), (1, .int i1), (2, .int i2), (3, .int i3)]) dX8_dry_51 (by decide) rfl ?_
      refine fg_aload_n X (r := (some a0)) dX8_dry_53 rfl 1 rfl ?_
      replace hF := fg_gd_some hF
      obtain ⟨eg_5, hF⟩ := hF
      obtain ⟨fs_6, eo_7⟩ := fg_rc_get eg_5
      replace hF := fg_oc_some hF
      obtain ⟨u, G15, e_8, hF⟩ := hF
      refine fg_callV X (st := []) (mX8_night Ω.2.2.2.2.1 Ω.1 e_8) q1905 q1907 qs79 q105 q1908 hd_X8_night (by decide) rfl eo_7 (by decide) rfl rfl (Nat.le_of_ble_eq_true rfl) dX8_dry_54 ?_
      refine fg_aload_n X (r := (some a0)) dX8_dry_57 rfl 1 rfl ?_
      replace hF := fg_ob_some hF
      obtain ⟨r16, e_9, hF⟩ := hF
      refine fg_getr X ff_X8_s q1585 e_9 dX8_dry_58 ?_
      refine fg_bipush X (v := (6 : Int32)) dX8_dry_61 (by decide) ?_
      refine fg_iload_n X dX8_dry_63 rfl 2 rfl ?_
      refine fg_iadd X dX8_dry_64 ?_
      replace hF := fg_ob_some hF
      obtain ⟨a17, rfl, hF⟩ := hF
      replace hF := fg_ob_some hF
      obtain ⟨x18, e_10, hF⟩ := hF
      refine fg_iald X e_10 dX8_dry_65 ?_
      refine fg_iload X dX8_dry_66 0 rfl ?_
      refine fg_icmp_le X (tgt := 75) dX8_dry_68 (by decide) (fun hc => ?_) (fun hc => ?_)
      · rw [if_pos hc] at hF
        refine fg_iload_n X dX8_dry_75 rfl 3 rfl ?_
        refine fg_istore_n X (L' := [(2, .int i2), (4, .int x14), (0, .ref a0), (1, .int i1), (3, .int i3)]) dX8_dry_76 rfl (by decide) rfl ?_
        refine fg_iinc X (v := (i3 + (1 : Int32))) (L' := [(3, .int (i3 + (1 : Int32))), (2, .int i2), (4, .int x14), (0, .ref a0), (1, .int i1)]) dX8_dry_77 4 rfl rfl (by decide) rfl ?_
        refine fg_goto X (tgt := 32) dX8_dry_80 (by decide) ?_
        refine fg_sub [3, 4, 1, 0] rfl ?_
        exact h32 _ (Option.some.inj hF).symm
      · rw [if_neg hc] at hF
        refine fg_iload_n X dX8_dry_71 rfl 4 rfl ?_
        refine fg_goto X (tgt := 76) dX8_dry_72 (by decide) ?_
        refine fg_istore_n X (L' := [(2, .int i3), (4, .int x14), (0, .ref a0), (1, .int i1), (3, .int i3)]) dX8_dry_76 rfl (by decide) rfl ?_
        refine fg_iinc X (v := (i3 + (1 : Int32))) (L' := [(3, .int (i3 + (1 : Int32))), (2, .int i3), (4, .int x14), (0, .ref a0), (1, .int i1)]) dX8_dry_77 4 rfl rfl (by decide) rfl ?_
        refine fg_goto X (tgt := 32) dX8_dry_80 (by decide) ?_
        refine fg_sub [3, 4, 1, 0] rfl ?_
        exact h32 _ (Option.some.inj hF).symm
set_option maxHeartbeats 4000000 in
seal fX8_dry_32b in
theorem wX8_dry_32 {Ω : fg_O} {a0 : Nat} {i1 : Int32} {i2 : Int32} {i3 : Int32} {G : fg_H} {t : (Int32 × fg_H)} (X : fg_X Ω RX8 "dry" cX8_dry 5 (some .int) 8) (hF : fX8_dry_32 a0 i1 i2 i3 G = some t) (hT : fg_T Ω (.returned (some (.int t.1))) t.2) : fg_W Ω G 32 [(0, .ref a0), (1, .int i1), (2, .int i2), (3, .int i3)] [] := by
  unfold fX8_dry_32 at hF
  exact fg_lp_walk (P := fun z => fg_W Ω z.2.2.2.2 32 [(0, .ref z.1), (1, .int z.2.1), (2, .int z.2.2.1), (3, .int z.2.2.2.1)] []) (fun y o ho hl hr => wX8_dry_32b X ho (fun z e => hl z e) (fun u e => by rw [hr _ e]; exact hT)) hF
set_option maxHeartbeats 4000000 in
theorem wX8_dry {Ω : fg_O} {a0 : Nat} {i1 : Int32} {G : fg_H} {t : Int32 × fg_H} (X : fg_X Ω RX8 "dry" cX8_dry 5 (some .int) 8) (hF : fX8_dry a0 i1 G = some t) (hT : fg_T Ω (.returned (some (.int t.1))) t.2) : fg_W Ω G 0 [(0, .ref a0), (1, .int i1)] [] := by
  unfold fX8_dry at hF
  refine fg_aload_n X (r := (some a0)) dX8_dry_0 rfl 0 rfl ?_
  refine fg_iconst X (v := (0 : Int32)) dX8_dry_1 (by decide) ?_
  replace hF := fg_ob_some hF
  obtain ⟨G1, e_1, hF⟩ := hF
  refine fg_putv X (ty := .int) (v := .int (0 : Int32)) ff_X8_thrown q1548 rfl (Or.inl rfl) rfl rfl rfl e_1 dX8_dry_2 ?_
  refine fg_aload_n X (r := (some a0)) dX8_dry_5 rfl 0 rfl ?_
  refine fg_iload_n X dX8_dry_6 rfl 1 rfl ?_
  replace hF := fg_gd_some hF
  obtain ⟨eg_2, hF⟩ := hF
  obtain ⟨fs_3, eo_4⟩ := fg_rc_get eg_2
  replace hF := fg_oc_some hF
  obtain ⟨x3, G2, e_5, hF⟩ := hF
  refine fg_callV X (st := []) (mX8_isVillage Ω.2.2.2.2.1 Ω.1 e_5) q1836 q1838 qs65 q105 q1839 hd_X8_isVillage (by decide) rfl eo_4 (by decide) rfl rfl (Nat.le_of_ble_eq_true rfl) dX8_dry_7 ?_
  refine fg_if_ne X (tgt := 15) dX8_dry_10 (by decide) (fun hc => ?_) (fun hc => ?_)
  · rw [if_neg hc] at hF
    refine fg_aload_n X (r := (some a0)) dX8_dry_15 rfl 0 rfl ?_
    replace hF := fg_ob_some hF
    obtain ⟨r4, e_6, hF⟩ := hF
    refine fg_getr X ff_X8_s q1585 e_6 dX8_dry_16 ?_
    refine fg_iconst X (v := (0 : Int32)) dX8_dry_19 (by decide) ?_
    refine fg_aload_n X (r := (some a0)) dX8_dry_20 rfl 0 rfl ?_
    replace hF := fg_ob_some hF
    obtain ⟨r5, e_7, hF⟩ := hF
    refine fg_getr X ff_X8_aside q1586 e_7 dX8_dry_21 ?_
    refine fg_iconst X (v := (0 : Int32)) dX8_dry_24 (by decide) ?_
    replace hF := fg_oc_some hF
    obtain ⟨u, G6, e_8, hF⟩ := hF
    refine fg_callS X (st := []) (mX8_copies Ω.2.2.2.2.1 Ω.1 e_8) q1965 q1966 q105 q1967 hd_X8_copies (by decide) rfl rfl (Nat.le_of_ble_eq_true rfl) dX8_dry_25 ?_
    refine fg_iconst X (v := (-1 : Int32)) dX8_dry_28 (by decide) ?_
    refine fg_istore_n X (L' := [(2, .int (-1 : Int32)), (0, .ref a0), (1, .int i1)]) dX8_dry_29 rfl (by decide) rfl ?_
    refine fg_iconst X (v := (1 : Int32)) dX8_dry_30 (by decide) ?_
    refine fg_istore_n X (L' := [(3, .int (1 : Int32)), (2, .int (-1 : Int32)), (0, .ref a0), (1, .int i1)]) dX8_dry_31 rfl (by decide) rfl ?_
    refine fg_sub [2, 3, 1, 0] rfl ?_
    exact wX8_dry_32 X hF hT
  · rw [if_pos hc] at hF
    refine fg_iconst X (v := (-1 : Int32)) dX8_dry_13 (by decide) ?_
    cases hF
    exact fg_iret X dX8_dry_14 (hT)
theorem mX8_dry (l : Launch) (D : fg_D) {a0 : Nat} {i1 : Int32} {G : fg_H} {t : Int32 × fg_H} (hF : fX8_dry a0 i1 G = some t) : fg_M l D yX8_dry cX8_dry 5 (some .int) 8 [.ref a0, .int i1] G (.returned (some (.int t.1))) t.2 :=
  fg_Mof (own := RX8) (nm := "dry") (L := [(0, .ref a0), (1, .int i1)]) (plainFor_of_name pn_X8) rfl rfl rfl (Nat.le_of_ble_eq_true rfl) (fun Ω _ _ X hT => wX8_dry X hF hT)
theorem hd_X8_stored : yX8_stored.cls ≠ "java/lang/invoke/MethodHandle" ∧ yX8_stored.cls ≠ "java/lang/invoke/VarHandle" ∧ (parseMethodDescriptor yX8_stored.desc).map (fun d => d.parameters.length) = some 2 := ⟨by decide +kernel, by decide +kernel, by decide +kernel⟩
set_option maxHeartbeats 4000000 in
theorem wX8_stored_40b {Ω : fg_O} {a0 : Nat} {i1 : Int32} {i2 : Int32} {i3 : Int32} {G : fg_H} {t : ((Nat × Int32 × Int32 × Int32 × fg_H) ⊕ (Int32 × fg_H))} (X : fg_X Ω RX8 "stored" cX8_stored 4 (some .int) 8) (hF : fX8_stored_40b a0 i1 i2 i3 G = some t) (h40 : ∀ z, t = (.inl z) → fg_W Ω z.2.2.2.2 40 [(0, .ref z.1), (1, .int z.2.1), (2, .int z.2.2.1), (3, .int z.2.2.2.1)] []) (hT : ∀ u, t = (.inr u) → fg_T Ω (.returned (some (.int u.1))) u.2) : fg_W Ω G 40 [(0, .ref a0), (1, .int i1), (2, .int i2), (3, .int i3)] [] := by
  unfold fX8_stored_40b at hF
  refine fg_iload_n X dX8_stored_40 rfl 3 rfl ?_
  refine fg_iload_n X dX8_stored_41 rfl 2 rfl ?_
  refine fg_icmp_ge X (tgt := 55) dX8_stored_42 (by decide) (fun hc => ?_) (fun hc => ?_)
  · rw [if_pos hc] at hF
    replace hF := fg_rt_some hF
    obtain ⟨t9, hF, ht_1⟩ := hF
    subst ht_1
    replace hT := hT _ rfl
    refine fg_aload_n X (r := (some a0)) dX8_stored_55 rfl 0 rfl ?_
    replace hF := fg_ob_some hF
    obtain ⟨r10, e_2, hF⟩ := hF
    refine fg_getr X ff_X8_s q1585 e_2 dX8_stored_56 ?_
    refine fg_iload_n X dX8_stored_59 rfl 1 rfl ?_
    replace hF := fg_ob_some hF
    obtain ⟨a11, rfl, hF⟩ := hF
    replace hF := fg_ob_some hF
    obtain ⟨x12, e_3, hF⟩ := hF
    refine fg_iald X e_3 dX8_stored_60 ?_
    refine fg_istore_n X (L' := [(3, .int x12), (0, .ref a0), (1, .int i1), (2, .int i2)]) dX8_stored_61 rfl (by decide) rfl ?_
    refine fg_aload_n X (r := (some a0)) dX8_stored_62 rfl 1 rfl ?_
    replace hF := fg_ob_some hF
    obtain ⟨r13, e_4, hF⟩ := hF
    refine fg_getr X ff_X8_aside q1586 e_4 dX8_stored_63 ?_
    refine fg_iconst X (v := (0 : Int32)) dX8_stored_66 (by decide) ?_
    refine fg_aload_n X (r := (some a0)) dX8_stored_67 rfl 1 rfl ?_
    replace hF := fg_ob_some hF
    obtain ⟨r14, e_5, hF⟩ := hF
    refine fg_getr X ff_X8_s q1585 e_5 dX8_stored_68 ?_
    refine fg_iconst X (v := (0 : Int32)) dX8_stored_71 (by decide) ?_
    replace hF := fg_oc_some hF
    obtain ⟨u, G15, e_6, hF⟩ := hF
    refine fg_callS X (st := []) (mX8_copies Ω.2.2.2.2.1 Ω.1 e_6) q1965 q1966 q105 q1967 hd_X8_copies (by decide) rfl rfl (Nat.le_of_ble_eq_true rfl) dX8_stored_72 ?_
    refine fg_iload_n X dX8_stored_75 rfl 0 rfl ?_
    cases hF
    exact fg_iret X dX8_stored_76 (hT)
  · rw [if_neg hc] at hF
    refine fg_aload_n X (r := (some a0)) dX8_stored_45 rfl 0 rfl ?_
    replace hF := fg_gd_some hF
    obtain ⟨eg_7, hF⟩ := hF
    obtain ⟨fs_8, eo_9⟩ := fg_rc_get eg_7
    replace hF := fg_oc_some hF
    obtain ⟨u, G16, e_10, hF⟩ := hF
    refine fg_callV X (st := []) (mX8_night Ω.2.2.2.2.1 Ω.1 e_10) q1905 q1907 qs79 q105 q1908 hd_X8_night (by decide) rfl eo_9 (by decide) rfl rfl (Nat.le_of_ble_eq_true rfl) dX8_stored_46 ?_
    refine fg_iinc X (v := (i3 + (1 : Int32))) (L' := [(3, .int (i3 + (1 : Int32))), (0, .ref a0), (1, .int i1), (2, .int i2)]) dX8_stored_49 3 rfl rfl (by decide) rfl ?_
    refine fg_goto X (tgt := 40) dX8_stored_52 (by decide) ?_
    refine fg_sub [1, 2, 3, 0] rfl ?_
    exact h40 _ (Option.some.inj hF).symm
set_option maxHeartbeats 4000000 in
seal fX8_stored_40b in
theorem wX8_stored_40 {Ω : fg_O} {a0 : Nat} {i1 : Int32} {i2 : Int32} {i3 : Int32} {G : fg_H} {t : (Int32 × fg_H)} (X : fg_X Ω RX8 "stored" cX8_stored 4 (some .int) 8) (hF : fX8_stored_40 a0 i1 i2 i3 G = some t) (hT : fg_T Ω (.returned (some (.int t.1))) t.2) : fg_W Ω G 40 [(0, .ref a0), (1, .int i1), (2, .int i2), (3, .int i3)] [] := by
  unfold fX8_stored_40 at hF
  exact fg_lp_walk (P := fun z => fg_W Ω z.2.2.2.2 40 [(0, .ref z.1), (1, .int z.2.1), (2, .int z.2.2.1), (3, .int z.2.2.2.1)] []) (fun y o ho hl hr => wX8_stored_40b X ho (fun z e => hl z e) (fun u e => by rw [hr _ e]; exact hT)) hF
set_option maxHeartbeats 4000000 in
theorem wX8_stored {Ω : fg_O} {a0 : Nat} {i1 : Int32} {i2 : Int32} {G : fg_H} {t : Int32 × fg_H} (X : fg_X Ω RX8 "stored" cX8_stored 4 (some .int) 8) (hF : fX8_stored a0 i1 i2 G = some t) (hT : fg_T Ω (.returned (some (.int t.1))) t.2) : fg_W Ω G 0 [(0, .ref a0), (1, .int i1), (2, .int i2)] [] := by
  unfold fX8_stored at hF
  refine fg_aload_n X (r := (some a0)) dX8_stored_0 rfl 0 rfl ?_
  refine fg_iconst X (v := (0 : Int32)) dX8_stored_1 (by decide) ?_
  replace hF := fg_ob_some hF
  obtain ⟨G1, e_1, hF⟩ := hF
  refine fg_putv X (ty := .int) (v := .int (0 : Int32)) ff_X8_thrown q1548 rfl (Or.inl rfl) rfl rfl rfl e_1 dX8_stored_2 ?_
  refine fg_aload_n X (r := (some a0)) dX8_stored_5 rfl 0 rfl ?_
  refine fg_iload_n X dX8_stored_6 rfl 1 rfl ?_
  replace hF := fg_gd_some hF
  obtain ⟨eg_2, hF⟩ := hF
  obtain ⟨fs_3, eo_4⟩ := fg_rc_get eg_2
  replace hF := fg_oc_some hF
  obtain ⟨x3, G2, e_5, hF⟩ := hF
  refine fg_callV X (st := []) (mX8_isVillage Ω.2.2.2.2.1 Ω.1 e_5) q1836 q1838 qs65 q105 q1839 hd_X8_isVillage (by decide) rfl eo_4 (by decide) rfl rfl (Nat.le_of_ble_eq_true rfl) dX8_stored_7 ?_
  refine fg_if_eq X (tgt := 23) dX8_stored_10 (by decide) (fun hc => ?_) (fun hc => ?_)
  · rw [if_pos hc] at hF
    refine fg_iconst X (v := (-1 : Int32)) dX8_stored_23 (by decide) ?_
    cases hF
    exact fg_iret X dX8_stored_24 (hT)
  · rw [if_neg hc] at hF
    refine fg_iload_n X dX8_stored_13 rfl 2 rfl ?_
    refine fg_iconst X (v := (0 : Int32)) dX8_stored_14 (by decide) ?_
    refine fg_bipush X (v := (100 : Int32)) dX8_stored_15 (by decide) ?_
    replace hF := fg_oc_some hF
    obtain ⟨x5, G4, e_6, hF⟩ := hF
    refine fg_callS X (st := []) (mX8_within Ω.2.2.2.2.1 Ω.1 e_6) q1738 q1739 q105 q1740 hd_X8_within (by decide) rfl rfl (Nat.le_of_ble_eq_true rfl) dX8_stored_17 ?_
    refine fg_if_ne X (tgt := 25) dX8_stored_20 (by decide) (fun hc => ?_) (fun hc => ?_)
    · rw [if_neg hc] at hF
      refine fg_aload_n X (r := (some a0)) dX8_stored_25 rfl 0 rfl ?_
      replace hF := fg_ob_some hF
      obtain ⟨r6, e_7, hF⟩ := hF
      refine fg_getr X ff_X8_s q1585 e_7 dX8_stored_26 ?_
      refine fg_iconst X (v := (0 : Int32)) dX8_stored_29 (by decide) ?_
      refine fg_aload_n X (r := (some a0)) dX8_stored_30 rfl 0 rfl ?_
      replace hF := fg_ob_some hF
      obtain ⟨r7, e_8, hF⟩ := hF
      refine fg_getr X ff_X8_aside q1586 e_8 dX8_stored_31 ?_
      refine fg_iconst X (v := (0 : Int32)) dX8_stored_34 (by decide) ?_
      replace hF := fg_oc_some hF
      obtain ⟨u, G8, e_9, hF⟩ := hF
      refine fg_callS X (st := []) (mX8_copies Ω.2.2.2.2.1 Ω.1 e_9) q1965 q1966 q105 q1967 hd_X8_copies (by decide) rfl rfl (Nat.le_of_ble_eq_true rfl) dX8_stored_35 ?_
      refine fg_iconst X (v := (0 : Int32)) dX8_stored_38 (by decide) ?_
      refine fg_istore_n X (L' := [(3, .int (0 : Int32)), (0, .ref a0), (1, .int i1), (2, .int i2)]) dX8_stored_39 rfl (by decide) rfl ?_
      refine fg_sub [1, 2, 3, 0] rfl ?_
      exact wX8_stored_40 X hF hT
    · rw [if_pos hc] at hF
      refine fg_iconst X (v := (-1 : Int32)) dX8_stored_23 (by decide) ?_
      cases hF
      exact fg_iret X dX8_stored_24 (hT)
theorem mX8_stored (l : Launch) (D : fg_D) {a0 : Nat} {i1 : Int32} {i2 : Int32} {G : fg_H} {t : Int32 × fg_H} (hF : fX8_stored a0 i1 i2 G = some t) : fg_M l D yX8_stored cX8_stored 4 (some .int) 8 [.ref a0, .int i1, .int i2] G (.returned (some (.int t.1))) t.2 :=
  fg_Mof (own := RX8) (nm := "stored") (L := [(0, .ref a0), (1, .int i1), (2, .int i2)]) (plainFor_of_name pn_X8) rfl rfl rfl (Nat.le_of_ble_eq_true rfl) (fun Ω _ _ X hT => wX8_stored X hF hT)
theorem hd_X8_jar : yX8_jar.cls ≠ "java/lang/invoke/MethodHandle" ∧ yX8_jar.cls ≠ "java/lang/invoke/VarHandle" ∧ (parseMethodDescriptor yX8_jar.desc).map (fun d => d.parameters.length) = some 2 := ⟨by decide +kernel, by decide +kernel, by decide +kernel⟩
set_option maxHeartbeats 4000000 in
theorem wX8_jar {Ω : fg_O} {a0 : Nat} {i1 : Int32} {i2 : Int32} {G : fg_H} {t : Int32 × fg_H} (X : fg_X Ω RX8 "jar" cX8_jar 3 (some .int) 1) (hF : fX8_jar a0 i1 i2 G = some t) (hT : fg_T Ω (.returned (some (.int t.1))) t.2) : fg_W Ω G 0 [(0, .ref a0), (1, .int i1), (2, .int i2)] [] := by
  unfold fX8_jar at hF
  refine fg_aload_n X (r := (some a0)) dX8_jar_0 rfl 0 rfl ?_
  refine fg_iconst X (v := (0 : Int32)) dX8_jar_1 (by decide) ?_
  replace hF := fg_ob_some hF
  obtain ⟨G1, e_1, hF⟩ := hF
  refine fg_putv X (ty := .int) (v := .int (0 : Int32)) ff_X8_thrown q1548 rfl (Or.inl rfl) rfl rfl rfl e_1 dX8_jar_2 ?_
  refine fg_aload_n X (r := (some a0)) dX8_jar_5 rfl 0 rfl ?_
  refine fg_iload_n X dX8_jar_6 rfl 1 rfl ?_
  replace hF := fg_gd_some hF
  obtain ⟨eg_2, hF⟩ := hF
  obtain ⟨fs_3, eo_4⟩ := fg_rc_get eg_2
  replace hF := fg_oc_some hF
  obtain ⟨x3, G2, e_5, hF⟩ := hF
  refine fg_callV X (st := []) (mX8_isNet Ω.2.2.2.2.1 Ω.1 e_5) q1828 q1830 qs64 q105 q1831 hd_X8_isNet (by decide) rfl eo_4 (by decide) rfl rfl (Nat.le_of_ble_eq_true rfl) dX8_jar_7 ?_
  refine fg_if_eq X (tgt := 36) dX8_jar_10 (by decide) (fun hc => ?_) (fun hc => ?_)
  · rw [if_pos hc] at hF
    refine fg_iconst X (v := (-1 : Int32)) dX8_jar_36 (by decide) ?_
    cases hF
    exact fg_iret X dX8_jar_37 (hT)
  · rw [if_neg hc] at hF
    refine fg_iload_n X dX8_jar_13 rfl 2 rfl ?_
    refine fg_iconst X (v := (0 : Int32)) dX8_jar_14 (by decide) ?_
    refine fg_ldcw X q2009 dX8_jar_15 ?_
    replace hF := fg_oc_some hF
    obtain ⟨x5, G4, e_6, hF⟩ := hF
    refine fg_callS X (st := []) (mX8_within Ω.2.2.2.2.1 Ω.1 e_6) q1738 q1739 q105 q1740 hd_X8_within (by decide) rfl rfl (Nat.le_of_ble_eq_true rfl) dX8_jar_18 ?_
    refine fg_if_eq X (tgt := 36) dX8_jar_21 (by decide) (fun hc => ?_) (fun hc => ?_)
    · rw [if_pos hc] at hF
      refine fg_iconst X (v := (-1 : Int32)) dX8_jar_36 (by decide) ?_
      cases hF
      exact fg_iret X dX8_jar_37 (hT)
    · rw [if_neg hc] at hF
      refine fg_aload_n X (r := (some a0)) dX8_jar_24 rfl 0 rfl ?_
      replace hF := fg_ob_some hF
      obtain ⟨r6, e_7, hF⟩ := hF
      refine fg_getr X ff_X8_s q1585 e_7 dX8_jar_25 ?_
      refine fg_bipush X (v := (51 : Int32)) dX8_jar_28 (by decide) ?_
      replace hF := fg_ob_some hF
      obtain ⟨a7, rfl, hF⟩ := hF
      replace hF := fg_ob_some hF
      obtain ⟨x8, e_8, hF⟩ := hF
      refine fg_iald X e_8 dX8_jar_30 ?_
      refine fg_bipush X (v := (8 : Int32)) dX8_jar_31 (by decide) ?_
      refine fg_icmp_ne X (tgt := 38) dX8_jar_33 (by decide) (fun hc => ?_) (fun hc => ?_)
      · rw [if_neg hc] at hF
        refine fg_aload_n X (r := (some a0)) dX8_jar_38 rfl 0 rfl ?_
        replace hF := fg_ob_some hF
        obtain ⟨r9, e_9, hF⟩ := hF
        refine fg_getr X ff_X8_s q1585 e_9 dX8_jar_39 ?_
        refine fg_bipush X (v := (52 : Int32)) dX8_jar_42 (by decide) ?_
        refine fg_iconst X (v := (2 : Int32)) dX8_jar_44 (by decide) ?_
        refine fg_aload_n X (r := (some a0)) dX8_jar_45 rfl 0 rfl ?_
        replace hF := fg_ob_some hF
        obtain ⟨r10, e_10, hF⟩ := hF
        refine fg_getr X ff_X8_s q1585 e_10 dX8_jar_46 ?_
        refine fg_bipush X (v := (51 : Int32)) dX8_jar_49 (by decide) ?_
        replace hF := fg_ob_some hF
        obtain ⟨a11, rfl, hF⟩ := hF
        replace hF := fg_ob_some hF
        obtain ⟨x12, e_11, hF⟩ := hF
        refine fg_iald X e_11 dX8_jar_51 ?_
        refine fg_imul X dX8_jar_52 ?_
        refine fg_iadd X dX8_jar_53 ?_
        refine fg_iload_n X dX8_jar_54 rfl 1 rfl ?_
        replace hF := fg_ob_some hF
        obtain ⟨a13, rfl, hF⟩ := hF
        replace hF := fg_ob_some hF
        obtain ⟨G14, e_12, hF⟩ := hF
        refine fg_iast X e_12 dX8_jar_55 ?_
        refine fg_aload_n X (r := (some a0)) dX8_jar_56 rfl 0 rfl ?_
        replace hF := fg_ob_some hF
        obtain ⟨r15, e_13, hF⟩ := hF
        refine fg_getr X ff_X8_s q1585 e_13 dX8_jar_57 ?_
        refine fg_bipush X (v := (52 : Int32)) dX8_jar_60 (by decide) ?_
        refine fg_iconst X (v := (2 : Int32)) dX8_jar_62 (by decide) ?_
        refine fg_aload_n X (r := (some a0)) dX8_jar_63 rfl 0 rfl ?_
        replace hF := fg_ob_some hF
        obtain ⟨r16, e_14, hF⟩ := hF
        refine fg_getr X ff_X8_s q1585 e_14 dX8_jar_64 ?_
        refine fg_bipush X (v := (51 : Int32)) dX8_jar_67 (by decide) ?_
        replace hF := fg_ob_some hF
        obtain ⟨a17, rfl, hF⟩ := hF
        replace hF := fg_ob_some hF
        obtain ⟨x18, e_15, hF⟩ := hF
        refine fg_iald X e_15 dX8_jar_69 ?_
        refine fg_imul X dX8_jar_70 ?_
        refine fg_iadd X dX8_jar_71 ?_
        refine fg_iconst X (v := (1 : Int32)) dX8_jar_72 (by decide) ?_
        refine fg_iadd X dX8_jar_73 ?_
        refine fg_iload_n X dX8_jar_74 rfl 2 rfl ?_
        replace hF := fg_ob_some hF
        obtain ⟨a19, rfl, hF⟩ := hF
        replace hF := fg_ob_some hF
        obtain ⟨G20, e_16, hF⟩ := hF
        refine fg_iast X e_16 dX8_jar_75 ?_
        refine fg_aload_n X (r := (some a0)) dX8_jar_76 rfl 0 rfl ?_
        replace hF := fg_ob_some hF
        obtain ⟨r21, e_17, hF⟩ := hF
        refine fg_getr X ff_X8_s q1585 e_17 dX8_jar_77 ?_
        refine fg_bipush X (v := (51 : Int32)) dX8_jar_80 (by decide) ?_
        refine fg_dup2 X dX8_jar_82 rfl (fg_cat _) ?_
        replace hF := fg_ob_some hF
        obtain ⟨a22, rfl, hF⟩ := hF
        replace hF := fg_ob_some hF
        obtain ⟨x23, e_18, hF⟩ := hF
        refine fg_iald X e_18 dX8_jar_83 ?_
        refine fg_iconst X (v := (1 : Int32)) dX8_jar_84 (by decide) ?_
        refine fg_iadd X dX8_jar_85 ?_
        replace hF := fg_ob_some hF
        obtain ⟨G24, e_19, hF⟩ := hF
        refine fg_iast X e_19 dX8_jar_86 ?_
        refine fg_aload_n X (r := (some a0)) dX8_jar_87 rfl 0 rfl ?_
        replace hF := fg_ob_some hF
        obtain ⟨r25, e_20, hF⟩ := hF
        refine fg_getr X ff_X8_s q1585 e_20 dX8_jar_88 ?_
        refine fg_bipush X (v := (51 : Int32)) dX8_jar_91 (by decide) ?_
        replace hF := fg_ob_some hF
        obtain ⟨a26, rfl, hF⟩ := hF
        replace hF := fg_ob_some hF
        obtain ⟨x27, e_21, hF⟩ := hF
        refine fg_iald X e_21 dX8_jar_93 ?_
        cases hF
        exact fg_iret X dX8_jar_94 (hT)
      · rw [if_pos hc] at hF
        refine fg_iconst X (v := (-1 : Int32)) dX8_jar_36 (by decide) ?_
        cases hF
        exact fg_iret X dX8_jar_37 (hT)
theorem mX8_jar (l : Launch) (D : fg_D) {a0 : Nat} {i1 : Int32} {i2 : Int32} {G : fg_H} {t : Int32 × fg_H} (hF : fX8_jar a0 i1 i2 G = some t) : fg_M l D yX8_jar cX8_jar 3 (some .int) 1 [.ref a0, .int i1, .int i2] G (.returned (some (.int t.1))) t.2 :=
  fg_Mof (own := RX8) (nm := "jar") (L := [(0, .ref a0), (1, .int i1), (2, .int i2)]) (plainFor_of_name pn_X8) rfl rfl rfl (Nat.le_of_ble_eq_true rfl) (fun Ω _ _ X hT => wX8_jar X hF hT)
theorem hd_X8_clear : yX8_clear.cls ≠ "java/lang/invoke/MethodHandle" ∧ yX8_clear.cls ≠ "java/lang/invoke/VarHandle" ∧ (parseMethodDescriptor yX8_clear.desc).map (fun d => d.parameters.length) = some 0 := ⟨by decide +kernel, by decide +kernel, by decide +kernel⟩
set_option maxHeartbeats 4000000 in
theorem wX8_clear {Ω : fg_O} {a0 : Nat} {G : fg_H} {t : Int32 × fg_H} (X : fg_X Ω RX8 "clear" cX8_clear 1 (some .boolean) 0) (hF : fX8_clear a0 G = some t) (hT : fg_T Ω (.returned (some (.int t.1))) t.2) : fg_W Ω G 0 [(0, .ref a0)] [] := by
  unfold fX8_clear at hF
  refine fg_aload_n X (r := (some a0)) dX8_clear_0 rfl 0 rfl ?_
  refine fg_iconst X (v := (0 : Int32)) dX8_clear_1 (by decide) ?_
  replace hF := fg_ob_some hF
  obtain ⟨G1, e_1, hF⟩ := hF
  refine fg_putv X (ty := .int) (v := .int (0 : Int32)) ff_X8_thrown q1548 rfl (Or.inl rfl) rfl rfl rfl e_1 dX8_clear_2 ?_
  refine fg_aload_n X (r := (some a0)) dX8_clear_5 rfl 0 rfl ?_
  replace hF := fg_ob_some hF
  obtain ⟨r2, e_2, hF⟩ := hF
  refine fg_getr X ff_X8_s q1585 e_2 dX8_clear_6 ?_
  refine fg_bipush X (v := (51 : Int32)) dX8_clear_9 (by decide) ?_
  refine fg_iconst X (v := (0 : Int32)) dX8_clear_11 (by decide) ?_
  replace hF := fg_ob_some hF
  obtain ⟨a3, rfl, hF⟩ := hF
  replace hF := fg_ob_some hF
  obtain ⟨G4, e_3, hF⟩ := hF
  refine fg_iast X e_3 dX8_clear_12 ?_
  refine fg_iconst X (v := (1 : Int32)) dX8_clear_13 (by decide) ?_
  cases hF
  exact fg_zret X (by decide) dX8_clear_14 (hT)
theorem mX8_clear (l : Launch) (D : fg_D) {a0 : Nat} {G : fg_H} {t : Int32 × fg_H} (hF : fX8_clear a0 G = some t) : fg_M l D yX8_clear cX8_clear 1 (some .boolean) 0 [.ref a0] G (.returned (some (.int t.1))) t.2 :=
  fg_Mof (own := RX8) (nm := "clear") (L := [(0, .ref a0)]) (plainFor_of_name pn_X8) rfl rfl rfl (Nat.le_of_ble_eq_true rfl) (fun Ω _ _ X hT => wX8_clear X hF hT)
theorem hd_X8_blowing : yX8_blowing.cls ≠ "java/lang/invoke/MethodHandle" ∧ yX8_blowing.cls ≠ "java/lang/invoke/VarHandle" ∧ (parseMethodDescriptor yX8_blowing.desc).map (fun d => d.parameters.length) = some 1 := ⟨by decide +kernel, by decide +kernel, by decide +kernel⟩
set_option maxHeartbeats 4000000 in
theorem wX8_blowing_98b {Ω : fg_O} {a0 : Nat} {i1 : Int32} {i2 : Int32} {i3 : Int32} {i4 : Int32} {i6 : Int32} {i7 : Int32} {G : fg_H} {t : ((Nat × Int32 × Int32 × Int32 × Int32 × Int32 × Int32 × fg_H) ⊕ ((Nat × Int32 × Int32 × Int32 × Int32 × fg_H) ⊕ (Int32 × fg_H)))} (X : fg_X Ω RX8 "blowing" cX8_blowing 8 (some .int) 6) (hF : fX8_blowing_98b a0 i1 i2 i3 i4 i6 i7 G = some t) (h29 : ∀ z, t = (.inr (.inl z)) → fg_W Ω z.2.2.2.2.2 29 [(0, .ref z.1), (1, .int z.2.1), (2, .int z.2.2.1), (3, .int z.2.2.2.1), (4, .int z.2.2.2.2.1)] []) (h98 : ∀ z, t = (.inl z) → fg_W Ω z.2.2.2.2.2.2.2 98 [(0, .ref z.1), (1, .int z.2.1), (2, .int z.2.2.1), (3, .int z.2.2.2.1), (4, .int z.2.2.2.2.1), (6, .int z.2.2.2.2.2.1), (7, .int z.2.2.2.2.2.2.1)] []) (hT : ∀ u, t = (.inr (.inr u)) → fg_T Ω (.returned (some (.int u.1))) u.2) : fg_W Ω G 98 [(0, .ref a0), (1, .int i1), (2, .int i2), (3, .int i3), (4, .int i4), (6, .int i6), (7, .int i7)] [] := by
  unfold fX8_blowing_98b at hF
  refine fg_iload X dX8_blowing_98 6 rfl ?_
  refine fg_aload_n X (r := (some a0)) dX8_blowing_100 rfl 0 rfl ?_
  replace hF := fg_ob_some hF
  obtain ⟨r11, e_1, hF⟩ := hF
  refine fg_getr X ff_X8_s q1585 e_1 dX8_blowing_101 ?_
  refine fg_bipush X (v := (51 : Int32)) dX8_blowing_104 (by decide) ?_
  replace hF := fg_ob_some hF
  obtain ⟨a12, rfl, hF⟩ := hF
  replace hF := fg_ob_some hF
  obtain ⟨x13, e_2, hF⟩ := hF
  refine fg_iald X e_2 dX8_blowing_106 ?_
  refine fg_icmp_ge X (tgt := 162) dX8_blowing_107 (by decide) (fun hc => ?_) (fun hc => ?_)
  · rw [if_pos hc] at hF
    replace hF := fg_rt_some hF
    obtain ⟨t14, hF, ht_3⟩ := hF
    subst ht_3
    replace h29 := fun z q => h29 z (congrArg Sum.inr q)
    replace hT := fun u q => hT u (congrArg Sum.inr q)
    refine fg_iload X dX8_blowing_162 5 rfl ?_
    refine fg_if_ne X (tgt := 170) dX8_blowing_164 (by decide) (fun hc => ?_) (fun hc => ?_)
    · rw [if_neg hc] at hF
      refine fg_iload_n X dX8_blowing_170 rfl 3 rfl ?_
      refine fg_iload_n X dX8_blowing_171 rfl 1 rfl ?_
      refine fg_icmp_ne X (tgt := 178) dX8_blowing_172 (by decide) (fun hc => ?_) (fun hc => ?_)
      · rw [if_neg hc] at hF
        refine fg_iinc X (v := (i3 + (1 : Int32))) (L' := [(3, .int (i3 + (1 : Int32))), (0, .ref a0), (1, .int i1), (2, .int i2), (4, .int i4), (6, .int i6), (7, .int i7)]) dX8_blowing_178 3 rfl rfl (by decide) rfl ?_
        refine fg_iinc X (v := (i4 + (1 : Int32))) (L' := [(4, .int (i4 + (1 : Int32))), (3, .int (i3 + (1 : Int32))), (0, .ref a0), (1, .int i1), (2, .int i2), (6, .int i6), (7, .int i7)]) dX8_blowing_181 4 rfl rfl (by decide) rfl ?_
        refine fg_goto X (tgt := 29) dX8_blowing_184 (by decide) ?_
        refine fg_sub [2, 3, 4, 1, 0] rfl ?_
        exact h29 _ (Option.some.inj hF).symm
      · rw [if_pos hc] at hF
        replace hF := fg_rt_some hF
        obtain ⟨t15, hF, ht_4⟩ := hF
        subst ht_4
        replace hT := hT _ rfl
        refine fg_iload X dX8_blowing_175 4 rfl ?_
        cases hF
        exact fg_iret X dX8_blowing_177 (hT)
    · rw [if_pos hc] at hF
      refine fg_goto X (tgt := 181) dX8_blowing_167 (by decide) ?_
      refine fg_iinc X (v := (i4 + (1 : Int32))) (L' := [(4, .int (i4 + (1 : Int32))), (0, .ref a0), (1, .int i1), (2, .int i2), (3, .int i3), (6, .int i6), (7, .int i7)]) dX8_blowing_181 4 rfl rfl (by decide) rfl ?_
      refine fg_goto X (tgt := 29) dX8_blowing_184 (by decide) ?_
      refine fg_sub [1, 2, 3, 4, 0] rfl ?_
      exact h29 _ (Option.some.inj hF).symm
  · rw [if_neg hc] at hF
    refine fg_iload X dX8_blowing_110 5 rfl ?_
    refine fg_if_eq X (tgt := 153) dX8_blowing_112 (by decide) (fun hc => ?_) (fun hc => ?_)
    · rw [if_pos hc] at hF
      refine fg_iconst X (v := (0 : Int32)) dX8_blowing_153 (by decide) ?_
      refine fg_istore X (L' := [(6, .int (0 : Int32)), (0, .ref a0), (1, .int i1), (2, .int i2), (3, .int i3), (4, .int i4), (7, .int i7)]) dX8_blowing_154 (by decide) rfl ?_
      refine fg_iinc X (v := (i7 + (1 : Int32))) (L' := [(7, .int (i7 + (1 : Int32))), (6, .int (0 : Int32)), (0, .ref a0), (1, .int i1), (2, .int i2), (3, .int i3), (4, .int i4)]) dX8_blowing_156 6 rfl rfl (by decide) rfl ?_
      refine fg_goto X (tgt := 98) dX8_blowing_159 (by decide) ?_
      refine fg_sub [2, 3, 4, 5, 6, 1, 0] rfl ?_
      exact h98 _ (Option.some.inj hF).symm
    · rw [if_neg hc] at hF
      refine fg_aload_n X (r := (some a0)) dX8_blowing_115 rfl 0 rfl ?_
      replace hF := fg_ob_some hF
      obtain ⟨r16, e_5, hF⟩ := hF
      refine fg_getr X ff_X8_takes q1588 e_5 dX8_blowing_116 ?_
      refine fg_aload_n X (r := (some a0)) dX8_blowing_119 rfl 0 rfl ?_
      replace hF := fg_ob_some hF
      obtain ⟨r17, e_6, hF⟩ := hF
      refine fg_getr X ff_X8_s q1585 e_6 dX8_blowing_120 ?_
      refine fg_bipush X (v := (52 : Int32)) dX8_blowing_123 (by decide) ?_
      refine fg_iconst X (v := (2 : Int32)) dX8_blowing_125 (by decide) ?_
      refine fg_iload X dX8_blowing_126 6 rfl ?_
      refine fg_imul X dX8_blowing_128 ?_
      refine fg_iadd X dX8_blowing_129 ?_
      replace hF := fg_ob_some hF
      obtain ⟨a18, rfl, hF⟩ := hF
      replace hF := fg_ob_some hF
      obtain ⟨x19, e_7, hF⟩ := hF
      refine fg_iald X e_7 dX8_blowing_130 ?_
      replace hF := fg_ob_some hF
      obtain ⟨a20, rfl, hF⟩ := hF
      replace hF := fg_ob_some hF
      obtain ⟨x21, e_8, hF⟩ := hF
      refine fg_iald X e_8 dX8_blowing_131 ?_
      refine fg_aload_n X (r := (some a0)) dX8_blowing_132 rfl 0 rfl ?_
      replace hF := fg_ob_some hF
      obtain ⟨r22, e_9, hF⟩ := hF
      refine fg_getr X ff_X8_s q1585 e_9 dX8_blowing_133 ?_
      refine fg_bipush X (v := (52 : Int32)) dX8_blowing_136 (by decide) ?_
      refine fg_iconst X (v := (2 : Int32)) dX8_blowing_138 (by decide) ?_
      refine fg_iload X dX8_blowing_139 6 rfl ?_
      refine fg_imul X dX8_blowing_141 ?_
      refine fg_iadd X dX8_blowing_142 ?_
      refine fg_iconst X (v := (1 : Int32)) dX8_blowing_143 (by decide) ?_
      refine fg_iadd X dX8_blowing_144 ?_
      replace hF := fg_ob_some hF
      obtain ⟨a23, rfl, hF⟩ := hF
      replace hF := fg_ob_some hF
      obtain ⟨x24, e_10, hF⟩ := hF
      refine fg_iald X e_10 dX8_blowing_145 ?_
      refine fg_icmp_ne X (tgt := 153) dX8_blowing_146 (by decide) (fun hc => ?_) (fun hc => ?_)
      · rw [if_neg hc] at hF
        refine fg_iconst X (v := (0 : Int32)) dX8_blowing_153 (by decide) ?_
        refine fg_istore X (L' := [(6, .int (0 : Int32)), (0, .ref a0), (1, .int i1), (2, .int i2), (3, .int i3), (4, .int i4), (7, .int i7)]) dX8_blowing_154 (by decide) rfl ?_
        refine fg_iinc X (v := (i7 + (1 : Int32))) (L' := [(7, .int (i7 + (1 : Int32))), (6, .int (0 : Int32)), (0, .ref a0), (1, .int i1), (2, .int i2), (3, .int i3), (4, .int i4)]) dX8_blowing_156 6 rfl rfl (by decide) rfl ?_
        refine fg_goto X (tgt := 98) dX8_blowing_159 (by decide) ?_
        refine fg_sub [2, 3, 4, 5, 6, 1, 0] rfl ?_
        exact h98 _ (Option.some.inj hF).symm
      · rw [if_pos hc] at hF
        refine fg_iconst X (v := (1 : Int32)) dX8_blowing_149 (by decide) ?_
        refine fg_goto X (tgt := 154) dX8_blowing_150 (by decide) ?_
        refine fg_istore X (L' := [(6, .int (1 : Int32)), (0, .ref a0), (1, .int i1), (2, .int i2), (3, .int i3), (4, .int i4), (7, .int i7)]) dX8_blowing_154 (by decide) rfl ?_
        refine fg_iinc X (v := (i7 + (1 : Int32))) (L' := [(7, .int (i7 + (1 : Int32))), (6, .int (1 : Int32)), (0, .ref a0), (1, .int i1), (2, .int i2), (3, .int i3), (4, .int i4)]) dX8_blowing_156 6 rfl rfl (by decide) rfl ?_
        refine fg_goto X (tgt := 98) dX8_blowing_159 (by decide) ?_
        refine fg_sub [2, 3, 4, 5, 6, 1, 0] rfl ?_
        exact h98 _ (Option.some.inj hF).symm
set_option maxHeartbeats 4000000 in
seal fX8_blowing_98b in
theorem wX8_blowing_98 {Ω : fg_O} {a0 : Nat} {i1 : Int32} {i2 : Int32} {i3 : Int32} {i4 : Int32} {i6 : Int32} {i7 : Int32} {G : fg_H} {t : ((Nat × Int32 × Int32 × Int32 × Int32 × fg_H) ⊕ (Int32 × fg_H))} (X : fg_X Ω RX8 "blowing" cX8_blowing 8 (some .int) 6) (hF : fX8_blowing_98 a0 i1 i2 i3 i4 i6 i7 G = some t) (h29 : ∀ z, t = (.inl z) → fg_W Ω z.2.2.2.2.2 29 [(0, .ref z.1), (1, .int z.2.1), (2, .int z.2.2.1), (3, .int z.2.2.2.1), (4, .int z.2.2.2.2.1)] []) (hT : ∀ u, t = (.inr u) → fg_T Ω (.returned (some (.int u.1))) u.2) : fg_W Ω G 98 [(0, .ref a0), (1, .int i1), (2, .int i2), (3, .int i3), (4, .int i4), (6, .int i6), (7, .int i7)] [] := by
  unfold fX8_blowing_98 at hF
  exact fg_lp_walk (P := fun z => fg_W Ω z.2.2.2.2.2.2.2 98 [(0, .ref z.1), (1, .int z.2.1), (2, .int z.2.2.1), (3, .int z.2.2.2.1), (4, .int z.2.2.2.2.1), (6, .int z.2.2.2.2.2.1), (7, .int z.2.2.2.2.2.2.1)] []) (fun y o ho hl hr => wX8_blowing_98b X ho (fun z e => h29 z (hr _ e).symm) (fun z e => hl z e) (fun u e => hT u (hr _ e).symm)) hF
set_option maxHeartbeats 4000000 in
theorem wX8_blowing_46b {Ω : fg_O} {a0 : Nat} {i1 : Int32} {i2 : Int32} {i3 : Int32} {i4 : Int32} {i5 : Int32} {i6 : Int32} {G : fg_H} {t : ((Nat × Int32 × Int32 × Int32 × Int32 × Int32 × Int32 × fg_H) ⊕ ((Nat × Int32 × Int32 × Int32 × Int32 × fg_H) ⊕ (Int32 × fg_H)))} (X : fg_X Ω RX8 "blowing" cX8_blowing 8 (some .int) 6) (hF : fX8_blowing_46b a0 i1 i2 i3 i4 i5 i6 G = some t) (h29 : ∀ z, t = (.inr (.inl z)) → fg_W Ω z.2.2.2.2.2 29 [(0, .ref z.1), (1, .int z.2.1), (2, .int z.2.2.1), (3, .int z.2.2.2.1), (4, .int z.2.2.2.2.1)] []) (h46 : ∀ z, t = (.inl z) → fg_W Ω z.2.2.2.2.2.2.2 46 [(0, .ref z.1), (1, .int z.2.1), (2, .int z.2.2.1), (3, .int z.2.2.2.1), (4, .int z.2.2.2.2.1), (5, .int z.2.2.2.2.2.1), (6, .int z.2.2.2.2.2.2.1)] []) (hT : ∀ u, t = (.inr (.inr u)) → fg_T Ω (.returned (some (.int u.1))) u.2) : fg_W Ω G 46 [(0, .ref a0), (1, .int i1), (2, .int i2), (3, .int i3), (4, .int i4), (5, .int i5), (6, .int i6)] [] := by
  unfold fX8_blowing_46b at hF
  refine fg_iload X dX8_blowing_46 6 rfl ?_
  refine fg_aload_n X (r := (some a0)) dX8_blowing_48 rfl 0 rfl ?_
  replace hF := fg_ob_some hF
  obtain ⟨r7, e_1, hF⟩ := hF
  refine fg_getr X ff_X8_ridge q1558 e_1 dX8_blowing_49 ?_
  refine fg_iconst X (v := (2 : Int32)) dX8_blowing_52 (by decide) ?_
  replace hF := fg_ob_some hF
  obtain ⟨a8, rfl, hF⟩ := hF
  replace hF := fg_ob_some hF
  obtain ⟨x9, e_2, hF⟩ := hF
  refine fg_iald X e_2 dX8_blowing_53 ?_
  refine fg_icmp_ge X (tgt := 92) dX8_blowing_54 (by decide) (fun hc => ?_) (fun hc => ?_)
  · rw [if_pos hc] at hF
    replace hF := fg_rt_some hF
    obtain ⟨t10, hF, ht_3⟩ := hF
    subst ht_3
    replace h29 := fun z q => h29 z (congrArg Sum.inr q)
    replace hT := fun u q => hT u (congrArg Sum.inr q)
    refine fg_iconst X (v := (1 : Int32)) dX8_blowing_92 (by decide) ?_
    refine fg_istore X (L' := [(6, .int (1 : Int32)), (0, .ref a0), (1, .int i1), (2, .int i2), (3, .int i3), (4, .int i4), (5, .int i5)]) dX8_blowing_93 (by decide) rfl ?_
    refine fg_iconst X (v := (0 : Int32)) dX8_blowing_95 (by decide) ?_
    refine fg_istore X (L' := [(7, .int (0 : Int32)), (6, .int (1 : Int32)), (0, .ref a0), (1, .int i1), (2, .int i2), (3, .int i3), (4, .int i4), (5, .int i5)]) dX8_blowing_96 (by decide) rfl ?_
    refine fg_sub [2, 3, 4, 5, 6, 1, 0] rfl ?_
    exact wX8_blowing_98 X hF h29 hT
  · rw [if_neg hc] at hF
    refine fg_aload_n X (r := (some a0)) dX8_blowing_57 rfl 0 rfl ?_
    refine fg_aload_n X (r := (some a0)) dX8_blowing_58 rfl 0 rfl ?_
    replace hF := fg_gd_some hF
    obtain ⟨eg_4, hF⟩ := hF
    obtain ⟨fs_5, eo_6⟩ := fg_rc_get eg_4
    replace hF := fg_oc_some hF
    obtain ⟨x26, G25, e_7, hF⟩ := hF
    refine fg_callV X (st := [.ref a0]) (mX8_all Ω.2.2.2.2.1 Ω.1 e_7) q1885 q1887 qs75 q105 q1888 hd_X8_all (by decide) rfl eo_6 (by decide) rfl rfl (Nat.le_of_ble_eq_true rfl) dX8_blowing_59 ?_
    refine fg_iload X dX8_blowing_62 6 rfl ?_
    refine fg_aload_n X (r := (some a0)) dX8_blowing_64 rfl 0 rfl ?_
    replace hF := fg_ob_some hF
    obtain ⟨r27, e_8, hF⟩ := hF
    refine fg_getr X ff_X8_s q1585 e_8 dX8_blowing_65 ?_
    refine fg_bipush X (v := (50 : Int32)) dX8_blowing_68 (by decide) ?_
    replace hF := fg_ob_some hF
    obtain ⟨a28, rfl, hF⟩ := hF
    replace hF := fg_ob_some hF
    obtain ⟨x29, e_9, hF⟩ := hF
    refine fg_iald X e_9 dX8_blowing_70 ?_
    refine fg_iconst X (v := (1 : Int32)) dX8_blowing_71 (by decide) ?_
    refine fg_isub X dX8_blowing_72 ?_
    refine fg_iload X dX8_blowing_73 5 rfl ?_
    refine fg_iconst X (v := (4 : Int32)) dX8_blowing_75 (by decide) ?_
    refine fg_irem X dX8_blowing_76 (by decide) ?_
    replace hF := fg_gd_some hF
    obtain ⟨eg_10, hF⟩ := hF
    obtain ⟨fs_11, eo_12⟩ := fg_rc_get eg_10
    replace hF := fg_oc_some hF
    obtain ⟨u, G30, e_13, hF⟩ := hF
    refine fg_callV X (st := []) (mX8_blows Ω.2.2.2.2.1 Ω.1 e_13) q1917 q1919 qs82 q105 q1920 hd_X8_blows (by decide) rfl eo_12 (by decide) rfl rfl (Nat.le_of_ble_eq_true rfl) dX8_blowing_77 ?_
    refine fg_iload X dX8_blowing_80 5 rfl ?_
    refine fg_iconst X (v := (4 : Int32)) dX8_blowing_82 (by decide) ?_
    refine fg_idiv X dX8_blowing_83 (by decide) ?_
    replace hF := fg_ob_some hF
    obtain ⟨v31, ex_14, hF⟩ := hF
    refine fg_topi (Option.some.inj ex_14) ?_
    refine fg_istore X (L' := [(5, .int v31), (0, .ref a0), (1, .int i1), (2, .int i2), (3, .int i3), (4, .int i4), (6, .int i6)]) dX8_blowing_84 (by decide) rfl ?_
    refine fg_iinc X (v := (i6 + (1 : Int32))) (L' := [(6, .int (i6 + (1 : Int32))), (5, .int v31), (0, .ref a0), (1, .int i1), (2, .int i2), (3, .int i3), (4, .int i4)]) dX8_blowing_86 6 rfl rfl (by decide) rfl ?_
    refine fg_goto X (tgt := 46) dX8_blowing_89 (by decide) ?_
    refine fg_sub [2, 3, 4, 5, 6, 1, 0] rfl ?_
    exact h46 _ (Option.some.inj hF).symm
set_option maxHeartbeats 4000000 in
seal fX8_blowing_46b in
theorem wX8_blowing_46 {Ω : fg_O} {a0 : Nat} {i1 : Int32} {i2 : Int32} {i3 : Int32} {i4 : Int32} {i5 : Int32} {i6 : Int32} {G : fg_H} {t : ((Nat × Int32 × Int32 × Int32 × Int32 × fg_H) ⊕ (Int32 × fg_H))} (X : fg_X Ω RX8 "blowing" cX8_blowing 8 (some .int) 6) (hF : fX8_blowing_46 a0 i1 i2 i3 i4 i5 i6 G = some t) (h29 : ∀ z, t = (.inl z) → fg_W Ω z.2.2.2.2.2 29 [(0, .ref z.1), (1, .int z.2.1), (2, .int z.2.2.1), (3, .int z.2.2.2.1), (4, .int z.2.2.2.2.1)] []) (hT : ∀ u, t = (.inr u) → fg_T Ω (.returned (some (.int u.1))) u.2) : fg_W Ω G 46 [(0, .ref a0), (1, .int i1), (2, .int i2), (3, .int i3), (4, .int i4), (5, .int i5), (6, .int i6)] [] := by
  unfold fX8_blowing_46 at hF
  exact fg_lp_walk (P := fun z => fg_W Ω z.2.2.2.2.2.2.2 46 [(0, .ref z.1), (1, .int z.2.1), (2, .int z.2.2.1), (3, .int z.2.2.2.1), (4, .int z.2.2.2.2.1), (5, .int z.2.2.2.2.2.1), (6, .int z.2.2.2.2.2.2.1)] []) (fun y o ho hl hr => wX8_blowing_46b X ho (fun z e => h29 z (hr _ e).symm) (fun z e => hl z e) (fun u e => hT u (hr _ e).symm)) hF
set_option maxHeartbeats 4000000 in
theorem wX8_blowing_29b {Ω : fg_O} {a0 : Nat} {i1 : Int32} {i2 : Int32} {i3 : Int32} {i4 : Int32} {G : fg_H} {t : ((Nat × Int32 × Int32 × Int32 × Int32 × fg_H) ⊕ (Int32 × fg_H))} (X : fg_X Ω RX8 "blowing" cX8_blowing 8 (some .int) 6) (hF : fX8_blowing_29b a0 i1 i2 i3 i4 G = some t) (h29 : ∀ z, t = (.inl z) → fg_W Ω z.2.2.2.2.2 29 [(0, .ref z.1), (1, .int z.2.1), (2, .int z.2.2.1), (3, .int z.2.2.2.1), (4, .int z.2.2.2.2.1)] []) (hT : ∀ u, t = (.inr u) → fg_T Ω (.returned (some (.int u.1))) u.2) : fg_W Ω G 29 [(0, .ref a0), (1, .int i1), (2, .int i2), (3, .int i3), (4, .int i4)] [] := by
  unfold fX8_blowing_29b at hF
  refine fg_iload X dX8_blowing_29 4 rfl ?_
  refine fg_iload_n X dX8_blowing_31 rfl 2 rfl ?_
  refine fg_icmp_ge X (tgt := 187) dX8_blowing_32 (by decide) (fun hc => ?_) (fun hc => ?_)
  · rw [if_pos hc] at hF
    replace hF := fg_rt_some hF
    obtain ⟨t5, hF, ht_1⟩ := hF
    subst ht_1
    replace hT := hT _ rfl
    refine fg_iload_n X dX8_blowing_187 rfl 1 rfl ?_
    refine fg_if_ge X (tgt := 195) dX8_blowing_188 (by decide) (fun hc => ?_) (fun hc => ?_)
    · rw [if_pos hc] at hF
      refine fg_iconst X (v := (-1 : Int32)) dX8_blowing_195 (by decide) ?_
      cases hF
      exact fg_iret X dX8_blowing_196 (hT)
    · rw [if_neg hc] at hF
      refine fg_iload_n X dX8_blowing_191 rfl 3 rfl ?_
      refine fg_goto X (tgt := 196) dX8_blowing_192 (by decide) ?_
      cases hF
      exact fg_iret X dX8_blowing_196 (hT)
  · rw [if_neg hc] at hF
    refine fg_aload_n X (r := (some a0)) dX8_blowing_35 rfl 0 rfl ?_
    replace hF := fg_gd_some hF
    obtain ⟨eg_2, hF⟩ := hF
    obtain ⟨fs_3, eo_4⟩ := fg_rc_get eg_2
    replace hF := fg_oc_some hF
    obtain ⟨u, G6, e_5, hF⟩ := hF
    refine fg_callV X (st := []) (mX8_clears Ω.2.2.2.2.1 Ω.1 e_5) q1913 q1915 qs81 q105 q1916 hd_X8_clears (by decide) rfl eo_4 (by decide) rfl rfl (Nat.le_of_ble_eq_true rfl) dX8_blowing_36 ?_
    refine fg_iload X dX8_blowing_39 4 rfl ?_
    refine fg_istore X (L' := [(5, .int i4), (0, .ref a0), (1, .int i1), (2, .int i2), (3, .int i3), (4, .int i4)]) dX8_blowing_41 (by decide) rfl ?_
    refine fg_iconst X (v := (0 : Int32)) dX8_blowing_43 (by decide) ?_
    refine fg_istore X (L' := [(6, .int (0 : Int32)), (5, .int i4), (0, .ref a0), (1, .int i1), (2, .int i2), (3, .int i3), (4, .int i4)]) dX8_blowing_44 (by decide) rfl ?_
    refine fg_sub [2, 3, 4, 5, 6, 1, 0] rfl ?_
    exact wX8_blowing_46 X hF h29 hT
set_option maxHeartbeats 4000000 in
seal fX8_blowing_29b in
theorem wX8_blowing_29 {Ω : fg_O} {a0 : Nat} {i1 : Int32} {i2 : Int32} {i3 : Int32} {i4 : Int32} {G : fg_H} {t : (Int32 × fg_H)} (X : fg_X Ω RX8 "blowing" cX8_blowing 8 (some .int) 6) (hF : fX8_blowing_29 a0 i1 i2 i3 i4 G = some t) (hT : fg_T Ω (.returned (some (.int t.1))) t.2) : fg_W Ω G 29 [(0, .ref a0), (1, .int i1), (2, .int i2), (3, .int i3), (4, .int i4)] [] := by
  unfold fX8_blowing_29 at hF
  exact fg_lp_walk (P := fun z => fg_W Ω z.2.2.2.2.2 29 [(0, .ref z.1), (1, .int z.2.1), (2, .int z.2.2.1), (3, .int z.2.2.2.1), (4, .int z.2.2.2.2.1)] []) (fun y o ho hl hr => wX8_blowing_29b X ho (fun z e => hl z e) (fun u e => by rw [hr _ e]; exact hT)) hF
set_option maxHeartbeats 4000000 in
theorem wX8_blowing_4b {Ω : fg_O} {a0 : Nat} {i1 : Int32} {i2 : Int32} {i3 : Int32} {G : fg_H} {t : ((Nat × Int32 × Int32 × Int32 × fg_H) ⊕ (Int32 × fg_H))} (X : fg_X Ω RX8 "blowing" cX8_blowing 8 (some .int) 6) (hF : fX8_blowing_4b a0 i1 i2 i3 G = some t) (h4 : ∀ z, t = (.inl z) → fg_W Ω z.2.2.2.2 4 [(0, .ref z.1), (1, .int z.2.1), (2, .int z.2.2.1), (3, .int z.2.2.2.1)] []) (hT : ∀ u, t = (.inr u) → fg_T Ω (.returned (some (.int u.1))) u.2) : fg_W Ω G 4 [(0, .ref a0), (1, .int i1), (2, .int i2), (3, .int i3)] [] := by
  unfold fX8_blowing_4b at hF
  refine fg_iload_n X dX8_blowing_4 rfl 3 rfl ?_
  refine fg_aload_n X (r := (some a0)) dX8_blowing_5 rfl 0 rfl ?_
  replace hF := fg_ob_some hF
  obtain ⟨r1, e_1, hF⟩ := hF
  refine fg_getr X ff_X8_ridge q1558 e_1 dX8_blowing_6 ?_
  refine fg_iconst X (v := (2 : Int32)) dX8_blowing_9 (by decide) ?_
  replace hF := fg_ob_some hF
  obtain ⟨a2, rfl, hF⟩ := hF
  replace hF := fg_ob_some hF
  obtain ⟨x3, e_2, hF⟩ := hF
  refine fg_iald X e_2 dX8_blowing_10 ?_
  refine fg_icmp_ge X (tgt := 24) dX8_blowing_11 (by decide) (fun hc => ?_) (fun hc => ?_)
  · rw [if_pos hc] at hF
    replace hF := fg_rt_some hF
    obtain ⟨t4, hF, ht_3⟩ := hF
    subst ht_3
    replace hT := hT _ rfl
    refine fg_iconst X (v := (0 : Int32)) dX8_blowing_24 (by decide) ?_
    refine fg_istore_n X (L' := [(3, .int (0 : Int32)), (0, .ref a0), (1, .int i1), (2, .int i2)]) dX8_blowing_25 rfl (by decide) rfl ?_
    refine fg_iconst X (v := (0 : Int32)) dX8_blowing_26 (by decide) ?_
    refine fg_istore X (L' := [(4, .int (0 : Int32)), (3, .int (0 : Int32)), (0, .ref a0), (1, .int i1), (2, .int i2)]) dX8_blowing_27 (by decide) rfl ?_
    refine fg_sub [2, 3, 4, 1, 0] rfl ?_
    exact wX8_blowing_29 X hF hT
  · rw [if_neg hc] at hF
    refine fg_iload_n X dX8_blowing_14 rfl 2 rfl ?_
    refine fg_iconst X (v := (4 : Int32)) dX8_blowing_15 (by decide) ?_
    refine fg_imul X dX8_blowing_16 ?_
    replace hF := fg_ob_some hF
    obtain ⟨v32, ex_4, hF⟩ := hF
    refine fg_topi (Option.some.inj ex_4) ?_
    refine fg_istore_n X (L' := [(2, .int v32), (0, .ref a0), (1, .int i1), (3, .int i3)]) dX8_blowing_17 rfl (by decide) rfl ?_
    refine fg_iinc X (v := (i3 + (1 : Int32))) (L' := [(3, .int (i3 + (1 : Int32))), (2, .int v32), (0, .ref a0), (1, .int i1)]) dX8_blowing_18 3 rfl rfl (by decide) rfl ?_
    refine fg_goto X (tgt := 4) dX8_blowing_21 (by decide) ?_
    refine fg_sub [2, 3, 1, 0] rfl ?_
    exact h4 _ (Option.some.inj hF).symm
set_option maxHeartbeats 4000000 in
seal fX8_blowing_4b in
theorem wX8_blowing_4 {Ω : fg_O} {a0 : Nat} {i1 : Int32} {i2 : Int32} {i3 : Int32} {G : fg_H} {t : (Int32 × fg_H)} (X : fg_X Ω RX8 "blowing" cX8_blowing 8 (some .int) 6) (hF : fX8_blowing_4 a0 i1 i2 i3 G = some t) (hT : fg_T Ω (.returned (some (.int t.1))) t.2) : fg_W Ω G 4 [(0, .ref a0), (1, .int i1), (2, .int i2), (3, .int i3)] [] := by
  unfold fX8_blowing_4 at hF
  exact fg_lp_walk (P := fun z => fg_W Ω z.2.2.2.2 4 [(0, .ref z.1), (1, .int z.2.1), (2, .int z.2.2.1), (3, .int z.2.2.2.1)] []) (fun y o ho hl hr => wX8_blowing_4b X ho (fun z e => hl z e) (fun u e => by rw [hr _ e]; exact hT)) hF
set_option maxHeartbeats 4000000 in
theorem wX8_blowing {Ω : fg_O} {a0 : Nat} {i1 : Int32} {G : fg_H} {t : Int32 × fg_H} (X : fg_X Ω RX8 "blowing" cX8_blowing 8 (some .int) 6) (hF : fX8_blowing a0 i1 G = some t) (hT : fg_T Ω (.returned (some (.int t.1))) t.2) : fg_W Ω G 0 [(0, .ref a0), (1, .int i1)] [] := by
  unfold fX8_blowing at hF
  refine fg_iconst X (v := (1 : Int32)) dX8_blowing_0 (by decide) ?_
  refine fg_istore_n X (L' := [(2, .int (1 : Int32)), (0, .ref a0), (1, .int i1)]) dX8_blowing_1 rfl (by decide) rfl ?_
  refine fg_iconst X (v := (0 : Int32)) dX8_blowing_2 (by decide) ?_
  refine fg_istore_n X (L' := [(3, .int (0 : Int32)), (2, .int (1 : Int32)), (0, .ref a0), (1, .int i1)]) dX8_blowing_3 rfl (by decide) rfl ?_
  refine fg_sub [2, 3, 1, 0] rfl ?_
  exact wX8_blowing_4 X hF hT
theorem mX8_blowing (l : Launch) (D : fg_D) {a0 : Nat} {i1 : Int32} {G : fg_H} {t : Int32 × fg_H} (hF : fX8_blowing a0 i1 G = some t) : fg_M l D yX8_blowing cX8_blowing 8 (some .int) 6 [.ref a0, .int i1] G (.returned (some (.int t.1))) t.2 :=
  fg_Mof (own := RX8) (nm := "blowing") (L := [(0, .ref a0), (1, .int i1)]) (plainFor_of_name pn_X8) rfl rfl rfl (Nat.le_of_ble_eq_true rfl) (fun Ω _ _ X hT => wX8_blowing X hF hT)

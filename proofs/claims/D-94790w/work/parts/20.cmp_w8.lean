set_option maxRecDepth 100000
theorem hd_X2_takeWord : yX2_takeWord.cls ≠ "java/lang/invoke/MethodHandle" ∧ yX2_takeWord.cls ≠ "java/lang/invoke/VarHandle" ∧ (parseMethodDescriptor yX2_takeWord.desc).map (fun d => d.parameters.length) = some 1 := ⟨by decide +kernel, by decide +kernel, by decide +kernel⟩
set_option maxHeartbeats 4000000 in
theorem wX2_takeWord {Ω : fg_O} {a0 : Nat} {r1 : Option Nat} {G : fg_H} {t : (Unit ⊕ Nat) × fg_H} (X : fg_X Ω RX2 "takeWord" cX2_takeWord 2 none 7) (hF : fX2_takeWord a0 r1 G = some t) (hT : fg_TX Ω (fg_ov t.1) t.2) : fg_W Ω G 0 [(0, .ref a0), (1, va_rf r1)] [] := by
  unfold fX2_takeWord at hF
  refine fg_aload_n X (r := (some a0)) dX2_takeWord_0 rfl 0 rfl ?_
  refine fg_aload_n X (r := r1) dX2_takeWord_1 rfl 1 rfl ?_
  replace hF := fg_gd_some hF
  obtain ⟨eg_1, hF⟩ := hF
  obtain ⟨fs_2, eo_3⟩ := fg_rc_get eg_1
  replace hF := fg_oc_some hF
  obtain ⟨xz2, Gz1, e_4, hF⟩ := hF
  refine fg_callV X (st := []) (mX2_hasWord Ω.2.2.2.2.1 Ω.1 e_4) q977 q979 qs24 q94 q980 hd_X2_hasWord (by decide) rfl eo_3 (by decide) rfl rfl (Nat.le_of_ble_eq_true rfl) dX2_takeWord_2 ?_
  refine fg_if_ne X (tgt := 14) dX2_takeWord_5 (by decide) (fun hc => ?_) (fun hc => ?_)
  · rw [if_neg hc] at hF
    cases hF
    exact fg_vret X dX2_takeWord_14 ((hT).1)
  · rw [if_pos hc] at hF
    refine fg_aload_n X (r := (some a0)) dX2_takeWord_8 rfl 0 rfl ?_
    refine fg_iconst X (v := (1 : Int32)) dX2_takeWord_9 (by decide) ?_
    replace hF := fg_gd_some hF
    obtain ⟨eg_5, hF⟩ := hF
    obtain ⟨fs_6, eo_7⟩ := fg_rc_get eg_5
    replace hF := fg_oc_some hF
    obtain ⟨rz4, Gz3, e_8, hF⟩ := hF
    refine fg_callV X (st := []) (mX2_wrong Ω.2.2.2.2.1 Ω.1 e_8) q656 q658 qs4 q94 q659 hd_X2_wrong (by decide) rfl eo_7 (by decide) rfl rfl (Nat.le_of_ble_eq_true rfl) dX2_takeWord_10 ?_
    replace hF := fg_ob_some hF
    obtain ⟨az5, rfl, hF⟩ := hF
    replace hF := fg_gd_some hF
    obtain ⟨eg_9, hF⟩ := hF
    obtain ⟨fs_10, eo_11⟩ := fg_rc_get eg_9
    cases hF
    exact fg_athrow X rfl (by decide) eo_11 dX2_takeWord_13 ((hT).1)
theorem mX2_takeWord (l : Launch) (D : fg_D) {a0 : Nat} {r1 : Option Nat} {G : fg_H} {t : (Unit ⊕ Nat) × fg_H} (hF : fX2_takeWord a0 r1 G = some t) : fg_MX l D yX2_takeWord cX2_takeWord 2 none 7 [.ref a0, va_rf r1] G (fg_ov t.1) t.2 :=
  fg_MXof (own := RX2) (nm := "takeWord") (L := [(0, .ref a0), (1, va_rf r1)]) pn_X2 rfl rfl (by cases r1 <;> rfl) (by cases r1 <;> exact Nat.le_of_ble_eq_true rfl) (fun Ω _ _ X hT => wX2_takeWord X hF hT)
theorem hd_X2_number_2 : yX2_number_2.cls ≠ "java/lang/invoke/MethodHandle" ∧ yX2_number_2.cls ≠ "java/lang/invoke/VarHandle" ∧ (parseMethodDescriptor yX2_number_2.desc).map (fun d => d.parameters.length) = some 3 := ⟨by decide +kernel, by decide +kernel, by decide +kernel⟩
set_option maxHeartbeats 4000000 in
theorem wX2_number_2 {Ω : fg_O} {a0 : Nat} {r1 : Option Nat} {i2 : Int32} {i3 : Int32} {G : fg_H} {t : (Int32 ⊕ Nat) × fg_H} (X : fg_X Ω RX2 "number" cX2_number_2 4 (some .int) 8) (hF : fX2_number_2 a0 r1 i2 i3 G = some t) (hT : fg_TX Ω (fg_oi t.1) t.2) : fg_W Ω G 0 [(0, .ref a0), (1, va_rf r1), (2, .int i2), (3, .int i3)] [] := by
  unfold fX2_number_2 at hF
  refine fg_aload_n X (r := (some a0)) dX2_number_2_0 rfl 0 rfl ?_
  refine fg_aload_n X (r := r1) dX2_number_2_1 rfl 1 rfl ?_
  replace hF := fg_gd_some hF
  obtain ⟨eg_1, hF⟩ := hF
  obtain ⟨fs_2, eo_3⟩ := fg_rc_get eg_1
  replace hF := fg_oc_some hF
  obtain ⟨zz2, Gz1, e_4, hF⟩ := hF
  rcases zz2 with uz4 | qz3
  swap
  · dsimp only [fg_th] at hF
    cases hF
    exact fg_callVT (G1 := Gz1) (q := qz3) X (st := []) (mX2_takeWord Ω.2.2.2.2.1 Ω.1 e_4) q973 q975 qs23 q94 q976 hd_X2_takeWord (by decide) rfl eo_3 (by decide) rfl rfl (Nat.le_of_ble_eq_true rfl) dX2_number_2_2 (hT)
  dsimp only [fg_th] at hF
  refine fg_callVX (G1 := Gz1) (v := none) X (st := []) (mX2_takeWord Ω.2.2.2.2.1 Ω.1 e_4) q973 q975 qs23 q94 q976 hd_X2_takeWord (by decide) rfl eo_3 (by decide) rfl rfl (Nat.le_of_ble_eq_true rfl) dX2_number_2_2 ?_
  refine fg_aload_n X (r := (some a0)) dX2_number_2_5 rfl 0 rfl ?_
  refine fg_iload_n X dX2_number_2_6 rfl 2 rfl ?_
  refine fg_iload_n X dX2_number_2_7 rfl 3 rfl ?_
  replace hF := fg_gd_some hF
  obtain ⟨eg_5, hF⟩ := hF
  obtain ⟨fs_6, eo_7⟩ := fg_rc_get eg_5
  replace hF := fg_oc_some hF
  obtain ⟨zz7, Gz5, e_8, hF⟩ := hF
  rcases zz7 with xz6 | qz8
  swap
  · dsimp only [fg_th] at hF
    cases hF
    exact fg_callVT (G1 := Gz5) (q := qz8) X (st := []) (mX2_number Ω.2.2.2.2.1 Ω.1 e_8) q721 q723 qs6 q94 q724 hd_X2_number (by decide) rfl eo_7 (by decide) rfl rfl (Nat.le_of_ble_eq_true rfl) dX2_number_2_8 (hT)
  dsimp only [fg_th] at hF
  refine fg_callVX (G1 := Gz5) (v := some (.int xz6)) X (st := []) (mX2_number Ω.2.2.2.2.1 Ω.1 e_8) q721 q723 qs6 q94 q724 hd_X2_number (by decide) rfl eo_7 (by decide) rfl rfl (Nat.le_of_ble_eq_true rfl) dX2_number_2_8 ?_
  cases hF
  exact fg_iret X dX2_number_2_11 ((hT).1)
theorem mX2_number_2 (l : Launch) (D : fg_D) {a0 : Nat} {r1 : Option Nat} {i2 : Int32} {i3 : Int32} {G : fg_H} {t : (Int32 ⊕ Nat) × fg_H} (hF : fX2_number_2 a0 r1 i2 i3 G = some t) : fg_MX l D yX2_number_2 cX2_number_2 4 (some .int) 8 [.ref a0, va_rf r1, .int i2, .int i3] G (fg_oi t.1) t.2 :=
  fg_MXof (own := RX2) (nm := "number") (L := [(0, .ref a0), (1, va_rf r1), (2, .int i2), (3, .int i3)]) pn_X2 rfl rfl (by cases r1 <;> rfl) (by cases r1 <;> exact Nat.le_of_ble_eq_true rfl) (fun Ω _ _ X hT => wX2_number_2 X hF hT)
theorem hd_J15_longValue : yJ15_longValue.cls ≠ "java/lang/invoke/MethodHandle" ∧ yJ15_longValue.cls ≠ "java/lang/invoke/VarHandle" ∧ (parseMethodDescriptor yJ15_longValue.desc).map (fun d => d.parameters.length) = some 0 := ⟨by decide +kernel, by decide +kernel, by decide +kernel⟩
set_option maxHeartbeats 4000000 in
theorem wJ15_longValue {Ω : fg_O} {a0 : Nat} {G : fg_H} {t : Int64 × fg_H} (X : fg_X Ω RJ15 "longValue" cJ15_longValue 1 (some .long) 0) (hF : fJ15_longValue a0 G = some t) (hT : fg_T Ω (.returned (some (.long t.1))) t.2) : fg_W Ω G 0 [(0, .ref a0)] [] := by
  unfold fJ15_longValue at hF
  refine fg_aload_n X (r := (some a0)) dJ15_longValue_0 rfl 0 rfl ?_
  replace hF := fg_ob_some hF
  obtain ⟨yz1, e_1, hF⟩ := hF
  refine fg_getl X ff_J15_value q997 e_1 dJ15_longValue_1 ?_
  cases hF
  exact fg_lret X dJ15_longValue_4 (hT)
theorem mJ15_longValue (l : Launch) (D : fg_D) {a0 : Nat} {G : fg_H} {t : Int64 × fg_H} (hF : fJ15_longValue a0 G = some t) : fg_M l D yJ15_longValue cJ15_longValue 1 (some .long) 0 [.ref a0] G (.returned (some (.long t.1))) t.2 :=
  fg_Mof (own := RJ15) (nm := "longValue") (L := [(0, .ref a0)]) (plainFor_of_name pn_J15) rfl rfl rfl (Nat.le_of_ble_eq_true rfl) (fun Ω _ _ X hT => wJ15_longValue X hF hT)
theorem hd_X3_find : yX3_find.cls ≠ "java/lang/invoke/MethodHandle" ∧ yX3_find.cls ≠ "java/lang/invoke/VarHandle" ∧ (parseMethodDescriptor yX3_find.desc).map (fun d => d.parameters.length) = some 1 := ⟨by decide +kernel, by decide +kernel, by decide +kernel⟩
set_option maxHeartbeats 4000000 in
theorem wX3_find_2b {Ω : fg_O} {a0 : Nat} {l1 : Int64} {i3 : Int32} {G : fg_H} {t : ((Nat × Int64 × Int32 × fg_H) ⊕ (Int32 × fg_H))} (X : fg_X Ω RX3 "find" cX3_find 4 (some .int) 3) (hF : fX3_find_2b a0 l1 i3 G = some t) (h2 : ∀ z, t = (.inl z) → fg_W Ω z.2.2.2 2 [(0, .ref z.1), (1, .long z.2.1), (3, .int z.2.2.1)] []) (hT : ∀ u, t = (.inr u) → fg_T Ω (.returned (some (.int u.1))) u.2) : fg_W Ω G 2 [(0, .ref a0), (1, .long l1), (3, .int i3)] [] := by
  unfold fX3_find_2b at hF
  refine fg_iload_n X dX3_find_2 rfl 2 rfl ?_
  refine fg_aload_n X (r := (some a0)) dX3_find_3 rfl 0 rfl ?_
  replace hF := fg_ob_some hF
  obtain ⟨rz1, e_1, hF⟩ := hF
  refine fg_getr X ff_X3_names q299 e_1 dX3_find_4 ?_
  replace hF := fg_ob_some hF
  obtain ⟨az2, rfl, hF⟩ := hF
  replace hF := fg_gd_some hF
  obtain ⟨eg_2, hF⟩ := hF
  obtain ⟨fs_3, eo_4⟩ := fg_rc_get eg_2
  replace hF := fg_oc_some hF
  obtain ⟨xz4, Gz3, e_5, hF⟩ := hF
  refine fg_callV X (st := [.int i3]) (mJ2_size Ω.2.2.2.2.1 Ω.1 e_5) q962 q424 q425 q98 q426 hd_J2_size (by decide) rfl eo_4 (by decide) rfl rfl (Nat.le_of_ble_eq_true rfl) dX3_find_7 ?_
  refine fg_icmp_ge X (tgt := 40) dX3_find_10 (by decide) (fun hc => ?_) (fun hc => ?_)
  · rw [if_pos hc] at hF
    replace hF := fg_rt_some hF
    obtain ⟨tz5, hF, ht_6⟩ := hF
    subst ht_6
    replace hT := hT _ rfl
    refine fg_iconst X (v := (-1 : Int32)) dX3_find_40 (by decide) ?_
    cases hF
    exact fg_iret X dX3_find_41 (hT)
  · rw [if_neg hc] at hF
    refine fg_aload_n X (r := (some a0)) dX3_find_13 rfl 0 rfl ?_
    replace hF := fg_ob_some hF
    obtain ⟨rz6, e_7, hF⟩ := hF
    refine fg_getr X ff_X3_names q299 e_7 dX3_find_14 ?_
    refine fg_iload_n X dX3_find_17 rfl 2 rfl ?_
    replace hF := fg_ob_some hF
    obtain ⟨az7, rfl, hF⟩ := hF
    replace hF := fg_gd_some hF
    obtain ⟨eg_8, hF⟩ := hF
    obtain ⟨fs_9, eo_10⟩ := fg_rc_get eg_8
    replace hF := fg_oc_some hF
    obtain ⟨rz9, Gz8, e_11, hF⟩ := hF
    refine fg_callV X (st := []) (mJ2_get Ω.2.2.2.2.1 Ω.1 e_11) q963 q428 q429 q98 q430 hd_J2_get (by decide) rfl eo_10 (by decide) rfl rfl (Nat.le_of_ble_eq_true rfl) dX3_find_18 ?_
    replace hF := fg_gd_some hF
    obtain ⟨eg_12, hF⟩ := hF
    refine fg_cast X (r := rz9) q964 fg_long_castable eg_12 dX3_find_21 ?_
    replace hF := fg_ob_some hF
    obtain ⟨az10, rfl, hF⟩ := hF
    replace hF := fg_gd_some hF
    obtain ⟨eg_13, hF⟩ := hF
    obtain ⟨fs_14, eo_15⟩ := fg_rc_get eg_13
    replace hF := fg_oc_some hF
    obtain ⟨yz12, Gz11, e_16, hF⟩ := hF
    refine fg_callV X (st := []) (mJ15_longValue Ω.2.2.2.2.1 Ω.1 e_16) q965 q966 q967 q131 q968 hd_J15_longValue (by decide) rfl eo_15 (by decide) rfl rfl (Nat.le_of_ble_eq_true rfl) dX3_find_24 ?_
    refine fg_lload_n X dX3_find_27 rfl 1 rfl ?_
    refine fg_lcmp X dX3_find_28 ?_
    refine fg_if_ne X (tgt := 34) dX3_find_29 (by decide) (fun hc => ?_) (fun hc => ?_)
    · rw [if_neg hc] at hF
      refine fg_iinc X (v := (i3 + (1 : Int32))) (L' := [(3, .int (i3 + (1 : Int32))), (0, .ref a0), (1, .long l1)]) dX3_find_34 2 rfl rfl (by decide) rfl ?_
      refine fg_goto X (tgt := 2) dX3_find_37 (by decide) ?_
      refine fg_sub [1, 2, 0] rfl ?_
      exact h2 _ (Option.some.inj hF).symm
    · rw [if_pos hc] at hF
      replace hF := fg_rt_some hF
      obtain ⟨tz13, hF, ht_17⟩ := hF
      subst ht_17
      replace hT := hT _ rfl
      refine fg_iload_n X dX3_find_32 rfl 2 rfl ?_
      cases hF
      exact fg_iret X dX3_find_33 (hT)
set_option maxHeartbeats 4000000 in
seal fX3_find_2b in
theorem wX3_find_2 {Ω : fg_O} {a0 : Nat} {l1 : Int64} {i3 : Int32} {G : fg_H} {t : (Int32 × fg_H)} (X : fg_X Ω RX3 "find" cX3_find 4 (some .int) 3) (hF : fX3_find_2 a0 l1 i3 G = some t) (hT : fg_T Ω (.returned (some (.int t.1))) t.2) : fg_W Ω G 2 [(0, .ref a0), (1, .long l1), (3, .int i3)] [] := by
  unfold fX3_find_2 at hF
  exact fg_lp_walk (P := fun z => fg_W Ω z.2.2.2 2 [(0, .ref z.1), (1, .long z.2.1), (3, .int z.2.2.1)] []) (fun y o ho hl hr => wX3_find_2b X ho (fun z e => hl z e) (fun u e => by rw [hr _ e]; exact hT)) hF
set_option maxHeartbeats 4000000 in
theorem wX3_find {Ω : fg_O} {a0 : Nat} {l1 : Int64} {G : fg_H} {t : Int32 × fg_H} (X : fg_X Ω RX3 "find" cX3_find 4 (some .int) 3) (hF : fX3_find a0 l1 G = some t) (hT : fg_T Ω (.returned (some (.int t.1))) t.2) : fg_W Ω G 0 [(0, .ref a0), (1, .long l1)] [] := by
  unfold fX3_find at hF
  refine fg_iconst X (v := (0 : Int32)) dX3_find_0 (by decide) ?_
  refine fg_istore_n X (L' := [(3, .int (0 : Int32)), (0, .ref a0), (1, .long l1)]) dX3_find_1 rfl (by decide) rfl ?_
  refine fg_sub [1, 2, 0] rfl ?_
  exact wX3_find_2 X hF hT
theorem mX3_find (l : Launch) (D : fg_D) {a0 : Nat} {l1 : Int64} {G : fg_H} {t : Int32 × fg_H} (hF : fX3_find a0 l1 G = some t) : fg_M l D yX3_find cX3_find 4 (some .int) 3 [.ref a0, .long l1] G (.returned (some (.int t.1))) t.2 :=
  fg_Mof (own := RX3) (nm := "find") (L := [(0, .ref a0), (1, .long l1)]) (plainFor_of_name pn_X3) rfl rfl rfl (Nat.le_of_ble_eq_true rfl) (fun Ω _ _ X hT => wX3_find X hF hT)
theorem hd_X2_net : yX2_net.cls ≠ "java/lang/invoke/MethodHandle" ∧ yX2_net.cls ≠ "java/lang/invoke/VarHandle" ∧ (parseMethodDescriptor yX2_net.desc).map (fun d => d.parameters.length) = some 0 := ⟨by decide +kernel, by decide +kernel, by decide +kernel⟩
set_option maxHeartbeats 4000000 in
theorem wX2_net_104b {Ω : fg_O} {a0 : Nat} {i1 : Int32} {i2 : Int32} {i3 : Int32} {i4 : Int32} {G : fg_H} {t : ((Nat × Int32 × Int32 × Int32 × Int32 × fg_H) ⊕ ((Unit ⊕ Nat) × fg_H))} (X : fg_X Ω RX2 "net" cX2_net 6 none 9) (hF : fX2_net_104b a0 i1 i2 i3 i4 G = some t) (h104 : ∀ z, t = (.inl z) → fg_W Ω z.2.2.2.2.2 104 [(0, .ref z.1), (1, .int z.2.1), (2, .int z.2.2.1), (3, .int z.2.2.2.1), (4, .int z.2.2.2.2.1)] []) (hT : ∀ u, t = (.inr u) → fg_TX Ω (fg_ov u.1) u.2) : fg_W Ω G 104 [(0, .ref a0), (1, .int i1), (2, .int i2), (3, .int i3), (4, .int i4)] [] := by
  unfold fX2_net_104b at hF
  refine fg_iload X dX2_net_104 4 rfl ?_
  refine fg_iload_n X dX2_net_106 rfl 1 rfl ?_
  refine fg_icmp_ge X (tgt := 179) dX2_net_107 (by decide) (fun hc => ?_) (fun hc => ?_)
  · rw [if_pos hc] at hF
    replace hF := fg_rt_some hF
    obtain ⟨tz29, hF, ht_1⟩ := hF
    subst ht_1
    replace hT := hT _ rfl
    refine fg_aload_n X (r := (some a0)) dX2_net_179 rfl 0 rfl ?_
    replace hF := fg_ob_some hF
    obtain ⟨rz30, e_2, hF⟩ := hF
    refine fg_getr X ff_X2_draft q189 e_2 dX2_net_180 ?_
    replace hF := fg_ob_some hF
    obtain ⟨az31, rfl, hF⟩ := hF
    replace hF := fg_ob_some hF
    obtain ⟨rz32, e_3, hF⟩ := hF
    refine fg_getr X ff_X3_at q315 e_3 dX2_net_183 ?_
    refine fg_iload_n X dX2_net_186 rfl 1 rfl ?_
    refine fg_bipush X (v := (8 : Int32)) dX2_net_187 (by decide) ?_
    refine fg_aload_n X (r := (some a0)) dX2_net_189 rfl 0 rfl ?_
    refine fg_iconst X (v := (0 : Int32)) dX2_net_190 (by decide) ?_
    refine fg_aload_n X (r := (some a0)) dX2_net_191 rfl 0 rfl ?_
    replace hF := fg_ob_some hF
    obtain ⟨rz33, e_4, hF⟩ := hF
    refine fg_getr X ff_X2_draft q189 e_4 dX2_net_192 ?_
    replace hF := fg_ob_some hF
    obtain ⟨az34, rfl, hF⟩ := hF
    replace hF := fg_ob_some hF
    obtain ⟨xz35, e_5, hF⟩ := hF
    refine fg_geti X ff_X3_rows q284 e_5 dX2_net_195 ?_
    refine fg_iconst X (v := (1 : Int32)) dX2_net_198 (by decide) ?_
    refine fg_isub X dX2_net_199 ?_
    replace hF := fg_gd_some hF
    obtain ⟨eg_6, hF⟩ := hF
    obtain ⟨fs_7, eo_8⟩ := fg_rc_get eg_6
    replace hF := fg_oc_some hF
    obtain ⟨zz38, Gz36, e_9, hF⟩ := hF
    rcases zz38 with xz37 | qz39
    swap
    · dsimp only [fg_th] at hF
      cases hF
      exact fg_callVT (G1 := Gz36) (q := qz39) X (st := [.int (8 : Int32), .int i1, va_rf rz32]) (mX2_number Ω.2.2.2.2.1 Ω.1 e_9) q721 q723 qs6 q94 q724 hd_X2_number (by decide) rfl eo_8 (by decide) rfl rfl (by cases rz32 <;> exact Nat.le_of_ble_eq_true rfl) dX2_net_200 (hT)
    dsimp only [fg_th] at hF
    refine fg_callVX (G1 := Gz36) (v := some (.int xz37)) X (st := [.int (8 : Int32), .int i1, va_rf rz32]) (mX2_number Ω.2.2.2.2.1 Ω.1 e_9) q721 q723 qs6 q94 q724 hd_X2_number (by decide) rfl eo_8 (by decide) rfl rfl (by cases rz32 <;> exact Nat.le_of_ble_eq_true rfl) dX2_net_200 ?_
    refine fg_imul X dX2_net_203 ?_
    refine fg_iload_n X dX2_net_204 rfl 3 rfl ?_
    refine fg_iadd X dX2_net_205 ?_
    replace hF := fg_ob_some hF
    obtain ⟨az40, rfl, hF⟩ := hF
    replace hF := fg_ob_some hF
    obtain ⟨Gz41, e_10, hF⟩ := hF
    refine fg_iast X e_10 dX2_net_206 ?_
    refine fg_aload_n X (r := (some a0)) dX2_net_207 rfl 0 rfl ?_
    replace hF := fg_ob_some hF
    obtain ⟨rz42, ex_11, hF⟩ := hF
    refine fg_ldcS X (i := 21) (by decide) rfl rfl (Option.some.inj ex_11) dX2_net_208 ?_
    refine fg_iconst X (v := (0 : Int32)) dX2_net_210 (by decide) ?_
    refine fg_bipush X (v := (10 : Int32)) dX2_net_211 (by decide) ?_
    replace hF := fg_gd_some hF
    obtain ⟨eg_12, hF⟩ := hF
    obtain ⟨fs_13, eo_14⟩ := fg_rc_get eg_12
    replace hF := fg_oc_some hF
    obtain ⟨zz45, Gz43, e_15, hF⟩ := hF
    rcases zz45 with xz44 | qz46
    swap
    · dsimp only [fg_th] at hF
      cases hF
      exact fg_callVT (G1 := Gz43) (q := qz46) X (st := []) (mX2_number_2 Ω.2.2.2.2.1 Ω.1 e_15) q969 q971 qs22 q94 q972 hd_X2_number_2 (by decide) rfl eo_14 (by decide) rfl rfl (Nat.le_of_ble_eq_true rfl) dX2_net_213 (hT)
    dsimp only [fg_th] at hF
    refine fg_callVX (G1 := Gz43) (v := some (.int xz44)) X (st := []) (mX2_number_2 Ω.2.2.2.2.1 Ω.1 e_15) q969 q971 qs22 q94 q972 hd_X2_number_2 (by decide) rfl eo_14 (by decide) rfl rfl (Nat.le_of_ble_eq_true rfl) dX2_net_213 ?_
    refine fg_istore X (L' := [(4, .int xz44), (0, .ref a0), (1, .int i1), (2, .int i2), (3, .int i3)]) dX2_net_216 (by decide) rfl ?_
    refine fg_aload_n X (r := (some a0)) dX2_net_218 rfl 1 rfl ?_
    refine fg_aload_n X (r := (some a0)) dX2_net_219 rfl 1 rfl ?_
    replace hF := fg_ob_some hF
    obtain ⟨rz47, e_16, hF⟩ := hF
    refine fg_getr X ff_X2_kinds q185 e_16 dX2_net_220 ?_
    replace hF := fg_gd_some hF
    obtain ⟨eg_17, hF⟩ := hF
    obtain ⟨fs_18, eo_19⟩ := fg_rc_get eg_17
    replace hF := fg_oc_some hF
    obtain ⟨xz49, Gz48, e_20, hF⟩ := hF
    refine fg_callV X (st := []) (mX2_which Ω.2.2.2.2.1 Ω.1 e_20) q618 q620 qs1 q94 q621 hd_X2_which (by decide) rfl eo_19 (by decide) rfl rfl (Nat.le_of_ble_eq_true rfl) dX2_net_223 ?_
    refine fg_istore X (L' := [(5, .int xz49), (4, .int xz44), (0, .ref a0), (1, .int i1), (2, .int i2), (3, .int i3)]) dX2_net_226 (by decide) rfl ?_
    refine fg_iload X dX2_net_228 0 rfl ?_
    refine fg_iconst X (v := (-1 : Int32)) dX2_net_230 (by decide) ?_
    refine fg_icmp_ne X (tgt := 240) dX2_net_231 (by decide) (fun hc => ?_) (fun hc => ?_)
    · rw [if_neg hc] at hF
      refine fg_aload_n X (r := (some a0)) dX2_net_240 rfl 2 rfl ?_
      refine fg_dup X dX2_net_241 rfl ?_
      replace hF := fg_ob_some hF
      obtain ⟨xz50, e_21, hF⟩ := hF
      refine fg_geti X ff_X2_at q197 e_21 dX2_net_242 ?_
      refine fg_iconst X (v := (1 : Int32)) dX2_net_245 (by decide) ?_
      refine fg_iadd X dX2_net_246 ?_
      replace hF := fg_ob_some hF
      obtain ⟨Gz51, e_22, hF⟩ := hF
      refine fg_putv X (ty := .int) (v := .int (xz50 + (1 : Int32))) ff_X2_at q197 rfl (Or.inl rfl) rfl rfl rfl e_22 dX2_net_247 ?_
      refine fg_aload_n X (r := (some a0)) dX2_net_250 rfl 2 rfl ?_
      replace hF := fg_ob_some hF
      obtain ⟨rz52, e_23, hF⟩ := hF
      refine fg_getr X ff_X2_draft q189 e_23 dX2_net_251 ?_
      replace hF := fg_ob_some hF
      obtain ⟨az53, rfl, hF⟩ := hF
      replace hF := fg_ob_some hF
      obtain ⟨rz54, e_24, hF⟩ := hF
      refine fg_getr X ff_X3_nets q312 e_24 dX2_net_254 ?_
      refine fg_iload X dX2_net_257 0 rfl ?_
      refine fg_iload_n X dX2_net_259 rfl 4 rfl ?_
      refine fg_iload X dX2_net_260 1 rfl ?_
      replace hF := fg_oc_some hF
      obtain ⟨rz56, Gz55, e_25, hF⟩ := hF
      refine fg_callSN X (st := [va_rf rz54]) (mX1_net Ω.2.2.2.2.1 Ω.1 e_25) q1005 q1006 q93 q1007 hd_X1_net (by decide) rfl rfl (by cases rz54 <;> exact Nat.le_of_ble_eq_true rfl) dX2_net_262 ?_
      replace hF := fg_ob_some hF
      obtain ⟨az57, rfl, hF⟩ := hF
      replace hF := fg_gd_some hF
      obtain ⟨eg_26, hF⟩ := hF
      obtain ⟨fs_27, eo_28⟩ := fg_rc_get eg_26
      replace hF := fg_oc_some hF
      obtain ⟨xz59, Gz58, e_29, hF⟩ := hF
      refine fg_callV X (st := []) (mJ2_add Ω.2.2.2.2.1 Ω.1 e_29) q830 q831 q832 q98 q833 hd_J2_add (by decide) rfl eo_28 (by decide) rfl rfl (Nat.le_of_ble_eq_true rfl) dX2_net_265 ?_
      refine fg_pop X dX2_net_268 rfl ?_
      cases hF
      exact fg_vret X dX2_net_269 ((hT).1)
    · rw [if_pos hc] at hF
      refine fg_aload_n X (r := (some a0)) dX2_net_234 rfl 2 rfl ?_
      refine fg_iconst X (v := (1 : Int32)) dX2_net_235 (by decide) ?_
      replace hF := fg_gd_some hF
      obtain ⟨eg_30, hF⟩ := hF
      obtain ⟨fs_31, eo_32⟩ := fg_rc_get eg_30
      replace hF := fg_oc_some hF
      obtain ⟨rz61, Gz60, e_33, hF⟩ := hF
      refine fg_callV X (st := []) (mX2_wrong Ω.2.2.2.2.1 Ω.1 e_33) q656 q658 qs4 q94 q659 hd_X2_wrong (by decide) rfl eo_32 (by decide) rfl rfl (Nat.le_of_ble_eq_true rfl) dX2_net_236 ?_
      replace hF := fg_ob_some hF
      obtain ⟨az62, rfl, hF⟩ := hF
      replace hF := fg_gd_some hF
      obtain ⟨eg_34, hF⟩ := hF
      obtain ⟨fs_35, eo_36⟩ := fg_rc_get eg_34
      cases hF
      exact fg_athrow X rfl (by decide) eo_36 dX2_net_239 ((hT).1)
  · rw [if_neg hc] at hF
    refine fg_aload_n X (r := (some a0)) dX2_net_110 rfl 0 rfl ?_
    replace hF := fg_ob_some hF
    obtain ⟨rz63, e_37, hF⟩ := hF
    refine fg_getr X ff_X2_sort q194 e_37 dX2_net_111 ?_
    refine fg_aload_n X (r := (some a0)) dX2_net_114 rfl 0 rfl ?_
    replace hF := fg_ob_some hF
    obtain ⟨xz64, e_38, hF⟩ := hF
    refine fg_geti X ff_X2_at q197 e_38 dX2_net_115 ?_
    replace hF := fg_ob_some hF
    obtain ⟨az65, rfl, hF⟩ := hF
    replace hF := fg_ob_some hF
    obtain ⟨xz66, e_39, hF⟩ := hF
    refine fg_iald X e_39 dX2_net_118 ?_
    refine fg_iconst X (v := (2 : Int32)) dX2_net_119 (by decide) ?_
    refine fg_icmp_ne X (tgt := 173) dX2_net_120 (by decide) (fun hc => ?_) (fun hc => ?_)
    · rw [if_neg hc] at hF
      refine fg_iinc X (v := (i4 + (1 : Int32))) (L' := [(4, .int (i4 + (1 : Int32))), (0, .ref a0), (1, .int i1), (2, .int i2), (3, .int i3)]) dX2_net_173 4 rfl rfl (by decide) rfl ?_
      refine fg_goto X (tgt := 104) dX2_net_176 (by decide) ?_
      refine fg_sub [1, 2, 3, 4, 0] rfl ?_
      exact h104 _ (Option.some.inj hF).symm
    · rw [if_pos hc] at hF
      refine fg_aload_n X (r := (some a0)) dX2_net_123 rfl 0 rfl ?_
      replace hF := fg_ob_some hF
      obtain ⟨rz67, e_40, hF⟩ := hF
      refine fg_getr X ff_X2_draft q189 e_40 dX2_net_124 ?_
      replace hF := fg_ob_some hF
      obtain ⟨az68, rfl, hF⟩ := hF
      replace hF := fg_ob_some hF
      obtain ⟨rz69, e_41, hF⟩ := hF
      refine fg_getr X ff_X3_at q315 e_41 dX2_net_127 ?_
      refine fg_iload X dX2_net_130 4 rfl ?_
      replace hF := fg_ob_some hF
      obtain ⟨az70, rfl, hF⟩ := hF
      replace hF := fg_ob_some hF
      obtain ⟨xz71, e_42, hF⟩ := hF
      refine fg_iald X e_42 dX2_net_132 ?_
      refine fg_bipush X (v := (8 : Int32)) dX2_net_133 (by decide) ?_
      refine fg_irem X dX2_net_135 (by decide) ?_
      refine fg_iload_n X dX2_net_136 rfl 3 rfl ?_
      refine fg_icmp_ne X (tgt := 173) dX2_net_137 (by decide) (fun hc => ?_) (fun hc => ?_)
      · rw [if_neg hc] at hF
        refine fg_iinc X (v := (i4 + (1 : Int32))) (L' := [(4, .int (i4 + (1 : Int32))), (0, .ref a0), (1, .int i1), (2, .int i2), (3, .int i3)]) dX2_net_173 4 rfl rfl (by decide) rfl ?_
        refine fg_goto X (tgt := 104) dX2_net_176 (by decide) ?_
        refine fg_sub [1, 2, 3, 4, 0] rfl ?_
        exact h104 _ (Option.some.inj hF).symm
      · rw [if_pos hc] at hF
        refine fg_aload_n X (r := (some a0)) dX2_net_140 rfl 0 rfl ?_
        replace hF := fg_ob_some hF
        obtain ⟨rz72, e_43, hF⟩ := hF
        refine fg_getr X ff_X2_draft q189 e_43 dX2_net_141 ?_
        replace hF := fg_ob_some hF
        obtain ⟨az73, rfl, hF⟩ := hF
        replace hF := fg_ob_some hF
        obtain ⟨rz74, e_44, hF⟩ := hF
        refine fg_getr X ff_X3_at q315 e_44 dX2_net_144 ?_
        refine fg_iload X dX2_net_147 4 rfl ?_
        replace hF := fg_ob_some hF
        obtain ⟨az75, rfl, hF⟩ := hF
        replace hF := fg_ob_some hF
        obtain ⟨xz76, e_45, hF⟩ := hF
        refine fg_iald X e_45 dX2_net_149 ?_
        refine fg_bipush X (v := (8 : Int32)) dX2_net_150 (by decide) ?_
        refine fg_idiv X dX2_net_152 (by decide) ?_
        refine fg_i2l X dX2_net_153 ?_
        refine fg_aload_n X (r := (some a0)) dX2_net_154 rfl 0 rfl ?_
        replace hF := fg_ob_some hF
        obtain ⟨rz77, e_46, hF⟩ := hF
        refine fg_getr X ff_X2_value q195 e_46 dX2_net_155 ?_
        refine fg_aload_n X (r := (some a0)) dX2_net_158 rfl 0 rfl ?_
        replace hF := fg_ob_some hF
        obtain ⟨xz78, e_47, hF⟩ := hF
        refine fg_geti X ff_X2_at q197 e_47 dX2_net_159 ?_
        replace hF := fg_ob_some hF
        obtain ⟨az79, rfl, hF⟩ := hF
        replace hF := fg_ob_some hF
        obtain ⟨yz80, e_48, hF⟩ := hF
        refine fg_lald X e_48 dX2_net_162 ?_
        refine fg_lcmp X dX2_net_163 ?_
        refine fg_if_ne X (tgt := 173) dX2_net_164 (by decide) (fun hc => ?_) (fun hc => ?_)
        · rw [if_neg hc] at hF
          refine fg_iinc X (v := (i4 + (1 : Int32))) (L' := [(4, .int (i4 + (1 : Int32))), (0, .ref a0), (1, .int i1), (2, .int i2), (3, .int i3)]) dX2_net_173 4 rfl rfl (by decide) rfl ?_
          refine fg_goto X (tgt := 104) dX2_net_176 (by decide) ?_
          refine fg_sub [1, 2, 3, 4, 0] rfl ?_
          exact h104 _ (Option.some.inj hF).symm
        · rw [if_pos hc] at hF
          replace hF := fg_rt_some hF
          obtain ⟨tz81, hF, ht_49⟩ := hF
          subst ht_49
          replace hT := hT _ rfl
          refine fg_aload_n X (r := (some a0)) dX2_net_167 rfl 0 rfl ?_
          refine fg_iconst X (v := (3 : Int32)) dX2_net_168 (by decide) ?_
          replace hF := fg_gd_some hF
          obtain ⟨eg_50, hF⟩ := hF
          obtain ⟨fs_51, eo_52⟩ := fg_rc_get eg_50
          replace hF := fg_oc_some hF
          obtain ⟨rz83, Gz82, e_53, hF⟩ := hF
          refine fg_callV X (st := []) (mX2_wrong Ω.2.2.2.2.1 Ω.1 e_53) q656 q658 qs4 q94 q659 hd_X2_wrong (by decide) rfl eo_52 (by decide) rfl rfl (Nat.le_of_ble_eq_true rfl) dX2_net_169 ?_
          replace hF := fg_ob_some hF
          obtain ⟨az84, rfl, hF⟩ := hF
          replace hF := fg_gd_some hF
          obtain ⟨eg_54, hF⟩ := hF
          obtain ⟨fs_55, eo_56⟩ := fg_rc_get eg_54
          cases hF
          exact fg_athrow X rfl (by decide) eo_56 dX2_net_172 ((hT).1)
set_option maxHeartbeats 4000000 in
seal fX2_net_104b in
theorem wX2_net_104 {Ω : fg_O} {a0 : Nat} {i1 : Int32} {i2 : Int32} {i3 : Int32} {i4 : Int32} {G : fg_H} {t : ((Unit ⊕ Nat) × fg_H)} (X : fg_X Ω RX2 "net" cX2_net 6 none 9) (hF : fX2_net_104 a0 i1 i2 i3 i4 G = some t) (hT : fg_TX Ω (fg_ov t.1) t.2) : fg_W Ω G 104 [(0, .ref a0), (1, .int i1), (2, .int i2), (3, .int i3), (4, .int i4)] [] := by
  unfold fX2_net_104 at hF
  exact fg_lp_walk (P := fun z => fg_W Ω z.2.2.2.2.2 104 [(0, .ref z.1), (1, .int z.2.1), (2, .int z.2.2.1), (3, .int z.2.2.2.1), (4, .int z.2.2.2.2.1)] []) (fun y o ho hl hr => wX2_net_104b X ho (fun z e => hl z e) (fun u e => by rw [hr _ e]; exact hT)) hF
set_option maxHeartbeats 4000000 in
theorem wX2_net {Ω : fg_O} {a0 : Nat} {G : fg_H} {t : (Unit ⊕ Nat) × fg_H} (X : fg_X Ω RX2 "net" cX2_net 6 none 9) (hF : fX2_net a0 G = some t) (hT : fg_TX Ω (fg_ov t.1) t.2) : fg_W Ω G 0 [(0, .ref a0)] [] := by
  unfold fX2_net at hF
  refine fg_aload_n X (r := (some a0)) dX2_net_0 rfl 0 rfl ?_
  replace hF := fg_ob_some hF
  obtain ⟨rz1, e_1, hF⟩ := hF
  refine fg_getr X ff_X2_draft q189 e_1 dX2_net_1 ?_
  replace hF := fg_ob_some hF
  obtain ⟨az2, rfl, hF⟩ := hF
  replace hF := fg_ob_some hF
  obtain ⟨rz3, e_2, hF⟩ := hF
  refine fg_getr X ff_X3_nets q312 e_2 dX2_net_4 ?_
  replace hF := fg_ob_some hF
  obtain ⟨az4, rfl, hF⟩ := hF
  replace hF := fg_gd_some hF
  obtain ⟨eg_3, hF⟩ := hF
  obtain ⟨fs_4, eo_5⟩ := fg_rc_get eg_3
  replace hF := fg_oc_some hF
  obtain ⟨xz6, Gz5, e_6, hF⟩ := hF
  refine fg_callV X (st := []) (mJ2_size Ω.2.2.2.2.1 Ω.1 e_6) q953 q424 q425 q98 q426 hd_J2_size (by decide) rfl eo_5 (by decide) rfl rfl (Nat.le_of_ble_eq_true rfl) dX2_net_7 ?_
  refine fg_istore_n X (L' := [(1, .int xz6), (0, .ref a0)]) dX2_net_10 rfl (by decide) rfl ?_
  refine fg_iload_n X dX2_net_11 rfl 0 rfl ?_
  refine fg_bipush X (v := (12 : Int32)) dX2_net_12 (by decide) ?_
  refine fg_icmp_ne X (tgt := 23) dX2_net_14 (by decide) (fun hc => ?_) (fun hc => ?_)
  · rw [if_neg hc] at hF
    refine fg_aload_n X (r := (some a0)) dX2_net_23 rfl 1 rfl ?_
    refine fg_dup X dX2_net_24 rfl ?_
    replace hF := fg_ob_some hF
    obtain ⟨xz7, e_7, hF⟩ := hF
    refine fg_geti X ff_X2_at q197 e_7 dX2_net_25 ?_
    refine fg_iconst X (v := (1 : Int32)) dX2_net_28 (by decide) ?_
    refine fg_iadd X dX2_net_29 ?_
    replace hF := fg_ob_some hF
    obtain ⟨Gz8, e_8, hF⟩ := hF
    refine fg_putv X (ty := .int) (v := .int (xz7 + (1 : Int32))) ff_X2_at q197 rfl (Or.inl rfl) rfl rfl rfl e_8 dX2_net_30 ?_
    refine fg_aload_n X (r := (some a0)) dX2_net_33 rfl 1 rfl ?_
    replace hF := fg_gd_some hF
    obtain ⟨eg_9, hF⟩ := hF
    obtain ⟨fs_10, eo_11⟩ := fg_rc_get eg_9
    replace hF := fg_oc_some hF
    obtain ⟨xz10, Gz9, e_12, hF⟩ := hF
    refine fg_callV X (st := []) (mX2_isName Ω.2.2.2.2.1 Ω.1 e_12) q954 q956 qs21 q94 q957 hd_X2_isName (by decide) rfl eo_11 (by decide) rfl rfl (Nat.le_of_ble_eq_true rfl) dX2_net_34 ?_
    refine fg_if_ne X (tgt := 46) dX2_net_37 (by decide) (fun hc => ?_) (fun hc => ?_)
    · rw [if_neg hc] at hF
      refine fg_aload_n X (r := (some a0)) dX2_net_46 rfl 1 rfl ?_
      replace hF := fg_ob_some hF
      obtain ⟨rz11, e_13, hF⟩ := hF
      refine fg_getr X ff_X2_draft q189 e_13 dX2_net_47 ?_
      refine fg_aload_n X (r := (some a0)) dX2_net_50 rfl 1 rfl ?_
      replace hF := fg_ob_some hF
      obtain ⟨rz12, e_14, hF⟩ := hF
      refine fg_getr X ff_X2_value q195 e_14 dX2_net_51 ?_
      refine fg_aload_n X (r := (some a0)) dX2_net_54 rfl 1 rfl ?_
      replace hF := fg_ob_some hF
      obtain ⟨xz13, e_15, hF⟩ := hF
      refine fg_geti X ff_X2_at q197 e_15 dX2_net_55 ?_
      replace hF := fg_ob_some hF
      obtain ⟨az14, rfl, hF⟩ := hF
      replace hF := fg_ob_some hF
      obtain ⟨yz15, e_16, hF⟩ := hF
      refine fg_lald X e_16 dX2_net_58 ?_
      replace hF := fg_ob_some hF
      obtain ⟨az16, rfl, hF⟩ := hF
      replace hF := fg_gd_some hF
      obtain ⟨eg_17, hF⟩ := hF
      obtain ⟨fs_18, eo_19⟩ := fg_rc_get eg_17
      replace hF := fg_oc_some hF
      obtain ⟨xz18, Gz17, e_20, hF⟩ := hF
      refine fg_callV X (st := []) (mX3_find Ω.2.2.2.2.1 Ω.1 e_20) q958 q959 q960 q95 q961 hd_X3_find (by decide) rfl eo_19 (by decide) rfl rfl (Nat.le_of_ble_eq_true rfl) dX2_net_59 ?_
      refine fg_istore_n X (L' := [(2, .int xz18), (1, .int xz6), (0, .ref a0)]) dX2_net_62 rfl (by decide) rfl ?_
      refine fg_iload_n X dX2_net_63 rfl 0 rfl ?_
      refine fg_iconst X (v := (-1 : Int32)) dX2_net_64 (by decide) ?_
      refine fg_icmp_ne X (tgt := 74) dX2_net_65 (by decide) (fun hc => ?_) (fun hc => ?_)
      · rw [if_neg hc] at hF
        refine fg_aload_n X (r := (some a0)) dX2_net_74 rfl 2 rfl ?_
        refine fg_dup X dX2_net_75 rfl ?_
        replace hF := fg_ob_some hF
        obtain ⟨xz19, e_21, hF⟩ := hF
        refine fg_geti X ff_X2_at q197 e_21 dX2_net_76 ?_
        refine fg_iconst X (v := (1 : Int32)) dX2_net_79 (by decide) ?_
        refine fg_iadd X dX2_net_80 ?_
        replace hF := fg_ob_some hF
        obtain ⟨Gz20, e_22, hF⟩ := hF
        refine fg_putv X (ty := .int) (v := .int (xz19 + (1 : Int32))) ff_X2_at q197 rfl (Or.inl rfl) rfl rfl rfl e_22 dX2_net_81 ?_
        refine fg_aload_n X (r := (some a0)) dX2_net_84 rfl 2 rfl ?_
        replace hF := fg_ob_some hF
        obtain ⟨rz21, ex_23, hF⟩ := hF
        refine fg_ldcS X (i := 20) (by decide) rfl rfl (Option.some.inj ex_23) dX2_net_85 ?_
        refine fg_iconst X (v := (0 : Int32)) dX2_net_87 (by decide) ?_
        refine fg_aload_n X (r := (some a0)) dX2_net_88 rfl 2 rfl ?_
        replace hF := fg_ob_some hF
        obtain ⟨rz22, e_24, hF⟩ := hF
        refine fg_getr X ff_X2_draft q189 e_24 dX2_net_89 ?_
        replace hF := fg_ob_some hF
        obtain ⟨az23, rfl, hF⟩ := hF
        replace hF := fg_ob_some hF
        obtain ⟨xz24, e_25, hF⟩ := hF
        refine fg_geti X ff_X3_columns q281 e_25 dX2_net_92 ?_
        refine fg_iconst X (v := (1 : Int32)) dX2_net_95 (by decide) ?_
        refine fg_isub X dX2_net_96 ?_
        replace hF := fg_gd_some hF
        obtain ⟨eg_26, hF⟩ := hF
        obtain ⟨fs_27, eo_28⟩ := fg_rc_get eg_26
        replace hF := fg_oc_some hF
        obtain ⟨zz27, Gz25, e_29, hF⟩ := hF
        rcases zz27 with xz26 | qz28
        swap
        · dsimp only [fg_th] at hF
          cases hF
          exact fg_callVT (G1 := Gz25) (q := qz28) X (st := []) (mX2_number_2 Ω.2.2.2.2.1 Ω.1 e_29) q969 q971 qs22 q94 q972 hd_X2_number_2 (by decide) rfl eo_28 (by decide) rfl rfl (Nat.le_of_ble_eq_true rfl) dX2_net_97 (hT)
        dsimp only [fg_th] at hF
        refine fg_callVX (G1 := Gz25) (v := some (.int xz26)) X (st := []) (mX2_number_2 Ω.2.2.2.2.1 Ω.1 e_29) q969 q971 qs22 q94 q972 hd_X2_number_2 (by decide) rfl eo_28 (by decide) rfl rfl (Nat.le_of_ble_eq_true rfl) dX2_net_97 ?_
        refine fg_istore_n X (L' := [(3, .int xz26), (2, .int xz18), (1, .int xz6), (0, .ref a0)]) dX2_net_100 rfl (by decide) rfl ?_
        refine fg_iconst X (v := (0 : Int32)) dX2_net_101 (by decide) ?_
        refine fg_istore X (L' := [(4, .int (0 : Int32)), (3, .int xz26), (2, .int xz18), (1, .int xz6), (0, .ref a0)]) dX2_net_102 (by decide) rfl ?_
        refine fg_sub [4, 3, 2, 1, 0] rfl ?_
        exact wX2_net_104 X hF hT
      · rw [if_pos hc] at hF
        refine fg_aload_n X (r := (some a0)) dX2_net_68 rfl 2 rfl ?_
        refine fg_iconst X (v := (2 : Int32)) dX2_net_69 (by decide) ?_
        replace hF := fg_gd_some hF
        obtain ⟨eg_30, hF⟩ := hF
        obtain ⟨fs_31, eo_32⟩ := fg_rc_get eg_30
        replace hF := fg_oc_some hF
        obtain ⟨rz86, Gz85, e_33, hF⟩ := hF
        refine fg_callV X (st := []) (mX2_wrong Ω.2.2.2.2.1 Ω.1 e_33) q656 q658 qs4 q94 q659 hd_X2_wrong (by decide) rfl eo_32 (by decide) rfl rfl (Nat.le_of_ble_eq_true rfl) dX2_net_70 ?_
        replace hF := fg_ob_some hF
        obtain ⟨az87, rfl, hF⟩ := hF
        replace hF := fg_gd_some hF
        obtain ⟨eg_34, hF⟩ := hF
        obtain ⟨fs_35, eo_36⟩ := fg_rc_get eg_34
        cases hF
        exact fg_athrow X rfl (by decide) eo_36 dX2_net_73 ((hT).1)
    · rw [if_pos hc] at hF
      refine fg_aload_n X (r := (some a0)) dX2_net_40 rfl 1 rfl ?_
      refine fg_iconst X (v := (1 : Int32)) dX2_net_41 (by decide) ?_
      replace hF := fg_gd_some hF
      obtain ⟨eg_37, hF⟩ := hF
      obtain ⟨fs_38, eo_39⟩ := fg_rc_get eg_37
      replace hF := fg_oc_some hF
      obtain ⟨rz89, Gz88, e_40, hF⟩ := hF
      refine fg_callV X (st := []) (mX2_wrong Ω.2.2.2.2.1 Ω.1 e_40) q656 q658 qs4 q94 q659 hd_X2_wrong (by decide) rfl eo_39 (by decide) rfl rfl (Nat.le_of_ble_eq_true rfl) dX2_net_42 ?_
      replace hF := fg_ob_some hF
      obtain ⟨az90, rfl, hF⟩ := hF
      replace hF := fg_gd_some hF
      obtain ⟨eg_41, hF⟩ := hF
      obtain ⟨fs_42, eo_43⟩ := fg_rc_get eg_41
      cases hF
      exact fg_athrow X rfl (by decide) eo_43 dX2_net_45 ((hT).1)
  · rw [if_pos hc] at hF
    refine fg_aload_n X (r := (some a0)) dX2_net_17 rfl 1 rfl ?_
    refine fg_iconst X (v := (5 : Int32)) dX2_net_18 (by decide) ?_
    replace hF := fg_gd_some hF
    obtain ⟨eg_44, hF⟩ := hF
    obtain ⟨fs_45, eo_46⟩ := fg_rc_get eg_44
    replace hF := fg_oc_some hF
    obtain ⟨rz92, Gz91, e_47, hF⟩ := hF
    refine fg_callV X (st := []) (mX2_wrong Ω.2.2.2.2.1 Ω.1 e_47) q656 q658 qs4 q94 q659 hd_X2_wrong (by decide) rfl eo_46 (by decide) rfl rfl (Nat.le_of_ble_eq_true rfl) dX2_net_19 ?_
    replace hF := fg_ob_some hF
    obtain ⟨az93, rfl, hF⟩ := hF
    replace hF := fg_gd_some hF
    obtain ⟨eg_48, hF⟩ := hF
    obtain ⟨fs_49, eo_50⟩ := fg_rc_get eg_48
    cases hF
    exact fg_athrow X rfl (by decide) eo_50 dX2_net_22 ((hT).1)
theorem mX2_net (l : Launch) (D : fg_D) {a0 : Nat} {G : fg_H} {t : (Unit ⊕ Nat) × fg_H} (hF : fX2_net a0 G = some t) : fg_MX l D yX2_net cX2_net 6 none 9 [.ref a0] G (fg_ov t.1) t.2 :=
  fg_MXof (own := RX2) (nm := "net") (L := [(0, .ref a0)]) pn_X2 rfl rfl rfl (Nat.le_of_ble_eq_true rfl) (fun Ω _ _ X hT => wX2_net X hF hT)
theorem hd_J14_init : yJ14_init.cls ≠ "java/lang/invoke/MethodHandle" ∧ yJ14_init.cls ≠ "java/lang/invoke/VarHandle" ∧ (parseMethodDescriptor yJ14_init.desc).map (fun d => d.parameters.length) = some 0 := ⟨by decide +kernel, by decide +kernel, by decide +kernel⟩
set_option maxHeartbeats 4000000 in
theorem wJ14_init {Ω : fg_O} {a0 : Nat} {G : fg_H} {t : Unit × fg_H} (X : fg_X Ω RJ14 "<init>" cJ14_init 1 none 1) (hF : fJ14_init a0 G = some t) (hT : fg_T Ω (.returned none) t.2) : fg_W Ω G 0 [(0, .ref a0)] [] := by
  unfold fJ14_init at hF
  refine fg_aload_n X (r := (some a0)) dJ14_init_0 rfl 0 rfl ?_
  refine fg_objInit X q996 q148 q149 (by decide) (Nat.le_of_ble_eq_true rfl) dJ14_init_1 ?_
  cases hF
  exact fg_vret X dJ14_init_4 (hT)
theorem mJ14_init (l : Launch) (D : fg_D) {a0 : Nat} {G : fg_H} {t : Unit × fg_H} (hF : fJ14_init a0 G = some t) : fg_M l D yJ14_init cJ14_init 1 none 1 [.ref a0] G (.returned none) t.2 :=
  fg_Mof (own := RJ14) (nm := "<init>") (L := [(0, .ref a0)]) (plainFor_of_name pn_J14) rfl rfl rfl (Nat.le_of_ble_eq_true rfl) (fun Ω _ _ X hT => wJ14_init X hF hT)
theorem hd_J15_init : yJ15_init.cls ≠ "java/lang/invoke/MethodHandle" ∧ yJ15_init.cls ≠ "java/lang/invoke/VarHandle" ∧ (parseMethodDescriptor yJ15_init.desc).map (fun d => d.parameters.length) = some 1 := ⟨by decide +kernel, by decide +kernel, by decide +kernel⟩
set_option maxHeartbeats 4000000 in
theorem wJ15_init {Ω : fg_O} {a0 : Nat} {l1 : Int64} {G : fg_H} {t : Unit × fg_H} (X : fg_X Ω RJ15 "<init>" cJ15_init 3 none 2) (hF : fJ15_init a0 l1 G = some t) (hT : fg_T Ω (.returned none) t.2) : fg_W Ω G 0 [(0, .ref a0), (1, .long l1)] [] := by
  unfold fJ15_init at hF
  refine fg_aload_n X (r := (some a0)) dJ15_init_0 rfl 0 rfl ?_
  replace hF := fg_oc_some hF
  obtain ⟨u, Gz1, e_1, hF⟩ := hF
  refine fg_callI X (st := []) (mJ14_init Ω.2.2.2.2.1 Ω.1 e_1) q993 q994 q130 q995 rfl hd_J14_init (by decide) rfl rfl (Nat.le_of_ble_eq_true rfl) dJ15_init_1 ?_
  refine fg_aload_n X (r := (some a0)) dJ15_init_4 rfl 0 rfl ?_
  refine fg_lload_n X dJ15_init_5 rfl 1 rfl ?_
  replace hF := fg_ob_some hF
  obtain ⟨Gz2, e_2, hF⟩ := hF
  refine fg_putv X (ty := .long) (v := .long l1) ff_J15_value q997 rfl (Or.inr ⟨rfl, rfl⟩) rfl rfl rfl e_2 dJ15_init_6 ?_
  cases hF
  exact fg_vret X dJ15_init_9 (hT)
theorem mJ15_init (l : Launch) (D : fg_D) {a0 : Nat} {l1 : Int64} {G : fg_H} {t : Unit × fg_H} (hF : fJ15_init a0 l1 G = some t) : fg_M l D yJ15_init cJ15_init 3 none 2 [.ref a0, .long l1] G (.returned none) t.2 :=
  fg_Mof (own := RJ15) (nm := "<init>") (L := [(0, .ref a0), (1, .long l1)]) (plainFor_of_name pn_J15) rfl rfl rfl (Nat.le_of_ble_eq_true rfl) (fun Ω _ _ X hT => wJ15_init X hF hT)
theorem hd_J15_valueOf : yJ15_valueOf.cls ≠ "java/lang/invoke/MethodHandle" ∧ yJ15_valueOf.cls ≠ "java/lang/invoke/VarHandle" ∧ (parseMethodDescriptor yJ15_valueOf.desc).map (fun d => d.parameters.length) = some 1 := ⟨by decide +kernel, by decide +kernel, by decide +kernel⟩
set_option maxHeartbeats 4000000 in
theorem wJ15_valueOf_31 {Ω : fg_O} {l0 : Int64} {G : fg_H} {t : (Option Nat × fg_H)} (X : fg_X Ω RJ15 "valueOf" cJ15_valueOf 3 (some (.object "java/lang/Long")) 3) (hF : fJ15_valueOf_31 l0 G = some t) (hT : fg_T Ω (.returned (some (va_rf t.1))) t.2) : fg_W Ω G 31 [(0, .long l0)] [] := by
  unfold fJ15_valueOf_31 at hF
  replace hF := fg_oc_some hF
  obtain ⟨az1, Gz2, e_1, hF⟩ := hF
  refine fg_newo X q988 q989 q131 rfl (by decide) tyJ15_ok nwk_J15 e_1 dJ15_valueOf_31 ?_
  refine fg_dup X dJ15_valueOf_34 rfl ?_
  refine fg_lload_n X dJ15_valueOf_35 rfl 0 rfl ?_
  replace hF := fg_oc_some hF
  obtain ⟨u, Gz3, e_2, hF⟩ := hF
  refine fg_callI X (st := [.ref az1]) (mJ15_init Ω.2.2.2.2.1 Ω.1 e_2) q990 q991 q131 q992 rfl hd_J15_init (by decide) rfl rfl (Nat.le_of_ble_eq_true rfl) dJ15_valueOf_36 ?_
  cases hF
  exact fg_aret (Or.inl ⟨_, rfl⟩) X (r := (some az1)) dJ15_valueOf_39 (hT)
set_option maxHeartbeats 4000000 in
theorem wJ15_valueOf {Ω : fg_O} {l0 : Int64} {G : fg_H} {t : Option Nat × fg_H} (X : fg_X Ω RJ15 "valueOf" cJ15_valueOf 3 (some (.object "java/lang/Long")) 3) (hF : fJ15_valueOf l0 G = some t) (hT : fg_T Ω (.returned (some (va_rf t.1))) t.2) : fg_W Ω G 0 [(0, .long l0)] [] := by
  unfold fJ15_valueOf at hF
  refine fg_sipush X (v := (128 : Int32)) dJ15_valueOf_0 (by decide) ?_
  refine fg_istore_n X (L' := [(2, .int (128 : Int32)), (0, .long l0)]) dJ15_valueOf_3 rfl (by decide) rfl ?_
  refine fg_lload_n X dJ15_valueOf_4 rfl 1 rfl ?_
  refine fg_ldc2 X q984 dJ15_valueOf_5 ?_
  refine fg_lcmp X dJ15_valueOf_8 ?_
  refine fg_if_lt X (tgt := 31) dJ15_valueOf_9 (by decide) (fun hc => ?_) (fun hc => ?_)
  · rw [if_pos hc] at hF
    refine fg_sub [1] rfl ?_
    exact wJ15_valueOf_31 X hF hT
  · rw [if_neg hc] at hF
    refine fg_lload_n X dJ15_valueOf_12 rfl 1 rfl ?_
    refine fg_ldc2 X q985 dJ15_valueOf_13 ?_
    refine fg_lcmp X dJ15_valueOf_16 ?_
    refine fg_if_gt X (tgt := 31) dJ15_valueOf_17 (by decide) (fun hc => ?_) (fun hc => ?_)
    · rw [if_pos hc] at hF
      refine fg_sub [1] rfl ?_
      exact wJ15_valueOf_31 X hF hT
    · rw [if_neg hc] at hF
      refine fg_getsR X (i := 2) q986 (fun _ => rfl) rfl dJ15_valueOf_20 ?_
      refine fg_lload_n X dJ15_valueOf_23 rfl 1 rfl ?_
      refine fg_l2i X dJ15_valueOf_24 ?_
      refine fg_sipush X (v := (128 : Int32)) dJ15_valueOf_25 (by decide) ?_
      refine fg_iadd X dJ15_valueOf_28 ?_
      replace hF := fg_ob_some hF
      obtain ⟨az4, e_1, hF⟩ := hF
      refine fg_lcache X e_1 dJ15_valueOf_29 ?_
      cases hF
      exact fg_aret (Or.inl ⟨_, rfl⟩) X (r := (some az4)) dJ15_valueOf_30 (hT)
theorem mJ15_valueOf (l : Launch) (D : fg_D) {l0 : Int64} {G : fg_H} {t : Option Nat × fg_H} (hF : fJ15_valueOf l0 G = some t) : fg_M l D yJ15_valueOf cJ15_valueOf 3 (some (.object "java/lang/Long")) 3 [.long l0] G (.returned (some (va_rf t.1))) t.2 :=
  fg_Mof (own := RJ15) (nm := "valueOf") (L := [(0, .long l0)]) (plainFor_of_name pn_J15) rfl rfl rfl (Nat.le_of_ble_eq_true rfl) (fun Ω _ _ X hT => wJ15_valueOf X hF hT)
theorem hd_X2_village : yX2_village.cls ≠ "java/lang/invoke/MethodHandle" ∧ yX2_village.cls ≠ "java/lang/invoke/VarHandle" ∧ (parseMethodDescriptor yX2_village.desc).map (fun d => d.parameters.length) = some 0 := ⟨by decide +kernel, by decide +kernel, by decide +kernel⟩
set_option maxHeartbeats 4000000 in
theorem wX2_village {Ω : fg_O} {a0 : Nat} {G : fg_H} {t : (Unit ⊕ Nat) × fg_H} (X : fg_X Ω RX2 "village" cX2_village 4 none 9) (hF : fX2_village a0 G = some t) (hT : fg_TX Ω (fg_ov t.1) t.2) : fg_W Ω G 0 [(0, .ref a0)] [] := by
  unfold fX2_village at hF
  refine fg_aload_n X (r := (some a0)) dX2_village_0 rfl 0 rfl ?_
  replace hF := fg_ob_some hF
  obtain ⟨rz1, e_1, hF⟩ := hF
  refine fg_getr X ff_X2_draft q189 e_1 dX2_village_1 ?_
  replace hF := fg_ob_some hF
  obtain ⟨az2, rfl, hF⟩ := hF
  replace hF := fg_ob_some hF
  obtain ⟨rz3, e_2, hF⟩ := hF
  refine fg_getr X ff_X3_names q302 e_2 dX2_village_4 ?_
  replace hF := fg_ob_some hF
  obtain ⟨az4, rfl, hF⟩ := hF
  replace hF := fg_gd_some hF
  obtain ⟨eg_3, hF⟩ := hF
  obtain ⟨fs_4, eo_5⟩ := fg_rc_get eg_3
  replace hF := fg_oc_some hF
  obtain ⟨xz6, Gz5, e_6, hF⟩ := hF
  refine fg_callV X (st := []) (mJ2_size Ω.2.2.2.2.1 Ω.1 e_6) q953 q424 q425 q98 q426 hd_J2_size (by decide) rfl eo_5 (by decide) rfl rfl (Nat.le_of_ble_eq_true rfl) dX2_village_7 ?_
  refine fg_istore_n X (L' := [(1, .int xz6), (0, .ref a0)]) dX2_village_10 rfl (by decide) rfl ?_
  refine fg_iload_n X dX2_village_11 rfl 0 rfl ?_
  refine fg_bipush X (v := (6 : Int32)) dX2_village_12 (by decide) ?_
  refine fg_icmp_ne X (tgt := 23) dX2_village_14 (by decide) (fun hc => ?_) (fun hc => ?_)
  · rw [if_neg hc] at hF
    refine fg_aload_n X (r := (some a0)) dX2_village_23 rfl 1 rfl ?_
    refine fg_dup X dX2_village_24 rfl ?_
    replace hF := fg_ob_some hF
    obtain ⟨xz7, e_7, hF⟩ := hF
    refine fg_geti X ff_X2_at q197 e_7 dX2_village_25 ?_
    refine fg_iconst X (v := (1 : Int32)) dX2_village_28 (by decide) ?_
    refine fg_iadd X dX2_village_29 ?_
    replace hF := fg_ob_some hF
    obtain ⟨Gz8, e_8, hF⟩ := hF
    refine fg_putv X (ty := .int) (v := .int (xz7 + (1 : Int32))) ff_X2_at q197 rfl (Or.inl rfl) rfl rfl rfl e_8 dX2_village_30 ?_
    refine fg_aload_n X (r := (some a0)) dX2_village_33 rfl 1 rfl ?_
    replace hF := fg_gd_some hF
    obtain ⟨eg_9, hF⟩ := hF
    obtain ⟨fs_10, eo_11⟩ := fg_rc_get eg_9
    replace hF := fg_oc_some hF
    obtain ⟨xz10, Gz9, e_12, hF⟩ := hF
    refine fg_callV X (st := []) (mX2_isName Ω.2.2.2.2.1 Ω.1 e_12) q954 q956 qs21 q94 q957 hd_X2_isName (by decide) rfl eo_11 (by decide) rfl rfl (Nat.le_of_ble_eq_true rfl) dX2_village_34 ?_
    refine fg_if_ne X (tgt := 46) dX2_village_37 (by decide) (fun hc => ?_) (fun hc => ?_)
    · rw [if_neg hc] at hF
      refine fg_aload_n X (r := (some a0)) dX2_village_46 rfl 1 rfl ?_
      replace hF := fg_ob_some hF
      obtain ⟨rz11, e_13, hF⟩ := hF
      refine fg_getr X ff_X2_draft q189 e_13 dX2_village_47 ?_
      refine fg_aload_n X (r := (some a0)) dX2_village_50 rfl 1 rfl ?_
      replace hF := fg_ob_some hF
      obtain ⟨rz12, e_14, hF⟩ := hF
      refine fg_getr X ff_X2_value q195 e_14 dX2_village_51 ?_
      refine fg_aload_n X (r := (some a0)) dX2_village_54 rfl 1 rfl ?_
      replace hF := fg_ob_some hF
      obtain ⟨xz13, e_15, hF⟩ := hF
      refine fg_geti X ff_X2_at q197 e_15 dX2_village_55 ?_
      replace hF := fg_ob_some hF
      obtain ⟨az14, rfl, hF⟩ := hF
      replace hF := fg_ob_some hF
      obtain ⟨yz15, e_16, hF⟩ := hF
      refine fg_lald X e_16 dX2_village_58 ?_
      replace hF := fg_ob_some hF
      obtain ⟨az16, rfl, hF⟩ := hF
      replace hF := fg_gd_some hF
      obtain ⟨eg_17, hF⟩ := hF
      obtain ⟨fs_18, eo_19⟩ := fg_rc_get eg_17
      replace hF := fg_oc_some hF
      obtain ⟨xz18, Gz17, e_20, hF⟩ := hF
      refine fg_callV X (st := []) (mX3_find Ω.2.2.2.2.1 Ω.1 e_20) q958 q959 q960 q95 q961 hd_X3_find (by decide) rfl eo_19 (by decide) rfl rfl (Nat.le_of_ble_eq_true rfl) dX2_village_59 ?_
      refine fg_iconst X (v := (-1 : Int32)) dX2_village_62 (by decide) ?_
      refine fg_icmp_eq X (tgt := 72) dX2_village_63 (by decide) (fun hc => ?_) (fun hc => ?_)
      · rw [if_pos hc] at hF
        refine fg_aload_n X (r := (some a0)) dX2_village_72 rfl 1 rfl ?_
        replace hF := fg_ob_some hF
        obtain ⟨rz19, e_21, hF⟩ := hF
        refine fg_getr X ff_X2_value q195 e_21 dX2_village_73 ?_
        refine fg_aload_n X (r := (some a0)) dX2_village_76 rfl 1 rfl ?_
        replace hF := fg_ob_some hF
        obtain ⟨xz20, e_22, hF⟩ := hF
        refine fg_geti X ff_X2_at q197 e_22 dX2_village_77 ?_
        replace hF := fg_ob_some hF
        obtain ⟨az21, rfl, hF⟩ := hF
        replace hF := fg_ob_some hF
        obtain ⟨yz22, e_23, hF⟩ := hF
        refine fg_lald X e_23 dX2_village_80 ?_
        refine fg_lstore_n X (L' := [(2, .long yz22), (1, .int xz6), (0, .ref a0)]) dX2_village_81 rfl (by decide) rfl ?_
        refine fg_aload_n X (r := (some a0)) dX2_village_82 rfl 2 rfl ?_
        refine fg_dup X dX2_village_83 rfl ?_
        replace hF := fg_ob_some hF
        obtain ⟨xz23, e_24, hF⟩ := hF
        refine fg_geti X ff_X2_at q197 e_24 dX2_village_84 ?_
        refine fg_iconst X (v := (1 : Int32)) dX2_village_87 (by decide) ?_
        refine fg_iadd X dX2_village_88 ?_
        replace hF := fg_ob_some hF
        obtain ⟨Gz24, e_25, hF⟩ := hF
        refine fg_putv X (ty := .int) (v := .int (xz23 + (1 : Int32))) ff_X2_at q197 rfl (Or.inl rfl) rfl rfl rfl e_25 dX2_village_89 ?_
        refine fg_aload_n X (r := (some a0)) dX2_village_92 rfl 2 rfl ?_
        replace hF := fg_ob_some hF
        obtain ⟨rz25, e_26, hF⟩ := hF
        refine fg_getr X ff_X2_draft q189 e_26 dX2_village_93 ?_
        replace hF := fg_ob_some hF
        obtain ⟨az26, rfl, hF⟩ := hF
        replace hF := fg_ob_some hF
        obtain ⟨rz27, e_27, hF⟩ := hF
        refine fg_getr X ff_X3_thirst q306 e_27 dX2_village_96 ?_
        refine fg_iload_n X dX2_village_99 rfl 1 rfl ?_
        refine fg_aload_n X (r := (some a0)) dX2_village_100 rfl 2 rfl ?_
        replace hF := fg_ob_some hF
        obtain ⟨rz28, ex_28, hF⟩ := hF
        refine fg_ldcS X (i := 17) (by decide) rfl rfl (Option.some.inj ex_28) dX2_village_101 ?_
        refine fg_iconst X (v := (0 : Int32)) dX2_village_103 (by decide) ?_
        refine fg_sipush X (v := (999 : Int32)) dX2_village_104 (by decide) ?_
        replace hF := fg_gd_some hF
        obtain ⟨eg_29, hF⟩ := hF
        obtain ⟨fs_30, eo_31⟩ := fg_rc_get eg_29
        replace hF := fg_oc_some hF
        obtain ⟨zz31, Gz29, e_32, hF⟩ := hF
        rcases zz31 with xz30 | qz32
        swap
        · dsimp only [fg_th] at hF
          cases hF
          exact fg_callVT (G1 := Gz29) (q := qz32) X (st := [.int xz6, va_rf rz27]) (mX2_number_2 Ω.2.2.2.2.1 Ω.1 e_32) q969 q971 qs22 q94 q972 hd_X2_number_2 (by decide) rfl eo_31 (by decide) rfl rfl (by cases rz27 <;> exact Nat.le_of_ble_eq_true rfl) dX2_village_107 (hT)
        dsimp only [fg_th] at hF
        refine fg_callVX (G1 := Gz29) (v := some (.int xz30)) X (st := [.int xz6, va_rf rz27]) (mX2_number_2 Ω.2.2.2.2.1 Ω.1 e_32) q969 q971 qs22 q94 q972 hd_X2_number_2 (by decide) rfl eo_31 (by decide) rfl rfl (by cases rz27 <;> exact Nat.le_of_ble_eq_true rfl) dX2_village_107 ?_
        replace hF := fg_ob_some hF
        obtain ⟨az33, rfl, hF⟩ := hF
        replace hF := fg_ob_some hF
        obtain ⟨Gz34, e_33, hF⟩ := hF
        refine fg_iast X e_33 dX2_village_110 ?_
        refine fg_aload_n X (r := (some a0)) dX2_village_111 rfl 2 rfl ?_
        replace hF := fg_ob_some hF
        obtain ⟨rz35, e_34, hF⟩ := hF
        refine fg_getr X ff_X2_draft q189 e_34 dX2_village_112 ?_
        replace hF := fg_ob_some hF
        obtain ⟨az36, rfl, hF⟩ := hF
        replace hF := fg_ob_some hF
        obtain ⟨rz37, e_35, hF⟩ := hF
        refine fg_getr X ff_X3_tank q309 e_35 dX2_village_115 ?_
        refine fg_iload_n X dX2_village_118 rfl 1 rfl ?_
        refine fg_aload_n X (r := (some a0)) dX2_village_119 rfl 2 rfl ?_
        replace hF := fg_ob_some hF
        obtain ⟨rz38, ex_36, hF⟩ := hF
        refine fg_ldcS X (i := 18) (by decide) rfl rfl (Option.some.inj ex_36) dX2_village_120 ?_
        refine fg_iconst X (v := (0 : Int32)) dX2_village_122 (by decide) ?_
        refine fg_sipush X (v := (9999 : Int32)) dX2_village_123 (by decide) ?_
        replace hF := fg_gd_some hF
        obtain ⟨eg_37, hF⟩ := hF
        obtain ⟨fs_38, eo_39⟩ := fg_rc_get eg_37
        replace hF := fg_oc_some hF
        obtain ⟨zz41, Gz39, e_40, hF⟩ := hF
        rcases zz41 with xz40 | qz42
        swap
        · dsimp only [fg_th] at hF
          cases hF
          exact fg_callVT (G1 := Gz39) (q := qz42) X (st := [.int xz6, va_rf rz37]) (mX2_number_2 Ω.2.2.2.2.1 Ω.1 e_40) q969 q971 qs22 q94 q972 hd_X2_number_2 (by decide) rfl eo_39 (by decide) rfl rfl (by cases rz37 <;> exact Nat.le_of_ble_eq_true rfl) dX2_village_126 (hT)
        dsimp only [fg_th] at hF
        refine fg_callVX (G1 := Gz39) (v := some (.int xz40)) X (st := [.int xz6, va_rf rz37]) (mX2_number_2 Ω.2.2.2.2.1 Ω.1 e_40) q969 q971 qs22 q94 q972 hd_X2_number_2 (by decide) rfl eo_39 (by decide) rfl rfl (by cases rz37 <;> exact Nat.le_of_ble_eq_true rfl) dX2_village_126 ?_
        replace hF := fg_ob_some hF
        obtain ⟨az43, rfl, hF⟩ := hF
        replace hF := fg_ob_some hF
        obtain ⟨Gz44, e_41, hF⟩ := hF
        refine fg_iast X e_41 dX2_village_129 ?_
        refine fg_aload_n X (r := (some a0)) dX2_village_130 rfl 2 rfl ?_
        replace hF := fg_ob_some hF
        obtain ⟨rz45, e_42, hF⟩ := hF
        refine fg_getr X ff_X2_draft q189 e_42 dX2_village_131 ?_
        replace hF := fg_ob_some hF
        obtain ⟨az46, rfl, hF⟩ := hF
        replace hF := fg_ob_some hF
        obtain ⟨rz47, e_43, hF⟩ := hF
        refine fg_getr X ff_X3_names q302 e_43 dX2_village_134 ?_
        refine fg_lload_n X dX2_village_137 rfl 0 rfl ?_
        replace hF := fg_oc_some hF
        obtain ⟨rz49, Gz48, e_44, hF⟩ := hF
        refine fg_callS X (st := [va_rf rz47]) (mJ15_valueOf Ω.2.2.2.2.1 Ω.1 e_44) q981 q982 q131 q983 hd_J15_valueOf (by decide) rfl rfl (by cases rz47 <;> exact Nat.le_of_ble_eq_true rfl) dX2_village_138 ?_
        replace hF := fg_ob_some hF
        obtain ⟨az50, rfl, hF⟩ := hF
        replace hF := fg_gd_some hF
        obtain ⟨eg_45, hF⟩ := hF
        obtain ⟨fs_46, eo_47⟩ := fg_rc_get eg_45
        replace hF := fg_oc_some hF
        obtain ⟨xz52, Gz51, e_48, hF⟩ := hF
        refine fg_callV X (st := []) (mJ2_add Ω.2.2.2.2.1 Ω.1 e_48) q830 q831 q832 q98 q833 hd_J2_add (by decide) rfl eo_47 (by decide) rfl rfl (Nat.le_of_ble_eq_true rfl) dX2_village_141 ?_
        refine fg_pop X dX2_village_144 rfl ?_
        cases hF
        exact fg_vret X dX2_village_145 ((hT).1)
      · rw [if_neg hc] at hF
        refine fg_aload_n X (r := (some a0)) dX2_village_66 rfl 1 rfl ?_
        refine fg_iconst X (v := (3 : Int32)) dX2_village_67 (by decide) ?_
        replace hF := fg_gd_some hF
        obtain ⟨eg_49, hF⟩ := hF
        obtain ⟨fs_50, eo_51⟩ := fg_rc_get eg_49
        replace hF := fg_oc_some hF
        obtain ⟨rz54, Gz53, e_52, hF⟩ := hF
        refine fg_callV X (st := []) (mX2_wrong Ω.2.2.2.2.1 Ω.1 e_52) q656 q658 qs4 q94 q659 hd_X2_wrong (by decide) rfl eo_51 (by decide) rfl rfl (Nat.le_of_ble_eq_true rfl) dX2_village_68 ?_
        replace hF := fg_ob_some hF
        obtain ⟨az55, rfl, hF⟩ := hF
        replace hF := fg_gd_some hF
        obtain ⟨eg_53, hF⟩ := hF
        obtain ⟨fs_54, eo_55⟩ := fg_rc_get eg_53
        cases hF
        exact fg_athrow X rfl (by decide) eo_55 dX2_village_71 ((hT).1)
    · rw [if_pos hc] at hF
      refine fg_aload_n X (r := (some a0)) dX2_village_40 rfl 1 rfl ?_
      refine fg_iconst X (v := (1 : Int32)) dX2_village_41 (by decide) ?_
      replace hF := fg_gd_some hF
      obtain ⟨eg_56, hF⟩ := hF
      obtain ⟨fs_57, eo_58⟩ := fg_rc_get eg_56
      replace hF := fg_oc_some hF
      obtain ⟨rz57, Gz56, e_59, hF⟩ := hF
      refine fg_callV X (st := []) (mX2_wrong Ω.2.2.2.2.1 Ω.1 e_59) q656 q658 qs4 q94 q659 hd_X2_wrong (by decide) rfl eo_58 (by decide) rfl rfl (Nat.le_of_ble_eq_true rfl) dX2_village_42 ?_
      replace hF := fg_ob_some hF
      obtain ⟨az58, rfl, hF⟩ := hF
      replace hF := fg_gd_some hF
      obtain ⟨eg_60, hF⟩ := hF
      obtain ⟨fs_61, eo_62⟩ := fg_rc_get eg_60
      cases hF
      exact fg_athrow X rfl (by decide) eo_62 dX2_village_45 ((hT).1)
  · rw [if_pos hc] at hF
    refine fg_aload_n X (r := (some a0)) dX2_village_17 rfl 1 rfl ?_
    refine fg_iconst X (v := (5 : Int32)) dX2_village_18 (by decide) ?_
    replace hF := fg_gd_some hF
    obtain ⟨eg_63, hF⟩ := hF
    obtain ⟨fs_64, eo_65⟩ := fg_rc_get eg_63
    replace hF := fg_oc_some hF
    obtain ⟨rz60, Gz59, e_66, hF⟩ := hF
    refine fg_callV X (st := []) (mX2_wrong Ω.2.2.2.2.1 Ω.1 e_66) q656 q658 qs4 q94 q659 hd_X2_wrong (by decide) rfl eo_65 (by decide) rfl rfl (Nat.le_of_ble_eq_true rfl) dX2_village_19 ?_
    replace hF := fg_ob_some hF
    obtain ⟨az61, rfl, hF⟩ := hF
    replace hF := fg_gd_some hF
    obtain ⟨eg_67, hF⟩ := hF
    obtain ⟨fs_68, eo_69⟩ := fg_rc_get eg_67
    cases hF
    exact fg_athrow X rfl (by decide) eo_69 dX2_village_22 ((hT).1)
theorem mX2_village (l : Launch) (D : fg_D) {a0 : Nat} {G : fg_H} {t : (Unit ⊕ Nat) × fg_H} (hF : fX2_village a0 G = some t) : fg_MX l D yX2_village cX2_village 4 none 9 [.ref a0] G (fg_ov t.1) t.2 :=
  fg_MXof (own := RX2) (nm := "village") (L := [(0, .ref a0)]) pn_X2 rfl rfl rfl (Nat.le_of_ble_eq_true rfl) (fun Ω _ _ X hT => wX2_village X hF hT)
theorem hd_X2_ridge : yX2_ridge.cls ≠ "java/lang/invoke/MethodHandle" ∧ yX2_ridge.cls ≠ "java/lang/invoke/VarHandle" ∧ (parseMethodDescriptor yX2_ridge.desc).map (fun d => d.parameters.length) = some 0 := ⟨by decide +kernel, by decide +kernel, by decide +kernel⟩
set_option maxHeartbeats 4000000 in
theorem wX2_ridge_116 {Ω : fg_O} {a0 : Nat} {G : fg_H} {t : ((Nat × fg_H) ⊕ ((Option Nat ⊕ Nat) × fg_H))} (X : fg_X Ω RX2 "ridge" cX2_ridge 2 (some (.object "FogNets$Ridge")) 91) (hF : fX2_ridge_116 a0 G = some t) (h39 : ∀ z, t = (.inl z) → fg_W Ω z.2 39 [(0, .ref z.1)] []) (hT : ∀ u, t = (.inr u) → fg_TX Ω (fg_or u.1) u.2) : fg_W Ω G 116 [(0, .ref a0)] [] := by
  unfold fX2_ridge_116 at hF
  refine fg_aload_n X (r := (some a0)) dX2_ridge_116 rfl 0 rfl ?_
  refine fg_bipush X (v := (59 : Int32)) dX2_ridge_117 (by decide) ?_
  replace hF := fg_gd_some hF
  obtain ⟨eg_1, hF⟩ := hF
  obtain ⟨fs_2, eo_3⟩ := fg_rc_get eg_1
  replace hF := fg_oc_some hF
  obtain ⟨zz34, Gz33, e_4, hF⟩ := hF
  rcases zz34 with uz36 | qz35
  swap
  · dsimp only [fg_th] at hF
    exact fg_callVT (G1 := Gz33) (q := qz35) X (st := []) (mX2_sign Ω.2.2.2.2.1 Ω.1 e_4) q790 q792 qs15 q94 q793 hd_X2_sign (by decide) rfl eo_3 (by decide) rfl rfl (Nat.le_of_ble_eq_true rfl) dX2_ridge_119 (hT _ (Option.some.inj hF).symm)
  dsimp only [fg_th] at hF
  refine fg_callVX (G1 := Gz33) (v := none) X (st := []) (mX2_sign Ω.2.2.2.2.1 Ω.1 e_4) q790 q792 qs15 q94 q793 hd_X2_sign (by decide) rfl eo_3 (by decide) rfl rfl (Nat.le_of_ble_eq_true rfl) dX2_ridge_119 ?_
  refine fg_goto X (tgt := 39) dX2_ridge_122 (by decide) ?_
  refine fg_sub [0] rfl ?_
  exact h39 _ (Option.some.inj hF).symm
set_option maxHeartbeats 4000000 in
theorem wX2_ridge_39b {Ω : fg_O} {a0 : Nat} {G : fg_H} {t : ((Nat × fg_H) ⊕ ((Option Nat ⊕ Nat) × fg_H))} (X : fg_X Ω RX2 "ridge" cX2_ridge 2 (some (.object "FogNets$Ridge")) 91) (hF : fX2_ridge_39b a0 G = some t) (h39 : ∀ z, t = (.inl z) → fg_W Ω z.2 39 [(0, .ref z.1)] []) (hT : ∀ u, t = (.inr u) → fg_TX Ω (fg_or u.1) u.2) : fg_W Ω G 39 [(0, .ref a0)] [] := by
  unfold fX2_ridge_39b at hF
  refine fg_aload_n X (r := (some a0)) dX2_ridge_39 rfl 0 rfl ?_
  replace hF := fg_ob_some hF
  obtain ⟨rz10, e_1, hF⟩ := hF
  refine fg_getr X ff_X2_sort q194 e_1 dX2_ridge_40 ?_
  refine fg_aload_n X (r := (some a0)) dX2_ridge_43 rfl 0 rfl ?_
  replace hF := fg_ob_some hF
  obtain ⟨xz11, e_2, hF⟩ := hF
  refine fg_geti X ff_X2_at q197 e_2 dX2_ridge_44 ?_
  replace hF := fg_ob_some hF
  obtain ⟨az12, rfl, hF⟩ := hF
  replace hF := fg_ob_some hF
  obtain ⟨xz13, e_3, hF⟩ := hF
  refine fg_iald X e_3 dX2_ridge_47 ?_
  refine fg_if_eq X (tgt := 125) dX2_ridge_48 (by decide) (fun hc => ?_) (fun hc => ?_)
  · rw [if_pos hc] at hF
    replace hF := fg_rt_some hF
    obtain ⟨tz14, hF, ht_4⟩ := hF
    subst ht_4
    replace hT := hT _ rfl
    refine fg_aload_n X (r := (some a0)) dX2_ridge_125 rfl 0 rfl ?_
    replace hF := fg_ob_some hF
    obtain ⟨rz15, e_5, hF⟩ := hF
    refine fg_getr X ff_X2_draft q189 e_5 dX2_ridge_126 ?_
    cases hF
    exact fg_aret (Or.inl ⟨_, rfl⟩) X (r := rz15) dX2_ridge_129 ((hT).1)
  · rw [if_neg hc] at hF
    refine fg_aload_n X (r := (some a0)) dX2_ridge_51 rfl 0 rfl ?_
    refine fg_aload_n X (r := (some a0)) dX2_ridge_52 rfl 0 rfl ?_
    replace hF := fg_ob_some hF
    obtain ⟨rz16, e_6, hF⟩ := hF
    refine fg_getr X ff_X2_lines q186 e_6 dX2_ridge_53 ?_
    replace hF := fg_gd_some hF
    obtain ⟨eg_7, hF⟩ := hF
    obtain ⟨fs_8, eo_9⟩ := fg_rc_get eg_7
    replace hF := fg_oc_some hF
    obtain ⟨xz18, Gz17, e_10, hF⟩ := hF
    refine fg_callV X (st := []) (mX2_which Ω.2.2.2.2.1 Ω.1 e_10) q618 q620 qs1 q94 q621 hd_X2_which (by decide) rfl eo_9 (by decide) rfl rfl (Nat.le_of_ble_eq_true rfl) dX2_ridge_56 ?_
    refine fg_iconst X (v := (-1 : Int32)) dX2_ridge_59 (by decide) ?_
    refine fg_icmp_eq X (tgt := 78) dX2_ridge_60 (by decide) (fun hc => ?_) (fun hc => ?_)
    · rw [if_pos hc] at hF
      refine fg_aload_n X (r := (some a0)) dX2_ridge_78 rfl 0 rfl ?_
      replace hF := fg_ob_some hF
      obtain ⟨rz19, ex_11, hF⟩ := hF
      refine fg_ldcS X (i := 16) (by decide) rfl rfl (Option.some.inj ex_11) dX2_ridge_79 ?_
      replace hF := fg_gd_some hF
      obtain ⟨eg_12, hF⟩ := hF
      obtain ⟨fs_13, eo_14⟩ := fg_rc_get eg_12
      replace hF := fg_oc_some hF
      obtain ⟨xz21, Gz20, e_15, hF⟩ := hF
      refine fg_callV X (st := []) (mX2_isWord Ω.2.2.2.2.1 Ω.1 e_15) q622 q624 qs2 q94 q625 hd_X2_isWord (by decide) rfl eo_14 (by decide) rfl rfl (Nat.le_of_ble_eq_true rfl) dX2_ridge_81 ?_
      refine fg_if_eq X (tgt := 94) dX2_ridge_84 (by decide) (fun hc => ?_) (fun hc => ?_)
      · rw [if_pos hc] at hF
        refine fg_aload_n X (r := (some a0)) dX2_ridge_94 rfl 0 rfl ?_
        replace hF := fg_ob_some hF
        obtain ⟨rz22, ex_16, hF⟩ := hF
        refine fg_ldcS X (i := 19) (by decide) rfl rfl (Option.some.inj ex_16) dX2_ridge_95 ?_
        replace hF := fg_gd_some hF
        obtain ⟨eg_17, hF⟩ := hF
        obtain ⟨fs_18, eo_19⟩ := fg_rc_get eg_17
        replace hF := fg_oc_some hF
        obtain ⟨xz24, Gz23, e_20, hF⟩ := hF
        refine fg_callV X (st := []) (mX2_isWord Ω.2.2.2.2.1 Ω.1 e_20) q622 q624 qs2 q94 q625 hd_X2_isWord (by decide) rfl eo_19 (by decide) rfl rfl (Nat.le_of_ble_eq_true rfl) dX2_ridge_97 ?_
        refine fg_if_eq X (tgt := 110) dX2_ridge_100 (by decide) (fun hc => ?_) (fun hc => ?_)
        · rw [if_pos hc] at hF
          replace hF := fg_rt_some hF
          obtain ⟨tz25, hF, ht_21⟩ := hF
          subst ht_21
          replace hT := hT _ rfl
          refine fg_aload_n X (r := (some a0)) dX2_ridge_110 rfl 0 rfl ?_
          refine fg_iconst X (v := (1 : Int32)) dX2_ridge_111 (by decide) ?_
          replace hF := fg_gd_some hF
          obtain ⟨eg_22, hF⟩ := hF
          obtain ⟨fs_23, eo_24⟩ := fg_rc_get eg_22
          replace hF := fg_oc_some hF
          obtain ⟨rz27, Gz26, e_25, hF⟩ := hF
          refine fg_callV X (st := []) (mX2_wrong Ω.2.2.2.2.1 Ω.1 e_25) q656 q658 qs4 q94 q659 hd_X2_wrong (by decide) rfl eo_24 (by decide) rfl rfl (Nat.le_of_ble_eq_true rfl) dX2_ridge_112 ?_
          replace hF := fg_ob_some hF
          obtain ⟨az28, rfl, hF⟩ := hF
          replace hF := fg_gd_some hF
          obtain ⟨eg_26, hF⟩ := hF
          obtain ⟨fs_27, eo_28⟩ := fg_rc_get eg_26
          cases hF
          exact fg_athrow X rfl (by decide) eo_28 dX2_ridge_115 ((hT).1)
        · rw [if_neg hc] at hF
          refine fg_aload_n X (r := (some a0)) dX2_ridge_103 rfl 0 rfl ?_
          replace hF := fg_gd_some hF
          obtain ⟨eg_29, hF⟩ := hF
          obtain ⟨fs_30, eo_31⟩ := fg_rc_get eg_29
          replace hF := fg_oc_some hF
          obtain ⟨zz30, Gz29, e_32, hF⟩ := hF
          rcases zz30 with uz32 | qz31
          swap
          · dsimp only [fg_th] at hF
            exact fg_callVT (G1 := Gz29) (q := qz31) X (st := []) (mX2_net Ω.2.2.2.2.1 Ω.1 e_32) q1001 q1003 qs25 q94 q1004 hd_X2_net (by decide) rfl eo_31 (by decide) rfl rfl (Nat.le_of_ble_eq_true rfl) dX2_ridge_104 (hT _ (Option.some.inj hF).symm)
          dsimp only [fg_th] at hF
          refine fg_callVX (G1 := Gz29) (v := none) X (st := []) (mX2_net Ω.2.2.2.2.1 Ω.1 e_32) q1001 q1003 qs25 q94 q1004 hd_X2_net (by decide) rfl eo_31 (by decide) rfl rfl (Nat.le_of_ble_eq_true rfl) dX2_ridge_104 ?_
          refine fg_goto X (tgt := 116) dX2_ridge_107 (by decide) ?_
          refine fg_sub [0] rfl ?_
          exact wX2_ridge_116 X hF h39 hT
      · rw [if_neg hc] at hF
        refine fg_aload_n X (r := (some a0)) dX2_ridge_87 rfl 0 rfl ?_
        replace hF := fg_gd_some hF
        obtain ⟨eg_33, hF⟩ := hF
        obtain ⟨fs_34, eo_35⟩ := fg_rc_get eg_33
        replace hF := fg_oc_some hF
        obtain ⟨zz38, Gz37, e_36, hF⟩ := hF
        rcases zz38 with uz40 | qz39
        swap
        · dsimp only [fg_th] at hF
          exact fg_callVT (G1 := Gz37) (q := qz39) X (st := []) (mX2_village Ω.2.2.2.2.1 Ω.1 e_36) q949 q951 qs20 q94 q952 hd_X2_village (by decide) rfl eo_35 (by decide) rfl rfl (Nat.le_of_ble_eq_true rfl) dX2_ridge_88 (hT _ (Option.some.inj hF).symm)
        dsimp only [fg_th] at hF
        refine fg_callVX (G1 := Gz37) (v := none) X (st := []) (mX2_village Ω.2.2.2.2.1 Ω.1 e_36) q949 q951 qs20 q94 q952 hd_X2_village (by decide) rfl eo_35 (by decide) rfl rfl (Nat.le_of_ble_eq_true rfl) dX2_ridge_88 ?_
        refine fg_goto X (tgt := 116) dX2_ridge_91 (by decide) ?_
        refine fg_sub [0] rfl ?_
        exact wX2_ridge_116 X hF h39 hT
    · rw [if_neg hc] at hF
      refine fg_aload_n X (r := (some a0)) dX2_ridge_63 rfl 0 rfl ?_
      refine fg_aload_n X (r := (some a0)) dX2_ridge_64 rfl 0 rfl ?_
      refine fg_aload_n X (r := (some a0)) dX2_ridge_65 rfl 0 rfl ?_
      replace hF := fg_ob_some hF
      obtain ⟨rz41, e_37, hF⟩ := hF
      refine fg_getr X ff_X2_lines q186 e_37 dX2_ridge_66 ?_
      replace hF := fg_gd_some hF
      obtain ⟨eg_38, hF⟩ := hF
      obtain ⟨fs_39, eo_40⟩ := fg_rc_get eg_38
      replace hF := fg_oc_some hF
      obtain ⟨xz43, Gz42, e_41, hF⟩ := hF
      refine fg_callV X (st := [.ref a0]) (mX2_which Ω.2.2.2.2.1 Ω.1 e_41) q618 q620 qs1 q94 q621 hd_X2_which (by decide) rfl eo_40 (by decide) rfl rfl (Nat.le_of_ble_eq_true rfl) dX2_ridge_69 ?_
      replace hF := fg_gd_some hF
      obtain ⟨eg_42, hF⟩ := hF
      obtain ⟨fs_43, eo_44⟩ := fg_rc_get eg_42
      replace hF := fg_oc_some hF
      obtain ⟨zz45, Gz44, e_45, hF⟩ := hF
      rcases zz45 with uz47 | qz46
      swap
      · dsimp only [fg_th] at hF
        exact fg_callVT (G1 := Gz44) (q := qz46) X (st := []) (mX2_line Ω.2.2.2.2.1 Ω.1 e_45) q648 q650 qs3 q94 q651 hd_X2_line (by decide) rfl eo_44 (by decide) rfl rfl (Nat.le_of_ble_eq_true rfl) dX2_ridge_72 (hT _ (Option.some.inj hF).symm)
      dsimp only [fg_th] at hF
      refine fg_callVX (G1 := Gz44) (v := none) X (st := []) (mX2_line Ω.2.2.2.2.1 Ω.1 e_45) q648 q650 qs3 q94 q651 hd_X2_line (by decide) rfl eo_44 (by decide) rfl rfl (Nat.le_of_ble_eq_true rfl) dX2_ridge_72 ?_
      refine fg_goto X (tgt := 116) dX2_ridge_75 (by decide) ?_
      refine fg_sub [0] rfl ?_
      exact wX2_ridge_116 X hF h39 hT
set_option maxHeartbeats 4000000 in
seal fX2_ridge_39b in
theorem wX2_ridge_39 {Ω : fg_O} {a0 : Nat} {G : fg_H} {t : ((Option Nat ⊕ Nat) × fg_H)} (X : fg_X Ω RX2 "ridge" cX2_ridge 2 (some (.object "FogNets$Ridge")) 91) (hF : fX2_ridge_39 a0 G = some t) (hT : fg_TX Ω (fg_or t.1) t.2) : fg_W Ω G 39 [(0, .ref a0)] [] := by
  unfold fX2_ridge_39 at hF
  exact fg_lp_walk (P := fun z => fg_W Ω z.2 39 [(0, .ref z.1)] []) (fun y o ho hl hr => wX2_ridge_39b X ho (fun z e => hl z e) (fun u e => by rw [hr _ e]; exact hT)) hF
set_option maxHeartbeats 4000000 in
theorem wX2_ridge_17b {Ω : fg_O} {a0 : Nat} {i1 : Int32} {G : fg_H} {t : ((Nat × Int32 × fg_H) ⊕ ((Option Nat ⊕ Nat) × fg_H))} (X : fg_X Ω RX2 "ridge" cX2_ridge 2 (some (.object "FogNets$Ridge")) 91) (hF : fX2_ridge_17b a0 i1 G = some t) (h17 : ∀ z, t = (.inl z) → fg_W Ω z.2.2 17 [(0, .ref z.1), (1, .int z.2.1)] []) (hT : ∀ u, t = (.inr u) → fg_TX Ω (fg_or u.1) u.2) : fg_W Ω G 17 [(0, .ref a0), (1, .int i1)] [] := by
  unfold fX2_ridge_17b at hF
  refine fg_iload_n X dX2_ridge_17 rfl 1 rfl ?_
  refine fg_aload_n X (r := (some a0)) dX2_ridge_18 rfl 0 rfl ?_
  replace hF := fg_ob_some hF
  obtain ⟨rz6, e_1, hF⟩ := hF
  refine fg_getr X ff_X2_isTold q188 e_1 dX2_ridge_19 ?_
  replace hF := fg_ob_some hF
  obtain ⟨az7, rfl, hF⟩ := hF
  replace hF := fg_ob_some hF
  obtain ⟨xz8, e_2, hF⟩ := hF
  refine fg_alen X e_2 dX2_ridge_22 ?_
  refine fg_icmp_ge X (tgt := 39) dX2_ridge_23 (by decide) (fun hc => ?_) (fun hc => ?_)
  · rw [if_pos hc] at hF
    replace hF := fg_rt_some hF
    obtain ⟨tz9, hF, ht_3⟩ := hF
    subst ht_3
    replace hT := hT _ rfl
    refine fg_sub [0] rfl ?_
    exact wX2_ridge_39 X hF hT
  · rw [if_neg hc] at hF
    refine fg_aload_n X (r := (some a0)) dX2_ridge_26 rfl 0 rfl ?_
    replace hF := fg_ob_some hF
    obtain ⟨rz48, e_4, hF⟩ := hF
    refine fg_getr X ff_X2_isTold q188 e_4 dX2_ridge_27 ?_
    refine fg_iload_n X dX2_ridge_30 rfl 1 rfl ?_
    refine fg_iconst X (v := (0 : Int32)) dX2_ridge_31 (by decide) ?_
    replace hF := fg_ob_some hF
    obtain ⟨az49, rfl, hF⟩ := hF
    replace hF := fg_ob_some hF
    obtain ⟨Gz50, e_5, hF⟩ := hF
    refine fg_zast X e_5 dX2_ridge_32 ?_
    refine fg_iinc X (v := (i1 + (1 : Int32))) (L' := [(1, .int (i1 + (1 : Int32))), (0, .ref a0)]) dX2_ridge_33 1 rfl rfl (by decide) rfl ?_
    refine fg_goto X (tgt := 17) dX2_ridge_36 (by decide) ?_
    refine fg_sub [1, 0] rfl ?_
    exact h17 _ (Option.some.inj hF).symm
set_option maxHeartbeats 4000000 in
seal fX2_ridge_17b in
theorem wX2_ridge_17 {Ω : fg_O} {a0 : Nat} {i1 : Int32} {G : fg_H} {t : ((Option Nat ⊕ Nat) × fg_H)} (X : fg_X Ω RX2 "ridge" cX2_ridge 2 (some (.object "FogNets$Ridge")) 91) (hF : fX2_ridge_17 a0 i1 G = some t) (hT : fg_TX Ω (fg_or t.1) t.2) : fg_W Ω G 17 [(0, .ref a0), (1, .int i1)] [] := by
  unfold fX2_ridge_17 at hF
  exact fg_lp_walk (P := fun z => fg_W Ω z.2.2 17 [(0, .ref z.1), (1, .int z.2.1)] []) (fun y o ho hl hr => wX2_ridge_17b X ho (fun z e => hl z e) (fun u e => by rw [hr _ e]; exact hT)) hF
set_option maxHeartbeats 4000000 in
theorem wX2_ridge {Ω : fg_O} {a0 : Nat} {G : fg_H} {t : (Option Nat ⊕ Nat) × fg_H} (X : fg_X Ω RX2 "ridge" cX2_ridge 2 (some (.object "FogNets$Ridge")) 91) (hF : fX2_ridge a0 G = some t) (hT : fg_TX Ω (fg_or t.1) t.2) : fg_W Ω G 0 [(0, .ref a0)] [] := by
  unfold fX2_ridge at hF
  refine fg_aload_n X (r := (some a0)) dX2_ridge_0 rfl 0 rfl ?_
  replace hF := fg_gd_some hF
  obtain ⟨eg_1, hF⟩ := hF
  obtain ⟨fs_2, eo_3⟩ := fg_rc_get eg_1
  replace hF := fg_oc_some hF
  obtain ⟨u, Gz1, e_4, hF⟩ := hF
  refine fg_callV X (st := []) (mX2_cut Ω.2.2.2.2.1 Ω.1 e_4) q515 q517 qs0 q94 q518 hd_X2_cut (by decide) rfl eo_3 (by decide) rfl rfl (Nat.le_of_ble_eq_true rfl) dX2_ridge_1 ?_
  refine fg_aload_n X (r := (some a0)) dX2_ridge_4 rfl 0 rfl ?_
  replace hF := fg_oc_some hF
  obtain ⟨az2, Gz3, e_5, hF⟩ := hF
  refine fg_newo X q616 q235 q95 rfl (by decide) tyX3_ok nwk_X3 e_5 dX2_ridge_5 ?_
  refine fg_dup X dX2_ridge_8 rfl ?_
  replace hF := fg_oc_some hF
  obtain ⟨u, Gz4, e_6, hF⟩ := hF
  refine fg_callIN X (st := [.ref az2, .ref a0]) (mX3_init Ω.2.2.2.2.1 Ω.1 e_6) q617 q237 q95 q238 rfl hd_X3_init (by decide) rfl rfl (Nat.le_of_ble_eq_true rfl) dX2_ridge_9 ?_
  replace hF := fg_ob_some hF
  obtain ⟨Gz5, e_7, hF⟩ := hF
  refine fg_putv X (ty := (.object "FogNets$Ridge")) (v := .ref az2) ff_X2_draft q189 rfl (Or.inl rfl) rfl rfl rfl e_7 dX2_ridge_12 ?_
  refine fg_iconst X (v := (0 : Int32)) dX2_ridge_15 (by decide) ?_
  refine fg_istore_n X (L' := [(1, .int (0 : Int32)), (0, .ref a0)]) dX2_ridge_16 rfl (by decide) rfl ?_
  refine fg_sub [1, 0] rfl ?_
  exact wX2_ridge_17 X hF hT
theorem mX2_ridge (l : Launch) (D : fg_D) {a0 : Nat} {G : fg_H} {t : (Option Nat ⊕ Nat) × fg_H} (hF : fX2_ridge a0 G = some t) : fg_MX l D yX2_ridge cX2_ridge 2 (some (.object "FogNets$Ridge")) 91 [.ref a0] G (fg_or t.1) t.2 :=
  fg_MXof (own := RX2) (nm := "ridge") (L := [(0, .ref a0)]) pn_X2 rfl rfl rfl (Nat.le_of_ble_eq_true rfl) (fun Ω _ _ X hT => wX2_ridge X hF hT)
theorem hd_X6_begins : yX6_begins.cls ≠ "java/lang/invoke/MethodHandle" ∧ yX6_begins.cls ≠ "java/lang/invoke/VarHandle" ∧ (parseMethodDescriptor yX6_begins.desc).map (fun d => d.parameters.length) = some 1 := ⟨by decide +kernel, by decide +kernel, by decide +kernel⟩
set_option maxHeartbeats 4000000 in
theorem wX6_begins_17b {Ω : fg_O} {a0 : Nat} {i2 : Int32} {G : fg_H} {t : ((Nat × Int32 × fg_H) ⊕ (Unit × fg_H))} (X : fg_X Ω RX6 "begins" cX6_begins 3 none 1) (hF : fX6_begins_17b a0 i2 G = some t) (h17 : ∀ z, t = (.inl z) → fg_W Ω z.2.2 17 [(0, .ref z.1), (2, .int z.2.1)] []) (hT : ∀ u, t = (.inr u) → fg_T Ω (.returned none) u.2) : fg_W Ω G 17 [(0, .ref a0), (2, .int i2)] [] := by
  unfold fX6_begins_17b at hF
  refine fg_iload_n X dX6_begins_17 rfl 1 rfl ?_
  refine fg_bipush X (v := (6 : Int32)) dX6_begins_18 (by decide) ?_
  refine fg_icmp_ge X (tgt := 36) dX6_begins_20 (by decide) (fun hc => ?_) (fun hc => ?_)
  · rw [if_pos hc] at hF
    replace hF := fg_rt_some hF
    obtain ⟨tz7, hF, ht_1⟩ := hF
    subst ht_1
    replace hT := hT _ rfl
    cases hF
    exact fg_vret X dX6_begins_36 (hT)
  · rw [if_neg hc] at hF
    refine fg_aload_n X (r := (some a0)) dX6_begins_23 rfl 0 rfl ?_
    replace hF := fg_ob_some hF
    obtain ⟨rz8, e_2, hF⟩ := hF
    refine fg_getr X ff_X6_lacks q389 e_2 dX6_begins_24 ?_
    refine fg_iload_n X dX6_begins_27 rfl 1 rfl ?_
    refine fg_iconst X (v := (0 : Int32)) dX6_begins_28 (by decide) ?_
    replace hF := fg_ob_some hF
    obtain ⟨az9, rfl, hF⟩ := hF
    replace hF := fg_ob_some hF
    obtain ⟨Gz10, e_3, hF⟩ := hF
    refine fg_iast X e_3 dX6_begins_29 ?_
    refine fg_iinc X (v := (i2 + (1 : Int32))) (L' := [(2, .int (i2 + (1 : Int32))), (0, .ref a0)]) dX6_begins_30 1 rfl rfl (by decide) rfl ?_
    refine fg_goto X (tgt := 17) dX6_begins_33 (by decide) ?_
    refine fg_sub [1, 0] rfl ?_
    exact h17 _ (Option.some.inj hF).symm
set_option maxHeartbeats 4000000 in
seal fX6_begins_17b in
theorem wX6_begins_17 {Ω : fg_O} {a0 : Nat} {i2 : Int32} {G : fg_H} {t : (Unit × fg_H)} (X : fg_X Ω RX6 "begins" cX6_begins 3 none 1) (hF : fX6_begins_17 a0 i2 G = some t) (hT : fg_T Ω (.returned none) t.2) : fg_W Ω G 17 [(0, .ref a0), (2, .int i2)] [] := by
  unfold fX6_begins_17 at hF
  exact fg_lp_walk (P := fun z => fg_W Ω z.2.2 17 [(0, .ref z.1), (2, .int z.2.1)] []) (fun y o ho hl hr => wX6_begins_17b X ho (fun z e => hl z e) (fun u e => by rw [hr _ e]; exact hT)) hF
set_option maxHeartbeats 4000000 in
theorem wX6_begins {Ω : fg_O} {a0 : Nat} {r1 : Option Nat} {G : fg_H} {t : Unit × fg_H} (X : fg_X Ω RX6 "begins" cX6_begins 3 none 1) (hF : fX6_begins a0 r1 G = some t) (hT : fg_T Ω (.returned none) t.2) : fg_W Ω G 0 [(0, .ref a0), (1, va_rf r1)] [] := by
  unfold fX6_begins at hF
  refine fg_aload_n X (r := r1) dX6_begins_0 rfl 1 rfl ?_
  replace hF := fg_ob_some hF
  obtain ⟨az1, rfl, hF⟩ := hF
  replace hF := fg_ob_some hF
  obtain ⟨rz2, e_1, hF⟩ := hF
  refine fg_getr X ff_X3_tank q308 e_1 dX6_begins_1 ?_
  refine fg_iconst X (v := (0 : Int32)) dX6_begins_4 (by decide) ?_
  refine fg_aload_n X (r := (some a0)) dX6_begins_5 rfl 0 rfl ?_
  replace hF := fg_ob_some hF
  obtain ⟨rz3, e_2, hF⟩ := hF
  refine fg_getr X ff_X6_tank q387 e_2 dX6_begins_6 ?_
  refine fg_iconst X (v := (0 : Int32)) dX6_begins_9 (by decide) ?_
  refine fg_bipush X (v := (6 : Int32)) dX6_begins_10 (by decide) ?_
  replace hF := fg_ob_some hF
  obtain ⟨az4, rfl, hF⟩ := hF
  replace hF := fg_ob_some hF
  obtain ⟨az5, rfl, hF⟩ := hF
  replace hF := fg_ob_some hF
  obtain ⟨Gz6, e_3, hF⟩ := hF
  refine fg_copyi X q1073 q899 q898 q123 (by decide) e_3 (Nat.le_of_ble_eq_true rfl) dX6_begins_12 ?_
  refine fg_iconst X (v := (0 : Int32)) dX6_begins_15 (by decide) ?_
  refine fg_istore_n X (L' := [(2, .int (0 : Int32)), (0, .ref a0), (1, .ref az1)]) dX6_begins_16 rfl (by decide) rfl ?_
  refine fg_sub [1, 0] rfl ?_
  exact wX6_begins_17 X hF hT
theorem mX6_begins (l : Launch) (D : fg_D) {a0 : Nat} {r1 : Option Nat} {G : fg_H} {t : Unit × fg_H} (hF : fX6_begins a0 r1 G = some t) : fg_M l D yX6_begins cX6_begins 3 none 1 [.ref a0, va_rf r1] G (.returned none) t.2 :=
  fg_Mof (own := RX6) (nm := "begins") (L := [(0, .ref a0), (1, va_rf r1)]) (plainFor_of_name pn_X6) rfl rfl (by cases r1 <;> rfl) (by cases r1 <;> exact Nat.le_of_ble_eq_true rfl) (fun Ω _ _ X hT => wX6_begins X hF hT)

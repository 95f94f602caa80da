set_option maxRecDepth 100000
theorem hv_X23_takes : "FogNets$Net" ≠ "java/lang/invoke/MethodHandle" ∧ "FogNets$Net" ≠ "java/lang/invoke/VarHandle" ∧ (parseMethodDescriptor "(IIZ)I").map (fun d => d.parameters.length) = some 3 := ⟨by decide +kernel, by decide +kernel, by decide +kernel⟩
theorem cvX23_takes {Ω : fg_O} {own nm : String} {cc : ByteArray} {nL d : Nat} {ret : Option FieldType} {G G1 : fg_H} {pc a0 index : Nat} {L : List (Nat × Value)} {st : List Value} {x : Int32} {i1 : Int32} {i2 : Int32} {i3 : Int32} (X : fg_X Ω own nm cc nL ret d) (e : vX23_takes a0 i1 i2 i3 G = some (x, G1)) (hdd : 2 ≤ d) (q : Cond.methodLink own index ({ cls := "FogNets$Net", name := "takes", desc := "(IIZ)I" } : MethodName) ∈ lw_all) (hW : (st.map fun v => v.category).sum ≤ 8) (hd : decode cc pc = .ok (.invokevirtual index, 3)) (kk : fg_W Ω G1 (pc + 3) L (.int x :: st)) : fg_W Ω G pc L (.int i3 :: .int i2 :: .int i1 :: .ref a0 :: st) := by
  unfold vX23_takes at e
  by_cases h23 : fg_rc G a0 23 = true
  · rw [if_pos h23] at e
    obtain ⟨fs, eo⟩ := fg_rc_get h23
    exact fg_callU X (C := "FogNets$Net") (mX23_takes Ω.2.2.2.2.1 Ω.1 e) q q1226 q1224 q1225 q133 q1231 (Or.inr ⟨q1224, _, _, _, q1231⟩) hv_X23_takes (by decide) rfl eo ⟨by omega, by decide⟩ rfl rfl hW hd kk
  rw [if_neg h23] at e
  by_cases h24 : fg_rc G a0 24 = true
  · rw [if_pos h24] at e
    obtain ⟨fs, eo⟩ := fg_rc_get h24
    exact fg_callU X (C := "FogNets$Shroud") (mX24_takes Ω.2.2.2.2.1 Ω.1 e) q q1226 q1237 q1236 q134 q1238 (Or.inr ⟨q1224, _, _, _, q1231⟩) hv_X23_takes (by decide) rfl eo ⟨by omega, by decide⟩ rfl rfl hW hd kk
  rw [if_neg h24] at e
  by_cases h25 : fg_rc G a0 25 = true
  · rw [if_pos h25] at e
    obtain ⟨fs, eo⟩ := fg_rc_get h25
    exact fg_callU X (C := "FogNets$Birds") (mX25_takes Ω.2.2.2.2.1 Ω.1 e) q q1226 q1228 q1227 q135 q1229 (Or.inr ⟨q1224, _, _, _, q1231⟩) hv_X23_takes (by decide) rfl eo ⟨by omega, by decide⟩ rfl rfl hW hd kk
  rw [if_neg h25] at e
  by_cases h26 : fg_rc G a0 26 = true
  · rw [if_pos h26] at e
    obtain ⟨fs, eo⟩ := fg_rc_get h26
    exact fg_callU X (C := "FogNets$Torn") (mX26_takes Ω.2.2.2.2.1 Ω.1 e) q q1226 q1243 q1242 q136 q1244 (Or.inr ⟨q1224, _, _, _, q1231⟩) hv_X23_takes (by decide) rfl eo ⟨by omega, by decide⟩ rfl rfl hW hd kk
  rw [if_neg h26] at e
  by_cases h27 : fg_rc G a0 27 = true
  · rw [if_pos h27] at e
    obtain ⟨fs, eo⟩ := fg_rc_get h27
    exact fg_callU X (C := "FogNets$Spite") (mX23_takes Ω.2.2.2.2.1 Ω.1 e) q q1226 q1224 q1241 q133 q1231 (Or.inr ⟨q1224, _, _, _, q1231⟩) hv_X23_takes (by decide) rfl eo ⟨by omega, by decide⟩ rfl rfl hW hd kk
  rw [if_neg h27] at e
  by_cases h28 : fg_rc G a0 28 = true
  · rw [if_pos h28] at e
    obtain ⟨fs, eo⟩ := fg_rc_get h28
    exact fg_callU X (C := "FogNets$High") (mX28_takes Ω.2.2.2.2.1 Ω.1 e) q q1226 q1233 q1232 q138 q1234 (Or.inr ⟨q1224, _, _, _, q1231⟩) hv_X23_takes (by decide) rfl eo ⟨by omega, by decide⟩ rfl rfl hW hd kk
  rw [if_neg h28] at e
  cases e
theorem hd_X5_blows : yX5_blows.cls ≠ "java/lang/invoke/MethodHandle" ∧ yX5_blows.cls ≠ "java/lang/invoke/VarHandle" ∧ (parseMethodDescriptor yX5_blows.desc).map (fun d => d.parameters.length) = some 4 := ⟨by decide +kernel, by decide +kernel, by decide +kernel⟩
set_option maxHeartbeats 4000000 in
theorem wX5_blows_6b {Ω : fg_O} {a0 : Nat} {i1 : Int32} {i2 : Int32} {i4 : Int32} {i5 : Int32} {i6 : Int32} {G : fg_H} {t : ((Nat × Int32 × Int32 × Int32 × Int32 × Int32 × fg_H) ⊕ (Int32 × fg_H))} (X : fg_X Ω RX5 "blows" cX5_blows 9 (some .int) 2) (hF : fX5_blows_6b a0 i1 i2 i4 i5 i6 G = some t) (h6 : ∀ z, t = (.inl z) → fg_W Ω z.2.2.2.2.2.2 6 [(0, .ref z.1), (1, .int z.2.1), (2, .int z.2.2.1), (4, .int z.2.2.2.1), (5, .int z.2.2.2.2.1), (6, .int z.2.2.2.2.2.1)] []) (hT : ∀ u, t = (.inr u) → fg_T Ω (.returned (some (.int u.1))) u.2) : fg_W Ω G 6 [(0, .ref a0), (1, .int i1), (2, .int i2), (4, .int i4), (5, .int i5), (6, .int i6)] [] := by
  unfold fX5_blows_6b at hF
  refine fg_iload X dX5_blows_6 5 rfl ?_
  refine fg_aload_n X (r := (some a0)) dX5_blows_8 rfl 0 rfl ?_
  replace hF := fg_ob_some hF
  obtain ⟨rz1, e_1, hF⟩ := hF
  refine fg_getr X ff_X5_ridge q352 e_1 dX5_blows_9 ?_
  refine fg_iload_n X dX5_blows_12 rfl 1 rfl ?_
  replace hF := fg_ob_some hF
  obtain ⟨az2, rfl, hF⟩ := hF
  replace hF := fg_gd_some hF
  obtain ⟨eg_2, hF⟩ := hF
  obtain ⟨fs_3, eo_4⟩ := fg_rc_get eg_2
  replace hF := fg_oc_some hF
  obtain ⟨xz4, Gz3, e_5, hF⟩ := hF
  refine fg_callV X (st := [.int i6]) (mX3_length Ω.2.2.2.2.1 Ω.1 e_5) q1214 q1215 q1216 q95 q1217 hd_X3_length (by decide) rfl eo_4 (by decide) rfl rfl (Nat.le_of_ble_eq_true rfl) dX5_blows_13 ?_
  refine fg_icmp_ge X (tgt := 94) dX5_blows_16 (by decide) (fun hc => ?_) (fun hc => ?_)
  · rw [if_pos hc] at hF
    replace hF := fg_rt_some hF
    obtain ⟨tz5, hF, ht_6⟩ := hF
    subst ht_6
    replace hT := hT _ rfl
    refine fg_iload X dX5_blows_94 4 rfl ?_
    cases hF
    exact fg_iret X dX5_blows_96 (hT)
  · rw [if_neg hc] at hF
    refine fg_aload_n X (r := (some a0)) dX5_blows_19 rfl 0 rfl ?_
    replace hF := fg_ob_some hF
    obtain ⟨rz6, e_7, hF⟩ := hF
    refine fg_getr X ff_X5_netAt q354 e_7 dX5_blows_20 ?_
    refine fg_aload_n X (r := (some a0)) dX5_blows_23 rfl 0 rfl ?_
    replace hF := fg_ob_some hF
    obtain ⟨rz7, e_8, hF⟩ := hF
    refine fg_getr X ff_X5_ridge q352 e_8 dX5_blows_24 ?_
    refine fg_iload_n X dX5_blows_27 rfl 1 rfl ?_
    refine fg_iload_n X dX5_blows_28 rfl 2 rfl ?_
    refine fg_iload X dX5_blows_29 5 rfl ?_
    replace hF := fg_ob_some hF
    obtain ⟨az8, rfl, hF⟩ := hF
    replace hF := fg_gd_some hF
    obtain ⟨eg_9, hF⟩ := hF
    obtain ⟨fs_10, eo_11⟩ := fg_rc_get eg_9
    replace hF := fg_oc_some hF
    obtain ⟨xz10, Gz9, e_12, hF⟩ := hF
    refine fg_callV X (st := [va_rf rz6]) (mX3_place Ω.2.2.2.2.1 Ω.1 e_12) q1218 q1219 q1220 q95 q1221 hd_X3_place (by decide) rfl eo_11 (by decide) rfl rfl (by cases rz6 <;> exact Nat.le_of_ble_eq_true rfl) dX5_blows_31 ?_
    replace hF := fg_ob_some hF
    obtain ⟨az11, rfl, hF⟩ := hF
    replace hF := fg_ob_some hF
    obtain ⟨xz12, e_13, hF⟩ := hF
    refine fg_iald X e_13 dX5_blows_34 ?_
    refine fg_iconst X (v := (1 : Int32)) dX5_blows_35 (by decide) ?_
    refine fg_isub X dX5_blows_36 ?_
    replace hF := fg_ob_some hF
    obtain ⟨vz13, ex_14, hF⟩ := hF
    refine fg_topi (Option.some.inj ex_14) ?_
    refine fg_istore X (L' := [(7, .int vz13), (0, .ref a0), (1, .int i1), (2, .int i2), (4, .int i4), (5, .int i5), (6, .int i6)]) dX5_blows_37 (by decide) rfl ?_
    refine fg_iload X dX5_blows_39 0 rfl ?_
    refine fg_if_ge X (tgt := 47) dX5_blows_41 (by decide) (fun hc => ?_) (fun hc => ?_)
    · rw [if_pos hc] at hF
      refine fg_aload_n X (r := (some a0)) dX5_blows_47 rfl 1 rfl ?_
      replace hF := fg_ob_some hF
      obtain ⟨rz14, e_15, hF⟩ := hF
      refine fg_getr X ff_X5_nets q356 e_15 dX5_blows_48 ?_
      refine fg_iload X dX5_blows_51 0 rfl ?_
      replace hF := fg_ob_some hF
      obtain ⟨az15, rfl, hF⟩ := hF
      replace hF := fg_ob_some hF
      obtain ⟨rz16, e_16, hF⟩ := hF
      refine fg_aald X (kd := 5) (by decide) e_16 dX5_blows_53 ?_
      refine fg_iload X dX5_blows_54 5 rfl ?_
      refine fg_iload X dX5_blows_56 4 rfl ?_
      refine fg_aload_n X (r := (some a0)) dX5_blows_58 rfl 1 rfl ?_
      refine fg_iload X dX5_blows_59 0 rfl ?_
      replace hF := fg_gd_some hF
      obtain ⟨eg_17, hF⟩ := hF
      obtain ⟨fs_18, eo_19⟩ := fg_rc_get eg_17
      replace hF := fg_oc_some hF
      obtain ⟨xz18, Gz17, e_20, hF⟩ := hF
      refine fg_callV X (st := [.int i4, .int i5, va_rf rz16]) (mX5_isMended Ω.2.2.2.2.1 Ω.1 e_20) q1222 q1108 q1109 q100 q1110 hd_X5_isMended (by decide) rfl eo_19 (by decide) rfl rfl (by cases rz16 <;> exact Nat.le_of_ble_eq_true rfl) dX5_blows_61 ?_
      replace hF := fg_ob_some hF
      obtain ⟨az19, rfl, hF⟩ := hF
      replace hF := fg_oc_some hF
      obtain ⟨xz21, Gz20, e_21, hF⟩ := hF
      refine cvX23_takes X (st := []) e_21 (by decide) q1223 (Nat.le_of_ble_eq_true rfl) dX5_blows_64 ?_
      refine fg_istore X (L' := [(8, .int xz21), (7, .int vz13), (0, .ref a0), (1, .int i1), (2, .int i2), (4, .int i4), (5, .int i5), (6, .int i6)]) dX5_blows_67 (by decide) rfl ?_
      refine fg_aload_n X (r := (some a0)) dX5_blows_69 rfl 2 rfl ?_
      replace hF := fg_ob_some hF
      obtain ⟨rz22, e_22, hF⟩ := hF
      refine fg_getr X ff_X5_took q364 e_22 dX5_blows_70 ?_
      refine fg_iload X dX5_blows_73 1 rfl ?_
      refine fg_dup2 X dX5_blows_75 rfl (fg_cat _) ?_
      replace hF := fg_ob_some hF
      obtain ⟨az23, rfl, hF⟩ := hF
      replace hF := fg_ob_some hF
      obtain ⟨xz24, e_23, hF⟩ := hF
      refine fg_iald X e_23 dX5_blows_76 ?_
      refine fg_iload X dX5_blows_77 0 rfl ?_
      refine fg_iadd X dX5_blows_79 ?_
      replace hF := fg_ob_some hF
      obtain ⟨Gz25, e_24, hF⟩ := hF
      refine fg_iast X e_24 dX5_blows_80 ?_
      refine fg_iload X dX5_blows_81 6 rfl ?_
      refine fg_iload X dX5_blows_83 0 rfl ?_
      refine fg_isub X dX5_blows_85 ?_
      replace hF := fg_ob_some hF
      obtain ⟨vz26, ex_25, hF⟩ := hF
      refine fg_topi (Option.some.inj ex_25) ?_
      refine fg_istore X (L' := [(5, .int vz26), (8, .int xz21), (7, .int vz13), (0, .ref a0), (1, .int i1), (2, .int i2), (4, .int i4), (6, .int i6)]) dX5_blows_86 (by decide) rfl ?_
      refine fg_iinc X (v := (i6 + (1 : Int32))) (L' := [(6, .int (i6 + (1 : Int32))), (5, .int vz26), (8, .int xz21), (7, .int vz13), (0, .ref a0), (1, .int i1), (2, .int i2), (4, .int i4)]) dX5_blows_88 7 rfl rfl (by decide) rfl ?_
      refine fg_goto X (tgt := 6) dX5_blows_91 (by decide) ?_
      refine fg_sub [4, 5, 6, 7, 1, 0] rfl ?_
      exact h6 _ (Option.some.inj hF).symm
    · rw [if_neg hc] at hF
      refine fg_goto X (tgt := 88) dX5_blows_44 (by decide) ?_
      refine fg_iinc X (v := (i6 + (1 : Int32))) (L' := [(6, .int (i6 + (1 : Int32))), (7, .int vz13), (0, .ref a0), (1, .int i1), (2, .int i2), (4, .int i4), (5, .int i5)]) dX5_blows_88 6 rfl rfl (by decide) rfl ?_
      refine fg_goto X (tgt := 6) dX5_blows_91 (by decide) ?_
      refine fg_sub [2, 3, 4, 5, 6, 0] rfl ?_
      exact h6 _ (Option.some.inj hF).symm
set_option maxHeartbeats 4000000 in
seal fX5_blows_6b in
theorem wX5_blows_6 {Ω : fg_O} {a0 : Nat} {i1 : Int32} {i2 : Int32} {i4 : Int32} {i5 : Int32} {i6 : Int32} {G : fg_H} {t : (Int32 × fg_H)} (X : fg_X Ω RX5 "blows" cX5_blows 9 (some .int) 2) (hF : fX5_blows_6 a0 i1 i2 i4 i5 i6 G = some t) (hT : fg_T Ω (.returned (some (.int t.1))) t.2) : fg_W Ω G 6 [(0, .ref a0), (1, .int i1), (2, .int i2), (4, .int i4), (5, .int i5), (6, .int i6)] [] := by
  unfold fX5_blows_6 at hF
  exact fg_lp_walk (P := fun z => fg_W Ω z.2.2.2.2.2.2 6 [(0, .ref z.1), (1, .int z.2.1), (2, .int z.2.2.1), (4, .int z.2.2.2.1), (5, .int z.2.2.2.2.1), (6, .int z.2.2.2.2.2.1)] []) (fun y o ho hl hr => wX5_blows_6b X ho (fun z e => hl z e) (fun u e => by rw [hr _ e]; exact hT)) hF
set_option maxHeartbeats 4000000 in
theorem wX5_blows {Ω : fg_O} {a0 : Nat} {i1 : Int32} {i2 : Int32} {i3 : Int32} {i4 : Int32} {G : fg_H} {t : Int32 × fg_H} (X : fg_X Ω RX5 "blows" cX5_blows 9 (some .int) 2) (hF : fX5_blows a0 i1 i2 i3 i4 G = some t) (hT : fg_T Ω (.returned (some (.int t.1))) t.2) : fg_W Ω G 0 [(0, .ref a0), (1, .int i1), (2, .int i2), (3, .int i3), (4, .int i4)] [] := by
  unfold fX5_blows at hF
  refine fg_iload_n X dX5_blows_0 rfl 3 rfl ?_
  refine fg_istore X (L' := [(5, .int i3), (0, .ref a0), (1, .int i1), (2, .int i2), (3, .int i3), (4, .int i4)]) dX5_blows_1 (by decide) rfl ?_
  refine fg_iconst X (v := (0 : Int32)) dX5_blows_3 (by decide) ?_
  refine fg_istore X (L' := [(6, .int (0 : Int32)), (5, .int i3), (0, .ref a0), (1, .int i1), (2, .int i2), (3, .int i3), (4, .int i4)]) dX5_blows_4 (by decide) rfl ?_
  refine fg_sub [2, 3, 4, 6, 1, 0] rfl ?_
  exact wX5_blows_6 X hF hT
theorem mX5_blows (l : Launch) (D : fg_D) {a0 : Nat} {i1 : Int32} {i2 : Int32} {i3 : Int32} {i4 : Int32} {G : fg_H} {t : Int32 × fg_H} (hF : fX5_blows a0 i1 i2 i3 i4 G = some t) : fg_M l D yX5_blows cX5_blows 9 (some .int) 2 [.ref a0, .int i1, .int i2, .int i3, .int i4] G (.returned (some (.int t.1))) t.2 :=
  fg_Mof (own := RX5) (nm := "blows") (L := [(0, .ref a0), (1, .int i1), (2, .int i2), (3, .int i3), (4, .int i4)]) (plainFor_of_name pn_X5) rfl rfl rfl (Nat.le_of_ble_eq_true rfl) (fun Ω _ _ X hT => wX5_blows X hF hT)
theorem hd_X5_copies : yX5_copies.cls ≠ "java/lang/invoke/MethodHandle" ∧ yX5_copies.cls ≠ "java/lang/invoke/VarHandle" ∧ (parseMethodDescriptor yX5_copies.desc).map (fun d => d.parameters.length) = some 1 := ⟨by decide +kernel, by decide +kernel, by decide +kernel⟩
set_option maxHeartbeats 4000000 in
theorem wX5_copies {Ω : fg_O} {a0 : Nat} {r1 : Option Nat} {G : fg_H} {t : Option Nat × fg_H} (X : fg_X Ω RX5 "copies" cX5_copies 2 (some (.object "FogNets$Hung")) 1) (hF : fX5_copies a0 r1 G = some t) (hT : fg_T Ω (.returned (some (va_rf t.1))) t.2) : fg_W Ω G 0 [(0, .ref a0), (1, va_rf r1)] [] := by
  unfold fX5_copies at hF
  refine fg_aload_n X (r := (some a0)) dX5_copies_0 rfl 0 rfl ?_
  refine fg_aload_n X (r := r1) dX5_copies_1 rfl 1 rfl ?_
  replace hF := fg_ob_some hF
  obtain ⟨az1, rfl, hF⟩ := hF
  replace hF := fg_ob_some hF
  obtain ⟨rz2, e_1, hF⟩ := hF
  refine fg_getr X ff_X5_ridge q352 e_1 dX5_copies_2 ?_
  replace hF := fg_ob_some hF
  obtain ⟨Gz3, e_2, hF⟩ := hF
  refine fg_putv X (ty := (.object "FogNets$Ridge")) (v := va_rf rz2) ff_X5_ridge q352 rfl (Or.inl rfl) rfl (fg_nrf _ (Or.inl ⟨_, rfl⟩)) (fg_frf _ (Or.inl ⟨_, rfl⟩)) e_2 dX5_copies_5 ?_
  refine fg_aload_n X (r := (some a0)) dX5_copies_8 rfl 0 rfl ?_
  refine fg_aload_n X (r := (some az1)) dX5_copies_9 rfl 1 rfl ?_
  replace hF := fg_ob_some hF
  obtain ⟨xz4, e_3, hF⟩ := hF
  refine fg_geti X ff_X5_mended q360 e_3 dX5_copies_10 ?_
  replace hF := fg_ob_some hF
  obtain ⟨Gz5, e_4, hF⟩ := hF
  refine fg_putv X (ty := .int) (v := .int xz4) ff_X5_mended q360 rfl (Or.inl rfl) rfl rfl rfl e_4 dX5_copies_13 ?_
  refine fg_aload_n X (r := (some a0)) dX5_copies_16 rfl 0 rfl ?_
  refine fg_aload_n X (r := (some az1)) dX5_copies_17 rfl 1 rfl ?_
  replace hF := fg_ob_some hF
  obtain ⟨xz6, e_5, hF⟩ := hF
  refine fg_geti X ff_X5_many q362 e_5 dX5_copies_18 ?_
  replace hF := fg_ob_some hF
  obtain ⟨Gz7, e_6, hF⟩ := hF
  refine fg_putv X (ty := .int) (v := .int xz6) ff_X5_many q362 rfl (Or.inl rfl) rfl rfl rfl e_6 dX5_copies_21 ?_
  refine fg_aload_n X (r := (some az1)) dX5_copies_24 rfl 1 rfl ?_
  replace hF := fg_ob_some hF
  obtain ⟨rz8, e_7, hF⟩ := hF
  refine fg_getr X ff_X5_netAt q354 e_7 dX5_copies_25 ?_
  refine fg_iconst X (v := (0 : Int32)) dX5_copies_28 (by decide) ?_
  refine fg_aload_n X (r := (some a0)) dX5_copies_29 rfl 0 rfl ?_
  replace hF := fg_ob_some hF
  obtain ⟨rz9, e_8, hF⟩ := hF
  refine fg_getr X ff_X5_netAt q354 e_8 dX5_copies_30 ?_
  refine fg_iconst X (v := (0 : Int32)) dX5_copies_33 (by decide) ?_
  refine fg_bipush X (v := (64 : Int32)) dX5_copies_34 (by decide) ?_
  replace hF := fg_ob_some hF
  obtain ⟨az10, rfl, hF⟩ := hF
  replace hF := fg_ob_some hF
  obtain ⟨az11, rfl, hF⟩ := hF
  replace hF := fg_ob_some hF
  obtain ⟨Gz12, e_9, hF⟩ := hF
  refine fg_copyi X q1209 q899 q898 q123 (by decide) e_9 (Nat.le_of_ble_eq_true rfl) dX5_copies_36 ?_
  refine fg_aload_n X (r := (some az1)) dX5_copies_39 rfl 1 rfl ?_
  replace hF := fg_ob_some hF
  obtain ⟨rz13, e_10, hF⟩ := hF
  refine fg_getr X ff_X5_nets q356 e_10 dX5_copies_40 ?_
  refine fg_iconst X (v := (0 : Int32)) dX5_copies_43 (by decide) ?_
  refine fg_aload_n X (r := (some a0)) dX5_copies_44 rfl 0 rfl ?_
  replace hF := fg_ob_some hF
  obtain ⟨rz14, e_11, hF⟩ := hF
  refine fg_getr X ff_X5_nets q356 e_11 dX5_copies_45 ?_
  refine fg_iconst X (v := (0 : Int32)) dX5_copies_48 (by decide) ?_
  refine fg_aload_n X (r := (some a0)) dX5_copies_49 rfl 0 rfl ?_
  replace hF := fg_ob_some hF
  obtain ⟨xz15, e_12, hF⟩ := hF
  refine fg_geti X ff_X5_many q362 e_12 dX5_copies_50 ?_
  replace hF := fg_ob_some hF
  obtain ⟨az16, rfl, hF⟩ := hF
  replace hF := fg_ob_some hF
  obtain ⟨az17, rfl, hF⟩ := hF
  replace hF := fg_ob_some hF
  obtain ⟨Gz18, e_13, hF⟩ := hF
  refine fg_copyi X q1209 q899 q898 q123 (by decide) e_13 (Nat.le_of_ble_eq_true rfl) dX5_copies_53 ?_
  refine fg_aload_n X (r := (some az1)) dX5_copies_56 rfl 1 rfl ?_
  replace hF := fg_ob_some hF
  obtain ⟨rz19, e_14, hF⟩ := hF
  refine fg_getr X ff_X5_at q358 e_14 dX5_copies_57 ?_
  refine fg_iconst X (v := (0 : Int32)) dX5_copies_60 (by decide) ?_
  refine fg_aload_n X (r := (some a0)) dX5_copies_61 rfl 0 rfl ?_
  replace hF := fg_ob_some hF
  obtain ⟨rz20, e_15, hF⟩ := hF
  refine fg_getr X ff_X5_at q358 e_15 dX5_copies_62 ?_
  refine fg_iconst X (v := (0 : Int32)) dX5_copies_65 (by decide) ?_
  refine fg_aload_n X (r := (some a0)) dX5_copies_66 rfl 0 rfl ?_
  replace hF := fg_ob_some hF
  obtain ⟨xz21, e_16, hF⟩ := hF
  refine fg_geti X ff_X5_many q362 e_16 dX5_copies_67 ?_
  replace hF := fg_ob_some hF
  obtain ⟨az22, rfl, hF⟩ := hF
  replace hF := fg_ob_some hF
  obtain ⟨az23, rfl, hF⟩ := hF
  replace hF := fg_ob_some hF
  obtain ⟨Gz24, e_17, hF⟩ := hF
  refine fg_copyi X q1209 q899 q898 q123 (by decide) e_17 (Nat.le_of_ble_eq_true rfl) dX5_copies_70 ?_
  refine fg_aload_n X (r := (some a0)) dX5_copies_73 rfl 0 rfl ?_
  cases hF
  exact fg_aret (Or.inl ⟨_, rfl⟩) X (r := (some a0)) dX5_copies_74 (hT)
theorem mX5_copies (l : Launch) (D : fg_D) {a0 : Nat} {r1 : Option Nat} {G : fg_H} {t : Option Nat × fg_H} (hF : fX5_copies a0 r1 G = some t) : fg_M l D yX5_copies cX5_copies 2 (some (.object "FogNets$Hung")) 1 [.ref a0, va_rf r1] G (.returned (some (va_rf t.1))) t.2 :=
  fg_Mof (own := RX5) (nm := "copies") (L := [(0, .ref a0), (1, va_rf r1)]) (plainFor_of_name pn_X5) rfl rfl (by cases r1 <;> rfl) (by cases r1 <;> exact Nat.le_of_ble_eq_true rfl) (fun Ω _ _ X hT => wX5_copies X hF hT)
theorem hd_X1_bank : yX1_bank.cls ≠ "java/lang/invoke/MethodHandle" ∧ yX1_bank.cls ≠ "java/lang/invoke/VarHandle" ∧ (parseMethodDescriptor yX1_bank.desc).map (fun d => d.parameters.length) = some 3 := ⟨by decide +kernel, by decide +kernel, by decide +kernel⟩
set_option maxHeartbeats 4000000 in
theorem wX1_bank {Ω : fg_O} {a0 : Nat} {i1 : Int32} {i2 : Int32} {i3 : Int32} {G : fg_H} {t : Int32 × fg_H} (X : fg_X Ω RX1 "bank" cX1_bank 6 (some .int) 122) (hF : fX1_bank a0 i1 i2 i3 G = some t) (hT : fg_T Ω (.returned (some (.int t.1))) t.2) : fg_W Ω G 0 [(0, .ref a0), (1, .int i1), (2, .int i2), (3, .int i3)] [] := by
  unfold fX1_bank at hF
  refine fg_aload_n X (r := (some a0)) dX1_bank_0 rfl 0 rfl ?_
  refine fg_iload_n X dX1_bank_1 rfl 1 rfl ?_
  replace hF := fg_gd_some hF
  obtain ⟨eg_1, hF⟩ := hF
  obtain ⟨fs_2, eo_3⟩ := fg_rc_get eg_1
  replace hF := fg_oc_some hF
  obtain ⟨xz2, Gz1, e_4, hF⟩ := hF
  refine fg_callV X (st := []) (mX1_isHour Ω.2.2.2.2.1 Ω.1 e_4) q1124 q1126 qs28 q93 q1127 hd_X1_isHour (by decide) rfl eo_3 (by decide) rfl rfl (Nat.le_of_ble_eq_true rfl) dX1_bank_2 ?_
  refine fg_if_eq X (tgt := 17) dX1_bank_5 (by decide) (fun hc => ?_) (fun hc => ?_)
  · rw [if_pos hc] at hF
    refine fg_iconst X (v := (-1 : Int32)) dX1_bank_17 (by decide) ?_
    cases hF
    exact fg_iret X dX1_bank_18 (hT)
  · rw [if_neg hc] at hF
    refine fg_iload_n X dX1_bank_8 rfl 3 rfl ?_
    refine fg_iconst X (v := (0 : Int32)) dX1_bank_9 (by decide) ?_
    refine fg_iconst X (v := (1 : Int32)) dX1_bank_10 (by decide) ?_
    replace hF := fg_oc_some hF
    obtain ⟨xz4, Gz3, e_5, hF⟩ := hF
    refine fg_callS X (st := []) (mX1_within Ω.2.2.2.2.1 Ω.1 e_5) q1086 q504 q93 q505 hd_X1_within (by decide) rfl rfl (Nat.le_of_ble_eq_true rfl) dX1_bank_11 ?_
    refine fg_if_ne X (tgt := 19) dX1_bank_14 (by decide) (fun hc => ?_) (fun hc => ?_)
    · rw [if_neg hc] at hF
      refine fg_aload_n X (r := (some a0)) dX1_bank_19 rfl 0 rfl ?_
      replace hF := fg_ob_some hF
      obtain ⟨rz5, e_6, hF⟩ := hF
      refine fg_getr X ff_X1_ridge q447 e_6 dX1_bank_20 ?_
      refine fg_aload_n X (r := (some a0)) dX1_bank_23 rfl 0 rfl ?_
      replace hF := fg_ob_some hF
      obtain ⟨xz6, e_7, hF⟩ := hF
      refine fg_geti X ff_X1_night q453 e_7 dX1_bank_24 ?_
      refine fg_iload_n X dX1_bank_27 rfl 1 rfl ?_
      replace hF := fg_ob_some hF
      obtain ⟨az7, rfl, hF⟩ := hF
      replace hF := fg_gd_some hF
      obtain ⟨eg_8, hF⟩ := hF
      obtain ⟨fs_9, eo_10⟩ := fg_rc_get eg_8
      replace hF := fg_oc_some hF
      obtain ⟨xz9, Gz8, e_11, hF⟩ := hF
      refine fg_callV X (st := []) (mX3_wind Ω.2.2.2.2.1 Ω.1 e_11) q1128 q1129 q1130 q95 q1131 hd_X3_wind (by decide) rfl eo_10 (by decide) rfl rfl (Nat.le_of_ble_eq_true rfl) dX1_bank_28 ?_
      refine fg_istore X (L' := [(4, .int xz9), (0, .ref a0), (1, .int i1), (2, .int i2), (3, .int i3)]) dX1_bank_31 (by decide) rfl ?_
      refine fg_iload_n X dX1_bank_33 rfl 3 rfl ?_
      refine fg_iconst X (v := (0 : Int32)) dX1_bank_34 (by decide) ?_
      refine fg_aload_n X (r := (some a0)) dX1_bank_35 rfl 1 rfl ?_
      replace hF := fg_ob_some hF
      obtain ⟨rz10, e_12, hF⟩ := hF
      refine fg_getr X ff_X1_ridge q447 e_12 dX1_bank_36 ?_
      refine fg_iload X dX1_bank_39 0 rfl ?_
      replace hF := fg_ob_some hF
      obtain ⟨az11, rfl, hF⟩ := hF
      replace hF := fg_gd_some hF
      obtain ⟨eg_13, hF⟩ := hF
      obtain ⟨fs_14, eo_15⟩ := fg_rc_get eg_13
      replace hF := fg_oc_some hF
      obtain ⟨xz13, Gz12, e_16, hF⟩ := hF
      refine fg_callV X (st := [.int (0 : Int32), .int i2]) (mX3_lines Ω.2.2.2.2.1 Ω.1 e_16) q1195 q1196 q1197 q95 q1198 hd_X3_lines (by decide) rfl eo_15 (by decide) rfl rfl (Nat.le_of_ble_eq_true rfl) dX1_bank_41 ?_
      refine fg_iconst X (v := (1 : Int32)) dX1_bank_44 (by decide) ?_
      refine fg_isub X dX1_bank_45 ?_
      replace hF := fg_oc_some hF
      obtain ⟨xz15, Gz14, e_17, hF⟩ := hF
      refine fg_callS X (st := []) (mX1_within Ω.2.2.2.2.1 Ω.1 e_17) q1086 q504 q93 q505 hd_X1_within (by decide) rfl rfl (Nat.le_of_ble_eq_true rfl) dX1_bank_46 ?_
      refine fg_if_ne X (tgt := 54) dX1_bank_49 (by decide) (fun hc => ?_) (fun hc => ?_)
      · rw [if_neg hc] at hF
        refine fg_aload_n X (r := (some a0)) dX1_bank_54 rfl 1 rfl ?_
        replace hF := fg_ob_some hF
        obtain ⟨rz16, e_18, hF⟩ := hF
        refine fg_getr X ff_X1_ridge q447 e_18 dX1_bank_55 ?_
        refine fg_aload_n X (r := (some a0)) dX1_bank_58 rfl 1 rfl ?_
        replace hF := fg_ob_some hF
        obtain ⟨xz17, e_19, hF⟩ := hF
        refine fg_geti X ff_X1_night q453 e_19 dX1_bank_59 ?_
        refine fg_iload_n X dX1_bank_62 rfl 2 rfl ?_
        refine fg_iload_n X dX1_bank_63 rfl 3 rfl ?_
        refine fg_iload X dX1_bank_64 0 rfl ?_
        replace hF := fg_ob_some hF
        obtain ⟨az18, rfl, hF⟩ := hF
        replace hF := fg_gd_some hF
        obtain ⟨eg_20, hF⟩ := hF
        obtain ⟨fs_21, eo_22⟩ := fg_rc_get eg_20
        replace hF := fg_oc_some hF
        obtain ⟨xz20, Gz19, e_23, hF⟩ := hF
        refine fg_callV X (st := []) (mX3_fog Ω.2.2.2.2.1 Ω.1 e_23) q1199 q1200 q1201 q95 q1202 hd_X3_fog (by decide) rfl eo_22 (by decide) rfl rfl (Nat.le_of_ble_eq_true rfl) dX1_bank_66 ?_
        refine fg_istore X (L' := [(5, .int xz20), (4, .int xz9), (0, .ref a0), (1, .int i1), (2, .int i2), (3, .int i3)]) dX1_bank_69 (by decide) rfl ?_
        refine fg_iload_n X dX1_bank_71 rfl 5 rfl ?_
        refine fg_if_ne X (tgt := 80) dX1_bank_72 (by decide) (fun hc => ?_) (fun hc => ?_)
        · rw [if_neg hc] at hF
          refine fg_aload_n X (r := (some a0)) dX1_bank_80 rfl 2 rfl ?_
          replace hF := fg_ob_some hF
          obtain ⟨rz21, e_24, hF⟩ := hF
          refine fg_getr X ff_X1_trial q459 e_24 dX1_bank_81 ?_
          refine fg_aload_n X (r := (some a0)) dX1_bank_84 rfl 2 rfl ?_
          replace hF := fg_ob_some hF
          obtain ⟨rz22, e_25, hF⟩ := hF
          refine fg_getr X ff_X1_hung q449 e_25 dX1_bank_85 ?_
          replace hF := fg_ob_some hF
          obtain ⟨az23, rfl, hF⟩ := hF
          replace hF := fg_gd_some hF
          obtain ⟨eg_26, hF⟩ := hF
          obtain ⟨fs_27, eo_28⟩ := fg_rc_get eg_26
          replace hF := fg_oc_some hF
          obtain ⟨rz25, Gz24, e_29, hF⟩ := hF
          refine fg_callV X (st := []) (mX5_copies Ω.2.2.2.2.1 Ω.1 e_29) q1205 q1206 q1207 q100 q1208 hd_X5_copies (by decide) rfl eo_28 (by decide) rfl rfl (Nat.le_of_ble_eq_true rfl) dX1_bank_88 ?_
          refine fg_iload X dX1_bank_91 1 rfl ?_
          refine fg_iload_n X dX1_bank_93 rfl 4 rfl ?_
          refine fg_iload X dX1_bank_94 0 rfl ?_
          refine fg_iload_n X dX1_bank_96 rfl 3 rfl ?_
          replace hF := fg_ob_some hF
          obtain ⟨az26, rfl, hF⟩ := hF
          replace hF := fg_gd_some hF
          obtain ⟨eg_30, hF⟩ := hF
          obtain ⟨fs_31, eo_32⟩ := fg_rc_get eg_30
          replace hF := fg_oc_some hF
          obtain ⟨xz28, Gz27, e_33, hF⟩ := hF
          refine fg_callV X (st := []) (mX5_blows Ω.2.2.2.2.1 Ω.1 e_33) q1210 q1211 q1212 q100 q1213 hd_X5_blows (by decide) rfl eo_32 (by decide) rfl rfl (Nat.le_of_ble_eq_true rfl) dX1_bank_97 ?_
          cases hF
          exact fg_iret X dX1_bank_100 (hT)
        · rw [if_pos hc] at hF
          refine fg_iload X dX1_bank_75 0 rfl ?_
          refine fg_goto X (tgt := 100) dX1_bank_77 (by decide) ?_
          cases hF
          exact fg_iret X dX1_bank_100 (hT)
      · rw [if_pos hc] at hF
        refine fg_iconst X (v := (-1 : Int32)) dX1_bank_52 (by decide) ?_
        cases hF
        exact fg_iret X dX1_bank_53 (hT)
    · rw [if_pos hc] at hF
      refine fg_iconst X (v := (-1 : Int32)) dX1_bank_17 (by decide) ?_
      cases hF
      exact fg_iret X dX1_bank_18 (hT)
theorem mX1_bank (l : Launch) (D : fg_D) {a0 : Nat} {i1 : Int32} {i2 : Int32} {i3 : Int32} {G : fg_H} {t : Int32 × fg_H} (hF : fX1_bank a0 i1 i2 i3 G = some t) : fg_M l D yX1_bank cX1_bank 6 (some .int) 122 [.ref a0, .int i1, .int i2, .int i3] G (.returned (some (.int t.1))) t.2 :=
  fg_Mof (own := RX1) (nm := "bank") (L := [(0, .ref a0), (1, .int i1), (2, .int i2), (3, .int i3)]) (plainFor_of_name pn_X1) rfl rfl rfl (Nat.le_of_ble_eq_true rfl) (fun Ω _ _ X hT => wX1_bank X hF hT)
theorem hd_X5_takes : yX5_takes.cls ≠ "java/lang/invoke/MethodHandle" ∧ yX5_takes.cls ≠ "java/lang/invoke/VarHandle" ∧ (parseMethodDescriptor yX5_takes.desc).map (fun d => d.parameters.length) = some 1 := ⟨by decide +kernel, by decide +kernel, by decide +kernel⟩
set_option maxHeartbeats 4000000 in
theorem wX5_takes_38b {Ω : fg_O} {a0 : Nat} {r1 : Option Nat} {i2 : Int32} {i3 : Int32} {G : fg_H} {t : ((Nat × Option Nat × Int32 × Int32 × fg_H) ⊕ ((Nat × Option Nat × Int32 × fg_H) ⊕ (Option Nat × fg_H)))} (X : fg_X Ω RX5 "takes" cX5_takes 4 (some (.object "FogNets$Hung")) 3) (hF : fX5_takes_38b a0 r1 i2 i3 G = some t) (h25 : ∀ z, t = (.inr (.inl z)) → fg_W Ω z.2.2.2 25 [(0, .ref z.1), (1, va_rf z.2.1), (2, .int z.2.2.1)] []) (h38 : ∀ z, t = (.inl z) → fg_W Ω z.2.2.2.2 38 [(0, .ref z.1), (1, va_rf z.2.1), (2, .int z.2.2.1), (3, .int z.2.2.2.1)] []) (hT : ∀ u, t = (.inr (.inr u)) → fg_T Ω (.returned (some (va_rf u.1))) u.2) : fg_W Ω G 38 [(0, .ref a0), (1, va_rf r1), (2, .int i2), (3, .int i3)] [] := by
  unfold fX5_takes_38b at hF
  refine fg_iload_n X dX5_takes_38 rfl 3 rfl ?_
  refine fg_aload_n X (r := (some a0)) dX5_takes_39 rfl 0 rfl ?_
  replace hF := fg_ob_some hF
  obtain ⟨rz7, e_1, hF⟩ := hF
  refine fg_getr X ff_X5_ridge q352 e_1 dX5_takes_40 ?_
  refine fg_aload_n X (r := r1) dX5_takes_43 rfl 1 rfl ?_
  replace hF := fg_ob_some hF
  obtain ⟨az8, rfl, hF⟩ := hF
  replace hF := fg_ob_some hF
  obtain ⟨rz9, e_2, hF⟩ := hF
  refine fg_getr X ff_X7_way q409 e_2 dX5_takes_44 ?_
  refine fg_iload_n X dX5_takes_47 rfl 2 rfl ?_
  replace hF := fg_ob_some hF
  obtain ⟨az10, rfl, hF⟩ := hF
  replace hF := fg_ob_some hF
  obtain ⟨xz11, e_3, hF⟩ := hF
  refine fg_iald X e_3 dX5_takes_48 ?_
  replace hF := fg_ob_some hF
  obtain ⟨az12, rfl, hF⟩ := hF
  replace hF := fg_gd_some hF
  obtain ⟨eg_4, hF⟩ := hF
  obtain ⟨fs_5, eo_6⟩ := fg_rc_get eg_4
  replace hF := fg_oc_some hF
  obtain ⟨xz14, Gz13, e_7, hF⟩ := hF
  refine fg_callV X (st := [.int i3]) (mX3_lines Ω.2.2.2.2.1 Ω.1 e_7) q1265 q1196 q1197 q95 q1198 hd_X3_lines (by decide) rfl eo_6 (by decide) rfl rfl (Nat.le_of_ble_eq_true rfl) dX5_takes_49 ?_
  refine fg_icmp_ge X (tgt := 85) dX5_takes_52 (by decide) (fun hc => ?_) (fun hc => ?_)
  · rw [if_pos hc] at hF
    replace hF := fg_rt_some hF
    obtain ⟨tz15, hF, ht_8⟩ := hF
    subst ht_8
    replace h25 := fun z q => h25 z (congrArg Sum.inr q)
    replace hT := fun u q => hT u (congrArg Sum.inr q)
    refine fg_iinc X (v := (i2 + (1 : Int32))) (L' := [(2, .int (i2 + (1 : Int32))), (0, .ref a0), (1, .ref az8), (3, .int i3)]) dX5_takes_85 2 rfl rfl (by decide) rfl ?_
    refine fg_goto X (tgt := 25) dX5_takes_88 (by decide) ?_
    refine fg_sub [1, 2, 0] rfl ?_
    exact h25 _ (Option.some.inj hF).symm
  · rw [if_neg hc] at hF
    refine fg_aload_n X (r := (some a0)) dX5_takes_55 rfl 0 rfl ?_
    refine fg_aload_n X (r := (some az8)) dX5_takes_56 rfl 1 rfl ?_
    replace hF := fg_ob_some hF
    obtain ⟨rz16, e_9, hF⟩ := hF
    refine fg_getr X ff_X7_way q409 e_9 dX5_takes_57 ?_
    refine fg_iload_n X dX5_takes_60 rfl 2 rfl ?_
    replace hF := fg_ob_some hF
    obtain ⟨az17, rfl, hF⟩ := hF
    replace hF := fg_ob_some hF
    obtain ⟨xz18, e_10, hF⟩ := hF
    refine fg_iald X e_10 dX5_takes_61 ?_
    refine fg_iload_n X dX5_takes_62 rfl 3 rfl ?_
    refine fg_aload_n X (r := (some az8)) dX5_takes_63 rfl 1 rfl ?_
    replace hF := fg_ob_some hF
    obtain ⟨rz19, e_11, hF⟩ := hF
    refine fg_getr X ff_X7_bank q411 e_11 dX5_takes_64 ?_
    refine fg_bipush X (v := (8 : Int32)) dX5_takes_67 (by decide) ?_
    refine fg_iload_n X dX5_takes_69 rfl 2 rfl ?_
    refine fg_imul X dX5_takes_70 ?_
    refine fg_iload_n X dX5_takes_71 rfl 3 rfl ?_
    refine fg_iadd X dX5_takes_72 ?_
    replace hF := fg_ob_some hF
    obtain ⟨az20, rfl, hF⟩ := hF
    replace hF := fg_ob_some hF
    obtain ⟨xz21, e_12, hF⟩ := hF
    refine fg_iald X e_12 dX5_takes_73 ?_
    refine fg_iload_n X dX5_takes_74 rfl 2 rfl ?_
    replace hF := fg_gd_some hF
    obtain ⟨eg_13, hF⟩ := hF
    obtain ⟨fs_14, eo_15⟩ := fg_rc_get eg_13
    replace hF := fg_oc_some hF
    obtain ⟨xz23, Gz22, e_16, hF⟩ := hF
    refine fg_callV X (st := []) (mX5_blows Ω.2.2.2.2.1 Ω.1 e_16) q1266 q1211 q1212 q100 q1213 hd_X5_blows (by decide) rfl eo_15 (by decide) rfl rfl (Nat.le_of_ble_eq_true rfl) dX5_takes_75 ?_
    refine fg_pop X dX5_takes_78 rfl ?_
    refine fg_iinc X (v := (i3 + (1 : Int32))) (L' := [(3, .int (i3 + (1 : Int32))), (0, .ref a0), (1, .ref az8), (2, .int i2)]) dX5_takes_79 3 rfl rfl (by decide) rfl ?_
    refine fg_goto X (tgt := 38) dX5_takes_82 (by decide) ?_
    refine fg_sub [1, 2, 3, 0] rfl ?_
    exact h38 _ (Option.some.inj hF).symm
set_option maxHeartbeats 4000000 in
seal fX5_takes_38b in
theorem wX5_takes_38 {Ω : fg_O} {a0 : Nat} {r1 : Option Nat} {i2 : Int32} {i3 : Int32} {G : fg_H} {t : ((Nat × Option Nat × Int32 × fg_H) ⊕ (Option Nat × fg_H))} (X : fg_X Ω RX5 "takes" cX5_takes 4 (some (.object "FogNets$Hung")) 3) (hF : fX5_takes_38 a0 r1 i2 i3 G = some t) (h25 : ∀ z, t = (.inl z) → fg_W Ω z.2.2.2 25 [(0, .ref z.1), (1, va_rf z.2.1), (2, .int z.2.2.1)] []) (hT : ∀ u, t = (.inr u) → fg_T Ω (.returned (some (va_rf u.1))) u.2) : fg_W Ω G 38 [(0, .ref a0), (1, va_rf r1), (2, .int i2), (3, .int i3)] [] := by
  unfold fX5_takes_38 at hF
  exact fg_lp_walk (P := fun z => fg_W Ω z.2.2.2.2 38 [(0, .ref z.1), (1, va_rf z.2.1), (2, .int z.2.2.1), (3, .int z.2.2.2.1)] []) (fun y o ho hl hr => wX5_takes_38b X ho (fun z e => h25 z (hr _ e).symm) (fun z e => hl z e) (fun u e => hT u (hr _ e).symm)) hF
set_option maxHeartbeats 4000000 in
theorem wX5_takes_25b {Ω : fg_O} {a0 : Nat} {r1 : Option Nat} {i2 : Int32} {G : fg_H} {t : ((Nat × Option Nat × Int32 × fg_H) ⊕ (Option Nat × fg_H))} (X : fg_X Ω RX5 "takes" cX5_takes 4 (some (.object "FogNets$Hung")) 3) (hF : fX5_takes_25b a0 r1 i2 G = some t) (h25 : ∀ z, t = (.inl z) → fg_W Ω z.2.2.2 25 [(0, .ref z.1), (1, va_rf z.2.1), (2, .int z.2.2.1)] []) (hT : ∀ u, t = (.inr u) → fg_T Ω (.returned (some (va_rf u.1))) u.2) : fg_W Ω G 25 [(0, .ref a0), (1, va_rf r1), (2, .int i2)] [] := by
  unfold fX5_takes_25b at hF
  refine fg_iload_n X dX5_takes_25 rfl 2 rfl ?_
  refine fg_aload_n X (r := (some a0)) dX5_takes_26 rfl 0 rfl ?_
  replace hF := fg_ob_some hF
  obtain ⟨rz3, e_1, hF⟩ := hF
  refine fg_getr X ff_X5_ridge q352 e_1 dX5_takes_27 ?_
  replace hF := fg_ob_some hF
  obtain ⟨az4, rfl, hF⟩ := hF
  replace hF := fg_ob_some hF
  obtain ⟨xz5, e_2, hF⟩ := hF
  refine fg_geti X ff_X3_hours q289 e_2 dX5_takes_30 ?_
  refine fg_icmp_ge X (tgt := 91) dX5_takes_33 (by decide) (fun hc => ?_) (fun hc => ?_)
  · rw [if_pos hc] at hF
    replace hF := fg_rt_some hF
    obtain ⟨tz6, hF, ht_3⟩ := hF
    subst ht_3
    replace hT := hT _ rfl
    refine fg_aload_n X (r := (some a0)) dX5_takes_91 rfl 0 rfl ?_
    cases hF
    exact fg_aret (Or.inl ⟨_, rfl⟩) X (r := (some a0)) dX5_takes_92 (hT)
  · rw [if_neg hc] at hF
    refine fg_iconst X (v := (0 : Int32)) dX5_takes_36 (by decide) ?_
    refine fg_istore_n X (L' := [(3, .int (0 : Int32)), (0, .ref a0), (1, va_rf r1), (2, .int i2)]) dX5_takes_37 rfl (by decide) rfl ?_
    refine fg_sub [1, 2, 3, 0] rfl ?_
    exact wX5_takes_38 X hF h25 hT
set_option maxHeartbeats 4000000 in
seal fX5_takes_25b in
theorem wX5_takes_25 {Ω : fg_O} {a0 : Nat} {r1 : Option Nat} {i2 : Int32} {G : fg_H} {t : (Option Nat × fg_H)} (X : fg_X Ω RX5 "takes" cX5_takes 4 (some (.object "FogNets$Hung")) 3) (hF : fX5_takes_25 a0 r1 i2 G = some t) (hT : fg_T Ω (.returned (some (va_rf t.1))) t.2) : fg_W Ω G 25 [(0, .ref a0), (1, va_rf r1), (2, .int i2)] [] := by
  unfold fX5_takes_25 at hF
  exact fg_lp_walk (P := fun z => fg_W Ω z.2.2.2 25 [(0, .ref z.1), (1, va_rf z.2.1), (2, .int z.2.2.1)] []) (fun y o ho hl hr => wX5_takes_25b X ho (fun z e => hl z e) (fun u e => by rw [hr _ e]; exact hT)) hF
set_option maxHeartbeats 4000000 in
theorem wX5_takes_2b {Ω : fg_O} {a0 : Nat} {r1 : Option Nat} {i2 : Int32} {G : fg_H} {t : ((Nat × Option Nat × Int32 × fg_H) ⊕ (Option Nat × fg_H))} (X : fg_X Ω RX5 "takes" cX5_takes 4 (some (.object "FogNets$Hung")) 3) (hF : fX5_takes_2b a0 r1 i2 G = some t) (h2 : ∀ z, t = (.inl z) → fg_W Ω z.2.2.2 2 [(0, .ref z.1), (1, va_rf z.2.1), (2, .int z.2.2.1)] []) (hT : ∀ u, t = (.inr u) → fg_T Ω (.returned (some (va_rf u.1))) u.2) : fg_W Ω G 2 [(0, .ref a0), (1, va_rf r1), (2, .int i2)] [] := by
  unfold fX5_takes_2b at hF
  refine fg_iload_n X dX5_takes_2 rfl 2 rfl ?_
  refine fg_aload_n X (r := (some a0)) dX5_takes_3 rfl 0 rfl ?_
  replace hF := fg_ob_some hF
  obtain ⟨xz1, e_1, hF⟩ := hF
  refine fg_geti X ff_X5_many q362 e_1 dX5_takes_4 ?_
  refine fg_icmp_ge X (tgt := 23) dX5_takes_7 (by decide) (fun hc => ?_) (fun hc => ?_)
  · rw [if_pos hc] at hF
    replace hF := fg_rt_some hF
    obtain ⟨tz2, hF, ht_2⟩ := hF
    subst ht_2
    replace hT := hT _ rfl
    refine fg_iconst X (v := (0 : Int32)) dX5_takes_23 (by decide) ?_
    refine fg_istore_n X (L' := [(2, .int (0 : Int32)), (0, .ref a0), (1, va_rf r1)]) dX5_takes_24 rfl (by decide) (by cases r1 <;> rfl) ?_
    refine fg_sub [1, 2, 0] rfl ?_
    exact wX5_takes_25 X hF hT
  · rw [if_neg hc] at hF
    refine fg_aload_n X (r := (some a0)) dX5_takes_10 rfl 0 rfl ?_
    replace hF := fg_ob_some hF
    obtain ⟨rz24, e_3, hF⟩ := hF
    refine fg_getr X ff_X5_took q364 e_3 dX5_takes_11 ?_
    refine fg_iload_n X dX5_takes_14 rfl 2 rfl ?_
    refine fg_iconst X (v := (0 : Int32)) dX5_takes_15 (by decide) ?_
    replace hF := fg_ob_some hF
    obtain ⟨az25, rfl, hF⟩ := hF
    replace hF := fg_ob_some hF
    obtain ⟨Gz26, e_4, hF⟩ := hF
    refine fg_iast X e_4 dX5_takes_16 ?_
    refine fg_iinc X (v := (i2 + (1 : Int32))) (L' := [(2, .int (i2 + (1 : Int32))), (0, .ref a0), (1, va_rf r1)]) dX5_takes_17 2 rfl rfl (by decide) (by cases r1 <;> rfl) ?_
    refine fg_goto X (tgt := 2) dX5_takes_20 (by decide) ?_
    refine fg_sub [1, 2, 0] rfl ?_
    exact h2 _ (Option.some.inj hF).symm
set_option maxHeartbeats 4000000 in
seal fX5_takes_2b in
theorem wX5_takes_2 {Ω : fg_O} {a0 : Nat} {r1 : Option Nat} {i2 : Int32} {G : fg_H} {t : (Option Nat × fg_H)} (X : fg_X Ω RX5 "takes" cX5_takes 4 (some (.object "FogNets$Hung")) 3) (hF : fX5_takes_2 a0 r1 i2 G = some t) (hT : fg_T Ω (.returned (some (va_rf t.1))) t.2) : fg_W Ω G 2 [(0, .ref a0), (1, va_rf r1), (2, .int i2)] [] := by
  unfold fX5_takes_2 at hF
  exact fg_lp_walk (P := fun z => fg_W Ω z.2.2.2 2 [(0, .ref z.1), (1, va_rf z.2.1), (2, .int z.2.2.1)] []) (fun y o ho hl hr => wX5_takes_2b X ho (fun z e => hl z e) (fun u e => by rw [hr _ e]; exact hT)) hF
set_option maxHeartbeats 4000000 in
theorem wX5_takes {Ω : fg_O} {a0 : Nat} {r1 : Option Nat} {G : fg_H} {t : Option Nat × fg_H} (X : fg_X Ω RX5 "takes" cX5_takes 4 (some (.object "FogNets$Hung")) 3) (hF : fX5_takes a0 r1 G = some t) (hT : fg_T Ω (.returned (some (va_rf t.1))) t.2) : fg_W Ω G 0 [(0, .ref a0), (1, va_rf r1)] [] := by
  unfold fX5_takes at hF
  refine fg_iconst X (v := (0 : Int32)) dX5_takes_0 (by decide) ?_
  refine fg_istore_n X (L' := [(2, .int (0 : Int32)), (0, .ref a0), (1, va_rf r1)]) dX5_takes_1 rfl (by decide) (by cases r1 <;> rfl) ?_
  refine fg_sub [1, 2, 0] rfl ?_
  exact wX5_takes_2 X hF hT
theorem mX5_takes (l : Launch) (D : fg_D) {a0 : Nat} {r1 : Option Nat} {G : fg_H} {t : Option Nat × fg_H} (hF : fX5_takes a0 r1 G = some t) : fg_M l D yX5_takes cX5_takes 4 (some (.object "FogNets$Hung")) 3 [.ref a0, va_rf r1] G (.returned (some (va_rf t.1))) t.2 :=
  fg_Mof (own := RX5) (nm := "takes") (L := [(0, .ref a0), (1, va_rf r1)]) (plainFor_of_name pn_X5) rfl rfl (by cases r1 <;> rfl) (by cases r1 <;> exact Nat.le_of_ble_eq_true rfl) (fun Ω _ _ X hT => wX5_takes X hF hT)
theorem hd_X23_loses : yX23_loses.cls ≠ "java/lang/invoke/MethodHandle" ∧ yX23_loses.cls ≠ "java/lang/invoke/VarHandle" ∧ (parseMethodDescriptor yX23_loses.desc).map (fun d => d.parameters.length) = some 0 := ⟨by decide +kernel, by decide +kernel, by decide +kernel⟩
set_option maxHeartbeats 4000000 in
theorem wX23_loses {Ω : fg_O} {a0 : Nat} {G : fg_H} {t : Int32 × fg_H} (X : fg_X Ω RX23 "loses" cX23_loses 1 (some .boolean) 0) (hF : fX23_loses a0 G = some t) (hT : fg_T Ω (.returned (some (.int t.1))) t.2) : fg_W Ω G 0 [(0, .ref a0)] [] := by
  unfold fX23_loses at hF
  refine fg_iconst X (v := (0 : Int32)) dX23_loses_0 (by decide) ?_
  cases hF
  exact fg_zret X (by decide) dX23_loses_1 (hT)
theorem mX23_loses (l : Launch) (D : fg_D) {a0 : Nat} {G : fg_H} {t : Int32 × fg_H} (hF : fX23_loses a0 G = some t) : fg_M l D yX23_loses cX23_loses 1 (some .boolean) 0 [.ref a0] G (.returned (some (.int t.1))) t.2 :=
  fg_Mof (own := RX23) (nm := "loses") (L := [(0, .ref a0)]) (plainFor_of_name pn_X23) rfl rfl rfl (Nat.le_of_ble_eq_true rfl) (fun Ω _ _ X hT => wX23_loses X hF hT)
theorem hd_X27_loses : yX27_loses.cls ≠ "java/lang/invoke/MethodHandle" ∧ yX27_loses.cls ≠ "java/lang/invoke/VarHandle" ∧ (parseMethodDescriptor yX27_loses.desc).map (fun d => d.parameters.length) = some 0 := ⟨by decide +kernel, by decide +kernel, by decide +kernel⟩
set_option maxHeartbeats 4000000 in
theorem wX27_loses {Ω : fg_O} {a0 : Nat} {G : fg_H} {t : Int32 × fg_H} (X : fg_X Ω RX27 "loses" cX27_loses 1 (some .boolean) 0) (hF : fX27_loses a0 G = some t) (hT : fg_T Ω (.returned (some (.int t.1))) t.2) : fg_W Ω G 0 [(0, .ref a0)] [] := by
  unfold fX27_loses at hF
  refine fg_iconst X (v := (1 : Int32)) dX27_loses_0 (by decide) ?_
  cases hF
  exact fg_zret X (by decide) dX27_loses_1 (hT)
theorem mX27_loses (l : Launch) (D : fg_D) {a0 : Nat} {G : fg_H} {t : Int32 × fg_H} (hF : fX27_loses a0 G = some t) : fg_M l D yX27_loses cX27_loses 1 (some .boolean) 0 [.ref a0] G (.returned (some (.int t.1))) t.2 :=
  fg_Mof (own := RX27) (nm := "loses") (L := [(0, .ref a0)]) (plainFor_of_name pn_X27) rfl rfl rfl (Nat.le_of_ble_eq_true rfl) (fun Ω _ _ X hT => wX27_loses X hF hT)
theorem hv_X23_loses : "FogNets$Net" ≠ "java/lang/invoke/MethodHandle" ∧ "FogNets$Net" ≠ "java/lang/invoke/VarHandle" ∧ (parseMethodDescriptor "()Z").map (fun d => d.parameters.length) = some 0 := ⟨by decide +kernel, by decide +kernel, by decide +kernel⟩
theorem cvX23_loses {Ω : fg_O} {own nm : String} {cc : ByteArray} {nL d : Nat} {ret : Option FieldType} {G G1 : fg_H} {pc a0 index : Nat} {L : List (Nat × Value)} {st : List Value} {x : Int32}  (X : fg_X Ω own nm cc nL ret d) (e : vX23_loses a0  G = some (x, G1)) (hdd : 1 ≤ d) (q : Cond.methodLink own index ({ cls := "FogNets$Net", name := "loses", desc := "()Z" } : MethodName) ∈ lw_all) (hW : (st.map fun v => v.category).sum ≤ 8) (hd : decode cc pc = .ok (.invokevirtual index, 3)) (kk : fg_W Ω G1 (pc + 3) L (.int x :: st)) : fg_W Ω G pc L (.ref a0 :: st) := by
  unfold vX23_loses at e
  by_cases h23 : fg_rc G a0 23 = true
  · rw [if_pos h23] at e
    obtain ⟨fs, eo⟩ := fg_rc_get h23
    exact fg_callU X (C := "FogNets$Net") (mX23_loses Ω.2.2.2.2.1 Ω.1 e) q q1279 q1277 q1278 q133 q1287 (Or.inr ⟨q1277, _, _, _, q1287⟩) hv_X23_loses (by decide) rfl eo ⟨by omega, by decide⟩ rfl rfl hW hd kk
  rw [if_neg h23] at e
  by_cases h24 : fg_rc G a0 24 = true
  · rw [if_pos h24] at e
    obtain ⟨fs, eo⟩ := fg_rc_get h24
    exact fg_callU X (C := "FogNets$Shroud") (mX23_loses Ω.2.2.2.2.1 Ω.1 e) q q1279 q1277 q1282 q133 q1287 (Or.inr ⟨q1277, _, _, _, q1287⟩) hv_X23_loses (by decide) rfl eo ⟨by omega, by decide⟩ rfl rfl hW hd kk
  rw [if_neg h24] at e
  by_cases h25 : fg_rc G a0 25 = true
  · rw [if_pos h25] at e
    obtain ⟨fs, eo⟩ := fg_rc_get h25
    exact fg_callU X (C := "FogNets$Birds") (mX23_loses Ω.2.2.2.2.1 Ω.1 e) q q1279 q1277 q1280 q133 q1287 (Or.inr ⟨q1277, _, _, _, q1287⟩) hv_X23_loses (by decide) rfl eo ⟨by omega, by decide⟩ rfl rfl hW hd kk
  rw [if_neg h25] at e
  by_cases h26 : fg_rc G a0 26 = true
  · rw [if_pos h26] at e
    obtain ⟨fs, eo⟩ := fg_rc_get h26
    exact fg_callU X (C := "FogNets$Torn") (mX23_loses Ω.2.2.2.2.1 Ω.1 e) q q1279 q1277 q1286 q133 q1287 (Or.inr ⟨q1277, _, _, _, q1287⟩) hv_X23_loses (by decide) rfl eo ⟨by omega, by decide⟩ rfl rfl hW hd kk
  rw [if_neg h26] at e
  by_cases h27 : fg_rc G a0 27 = true
  · rw [if_pos h27] at e
    obtain ⟨fs, eo⟩ := fg_rc_get h27
    exact fg_callU X (C := "FogNets$Spite") (mX27_loses Ω.2.2.2.2.1 Ω.1 e) q q1279 q1284 q1283 q137 q1285 (Or.inr ⟨q1277, _, _, _, q1287⟩) hv_X23_loses (by decide) rfl eo ⟨by omega, by decide⟩ rfl rfl hW hd kk
  rw [if_neg h27] at e
  by_cases h28 : fg_rc G a0 28 = true
  · rw [if_pos h28] at e
    obtain ⟨fs, eo⟩ := fg_rc_get h28
    exact fg_callU X (C := "FogNets$High") (mX23_loses Ω.2.2.2.2.1 Ω.1 e) q q1279 q1277 q1281 q133 q1287 (Or.inr ⟨q1277, _, _, _, q1287⟩) hv_X23_loses (by decide) rfl eo ⟨by omega, by decide⟩ rfl rfl hW hd kk
  rw [if_neg h28] at e
  cases e
theorem hd_X5_yields : yX5_yields.cls ≠ "java/lang/invoke/MethodHandle" ∧ yX5_yields.cls ≠ "java/lang/invoke/VarHandle" ∧ (parseMethodDescriptor yX5_yields.desc).map (fun d => d.parameters.length) = some 1 := ⟨by decide +kernel, by decide +kernel, by decide +kernel⟩
set_option maxHeartbeats 4000000 in
theorem wX5_yields_42 {Ω : fg_O} {a0 : Nat} {i1 : Int32} {i2 : Int32} {i3 : Int32} {G : fg_H} {t : ((Nat × Int32 × Int32 × Int32 × fg_H) ⊕ (Int32 × fg_H))} (X : fg_X Ω RX5 "yields" cX5_yields 4 (some .int) 1) (hF : fX5_yields_42 a0 i1 i2 i3 G = some t) (h4 : ∀ z, t = (.inl z) → fg_W Ω z.2.2.2.2 4 [(0, .ref z.1), (1, .int z.2.1), (2, .int z.2.2.1), (3, .int z.2.2.2.1)] []) (hT : ∀ u, t = (.inr u) → fg_T Ω (.returned (some (.int u.1))) u.2) : fg_W Ω G 42 [(0, .ref a0), (1, .int i1), (2, .int i2), (3, .int i3)] [] := by
  unfold fX5_yields_42 at hF
  refine fg_iload_n X dX5_yields_42 rfl 2 rfl ?_
  refine fg_aload_n X (r := (some a0)) dX5_yields_43 rfl 0 rfl ?_
  replace hF := fg_ob_some hF
  obtain ⟨rz9, e_1, hF⟩ := hF
  refine fg_getr X ff_X5_took q364 e_1 dX5_yields_44 ?_
  refine fg_iload_n X dX5_yields_47 rfl 3 rfl ?_
  replace hF := fg_ob_some hF
  obtain ⟨az10, rfl, hF⟩ := hF
  replace hF := fg_ob_some hF
  obtain ⟨xz11, e_2, hF⟩ := hF
  refine fg_iald X e_2 dX5_yields_48 ?_
  refine fg_iadd X dX5_yields_49 ?_
  replace hF := fg_ob_some hF
  obtain ⟨vz12, ex_3, hF⟩ := hF
  refine fg_topi (Option.some.inj ex_3) ?_
  refine fg_istore_n X (L' := [(2, .int vz12), (0, .ref a0), (1, .int i1), (3, .int i3)]) dX5_yields_50 rfl (by decide) rfl ?_
  refine fg_iinc X (v := (i3 + (1 : Int32))) (L' := [(3, .int (i3 + (1 : Int32))), (2, .int vz12), (0, .ref a0), (1, .int i1)]) dX5_yields_51 3 rfl rfl (by decide) rfl ?_
  refine fg_goto X (tgt := 4) dX5_yields_54 (by decide) ?_
  refine fg_sub [2, 3, 1, 0] rfl ?_
  exact h4 _ (Option.some.inj hF).symm
set_option maxHeartbeats 4000000 in
theorem wX5_yields_4b {Ω : fg_O} {a0 : Nat} {i1 : Int32} {i2 : Int32} {i3 : Int32} {G : fg_H} {t : ((Nat × Int32 × Int32 × Int32 × fg_H) ⊕ (Int32 × fg_H))} (X : fg_X Ω RX5 "yields" cX5_yields 4 (some .int) 1) (hF : fX5_yields_4b a0 i1 i2 i3 G = some t) (h4 : ∀ z, t = (.inl z) → fg_W Ω z.2.2.2.2 4 [(0, .ref z.1), (1, .int z.2.1), (2, .int z.2.2.1), (3, .int z.2.2.2.1)] []) (hT : ∀ u, t = (.inr u) → fg_T Ω (.returned (some (.int u.1))) u.2) : fg_W Ω G 4 [(0, .ref a0), (1, .int i1), (2, .int i2), (3, .int i3)] [] := by
  unfold fX5_yields_4b at hF
  refine fg_iload_n X dX5_yields_4 rfl 3 rfl ?_
  refine fg_aload_n X (r := (some a0)) dX5_yields_5 rfl 0 rfl ?_
  replace hF := fg_ob_some hF
  obtain ⟨xz1, e_1, hF⟩ := hF
  refine fg_geti X ff_X5_many q362 e_1 dX5_yields_6 ?_
  refine fg_icmp_ge X (tgt := 57) dX5_yields_9 (by decide) (fun hc => ?_) (fun hc => ?_)
  · rw [if_pos hc] at hF
    replace hF := fg_rt_some hF
    obtain ⟨tz2, hF, ht_2⟩ := hF
    subst ht_2
    replace hT := hT _ rfl
    refine fg_iload_n X dX5_yields_57 rfl 2 rfl ?_
    cases hF
    exact fg_iret X dX5_yields_58 (hT)
  · rw [if_neg hc] at hF
    refine fg_aload_n X (r := (some a0)) dX5_yields_12 rfl 0 rfl ?_
    replace hF := fg_ob_some hF
    obtain ⟨rz3, e_3, hF⟩ := hF
    refine fg_getr X ff_X5_nets q356 e_3 dX5_yields_13 ?_
    refine fg_iload_n X dX5_yields_16 rfl 3 rfl ?_
    replace hF := fg_ob_some hF
    obtain ⟨az4, rfl, hF⟩ := hF
    replace hF := fg_ob_some hF
    obtain ⟨rz5, e_4, hF⟩ := hF
    refine fg_aald X (kd := 5) (by decide) e_4 dX5_yields_17 ?_
    replace hF := fg_ob_some hF
    obtain ⟨az6, rfl, hF⟩ := hF
    replace hF := fg_oc_some hF
    obtain ⟨xz8, Gz7, e_5, hF⟩ := hF
    refine cvX23_loses X (st := []) e_5 (by decide) q1276 (Nat.le_of_ble_eq_true rfl) dX5_yields_18 ?_
    refine fg_if_ne X (tgt := 51) dX5_yields_21 (by decide) (fun hc => ?_) (fun hc => ?_)
    · rw [if_neg hc] at hF
      refine fg_iinc X (v := (i3 + (1 : Int32))) (L' := [(3, .int (i3 + (1 : Int32))), (0, .ref a0), (1, .int i1), (2, .int i2)]) dX5_yields_51 3 rfl rfl (by decide) rfl ?_
      refine fg_goto X (tgt := 4) dX5_yields_54 (by decide) ?_
      refine fg_sub [1, 2, 3, 0] rfl ?_
      exact h4 _ (Option.some.inj hF).symm
    · rw [if_pos hc] at hF
      refine fg_iload_n X dX5_yields_24 rfl 1 rfl ?_
      refine fg_iconst X (v := (-1 : Int32)) dX5_yields_25 (by decide) ?_
      refine fg_icmp_eq X (tgt := 42) dX5_yields_26 (by decide) (fun hc => ?_) (fun hc => ?_)
      · rw [if_pos hc] at hF
        refine fg_sub [0, 1, 2, 3] rfl ?_
        exact wX5_yields_42 X hF h4 hT
      · rw [if_neg hc] at hF
        refine fg_aload_n X (r := (some a0)) dX5_yields_29 rfl 0 rfl ?_
        replace hF := fg_ob_some hF
        obtain ⟨rz13, e_6, hF⟩ := hF
        refine fg_getr X ff_X5_nets q356 e_6 dX5_yields_30 ?_
        refine fg_iload_n X dX5_yields_33 rfl 3 rfl ?_
        replace hF := fg_ob_some hF
        obtain ⟨az14, rfl, hF⟩ := hF
        replace hF := fg_ob_some hF
        obtain ⟨rz15, e_7, hF⟩ := hF
        refine fg_aald X (kd := 5) (by decide) e_7 dX5_yields_34 ?_
        replace hF := fg_ob_some hF
        obtain ⟨az16, rfl, hF⟩ := hF
        replace hF := fg_ob_some hF
        obtain ⟨xz17, e_8, hF⟩ := hF
        refine fg_geti X ff_X23_village q1018 e_8 dX5_yields_35 ?_
        refine fg_iload_n X dX5_yields_38 rfl 1 rfl ?_
        refine fg_icmp_ne X (tgt := 51) dX5_yields_39 (by decide) (fun hc => ?_) (fun hc => ?_)
        · rw [if_neg hc] at hF
          refine fg_iinc X (v := (i3 + (1 : Int32))) (L' := [(3, .int (i3 + (1 : Int32))), (0, .ref a0), (1, .int i1), (2, .int i2)]) dX5_yields_51 3 rfl rfl (by decide) rfl ?_
          refine fg_goto X (tgt := 4) dX5_yields_54 (by decide) ?_
          refine fg_sub [1, 2, 3, 0] rfl ?_
          exact h4 _ (Option.some.inj hF).symm
        · rw [if_pos hc] at hF
          refine fg_sub [0, 1, 2, 3] rfl ?_
          exact wX5_yields_42 X hF h4 hT
set_option maxHeartbeats 4000000 in
seal fX5_yields_4b in
theorem wX5_yields_4 {Ω : fg_O} {a0 : Nat} {i1 : Int32} {i2 : Int32} {i3 : Int32} {G : fg_H} {t : (Int32 × fg_H)} (X : fg_X Ω RX5 "yields" cX5_yields 4 (some .int) 1) (hF : fX5_yields_4 a0 i1 i2 i3 G = some t) (hT : fg_T Ω (.returned (some (.int t.1))) t.2) : fg_W Ω G 4 [(0, .ref a0), (1, .int i1), (2, .int i2), (3, .int i3)] [] := by
  unfold fX5_yields_4 at hF
  exact fg_lp_walk (P := fun z => fg_W Ω z.2.2.2.2 4 [(0, .ref z.1), (1, .int z.2.1), (2, .int z.2.2.1), (3, .int z.2.2.2.1)] []) (fun y o ho hl hr => wX5_yields_4b X ho (fun z e => hl z e) (fun u e => by rw [hr _ e]; exact hT)) hF
set_option maxHeartbeats 4000000 in
theorem wX5_yields {Ω : fg_O} {a0 : Nat} {i1 : Int32} {G : fg_H} {t : Int32 × fg_H} (X : fg_X Ω RX5 "yields" cX5_yields 4 (some .int) 1) (hF : fX5_yields a0 i1 G = some t) (hT : fg_T Ω (.returned (some (.int t.1))) t.2) : fg_W Ω G 0 [(0, .ref a0), (1, .int i1)] [] := by
  unfold fX5_yields at hF
  refine fg_iconst X (v := (0 : Int32)) dX5_yields_0 (by decide) ?_
  refine fg_istore_n X (L' := [(2, .int (0 : Int32)), (0, .ref a0), (1, .int i1)]) dX5_yields_1 rfl (by decide) rfl ?_
  refine fg_iconst X (v := (0 : Int32)) dX5_yields_2 (by decide) ?_
  refine fg_istore_n X (L' := [(3, .int (0 : Int32)), (2, .int (0 : Int32)), (0, .ref a0), (1, .int i1)]) dX5_yields_3 rfl (by decide) rfl ?_
  refine fg_sub [2, 3, 1, 0] rfl ?_
  exact wX5_yields_4 X hF hT
theorem mX5_yields (l : Launch) (D : fg_D) {a0 : Nat} {i1 : Int32} {G : fg_H} {t : Int32 × fg_H} (hF : fX5_yields a0 i1 G = some t) : fg_M l D yX5_yields cX5_yields 4 (some .int) 1 [.ref a0, .int i1] G (.returned (some (.int t.1))) t.2 :=
  fg_Mof (own := RX5) (nm := "yields") (L := [(0, .ref a0), (1, .int i1)]) (plainFor_of_name pn_X5) rfl rfl rfl (Nat.le_of_ble_eq_true rfl) (fun Ω _ _ X hT => wX5_yields X hF hT)
theorem hd_X6_passes : yX6_passes.cls ≠ "java/lang/invoke/MethodHandle" ∧ yX6_passes.cls ≠ "java/lang/invoke/VarHandle" ∧ (parseMethodDescriptor yX6_passes.desc).map (fun d => d.parameters.length) = some 1 := ⟨by decide +kernel, by decide +kernel, by decide +kernel⟩
set_option maxHeartbeats 4000000 in
theorem wX6_passes_2b {Ω : fg_O} {a0 : Nat} {r1 : Option Nat} {i2 : Int32} {G : fg_H} {t : ((Nat × Option Nat × Int32 × fg_H) ⊕ (Unit × fg_H))} (X : fg_X Ω RX6 "passes" cX6_passes 4 none 2) (hF : fX6_passes_2b a0 r1 i2 G = some t) (h2 : ∀ z, t = (.inl z) → fg_W Ω z.2.2.2 2 [(0, .ref z.1), (1, va_rf z.2.1), (2, .int z.2.2.1)] []) (hT : ∀ u, t = (.inr u) → fg_T Ω (.returned none) u.2) : fg_W Ω G 2 [(0, .ref a0), (1, va_rf r1), (2, .int i2)] [] := by
  unfold fX6_passes_2b at hF
  refine fg_iload_n X dX6_passes_2 rfl 2 rfl ?_
  refine fg_aload_n X (r := r1) dX6_passes_3 rfl 1 rfl ?_
  replace hF := fg_ob_some hF
  obtain ⟨az1, rfl, hF⟩ := hF
  replace hF := fg_ob_some hF
  obtain ⟨rz2, e_1, hF⟩ := hF
  refine fg_getr X ff_X5_ridge q353 e_1 dX6_passes_4 ?_
  replace hF := fg_ob_some hF
  obtain ⟨az3, rfl, hF⟩ := hF
  replace hF := fg_ob_some hF
  obtain ⟨rz4, e_2, hF⟩ := hF
  refine fg_getr X ff_X3_names q300 e_2 dX6_passes_7 ?_
  replace hF := fg_ob_some hF
  obtain ⟨az5, rfl, hF⟩ := hF
  replace hF := fg_gd_some hF
  obtain ⟨eg_3, hF⟩ := hF
  obtain ⟨fs_4, eo_5⟩ := fg_rc_get eg_3
  replace hF := fg_oc_some hF
  obtain ⟨xz7, Gz6, e_6, hF⟩ := hF
  refine fg_callV X (st := [.int i2]) (mJ2_size Ω.2.2.2.2.1 Ω.1 e_6) q1271 q424 q425 q98 q426 hd_J2_size (by decide) rfl eo_5 (by decide) rfl rfl (Nat.le_of_ble_eq_true rfl) dX6_passes_10 ?_
  refine fg_icmp_ge X (tgt := 93) dX6_passes_13 (by decide) (fun hc => ?_) (fun hc => ?_)
  · rw [if_pos hc] at hF
    replace hF := fg_rt_some hF
    obtain ⟨tz8, hF, ht_7⟩ := hF
    subst ht_7
    replace hT := hT _ rfl
    cases hF
    exact fg_vret X dX6_passes_93 (hT)
  · rw [if_neg hc] at hF
    refine fg_aload_n X (r := (some a0)) dX6_passes_16 rfl 0 rfl ?_
    replace hF := fg_ob_some hF
    obtain ⟨rz9, e_8, hF⟩ := hF
    refine fg_getr X ff_X6_tank q387 e_8 dX6_passes_17 ?_
    refine fg_iload_n X dX6_passes_20 rfl 2 rfl ?_
    refine fg_dup2 X dX6_passes_21 rfl (fg_cat _) ?_
    replace hF := fg_ob_some hF
    obtain ⟨az10, rfl, hF⟩ := hF
    replace hF := fg_ob_some hF
    obtain ⟨xz11, e_9, hF⟩ := hF
    refine fg_iald X e_9 dX6_passes_22 ?_
    refine fg_aload_n X (r := (some az1)) dX6_passes_23 rfl 1 rfl ?_
    refine fg_iload_n X dX6_passes_24 rfl 2 rfl ?_
    replace hF := fg_gd_some hF
    obtain ⟨eg_10, hF⟩ := hF
    obtain ⟨fs_11, eo_12⟩ := fg_rc_get eg_10
    replace hF := fg_oc_some hF
    obtain ⟨xz13, Gz12, e_13, hF⟩ := hF
    refine fg_callV X (st := [.int xz11, .int i2, .ref az10]) (mX5_yields Ω.2.2.2.2.1 Ω.1 e_13) q1272 q1273 q1274 q100 q1275 hd_X5_yields (by decide) rfl eo_12 (by decide) rfl rfl (Nat.le_of_ble_eq_true rfl) dX6_passes_25 ?_
    refine fg_aload_n X (r := (some az1)) dX6_passes_28 rfl 1 rfl ?_
    replace hF := fg_ob_some hF
    obtain ⟨rz14, e_14, hF⟩ := hF
    refine fg_getr X ff_X5_ridge q353 e_14 dX6_passes_29 ?_
    replace hF := fg_ob_some hF
    obtain ⟨az15, rfl, hF⟩ := hF
    replace hF := fg_ob_some hF
    obtain ⟨xz16, e_15, hF⟩ := hF
    refine fg_geti X ff_X3_dew q291 e_15 dX6_passes_32 ?_
    refine fg_iadd X dX6_passes_35 ?_
    refine fg_iadd X dX6_passes_36 ?_
    replace hF := fg_ob_some hF
    obtain ⟨Gz17, e_16, hF⟩ := hF
    refine fg_iast X e_16 dX6_passes_37 ?_
    refine fg_aload_n X (r := (some a0)) dX6_passes_38 rfl 0 rfl ?_
    replace hF := fg_ob_some hF
    obtain ⟨rz18, e_17, hF⟩ := hF
    refine fg_getr X ff_X6_tank q387 e_17 dX6_passes_39 ?_
    refine fg_iload_n X dX6_passes_42 rfl 2 rfl ?_
    replace hF := fg_ob_some hF
    obtain ⟨az19, rfl, hF⟩ := hF
    replace hF := fg_ob_some hF
    obtain ⟨xz20, e_18, hF⟩ := hF
    refine fg_iald X e_18 dX6_passes_43 ?_
    refine fg_aload_n X (r := (some az1)) dX6_passes_44 rfl 1 rfl ?_
    replace hF := fg_ob_some hF
    obtain ⟨rz21, e_19, hF⟩ := hF
    refine fg_getr X ff_X5_ridge q353 e_19 dX6_passes_45 ?_
    replace hF := fg_ob_some hF
    obtain ⟨az22, rfl, hF⟩ := hF
    replace hF := fg_ob_some hF
    obtain ⟨rz23, e_20, hF⟩ := hF
    refine fg_getr X ff_X3_thirst q304 e_20 dX6_passes_48 ?_
    refine fg_iload_n X dX6_passes_51 rfl 2 rfl ?_
    replace hF := fg_ob_some hF
    obtain ⟨az24, rfl, hF⟩ := hF
    replace hF := fg_ob_some hF
    obtain ⟨xz25, e_21, hF⟩ := hF
    refine fg_iald X e_21 dX6_passes_52 ?_
    replace hF := fg_oc_some hF
    obtain ⟨xz27, Gz26, e_22, hF⟩ := hF
    refine fg_callS X (st := []) (mJ7_min Ω.2.2.2.2.1 Ω.1 e_22) q1288 q562 q108 q563 hd_J7_min (by decide) rfl rfl (Nat.le_of_ble_eq_true rfl) dX6_passes_53 ?_
    refine fg_istore_n X (L' := [(3, .int xz27), (0, .ref a0), (1, .ref az1), (2, .int i2)]) dX6_passes_56 rfl (by decide) rfl ?_
    refine fg_aload_n X (r := (some a0)) dX6_passes_57 rfl 1 rfl ?_
    replace hF := fg_ob_some hF
    obtain ⟨rz28, e_23, hF⟩ := hF
    refine fg_getr X ff_X6_tank q387 e_23 dX6_passes_58 ?_
    refine fg_iload_n X dX6_passes_61 rfl 3 rfl ?_
    refine fg_dup2 X dX6_passes_62 rfl (fg_cat _) ?_
    replace hF := fg_ob_some hF
    obtain ⟨az29, rfl, hF⟩ := hF
    replace hF := fg_ob_some hF
    obtain ⟨xz30, e_24, hF⟩ := hF
    refine fg_iald X e_24 dX6_passes_63 ?_
    refine fg_iload_n X dX6_passes_64 rfl 0 rfl ?_
    refine fg_isub X dX6_passes_65 ?_
    replace hF := fg_ob_some hF
    obtain ⟨Gz31, e_25, hF⟩ := hF
    refine fg_iast X e_25 dX6_passes_66 ?_
    refine fg_aload_n X (r := (some a0)) dX6_passes_67 rfl 1 rfl ?_
    replace hF := fg_ob_some hF
    obtain ⟨rz32, e_26, hF⟩ := hF
    refine fg_getr X ff_X6_lacks q389 e_26 dX6_passes_68 ?_
    refine fg_iload_n X dX6_passes_71 rfl 3 rfl ?_
    refine fg_dup2 X dX6_passes_72 rfl (fg_cat _) ?_
    replace hF := fg_ob_some hF
    obtain ⟨az33, rfl, hF⟩ := hF
    replace hF := fg_ob_some hF
    obtain ⟨xz34, e_27, hF⟩ := hF
    refine fg_iald X e_27 dX6_passes_73 ?_
    refine fg_aload_n X (r := (some az1)) dX6_passes_74 rfl 2 rfl ?_
    replace hF := fg_ob_some hF
    obtain ⟨rz35, e_28, hF⟩ := hF
    refine fg_getr X ff_X5_ridge q353 e_28 dX6_passes_75 ?_
    replace hF := fg_ob_some hF
    obtain ⟨az36, rfl, hF⟩ := hF
    replace hF := fg_ob_some hF
    obtain ⟨rz37, e_29, hF⟩ := hF
    refine fg_getr X ff_X3_thirst q304 e_29 dX6_passes_78 ?_
    refine fg_iload_n X dX6_passes_81 rfl 3 rfl ?_
    replace hF := fg_ob_some hF
    obtain ⟨az38, rfl, hF⟩ := hF
    replace hF := fg_ob_some hF
    obtain ⟨xz39, e_30, hF⟩ := hF
    refine fg_iald X e_30 dX6_passes_82 ?_
    refine fg_iload_n X dX6_passes_83 rfl 0 rfl ?_
    refine fg_isub X dX6_passes_84 ?_
    refine fg_iadd X dX6_passes_85 ?_
    replace hF := fg_ob_some hF
    obtain ⟨Gz40, e_31, hF⟩ := hF
    refine fg_iast X e_31 dX6_passes_86 ?_
    refine fg_iinc X (v := (i2 + (1 : Int32))) (L' := [(2, .int (i2 + (1 : Int32))), (3, .int xz27), (0, .ref a0), (1, .ref az1)]) dX6_passes_87 3 rfl rfl (by decide) rfl ?_
    refine fg_goto X (tgt := 2) dX6_passes_90 (by decide) ?_
    refine fg_sub [2, 3, 0] rfl ?_
    exact h2 _ (Option.some.inj hF).symm
set_option maxHeartbeats 4000000 in
seal fX6_passes_2b in
theorem wX6_passes_2 {Ω : fg_O} {a0 : Nat} {r1 : Option Nat} {i2 : Int32} {G : fg_H} {t : (Unit × fg_H)} (X : fg_X Ω RX6 "passes" cX6_passes 4 none 2) (hF : fX6_passes_2 a0 r1 i2 G = some t) (hT : fg_T Ω (.returned none) t.2) : fg_W Ω G 2 [(0, .ref a0), (1, va_rf r1), (2, .int i2)] [] := by
  unfold fX6_passes_2 at hF
  exact fg_lp_walk (P := fun z => fg_W Ω z.2.2.2 2 [(0, .ref z.1), (1, va_rf z.2.1), (2, .int z.2.2.1)] []) (fun y o ho hl hr => wX6_passes_2b X ho (fun z e => hl z e) (fun u e => by rw [hr _ e]; exact hT)) hF
set_option maxHeartbeats 4000000 in
theorem wX6_passes {Ω : fg_O} {a0 : Nat} {r1 : Option Nat} {G : fg_H} {t : Unit × fg_H} (X : fg_X Ω RX6 "passes" cX6_passes 4 none 2) (hF : fX6_passes a0 r1 G = some t) (hT : fg_T Ω (.returned none) t.2) : fg_W Ω G 0 [(0, .ref a0), (1, va_rf r1)] [] := by
  unfold fX6_passes at hF
  refine fg_iconst X (v := (0 : Int32)) dX6_passes_0 (by decide) ?_
  refine fg_istore_n X (L' := [(2, .int (0 : Int32)), (0, .ref a0), (1, va_rf r1)]) dX6_passes_1 rfl (by decide) (by cases r1 <;> rfl) ?_
  refine fg_sub [1, 2, 0] rfl ?_
  exact wX6_passes_2 X hF hT
theorem mX6_passes (l : Launch) (D : fg_D) {a0 : Nat} {r1 : Option Nat} {G : fg_H} {t : Unit × fg_H} (hF : fX6_passes a0 r1 G = some t) : fg_M l D yX6_passes cX6_passes 4 none 2 [.ref a0, va_rf r1] G (.returned none) t.2 :=
  fg_Mof (own := RX6) (nm := "passes") (L := [(0, .ref a0), (1, va_rf r1)]) (plainFor_of_name pn_X6) rfl rfl (by cases r1 <;> rfl) (by cases r1 <;> exact Nat.le_of_ble_eq_true rfl) (fun Ω _ _ X hT => wX6_passes X hF hT)
theorem hd_X7_turns : yX7_turns.cls ≠ "java/lang/invoke/MethodHandle" ∧ yX7_turns.cls ≠ "java/lang/invoke/VarHandle" ∧ (parseMethodDescriptor yX7_turns.desc).map (fun d => d.parameters.length) = some 4 := ⟨by decide +kernel, by decide +kernel, by decide +kernel⟩
set_option maxHeartbeats 4000000 in
theorem wX7_turns_11b {Ω : fg_O} {a0 : Nat} {r1 : Option Nat} {i2 : Int32} {i3 : Int32} {i4 : Int32} {i5 : Int32} {G : fg_H} {t : ((Nat × Option Nat × Int32 × Int32 × Int32 × Int32 × fg_H) ⊕ (Unit × fg_H))} (X : fg_X Ω RX7 "turns" cX7_turns 6 none 122) (hF : fX7_turns_11b a0 r1 i2 i3 i4 i5 G = some t) (h11 : ∀ z, t = (.inl z) → fg_W Ω z.2.2.2.2.2.2 11 [(0, .ref z.1), (1, va_rf z.2.1), (2, .int z.2.2.1), (3, .int z.2.2.2.1), (4, .int z.2.2.2.2.1), (5, .int z.2.2.2.2.2.1)] []) (hT : ∀ u, t = (.inr u) → fg_T Ω (.returned none) u.2) : fg_W Ω G 11 [(0, .ref a0), (1, va_rf r1), (2, .int i2), (3, .int i3), (4, .int i4), (5, .int i5)] [] := by
  unfold fX7_turns_11b at hF
  refine fg_iload X dX7_turns_11 5 rfl ?_
  refine fg_aload_n X (r := r1) dX7_turns_13 rfl 1 rfl ?_
  refine fg_iload X dX7_turns_14 4 rfl ?_
  replace hF := fg_ob_some hF
  obtain ⟨az4, rfl, hF⟩ := hF
  replace hF := fg_gd_some hF
  obtain ⟨eg_1, hF⟩ := hF
  obtain ⟨fs_2, eo_3⟩ := fg_rc_get eg_1
  replace hF := fg_oc_some hF
  obtain ⟨xz6, Gz5, e_4, hF⟩ := hF
  refine fg_callV X (st := [.int i5]) (mX3_lines Ω.2.2.2.2.1 Ω.1 e_4) q1259 q1196 q1197 q95 q1198 hd_X3_lines (by decide) rfl eo_3 (by decide) rfl rfl (Nat.le_of_ble_eq_true rfl) dX7_turns_16 ?_
  refine fg_icmp_ge X (tgt := 50) dX7_turns_19 (by decide) (fun hc => ?_) (fun hc => ?_)
  · rw [if_pos hc] at hF
    replace hF := fg_rt_some hF
    obtain ⟨tz7, hF, ht_5⟩ := hF
    subst ht_5
    replace hT := hT _ rfl
    cases hF
    exact fg_vret X dX7_turns_50 (hT)
  · rw [if_neg hc] at hF
    refine fg_aload_n X (r := (some a0)) dX7_turns_22 rfl 0 rfl ?_
    replace hF := fg_ob_some hF
    obtain ⟨rz8, e_6, hF⟩ := hF
    refine fg_getr X ff_X7_bank q410 e_6 dX7_turns_23 ?_
    refine fg_bipush X (v := (8 : Int32)) dX7_turns_26 (by decide) ?_
    refine fg_iload_n X dX7_turns_28 rfl 3 rfl ?_
    refine fg_imul X dX7_turns_29 ?_
    refine fg_iload X dX7_turns_30 5 rfl ?_
    refine fg_iadd X dX7_turns_32 ?_
    refine fg_aload_n X (r := (some az4)) dX7_turns_33 rfl 1 rfl ?_
    refine fg_iload_n X dX7_turns_34 rfl 2 rfl ?_
    refine fg_iload_n X dX7_turns_35 rfl 3 rfl ?_
    refine fg_iload X dX7_turns_36 5 rfl ?_
    refine fg_iload X dX7_turns_38 4 rfl ?_
    replace hF := fg_gd_some hF
    obtain ⟨eg_7, hF⟩ := hF
    obtain ⟨fs_8, eo_9⟩ := fg_rc_get eg_7
    replace hF := fg_oc_some hF
    obtain ⟨xz10, Gz9, e_10, hF⟩ := hF
    refine fg_callV X (st := [.int (((8 : Int32) * i3) + i5), va_rf rz8]) (mX3_fog Ω.2.2.2.2.1 Ω.1 e_10) q1260 q1200 q1201 q95 q1202 hd_X3_fog (by decide) rfl eo_9 (by decide) rfl rfl (by cases rz8 <;> exact Nat.le_of_ble_eq_true rfl) dX7_turns_40 ?_
    replace hF := fg_ob_some hF
    obtain ⟨az11, rfl, hF⟩ := hF
    replace hF := fg_ob_some hF
    obtain ⟨Gz12, e_11, hF⟩ := hF
    refine fg_iast X e_11 dX7_turns_43 ?_
    refine fg_iinc X (v := (i5 + (1 : Int32))) (L' := [(5, .int (i5 + (1 : Int32))), (0, .ref a0), (1, .ref az4), (2, .int i2), (3, .int i3), (4, .int i4)]) dX7_turns_44 5 rfl rfl (by decide) rfl ?_
    refine fg_goto X (tgt := 11) dX7_turns_47 (by decide) ?_
    refine fg_sub [1, 2, 3, 4, 5, 0] rfl ?_
    exact h11 _ (Option.some.inj hF).symm
set_option maxHeartbeats 4000000 in
seal fX7_turns_11b in
theorem wX7_turns_11 {Ω : fg_O} {a0 : Nat} {r1 : Option Nat} {i2 : Int32} {i3 : Int32} {i4 : Int32} {i5 : Int32} {G : fg_H} {t : (Unit × fg_H)} (X : fg_X Ω RX7 "turns" cX7_turns 6 none 122) (hF : fX7_turns_11 a0 r1 i2 i3 i4 i5 G = some t) (hT : fg_T Ω (.returned none) t.2) : fg_W Ω G 11 [(0, .ref a0), (1, va_rf r1), (2, .int i2), (3, .int i3), (4, .int i4), (5, .int i5)] [] := by
  unfold fX7_turns_11 at hF
  exact fg_lp_walk (P := fun z => fg_W Ω z.2.2.2.2.2.2 11 [(0, .ref z.1), (1, va_rf z.2.1), (2, .int z.2.2.1), (3, .int z.2.2.2.1), (4, .int z.2.2.2.2.1), (5, .int z.2.2.2.2.2.1)] []) (fun y o ho hl hr => wX7_turns_11b X ho (fun z e => hl z e) (fun u e => by rw [hr _ e]; exact hT)) hF
set_option maxHeartbeats 4000000 in
theorem wX7_turns {Ω : fg_O} {a0 : Nat} {r1 : Option Nat} {i2 : Int32} {i3 : Int32} {i4 : Int32} {G : fg_H} {t : Unit × fg_H} (X : fg_X Ω RX7 "turns" cX7_turns 6 none 122) (hF : fX7_turns a0 r1 i2 i3 i4 G = some t) (hT : fg_T Ω (.returned none) t.2) : fg_W Ω G 0 [(0, .ref a0), (1, va_rf r1), (2, .int i2), (3, .int i3), (4, .int i4)] [] := by
  unfold fX7_turns at hF
  refine fg_aload_n X (r := (some a0)) dX7_turns_0 rfl 0 rfl ?_
  replace hF := fg_ob_some hF
  obtain ⟨rz1, e_1, hF⟩ := hF
  refine fg_getr X ff_X7_way q408 e_1 dX7_turns_1 ?_
  refine fg_iload_n X dX7_turns_4 rfl 3 rfl ?_
  refine fg_iload X dX7_turns_5 4 rfl ?_
  replace hF := fg_ob_some hF
  obtain ⟨az2, rfl, hF⟩ := hF
  replace hF := fg_ob_some hF
  obtain ⟨Gz3, e_2, hF⟩ := hF
  refine fg_iast X e_2 dX7_turns_7 ?_
  refine fg_iconst X (v := (0 : Int32)) dX7_turns_8 (by decide) ?_
  refine fg_istore X (L' := [(5, .int (0 : Int32)), (0, .ref a0), (1, va_rf r1), (2, .int i2), (3, .int i3), (4, .int i4)]) dX7_turns_9 (by decide) rfl ?_
  refine fg_sub [1, 2, 3, 4, 5, 0] rfl ?_
  exact wX7_turns_11 X hF hT
theorem mX7_turns (l : Launch) (D : fg_D) {a0 : Nat} {r1 : Option Nat} {i2 : Int32} {i3 : Int32} {i4 : Int32} {G : fg_H} {t : Unit × fg_H} (hF : fX7_turns a0 r1 i2 i3 i4 G = some t) : fg_M l D yX7_turns cX7_turns 6 none 122 [.ref a0, va_rf r1, .int i2, .int i3, .int i4] G (.returned none) t.2 :=
  fg_Mof (own := RX7) (nm := "turns") (L := [(0, .ref a0), (1, va_rf r1), (2, .int i2), (3, .int i3), (4, .int i4)]) (plainFor_of_name pn_X7) rfl rfl (by cases r1 <;> rfl) (by cases r1 <;> exact Nat.le_of_ble_eq_true rfl) (fun Ω _ _ X hT => wX7_turns X hF hT)
theorem hd_X7_finds : yX7_finds.cls ≠ "java/lang/invoke/MethodHandle" ∧ yX7_finds.cls ≠ "java/lang/invoke/VarHandle" ∧ (parseMethodDescriptor yX7_finds.desc).map (fun d => d.parameters.length) = some 2 := ⟨by decide +kernel, by decide +kernel, by decide +kernel⟩
set_option maxHeartbeats 4000000 in
theorem wX7_finds_2b {Ω : fg_O} {a0 : Nat} {r1 : Option Nat} {i2 : Int32} {i3 : Int32} {G : fg_H} {t : ((Nat × Option Nat × Int32 × Int32 × fg_H) ⊕ (Option Nat × fg_H))} (X : fg_X Ω RX7 "finds" cX7_finds 4 (some (.object "FogNets$Sky")) 123) (hF : fX7_finds_2b a0 r1 i2 i3 G = some t) (h2 : ∀ z, t = (.inl z) → fg_W Ω z.2.2.2.2 2 [(0, .ref z.1), (1, va_rf z.2.1), (2, .int z.2.2.1), (3, .int z.2.2.2.1)] []) (hT : ∀ u, t = (.inr u) → fg_T Ω (.returned (some (va_rf u.1))) u.2) : fg_W Ω G 2 [(0, .ref a0), (1, va_rf r1), (2, .int i2), (3, .int i3)] [] := by
  unfold fX7_finds_2b at hF
  refine fg_iload_n X dX7_finds_2 rfl 3 rfl ?_
  refine fg_aload_n X (r := r1) dX7_finds_3 rfl 1 rfl ?_
  replace hF := fg_ob_some hF
  obtain ⟨az1, rfl, hF⟩ := hF
  replace hF := fg_ob_some hF
  obtain ⟨xz2, e_1, hF⟩ := hF
  refine fg_geti X ff_X3_hours q287 e_1 dX7_finds_4 ?_
  refine fg_icmp_ge X (tgt := 29) dX7_finds_7 (by decide) (fun hc => ?_) (fun hc => ?_)
  · rw [if_pos hc] at hF
    replace hF := fg_rt_some hF
    obtain ⟨tz3, hF, ht_2⟩ := hF
    subst ht_2
    replace hT := hT _ rfl
    refine fg_aload_n X (r := (some a0)) dX7_finds_29 rfl 0 rfl ?_
    cases hF
    exact fg_aret (Or.inl ⟨_, rfl⟩) X (r := (some a0)) dX7_finds_30 (hT)
  · rw [if_neg hc] at hF
    refine fg_aload_n X (r := (some a0)) dX7_finds_10 rfl 0 rfl ?_
    refine fg_aload_n X (r := (some az1)) dX7_finds_11 rfl 1 rfl ?_
    refine fg_iload_n X dX7_finds_12 rfl 2 rfl ?_
    refine fg_iload_n X dX7_finds_13 rfl 3 rfl ?_
    refine fg_aload_n X (r := (some az1)) dX7_finds_14 rfl 1 rfl ?_
    refine fg_iload_n X dX7_finds_15 rfl 2 rfl ?_
    refine fg_iload_n X dX7_finds_16 rfl 3 rfl ?_
    replace hF := fg_gd_some hF
    obtain ⟨eg_3, hF⟩ := hF
    obtain ⟨fs_4, eo_5⟩ := fg_rc_get eg_3
    replace hF := fg_oc_some hF
    obtain ⟨xz5, Gz4, e_6, hF⟩ := hF
    refine fg_callV X (st := [.int i3, .int i2, .ref az1, .ref a0]) (mX3_wind Ω.2.2.2.2.1 Ω.1 e_6) q1254 q1129 q1130 q95 q1131 hd_X3_wind (by decide) rfl eo_5 (by decide) rfl rfl (Nat.le_of_ble_eq_true rfl) dX7_finds_17 ?_
    replace hF := fg_gd_some hF
    obtain ⟨eg_7, hF⟩ := hF
    obtain ⟨fs_8, eo_9⟩ := fg_rc_get eg_7
    replace hF := fg_oc_some hF
    obtain ⟨u, Gz6, e_10, hF⟩ := hF
    refine fg_callV X (st := []) (mX7_turns Ω.2.2.2.2.1 Ω.1 e_10) q1255 q1256 q1257 q102 q1258 hd_X7_turns (by decide) rfl eo_9 (by decide) rfl rfl (Nat.le_of_ble_eq_true rfl) dX7_finds_20 ?_
    refine fg_iinc X (v := (i3 + (1 : Int32))) (L' := [(3, .int (i3 + (1 : Int32))), (0, .ref a0), (1, .ref az1), (2, .int i2)]) dX7_finds_23 3 rfl rfl (by decide) rfl ?_
    refine fg_goto X (tgt := 2) dX7_finds_26 (by decide) ?_
    refine fg_sub [1, 2, 3, 0] rfl ?_
    exact h2 _ (Option.some.inj hF).symm
set_option maxHeartbeats 4000000 in
seal fX7_finds_2b in
theorem wX7_finds_2 {Ω : fg_O} {a0 : Nat} {r1 : Option Nat} {i2 : Int32} {i3 : Int32} {G : fg_H} {t : (Option Nat × fg_H)} (X : fg_X Ω RX7 "finds" cX7_finds 4 (some (.object "FogNets$Sky")) 123) (hF : fX7_finds_2 a0 r1 i2 i3 G = some t) (hT : fg_T Ω (.returned (some (va_rf t.1))) t.2) : fg_W Ω G 2 [(0, .ref a0), (1, va_rf r1), (2, .int i2), (3, .int i3)] [] := by
  unfold fX7_finds_2 at hF
  exact fg_lp_walk (P := fun z => fg_W Ω z.2.2.2.2 2 [(0, .ref z.1), (1, va_rf z.2.1), (2, .int z.2.2.1), (3, .int z.2.2.2.1)] []) (fun y o ho hl hr => wX7_finds_2b X ho (fun z e => hl z e) (fun u e => by rw [hr _ e]; exact hT)) hF
set_option maxHeartbeats 4000000 in
theorem wX7_finds {Ω : fg_O} {a0 : Nat} {r1 : Option Nat} {i2 : Int32} {G : fg_H} {t : Option Nat × fg_H} (X : fg_X Ω RX7 "finds" cX7_finds 4 (some (.object "FogNets$Sky")) 123) (hF : fX7_finds a0 r1 i2 G = some t) (hT : fg_T Ω (.returned (some (va_rf t.1))) t.2) : fg_W Ω G 0 [(0, .ref a0), (1, va_rf r1), (2, .int i2)] [] := by
  unfold fX7_finds at hF
  refine fg_iconst X (v := (0 : Int32)) dX7_finds_0 (by decide) ?_
  refine fg_istore_n X (L' := [(3, .int (0 : Int32)), (0, .ref a0), (1, va_rf r1), (2, .int i2)]) dX7_finds_1 rfl (by decide) rfl ?_
  refine fg_sub [1, 2, 3, 0] rfl ?_
  exact wX7_finds_2 X hF hT
theorem mX7_finds (l : Launch) (D : fg_D) {a0 : Nat} {r1 : Option Nat} {i2 : Int32} {G : fg_H} {t : Option Nat × fg_H} (hF : fX7_finds a0 r1 i2 G = some t) : fg_M l D yX7_finds cX7_finds 4 (some (.object "FogNets$Sky")) 123 [.ref a0, va_rf r1, .int i2] G (.returned (some (va_rf t.1))) t.2 :=
  fg_Mof (own := RX7) (nm := "finds") (L := [(0, .ref a0), (1, va_rf r1), (2, .int i2)]) (plainFor_of_name pn_X7) rfl rfl (by cases r1 <;> rfl) (by cases r1 <;> exact Nat.le_of_ble_eq_true rfl) (fun Ω _ _ X hT => wX7_finds X hF hT)
theorem hd_X1_nights : yX1_nights.cls ≠ "java/lang/invoke/MethodHandle" ∧ yX1_nights.cls ≠ "java/lang/invoke/VarHandle" ∧ (parseMethodDescriptor yX1_nights.desc).map (fun d => d.parameters.length) = some 1 := ⟨by decide +kernel, by decide +kernel, by decide +kernel⟩
set_option maxHeartbeats 4000000 in
theorem wX1_nights_14b {Ω : fg_O} {a0 : Nat} {i1 : Int32} {i2 : Int32} {G : fg_H} {t : ((Nat × Int32 × Int32 × fg_H) ⊕ (Int32 × fg_H))} (X : fg_X Ω RX1 "nights" cX1_nights 3 (some .int) 124) (hF : fX1_nights_14b a0 i1 i2 G = some t) (h14 : ∀ z, t = (.inl z) → fg_W Ω z.2.2.2 14 [(0, .ref z.1), (1, .int z.2.1), (2, .int z.2.2.1)] []) (hT : ∀ u, t = (.inr u) → fg_T Ω (.returned (some (.int u.1))) u.2) : fg_W Ω G 14 [(0, .ref a0), (1, .int i1), (2, .int i2)] [] := by
  unfold fX1_nights_14b at hF
  refine fg_iload_n X dX1_nights_14 rfl 2 rfl ?_
  refine fg_iload_n X dX1_nights_15 rfl 1 rfl ?_
  refine fg_icmp_ge X (tgt := 69) dX1_nights_16 (by decide) (fun hc => ?_) (fun hc => ?_)
  · rw [if_pos hc] at hF
    replace hF := fg_rt_some hF
    obtain ⟨tz3, hF, ht_1⟩ := hF
    subst ht_1
    replace hT := hT _ rfl
    refine fg_aload_n X (r := (some a0)) dX1_nights_69 rfl 0 rfl ?_
    replace hF := fg_ob_some hF
    obtain ⟨rz4, e_2, hF⟩ := hF
    refine fg_getr X ff_X1_hung q449 e_2 dX1_nights_70 ?_
    replace hF := fg_ob_some hF
    obtain ⟨az5, rfl, hF⟩ := hF
    replace hF := fg_ob_some hF
    obtain ⟨rz6, e_3, hF⟩ := hF
    refine fg_getr X ff_X5_took q365 e_3 dX1_nights_73 ?_
    refine fg_iconst X (v := (0 : Int32)) dX1_nights_76 (by decide) ?_
    refine fg_aload_n X (r := (some a0)) dX1_nights_77 rfl 0 rfl ?_
    replace hF := fg_ob_some hF
    obtain ⟨rz7, e_4, hF⟩ := hF
    refine fg_getr X ff_X1_lastTook q455 e_4 dX1_nights_78 ?_
    refine fg_iconst X (v := (0 : Int32)) dX1_nights_81 (by decide) ?_
    refine fg_aload_n X (r := (some a0)) dX1_nights_82 rfl 0 rfl ?_
    replace hF := fg_ob_some hF
    obtain ⟨rz8, e_5, hF⟩ := hF
    refine fg_getr X ff_X1_hung q449 e_5 dX1_nights_83 ?_
    replace hF := fg_ob_some hF
    obtain ⟨az9, rfl, hF⟩ := hF
    replace hF := fg_ob_some hF
    obtain ⟨xz10, e_6, hF⟩ := hF
    refine fg_geti X ff_X5_many q363 e_6 dX1_nights_86 ?_
    replace hF := fg_ob_some hF
    obtain ⟨az11, rfl, hF⟩ := hF
    replace hF := fg_ob_some hF
    obtain ⟨az12, rfl, hF⟩ := hF
    replace hF := fg_ob_some hF
    obtain ⟨Gz13, e_7, hF⟩ := hF
    refine fg_copyi X q1289 q899 q898 q123 (by decide) e_7 (Nat.le_of_ble_eq_true rfl) dX1_nights_89 ?_
    refine fg_aload_n X (r := (some a0)) dX1_nights_92 rfl 0 rfl ?_
    replace hF := fg_ob_some hF
    obtain ⟨xz14, e_8, hF⟩ := hF
    refine fg_geti X ff_X1_night q453 e_8 dX1_nights_93 ?_
    cases hF
    exact fg_iret X dX1_nights_96 (hT)
  · rw [if_neg hc] at hF
    refine fg_aload_n X (r := (some a0)) dX1_nights_19 rfl 0 rfl ?_
    replace hF := fg_ob_some hF
    obtain ⟨rz15, e_9, hF⟩ := hF
    refine fg_getr X ff_X1_hung q449 e_9 dX1_nights_20 ?_
    refine fg_aload_n X (r := (some a0)) dX1_nights_23 rfl 0 rfl ?_
    replace hF := fg_ob_some hF
    obtain ⟨rz16, e_10, hF⟩ := hF
    refine fg_getr X ff_X1_sky q458 e_10 dX1_nights_24 ?_
    refine fg_aload_n X (r := (some a0)) dX1_nights_27 rfl 0 rfl ?_
    replace hF := fg_ob_some hF
    obtain ⟨rz17, e_11, hF⟩ := hF
    refine fg_getr X ff_X1_ridge q447 e_11 dX1_nights_28 ?_
    refine fg_aload_n X (r := (some a0)) dX1_nights_31 rfl 0 rfl ?_
    replace hF := fg_ob_some hF
    obtain ⟨xz18, e_12, hF⟩ := hF
    refine fg_geti X ff_X1_night q453 e_12 dX1_nights_32 ?_
    replace hF := fg_ob_some hF
    obtain ⟨az19, rfl, hF⟩ := hF
    replace hF := fg_gd_some hF
    obtain ⟨eg_13, hF⟩ := hF
    obtain ⟨fs_14, eo_15⟩ := fg_rc_get eg_13
    replace hF := fg_oc_some hF
    obtain ⟨rz21, Gz20, e_16, hF⟩ := hF
    refine fg_callV X (st := [va_rf rz15]) (mX7_finds Ω.2.2.2.2.1 Ω.1 e_16) q1250 q1251 q1252 q102 q1253 hd_X7_finds (by decide) rfl eo_15 (by decide) rfl rfl (by cases rz15 <;> exact Nat.le_of_ble_eq_true rfl) dX1_nights_35 ?_
    replace hF := fg_ob_some hF
    obtain ⟨az22, rfl, hF⟩ := hF
    replace hF := fg_gd_some hF
    obtain ⟨eg_17, hF⟩ := hF
    obtain ⟨fs_18, eo_19⟩ := fg_rc_get eg_17
    replace hF := fg_oc_some hF
    obtain ⟨rz24, Gz23, e_20, hF⟩ := hF
    refine fg_callV X (st := []) (mX5_takes Ω.2.2.2.2.1 Ω.1 e_20) q1261 q1262 q1263 q100 q1264 hd_X5_takes (by decide) rfl eo_19 (by decide) rfl rfl (Nat.le_of_ble_eq_true rfl) dX1_nights_38 ?_
    refine fg_pop X dX1_nights_41 (fg_cat _) ?_
    refine fg_aload_n X (r := (some a0)) dX1_nights_42 rfl 0 rfl ?_
    replace hF := fg_ob_some hF
    obtain ⟨rz25, e_21, hF⟩ := hF
    refine fg_getr X ff_X1_tanks q451 e_21 dX1_nights_43 ?_
    refine fg_aload_n X (r := (some a0)) dX1_nights_46 rfl 0 rfl ?_
    replace hF := fg_ob_some hF
    obtain ⟨rz26, e_22, hF⟩ := hF
    refine fg_getr X ff_X1_hung q449 e_22 dX1_nights_47 ?_
    replace hF := fg_ob_some hF
    obtain ⟨az27, rfl, hF⟩ := hF
    replace hF := fg_gd_some hF
    obtain ⟨eg_23, hF⟩ := hF
    obtain ⟨fs_24, eo_25⟩ := fg_rc_get eg_23
    replace hF := fg_oc_some hF
    obtain ⟨u, Gz28, e_26, hF⟩ := hF
    refine fg_callV X (st := []) (mX6_passes Ω.2.2.2.2.1 Ω.1 e_26) q1267 q1268 q1269 q101 q1270 hd_X6_passes (by decide) rfl eo_25 (by decide) rfl rfl (Nat.le_of_ble_eq_true rfl) dX1_nights_50 ?_
    refine fg_aload_n X (r := (some a0)) dX1_nights_53 rfl 0 rfl ?_
    refine fg_dup X dX1_nights_54 rfl ?_
    replace hF := fg_ob_some hF
    obtain ⟨xz29, e_27, hF⟩ := hF
    refine fg_geti X ff_X1_night q453 e_27 dX1_nights_55 ?_
    refine fg_iconst X (v := (1 : Int32)) dX1_nights_58 (by decide) ?_
    refine fg_iadd X dX1_nights_59 ?_
    replace hF := fg_ob_some hF
    obtain ⟨Gz30, e_28, hF⟩ := hF
    refine fg_putv X (ty := .int) (v := .int (xz29 + (1 : Int32))) ff_X1_night q453 rfl (Or.inl rfl) rfl rfl rfl e_28 dX1_nights_60 ?_
    refine fg_iinc X (v := (i2 + (1 : Int32))) (L' := [(2, .int (i2 + (1 : Int32))), (0, .ref a0), (1, .int i1)]) dX1_nights_63 2 rfl rfl (by decide) rfl ?_
    refine fg_goto X (tgt := 14) dX1_nights_66 (by decide) ?_
    refine fg_sub [1, 2, 0] rfl ?_
    exact h14 _ (Option.some.inj hF).symm
set_option maxHeartbeats 4000000 in
seal fX1_nights_14b in
theorem wX1_nights_14 {Ω : fg_O} {a0 : Nat} {i1 : Int32} {i2 : Int32} {G : fg_H} {t : (Int32 × fg_H)} (X : fg_X Ω RX1 "nights" cX1_nights 3 (some .int) 124) (hF : fX1_nights_14 a0 i1 i2 G = some t) (hT : fg_T Ω (.returned (some (.int t.1))) t.2) : fg_W Ω G 14 [(0, .ref a0), (1, .int i1), (2, .int i2)] [] := by
  unfold fX1_nights_14 at hF
  exact fg_lp_walk (P := fun z => fg_W Ω z.2.2.2 14 [(0, .ref z.1), (1, .int z.2.1), (2, .int z.2.2.1)] []) (fun y o ho hl hr => wX1_nights_14b X ho (fun z e => hl z e) (fun u e => by rw [hr _ e]; exact hT)) hF
set_option maxHeartbeats 4000000 in
theorem wX1_nights {Ω : fg_O} {a0 : Nat} {i1 : Int32} {G : fg_H} {t : Int32 × fg_H} (X : fg_X Ω RX1 "nights" cX1_nights 3 (some .int) 124) (hF : fX1_nights a0 i1 G = some t) (hT : fg_T Ω (.returned (some (.int t.1))) t.2) : fg_W Ω G 0 [(0, .ref a0), (1, .int i1)] [] := by
  unfold fX1_nights at hF
  refine fg_iload_n X dX1_nights_0 rfl 1 rfl ?_
  refine fg_iconst X (v := (1 : Int32)) dX1_nights_1 (by decide) ?_
  refine fg_bipush X (v := (100 : Int32)) dX1_nights_2 (by decide) ?_
  replace hF := fg_oc_some hF
  obtain ⟨xz2, Gz1, e_1, hF⟩ := hF
  refine fg_callS X (st := []) (mX1_within Ω.2.2.2.2.1 Ω.1 e_1) q1086 q504 q93 q505 hd_X1_within (by decide) rfl rfl (Nat.le_of_ble_eq_true rfl) dX1_nights_4 ?_
  refine fg_if_ne X (tgt := 12) dX1_nights_7 (by decide) (fun hc => ?_) (fun hc => ?_)
  · rw [if_neg hc] at hF
    refine fg_iconst X (v := (0 : Int32)) dX1_nights_12 (by decide) ?_
    refine fg_istore_n X (L' := [(2, .int (0 : Int32)), (0, .ref a0), (1, .int i1)]) dX1_nights_13 rfl (by decide) rfl ?_
    refine fg_sub [1, 2, 0] rfl ?_
    exact wX1_nights_14 X hF hT
  · rw [if_pos hc] at hF
    refine fg_iconst X (v := (-1 : Int32)) dX1_nights_10 (by decide) ?_
    cases hF
    exact fg_iret X dX1_nights_11 (hT)
theorem mX1_nights (l : Launch) (D : fg_D) {a0 : Nat} {i1 : Int32} {G : fg_H} {t : Int32 × fg_H} (hF : fX1_nights a0 i1 G = some t) : fg_M l D yX1_nights cX1_nights 3 (some .int) 124 [.ref a0, .int i1] G (.returned (some (.int t.1))) t.2 :=
  fg_Mof (own := RX1) (nm := "nights") (L := [(0, .ref a0), (1, .int i1)]) (plainFor_of_name pn_X1) rfl rfl rfl (Nat.le_of_ble_eq_true rfl) (fun Ω _ _ X hT => wX1_nights X hF hT)
theorem hd_X23_tears : yX23_tears.cls ≠ "java/lang/invoke/MethodHandle" ∧ yX23_tears.cls ≠ "java/lang/invoke/VarHandle" ∧ (parseMethodDescriptor yX23_tears.desc).map (fun d => d.parameters.length) = some 0 := ⟨by decide +kernel, by decide +kernel, by decide +kernel⟩
set_option maxHeartbeats 4000000 in
theorem wX23_tears {Ω : fg_O} {a0 : Nat} {G : fg_H} {t : Int32 × fg_H} (X : fg_X Ω RX23 "tears" cX23_tears 1 (some .boolean) 0) (hF : fX23_tears a0 G = some t) (hT : fg_T Ω (.returned (some (.int t.1))) t.2) : fg_W Ω G 0 [(0, .ref a0)] [] := by
  unfold fX23_tears at hF
  refine fg_iconst X (v := (0 : Int32)) dX23_tears_0 (by decide) ?_
  cases hF
  exact fg_zret X (by decide) dX23_tears_1 (hT)
theorem mX23_tears (l : Launch) (D : fg_D) {a0 : Nat} {G : fg_H} {t : Int32 × fg_H} (hF : fX23_tears a0 G = some t) : fg_M l D yX23_tears cX23_tears 1 (some .boolean) 0 [.ref a0] G (.returned (some (.int t.1))) t.2 :=
  fg_Mof (own := RX23) (nm := "tears") (L := [(0, .ref a0)]) (plainFor_of_name pn_X23) rfl rfl rfl (Nat.le_of_ble_eq_true rfl) (fun Ω _ _ X hT => wX23_tears X hF hT)
theorem hd_X26_tears : yX26_tears.cls ≠ "java/lang/invoke/MethodHandle" ∧ yX26_tears.cls ≠ "java/lang/invoke/VarHandle" ∧ (parseMethodDescriptor yX26_tears.desc).map (fun d => d.parameters.length) = some 0 := ⟨by decide +kernel, by decide +kernel, by decide +kernel⟩
set_option maxHeartbeats 4000000 in
theorem wX26_tears {Ω : fg_O} {a0 : Nat} {G : fg_H} {t : Int32 × fg_H} (X : fg_X Ω RX26 "tears" cX26_tears 1 (some .boolean) 0) (hF : fX26_tears a0 G = some t) (hT : fg_T Ω (.returned (some (.int t.1))) t.2) : fg_W Ω G 0 [(0, .ref a0)] [] := by
  unfold fX26_tears at hF
  refine fg_iconst X (v := (1 : Int32)) dX26_tears_0 (by decide) ?_
  cases hF
  exact fg_zret X (by decide) dX26_tears_1 (hT)
theorem mX26_tears (l : Launch) (D : fg_D) {a0 : Nat} {G : fg_H} {t : Int32 × fg_H} (hF : fX26_tears a0 G = some t) : fg_M l D yX26_tears cX26_tears 1 (some .boolean) 0 [.ref a0] G (.returned (some (.int t.1))) t.2 :=
  fg_Mof (own := RX26) (nm := "tears") (L := [(0, .ref a0)]) (plainFor_of_name pn_X26) rfl rfl rfl (Nat.le_of_ble_eq_true rfl) (fun Ω _ _ X hT => wX26_tears X hF hT)
theorem hv_X23_tears : "FogNets$Net" ≠ "java/lang/invoke/MethodHandle" ∧ "FogNets$Net" ≠ "java/lang/invoke/VarHandle" ∧ (parseMethodDescriptor "()Z").map (fun d => d.parameters.length) = some 0 := ⟨by decide +kernel, by decide +kernel, by decide +kernel⟩
theorem cvX23_tears {Ω : fg_O} {own nm : String} {cc : ByteArray} {nL d : Nat} {ret : Option FieldType} {G G1 : fg_H} {pc a0 index : Nat} {L : List (Nat × Value)} {st : List Value} {x : Int32}  (X : fg_X Ω own nm cc nL ret d) (e : vX23_tears a0  G = some (x, G1)) (hdd : 1 ≤ d) (q : Cond.methodLink own index ({ cls := "FogNets$Net", name := "tears", desc := "()Z" } : MethodName) ∈ lw_all) (hW : (st.map fun v => v.category).sum ≤ 8) (hd : decode cc pc = .ok (.invokevirtual index, 3)) (kk : fg_W Ω G1 (pc + 3) L (.int x :: st)) : fg_W Ω G pc L (.ref a0 :: st) := by
  unfold vX23_tears at e
  by_cases h23 : fg_rc G a0 23 = true
  · rw [if_pos h23] at e
    obtain ⟨fs, eo⟩ := fg_rc_get h23
    exact fg_callU X (C := "FogNets$Net") (mX23_tears Ω.2.2.2.2.1 Ω.1 e) q q1297 q1295 q1296 q133 q1305 (Or.inr ⟨q1295, _, _, _, q1305⟩) hv_X23_tears (by decide) rfl eo ⟨by omega, by decide⟩ rfl rfl hW hd kk
  rw [if_neg h23] at e
  by_cases h24 : fg_rc G a0 24 = true
  · rw [if_pos h24] at e
    obtain ⟨fs, eo⟩ := fg_rc_get h24
    exact fg_callU X (C := "FogNets$Shroud") (mX23_tears Ω.2.2.2.2.1 Ω.1 e) q q1297 q1295 q1300 q133 q1305 (Or.inr ⟨q1295, _, _, _, q1305⟩) hv_X23_tears (by decide) rfl eo ⟨by omega, by decide⟩ rfl rfl hW hd kk
  rw [if_neg h24] at e
  by_cases h25 : fg_rc G a0 25 = true
  · rw [if_pos h25] at e
    obtain ⟨fs, eo⟩ := fg_rc_get h25
    exact fg_callU X (C := "FogNets$Birds") (mX23_tears Ω.2.2.2.2.1 Ω.1 e) q q1297 q1295 q1298 q133 q1305 (Or.inr ⟨q1295, _, _, _, q1305⟩) hv_X23_tears (by decide) rfl eo ⟨by omega, by decide⟩ rfl rfl hW hd kk
  rw [if_neg h25] at e
  by_cases h26 : fg_rc G a0 26 = true
  · rw [if_pos h26] at e
    obtain ⟨fs, eo⟩ := fg_rc_get h26
    exact fg_callU X (C := "FogNets$Torn") (mX26_tears Ω.2.2.2.2.1 Ω.1 e) q q1297 q1303 q1302 q136 q1304 (Or.inr ⟨q1295, _, _, _, q1305⟩) hv_X23_tears (by decide) rfl eo ⟨by omega, by decide⟩ rfl rfl hW hd kk
  rw [if_neg h26] at e
  by_cases h27 : fg_rc G a0 27 = true
  · rw [if_pos h27] at e
    obtain ⟨fs, eo⟩ := fg_rc_get h27
    exact fg_callU X (C := "FogNets$Spite") (mX23_tears Ω.2.2.2.2.1 Ω.1 e) q q1297 q1295 q1301 q133 q1305 (Or.inr ⟨q1295, _, _, _, q1305⟩) hv_X23_tears (by decide) rfl eo ⟨by omega, by decide⟩ rfl rfl hW hd kk
  rw [if_neg h27] at e
  by_cases h28 : fg_rc G a0 28 = true
  · rw [if_pos h28] at e
    obtain ⟨fs, eo⟩ := fg_rc_get h28
    exact fg_callU X (C := "FogNets$High") (mX23_tears Ω.2.2.2.2.1 Ω.1 e) q q1297 q1295 q1299 q133 q1305 (Or.inr ⟨q1295, _, _, _, q1305⟩) hv_X23_tears (by decide) rfl eo ⟨by omega, by decide⟩ rfl rfl hW hd kk
  rw [if_neg h28] at e
  cases e
theorem hd_X1_mend : yX1_mend.cls ≠ "java/lang/invoke/MethodHandle" ∧ yX1_mend.cls ≠ "java/lang/invoke/VarHandle" ∧ (parseMethodDescriptor yX1_mend.desc).map (fun d => d.parameters.length) = some 2 := ⟨by decide +kernel, by decide +kernel, by decide +kernel⟩
set_option maxHeartbeats 4000000 in
theorem wX1_mend {Ω : fg_O} {a0 : Nat} {i1 : Int32} {i2 : Int32} {G : fg_H} {t : Int32 × fg_H} (X : fg_X Ω RX1 "mend" cX1_mend 3 (some .boolean) 2) (hF : fX1_mend a0 i1 i2 G = some t) (hT : fg_T Ω (.returned (some (.int t.1))) t.2) : fg_W Ω G 0 [(0, .ref a0), (1, .int i1), (2, .int i2)] [] := by
  unfold fX1_mend at hF
  refine fg_aload_n X (r := (some a0)) dX1_mend_0 rfl 0 rfl ?_
  refine fg_iload_n X dX1_mend_1 rfl 1 rfl ?_
  replace hF := fg_gd_some hF
  obtain ⟨eg_1, hF⟩ := hF
  obtain ⟨fs_2, eo_3⟩ := fg_rc_get eg_1
  replace hF := fg_oc_some hF
  obtain ⟨xz2, Gz1, e_4, hF⟩ := hF
  refine fg_callV X (st := []) (mX1_isNet Ω.2.2.2.2.1 Ω.1 e_4) q1082 q1084 qs26 q93 q1085 hd_X1_isNet (by decide) rfl eo_3 (by decide) rfl rfl (Nat.le_of_ble_eq_true rfl) dX1_mend_2 ?_
  refine fg_if_eq X (tgt := 35) dX1_mend_5 (by decide) (fun hc => ?_) (fun hc => ?_)
  · rw [if_pos hc] at hF
    refine fg_iconst X (v := (0 : Int32)) dX1_mend_35 (by decide) ?_
    cases hF
    exact fg_zret X (by decide) dX1_mend_36 (hT)
  · rw [if_neg hc] at hF
    refine fg_aload_n X (r := (some a0)) dX1_mend_8 rfl 0 rfl ?_
    replace hF := fg_ob_some hF
    obtain ⟨rz3, e_5, hF⟩ := hF
    refine fg_getr X ff_X1_hung q449 e_5 dX1_mend_9 ?_
    replace hF := fg_ob_some hF
    obtain ⟨az4, rfl, hF⟩ := hF
    replace hF := fg_ob_some hF
    obtain ⟨rz5, e_6, hF⟩ := hF
    refine fg_getr X ff_X5_nets q357 e_6 dX1_mend_12 ?_
    refine fg_iload_n X dX1_mend_15 rfl 1 rfl ?_
    replace hF := fg_ob_some hF
    obtain ⟨az6, rfl, hF⟩ := hF
    replace hF := fg_ob_some hF
    obtain ⟨rz7, e_7, hF⟩ := hF
    refine fg_aald X (kd := 5) (by decide) e_7 dX1_mend_16 ?_
    replace hF := fg_ob_some hF
    obtain ⟨az8, rfl, hF⟩ := hF
    replace hF := fg_oc_some hF
    obtain ⟨xz10, Gz9, e_8, hF⟩ := hF
    refine cvX23_tears X (st := []) e_8 (by decide) q1294 (Nat.le_of_ble_eq_true rfl) dX1_mend_17 ?_
    refine fg_if_eq X (tgt := 35) dX1_mend_20 (by decide) (fun hc => ?_) (fun hc => ?_)
    · rw [if_pos hc] at hF
      refine fg_iconst X (v := (0 : Int32)) dX1_mend_35 (by decide) ?_
      cases hF
      exact fg_zret X (by decide) dX1_mend_36 (hT)
    · rw [if_neg hc] at hF
      refine fg_aload_n X (r := (some a0)) dX1_mend_23 rfl 0 rfl ?_
      replace hF := fg_ob_some hF
      obtain ⟨rz11, e_9, hF⟩ := hF
      refine fg_getr X ff_X1_hung q449 e_9 dX1_mend_24 ?_
      refine fg_iload_n X dX1_mend_27 rfl 1 rfl ?_
      replace hF := fg_ob_some hF
      obtain ⟨az12, rfl, hF⟩ := hF
      replace hF := fg_gd_some hF
      obtain ⟨eg_10, hF⟩ := hF
      obtain ⟨fs_11, eo_12⟩ := fg_rc_get eg_10
      replace hF := fg_oc_some hF
      obtain ⟨xz14, Gz13, e_13, hF⟩ := hF
      refine fg_callV X (st := []) (mX5_isMended Ω.2.2.2.2.1 Ω.1 e_13) q1107 q1108 q1109 q100 q1110 hd_X5_isMended (by decide) rfl eo_12 (by decide) rfl rfl (Nat.le_of_ble_eq_true rfl) dX1_mend_28 ?_
      refine fg_iload_n X dX1_mend_31 rfl 2 rfl ?_
      refine fg_icmp_ne X (tgt := 37) dX1_mend_32 (by decide) (fun hc => ?_) (fun hc => ?_)
      · rw [if_neg hc] at hF
        refine fg_aload_n X (r := (some a0)) dX1_mend_37 rfl 0 rfl ?_
        replace hF := fg_ob_some hF
        obtain ⟨rz15, e_14, hF⟩ := hF
        refine fg_getr X ff_X1_hung q449 e_14 dX1_mend_38 ?_
        refine fg_dup X dX1_mend_41 (fg_cat _) ?_
        replace hF := fg_ob_some hF
        obtain ⟨az16, rfl, hF⟩ := hF
        replace hF := fg_ob_some hF
        obtain ⟨xz17, e_15, hF⟩ := hF
        refine fg_geti X ff_X5_mended q361 e_15 dX1_mend_42 ?_
        refine fg_iconst X (v := (1 : Int32)) dX1_mend_45 (by decide) ?_
        refine fg_iload_n X dX1_mend_46 rfl 1 rfl ?_
        refine fg_ishl X dX1_mend_47 ?_
        refine fg_ixor X dX1_mend_48 ?_
        replace hF := fg_ob_some hF
        obtain ⟨Gz18, e_16, hF⟩ := hF
        refine fg_putv X (ty := .int) (v := .int (xz17 ^^^ ((1 : Int32) <<< (i1 &&& 31)))) ff_X5_mended q361 rfl (Or.inl rfl) rfl rfl rfl e_16 dX1_mend_49 ?_
        refine fg_iconst X (v := (1 : Int32)) dX1_mend_52 (by decide) ?_
        cases hF
        exact fg_zret X (by decide) dX1_mend_53 (hT)
      · rw [if_pos hc] at hF
        refine fg_iconst X (v := (0 : Int32)) dX1_mend_35 (by decide) ?_
        cases hF
        exact fg_zret X (by decide) dX1_mend_36 (hT)
theorem mX1_mend (l : Launch) (D : fg_D) {a0 : Nat} {i1 : Int32} {i2 : Int32} {G : fg_H} {t : Int32 × fg_H} (hF : fX1_mend a0 i1 i2 G = some t) : fg_M l D yX1_mend cX1_mend 3 (some .boolean) 2 [.ref a0, .int i1, .int i2] G (.returned (some (.int t.1))) t.2 :=
  fg_Mof (own := RX1) (nm := "mend") (L := [(0, .ref a0), (1, .int i1), (2, .int i2)]) (plainFor_of_name pn_X1) rfl rfl rfl (Nat.le_of_ble_eq_true rfl) (fun Ω _ _ X hT => wX1_mend X hF hT)
theorem hd_X3_isPlace : yX3_isPlace.cls ≠ "java/lang/invoke/MethodHandle" ∧ yX3_isPlace.cls ≠ "java/lang/invoke/VarHandle" ∧ (parseMethodDescriptor yX3_isPlace.desc).map (fun d => d.parameters.length) = some 1 := ⟨by decide +kernel, by decide +kernel, by decide +kernel⟩
set_option maxHeartbeats 4000000 in
theorem wX3_isPlace {Ω : fg_O} {a0 : Nat} {i1 : Int32} {G : fg_H} {t : Int32 × fg_H} (X : fg_X Ω RX3 "isPlace" cX3_isPlace 2 (some .boolean) 1) (hF : fX3_isPlace a0 i1 G = some t) (hT : fg_T Ω (.returned (some (.int t.1))) t.2) : fg_W Ω G 0 [(0, .ref a0), (1, .int i1)] [] := by
  unfold fX3_isPlace at hF
  refine fg_iload_n X dX3_isPlace_0 rfl 1 rfl ?_
  refine fg_iconst X (v := (0 : Int32)) dX3_isPlace_1 (by decide) ?_
  refine fg_bipush X (v := (63 : Int32)) dX3_isPlace_2 (by decide) ?_
  replace hF := fg_oc_some hF
  obtain ⟨xz2, Gz1, e_1, hF⟩ := hF
  refine fg_callSN X (st := []) (mX1_within Ω.2.2.2.2.1 Ω.1 e_1) q1318 q504 q93 q505 hd_X1_within (by decide) rfl rfl (Nat.le_of_ble_eq_true rfl) dX3_isPlace_4 ?_
  refine fg_if_eq X (tgt := 36) dX3_isPlace_7 (by decide) (fun hc => ?_) (fun hc => ?_)
  · rw [if_pos hc] at hF
    refine fg_iconst X (v := (0 : Int32)) dX3_isPlace_36 (by decide) ?_
    cases hF
    exact fg_zret X (by decide) dX3_isPlace_37 (hT)
  · rw [if_neg hc] at hF
    refine fg_iload_n X dX3_isPlace_10 rfl 1 rfl ?_
    refine fg_bipush X (v := (8 : Int32)) dX3_isPlace_11 (by decide) ?_
    refine fg_irem X dX3_isPlace_13 (by decide) ?_
    refine fg_aload_n X (r := (some a0)) dX3_isPlace_14 rfl 0 rfl ?_
    replace hF := fg_ob_some hF
    obtain ⟨xz3, e_2, hF⟩ := hF
    refine fg_geti X ff_X3_columns q280 e_2 dX3_isPlace_15 ?_
    refine fg_icmp_ge X (tgt := 36) dX3_isPlace_18 (by decide) (fun hc => ?_) (fun hc => ?_)
    · rw [if_pos hc] at hF
      refine fg_iconst X (v := (0 : Int32)) dX3_isPlace_36 (by decide) ?_
      cases hF
      exact fg_zret X (by decide) dX3_isPlace_37 (hT)
    · rw [if_neg hc] at hF
      refine fg_iload_n X dX3_isPlace_21 rfl 1 rfl ?_
      refine fg_bipush X (v := (8 : Int32)) dX3_isPlace_22 (by decide) ?_
      refine fg_idiv X dX3_isPlace_24 (by decide) ?_
      refine fg_aload_n X (r := (some a0)) dX3_isPlace_25 rfl 0 rfl ?_
      replace hF := fg_ob_some hF
      obtain ⟨xz4, e_3, hF⟩ := hF
      refine fg_geti X ff_X3_rows q283 e_3 dX3_isPlace_26 ?_
      refine fg_icmp_ge X (tgt := 36) dX3_isPlace_29 (by decide) (fun hc => ?_) (fun hc => ?_)
      · rw [if_pos hc] at hF
        refine fg_iconst X (v := (0 : Int32)) dX3_isPlace_36 (by decide) ?_
        cases hF
        exact fg_zret X (by decide) dX3_isPlace_37 (hT)
      · rw [if_neg hc] at hF
        refine fg_iconst X (v := (1 : Int32)) dX3_isPlace_32 (by decide) ?_
        refine fg_goto X (tgt := 37) dX3_isPlace_33 (by decide) ?_
        cases hF
        exact fg_zret X (by decide) dX3_isPlace_37 (hT)
theorem mX3_isPlace (l : Launch) (D : fg_D) {a0 : Nat} {i1 : Int32} {G : fg_H} {t : Int32 × fg_H} (hF : fX3_isPlace a0 i1 G = some t) : fg_M l D yX3_isPlace cX3_isPlace 2 (some .boolean) 1 [.ref a0, .int i1] G (.returned (some (.int t.1))) t.2 :=
  fg_Mof (own := RX3) (nm := "isPlace") (L := [(0, .ref a0), (1, .int i1)]) (plainFor_of_name pn_X3) rfl rfl rfl (Nat.le_of_ble_eq_true rfl) (fun Ω _ _ X hT => wX3_isPlace X hF hT)
theorem hd_X5_isFree : yX5_isFree.cls ≠ "java/lang/invoke/MethodHandle" ∧ yX5_isFree.cls ≠ "java/lang/invoke/VarHandle" ∧ (parseMethodDescriptor yX5_isFree.desc).map (fun d => d.parameters.length) = some 1 := ⟨by decide +kernel, by decide +kernel, by decide +kernel⟩
set_option maxHeartbeats 4000000 in
theorem wX5_isFree {Ω : fg_O} {a0 : Nat} {i1 : Int32} {G : fg_H} {t : Int32 × fg_H} (X : fg_X Ω RX5 "isFree" cX5_isFree 2 (some .boolean) 2) (hF : fX5_isFree a0 i1 G = some t) (hT : fg_T Ω (.returned (some (.int t.1))) t.2) : fg_W Ω G 0 [(0, .ref a0), (1, .int i1)] [] := by
  unfold fX5_isFree at hF
  refine fg_aload_n X (r := (some a0)) dX5_isFree_0 rfl 0 rfl ?_
  replace hF := fg_ob_some hF
  obtain ⟨rz1, e_1, hF⟩ := hF
  refine fg_getr X ff_X5_ridge q352 e_1 dX5_isFree_1 ?_
  refine fg_iload_n X dX5_isFree_4 rfl 1 rfl ?_
  replace hF := fg_ob_some hF
  obtain ⟨az2, rfl, hF⟩ := hF
  replace hF := fg_gd_some hF
  obtain ⟨eg_2, hF⟩ := hF
  obtain ⟨fs_3, eo_4⟩ := fg_rc_get eg_2
  replace hF := fg_oc_some hF
  obtain ⟨xz4, Gz3, e_5, hF⟩ := hF
  refine fg_callV X (st := []) (mX3_isPlace Ω.2.2.2.2.1 Ω.1 e_5) q1314 q1315 q1316 q95 q1317 hd_X3_isPlace (by decide) rfl eo_4 (by decide) rfl rfl (Nat.le_of_ble_eq_true rfl) dX5_isFree_5 ?_
  refine fg_if_eq X (tgt := 24) dX5_isFree_8 (by decide) (fun hc => ?_) (fun hc => ?_)
  · rw [if_pos hc] at hF
    refine fg_iconst X (v := (0 : Int32)) dX5_isFree_24 (by decide) ?_
    cases hF
    exact fg_zret X (by decide) dX5_isFree_25 (hT)
  · rw [if_neg hc] at hF
    refine fg_aload_n X (r := (some a0)) dX5_isFree_11 rfl 0 rfl ?_
    replace hF := fg_ob_some hF
    obtain ⟨rz5, e_6, hF⟩ := hF
    refine fg_getr X ff_X5_netAt q354 e_6 dX5_isFree_12 ?_
    refine fg_iload_n X dX5_isFree_15 rfl 1 rfl ?_
    replace hF := fg_ob_some hF
    obtain ⟨az6, rfl, hF⟩ := hF
    replace hF := fg_ob_some hF
    obtain ⟨xz7, e_7, hF⟩ := hF
    refine fg_iald X e_7 dX5_isFree_16 ?_
    refine fg_if_ne X (tgt := 24) dX5_isFree_17 (by decide) (fun hc => ?_) (fun hc => ?_)
    · rw [if_neg hc] at hF
      refine fg_iconst X (v := (0 : Int32)) dX5_isFree_24 (by decide) ?_
      cases hF
      exact fg_zret X (by decide) dX5_isFree_25 (hT)
    · rw [if_pos hc] at hF
      refine fg_iconst X (v := (1 : Int32)) dX5_isFree_20 (by decide) ?_
      refine fg_goto X (tgt := 25) dX5_isFree_21 (by decide) ?_
      cases hF
      exact fg_zret X (by decide) dX5_isFree_25 (hT)
theorem mX5_isFree (l : Launch) (D : fg_D) {a0 : Nat} {i1 : Int32} {G : fg_H} {t : Int32 × fg_H} (hF : fX5_isFree a0 i1 G = some t) : fg_M l D yX5_isFree cX5_isFree 2 (some .boolean) 2 [.ref a0, .int i1] G (.returned (some (.int t.1))) t.2 :=
  fg_Mof (own := RX5) (nm := "isFree") (L := [(0, .ref a0), (1, .int i1)]) (plainFor_of_name pn_X5) rfl rfl rfl (Nat.le_of_ble_eq_true rfl) (fun Ω _ _ X hT => wX5_isFree X hF hT)
theorem hd_X5_moves : yX5_moves.cls ≠ "java/lang/invoke/MethodHandle" ∧ yX5_moves.cls ≠ "java/lang/invoke/VarHandle" ∧ (parseMethodDescriptor yX5_moves.desc).map (fun d => d.parameters.length) = some 2 := ⟨by decide +kernel, by decide +kernel, by decide +kernel⟩
set_option maxHeartbeats 4000000 in
theorem wX5_moves {Ω : fg_O} {a0 : Nat} {i1 : Int32} {i2 : Int32} {G : fg_H} {t : Unit × fg_H} (X : fg_X Ω RX5 "moves" cX5_moves 3 none 0) (hF : fX5_moves a0 i1 i2 G = some t) (hT : fg_T Ω (.returned none) t.2) : fg_W Ω G 0 [(0, .ref a0), (1, .int i1), (2, .int i2)] [] := by
  unfold fX5_moves at hF
  refine fg_aload_n X (r := (some a0)) dX5_moves_0 rfl 0 rfl ?_
  replace hF := fg_ob_some hF
  obtain ⟨rz1, e_1, hF⟩ := hF
  refine fg_getr X ff_X5_netAt q354 e_1 dX5_moves_1 ?_
  refine fg_aload_n X (r := (some a0)) dX5_moves_4 rfl 0 rfl ?_
  replace hF := fg_ob_some hF
  obtain ⟨rz2, e_2, hF⟩ := hF
  refine fg_getr X ff_X5_at q358 e_2 dX5_moves_5 ?_
  refine fg_iload_n X dX5_moves_8 rfl 1 rfl ?_
  replace hF := fg_ob_some hF
  obtain ⟨az3, rfl, hF⟩ := hF
  replace hF := fg_ob_some hF
  obtain ⟨xz4, e_3, hF⟩ := hF
  refine fg_iald X e_3 dX5_moves_9 ?_
  refine fg_iconst X (v := (0 : Int32)) dX5_moves_10 (by decide) ?_
  replace hF := fg_ob_some hF
  obtain ⟨az5, rfl, hF⟩ := hF
  replace hF := fg_ob_some hF
  obtain ⟨Gz6, e_4, hF⟩ := hF
  refine fg_iast X e_4 dX5_moves_11 ?_
  refine fg_aload_n X (r := (some a0)) dX5_moves_12 rfl 0 rfl ?_
  replace hF := fg_ob_some hF
  obtain ⟨rz7, e_5, hF⟩ := hF
  refine fg_getr X ff_X5_at q358 e_5 dX5_moves_13 ?_
  refine fg_iload_n X dX5_moves_16 rfl 1 rfl ?_
  refine fg_iload_n X dX5_moves_17 rfl 2 rfl ?_
  replace hF := fg_ob_some hF
  obtain ⟨az8, rfl, hF⟩ := hF
  replace hF := fg_ob_some hF
  obtain ⟨Gz9, e_6, hF⟩ := hF
  refine fg_iast X e_6 dX5_moves_18 ?_
  refine fg_aload_n X (r := (some a0)) dX5_moves_19 rfl 0 rfl ?_
  replace hF := fg_ob_some hF
  obtain ⟨rz10, e_7, hF⟩ := hF
  refine fg_getr X ff_X5_netAt q354 e_7 dX5_moves_20 ?_
  refine fg_iload_n X dX5_moves_23 rfl 2 rfl ?_
  refine fg_iload_n X dX5_moves_24 rfl 1 rfl ?_
  refine fg_iconst X (v := (1 : Int32)) dX5_moves_25 (by decide) ?_
  refine fg_iadd X dX5_moves_26 ?_
  replace hF := fg_ob_some hF
  obtain ⟨az11, rfl, hF⟩ := hF
  replace hF := fg_ob_some hF
  obtain ⟨Gz12, e_8, hF⟩ := hF
  refine fg_iast X e_8 dX5_moves_27 ?_
  cases hF
  exact fg_vret X dX5_moves_28 (hT)
theorem mX5_moves (l : Launch) (D : fg_D) {a0 : Nat} {i1 : Int32} {i2 : Int32} {G : fg_H} {t : Unit × fg_H} (hF : fX5_moves a0 i1 i2 G = some t) : fg_M l D yX5_moves cX5_moves 3 none 0 [.ref a0, .int i1, .int i2] G (.returned none) t.2 :=
  fg_Mof (own := RX5) (nm := "moves") (L := [(0, .ref a0), (1, .int i1), (2, .int i2)]) (plainFor_of_name pn_X5) rfl rfl rfl (Nat.le_of_ble_eq_true rfl) (fun Ω _ _ X hT => wX5_moves X hF hT)
theorem hd_X1_move : yX1_move.cls ≠ "java/lang/invoke/MethodHandle" ∧ yX1_move.cls ≠ "java/lang/invoke/VarHandle" ∧ (parseMethodDescriptor yX1_move.desc).map (fun d => d.parameters.length) = some 2 := ⟨by decide +kernel, by decide +kernel, by decide +kernel⟩
set_option maxHeartbeats 4000000 in
theorem wX1_move {Ω : fg_O} {a0 : Nat} {i1 : Int32} {i2 : Int32} {G : fg_H} {t : Int32 × fg_H} (X : fg_X Ω RX1 "move" cX1_move 3 (some .boolean) 3) (hF : fX1_move a0 i1 i2 G = some t) (hT : fg_T Ω (.returned (some (.int t.1))) t.2) : fg_W Ω G 0 [(0, .ref a0), (1, .int i1), (2, .int i2)] [] := by
  unfold fX1_move at hF
  refine fg_aload_n X (r := (some a0)) dX1_move_0 rfl 0 rfl ?_
  refine fg_iload_n X dX1_move_1 rfl 1 rfl ?_
  replace hF := fg_gd_some hF
  obtain ⟨eg_1, hF⟩ := hF
  obtain ⟨fs_2, eo_3⟩ := fg_rc_get eg_1
  replace hF := fg_oc_some hF
  obtain ⟨xz2, Gz1, e_4, hF⟩ := hF
  refine fg_callV X (st := []) (mX1_isNet Ω.2.2.2.2.1 Ω.1 e_4) q1082 q1084 qs26 q93 q1085 hd_X1_isNet (by decide) rfl eo_3 (by decide) rfl rfl (Nat.le_of_ble_eq_true rfl) dX1_move_2 ?_
  refine fg_if_eq X (tgt := 19) dX1_move_5 (by decide) (fun hc => ?_) (fun hc => ?_)
  · rw [if_pos hc] at hF
    refine fg_iconst X (v := (0 : Int32)) dX1_move_19 (by decide) ?_
    cases hF
    exact fg_zret X (by decide) dX1_move_20 (hT)
  · rw [if_neg hc] at hF
    refine fg_aload_n X (r := (some a0)) dX1_move_8 rfl 0 rfl ?_
    replace hF := fg_ob_some hF
    obtain ⟨rz3, e_5, hF⟩ := hF
    refine fg_getr X ff_X1_hung q449 e_5 dX1_move_9 ?_
    refine fg_iload_n X dX1_move_12 rfl 2 rfl ?_
    replace hF := fg_ob_some hF
    obtain ⟨az4, rfl, hF⟩ := hF
    replace hF := fg_gd_some hF
    obtain ⟨eg_6, hF⟩ := hF
    obtain ⟨fs_7, eo_8⟩ := fg_rc_get eg_6
    replace hF := fg_oc_some hF
    obtain ⟨xz6, Gz5, e_9, hF⟩ := hF
    refine fg_callV X (st := []) (mX5_isFree Ω.2.2.2.2.1 Ω.1 e_9) q1310 q1311 q1312 q100 q1313 hd_X5_isFree (by decide) rfl eo_8 (by decide) rfl rfl (Nat.le_of_ble_eq_true rfl) dX1_move_13 ?_
    refine fg_if_ne X (tgt := 21) dX1_move_16 (by decide) (fun hc => ?_) (fun hc => ?_)
    · rw [if_neg hc] at hF
      refine fg_aload_n X (r := (some a0)) dX1_move_21 rfl 0 rfl ?_
      replace hF := fg_ob_some hF
      obtain ⟨rz7, e_10, hF⟩ := hF
      refine fg_getr X ff_X1_hung q449 e_10 dX1_move_22 ?_
      refine fg_iload_n X dX1_move_25 rfl 1 rfl ?_
      refine fg_iload_n X dX1_move_26 rfl 2 rfl ?_
      replace hF := fg_ob_some hF
      obtain ⟨az8, rfl, hF⟩ := hF
      replace hF := fg_gd_some hF
      obtain ⟨eg_11, hF⟩ := hF
      obtain ⟨fs_12, eo_13⟩ := fg_rc_get eg_11
      replace hF := fg_oc_some hF
      obtain ⟨u, Gz9, e_14, hF⟩ := hF
      refine fg_callV X (st := []) (mX5_moves Ω.2.2.2.2.1 Ω.1 e_14) q1319 q1320 q1321 q100 q1322 hd_X5_moves (by decide) rfl eo_13 (by decide) rfl rfl (Nat.le_of_ble_eq_true rfl) dX1_move_27 ?_
      refine fg_iconst X (v := (1 : Int32)) dX1_move_30 (by decide) ?_
      cases hF
      exact fg_zret X (by decide) dX1_move_31 (hT)
    · rw [if_pos hc] at hF
      refine fg_iconst X (v := (0 : Int32)) dX1_move_19 (by decide) ?_
      cases hF
      exact fg_zret X (by decide) dX1_move_20 (hT)
theorem mX1_move (l : Launch) (D : fg_D) {a0 : Nat} {i1 : Int32} {i2 : Int32} {G : fg_H} {t : Int32 × fg_H} (hF : fX1_move a0 i1 i2 G = some t) : fg_M l D yX1_move cX1_move 3 (some .boolean) 3 [.ref a0, .int i1, .int i2] G (.returned (some (.int t.1))) t.2 :=
  fg_Mof (own := RX1) (nm := "move") (L := [(0, .ref a0), (1, .int i1), (2, .int i2)]) (plainFor_of_name pn_X1) rfl rfl rfl (Nat.le_of_ble_eq_true rfl) (fun Ω _ _ X hT => wX1_move X hF hT)

set_option maxRecDepth 100000
theorem fg_ne0l {x : Int64} (h : (!(x == 0)) = true) : ¬ x = 0 := by simpa using h
theorem hd_X8_winds : yX8_winds.cls ≠ "java/lang/invoke/MethodHandle" ∧ yX8_winds.cls ≠ "java/lang/invoke/VarHandle" ∧ (parseMethodDescriptor yX8_winds.desc).map (fun d => d.parameters.length) = some 0 := ⟨by decide +kernel, by decide +kernel, by decide +kernel⟩
set_option maxHeartbeats 4000000 in
theorem wX8_winds {Ω : fg_O} {a0 : Nat} {G : fg_H} {t : Int32 × fg_H} (X : fg_X Ω RX8 "winds" cX8_winds 1 (some .int) 7) (hF : fX8_winds a0 G = some t) (hT : fg_T Ω (.returned (some (.int t.1))) t.2) : fg_W Ω G 0 [(0, .ref a0)] [] := by
  unfold fX8_winds at hF
  refine fg_aload_n X (r := (some a0)) dX8_winds_0 rfl 0 rfl ?_
  refine fg_iconst X (v := (0 : Int32)) dX8_winds_1 (by decide) ?_
  replace hF := fg_ob_some hF
  obtain ⟨G1, e_1, hF⟩ := hF
  refine fg_putv X (ty := .int) (v := .int (0 : Int32)) ff_X8_thrown q1548 rfl (Or.inl rfl) rfl rfl rfl e_1 dX8_winds_2 ?_
  refine fg_aload_n X (r := (some a0)) dX8_winds_5 rfl 0 rfl ?_
  replace hF := fg_ob_some hF
  obtain ⟨r2, e_2, hF⟩ := hF
  refine fg_getr X ff_X8_ridge q1558 e_2 dX8_winds_6 ?_
  refine fg_iconst X (v := (2 : Int32)) dX8_winds_9 (by decide) ?_
  replace hF := fg_ob_some hF
  obtain ⟨a3, rfl, hF⟩ := hF
  replace hF := fg_ob_some hF
  obtain ⟨x4, e_3, hF⟩ := hF
  refine fg_iald X e_3 dX8_winds_10 ?_
  refine fg_bipush X (v := (6 : Int32)) dX8_winds_11 (by decide) ?_
  refine fg_icmp_gt X (tgt := 26) dX8_winds_13 (by decide) (fun hc => ?_) (fun hc => ?_)
  · rw [if_pos hc] at hF
    refine fg_iconst X (v := (-1 : Int32)) dX8_winds_26 (by decide) ?_
    refine fg_goto X (tgt := 35) dX8_winds_27 (by decide) ?_
    cases hF
    exact fg_iret X dX8_winds_35 (hT)
  · rw [if_neg hc] at hF
    refine fg_aload_n X (r := (some a0)) dX8_winds_16 rfl 0 rfl ?_
    replace hF := fg_ob_some hF
    obtain ⟨r5, e_4, hF⟩ := hF
    refine fg_getr X ff_X8_s q1585 e_4 dX8_winds_17 ?_
    refine fg_bipush X (v := (50 : Int32)) dX8_winds_20 (by decide) ?_
    replace hF := fg_ob_some hF
    obtain ⟨a6, rfl, hF⟩ := hF
    replace hF := fg_ob_some hF
    obtain ⟨x7, e_5, hF⟩ := hF
    refine fg_iald X e_5 dX8_winds_22 ?_
    refine fg_if_ne X (tgt := 30) dX8_winds_23 (by decide) (fun hc => ?_) (fun hc => ?_)
    · rw [if_neg hc] at hF
      refine fg_aload_n X (r := (some a0)) dX8_winds_30 rfl 0 rfl ?_
      refine fg_iconst X (v := (-1 : Int32)) dX8_winds_31 (by decide) ?_
      replace hF := fg_gd_some hF
      obtain ⟨eg_6, hF⟩ := hF
      obtain ⟨fs_7, eo_8⟩ := fg_rc_get eg_6
      replace hF := fg_oc_some hF
      obtain ⟨x9, G8, e_9, hF⟩ := hF
      refine fg_callV X (st := []) (mX8_blowing Ω.2.2.2.2.1 Ω.1 e_9) q2018 q2020 qs90 q105 q2021 hd_X8_blowing (by decide) rfl eo_8 (by decide) rfl rfl (Nat.le_of_ble_eq_true rfl) dX8_winds_32 ?_
      cases hF
      exact fg_iret X dX8_winds_35 (hT)
    · rw [if_pos hc] at hF
      refine fg_iconst X (v := (-1 : Int32)) dX8_winds_26 (by decide) ?_
      refine fg_goto X (tgt := 35) dX8_winds_27 (by decide) ?_
      cases hF
      exact fg_iret X dX8_winds_35 (hT)
theorem mX8_winds (l : Launch) (D : fg_D) {a0 : Nat} {G : fg_H} {t : Int32 × fg_H} (hF : fX8_winds a0 G = some t) : fg_M l D yX8_winds cX8_winds 1 (some .int) 7 [.ref a0] G (.returned (some (.int t.1))) t.2 :=
  fg_Mof (own := RX8) (nm := "winds") (L := [(0, .ref a0)]) (plainFor_of_name pn_X8) rfl rfl rfl (Nat.le_of_ble_eq_true rfl) (fun Ω _ _ X hT => wX8_winds X hF hT)
theorem hd_X8_windsAt : yX8_windsAt.cls ≠ "java/lang/invoke/MethodHandle" ∧ yX8_windsAt.cls ≠ "java/lang/invoke/VarHandle" ∧ (parseMethodDescriptor yX8_windsAt.desc).map (fun d => d.parameters.length) = some 1 := ⟨by decide +kernel, by decide +kernel, by decide +kernel⟩
set_option maxHeartbeats 4000000 in
theorem wX8_windsAt {Ω : fg_O} {a0 : Nat} {i1 : Int32} {G : fg_H} {t : Int32 × fg_H} (X : fg_X Ω RX8 "windsAt" cX8_windsAt 2 (some .int) 7) (hF : fX8_windsAt a0 i1 G = some t) (hT : fg_T Ω (.returned (some (.int t.1))) t.2) : fg_W Ω G 0 [(0, .ref a0), (1, .int i1)] [] := by
  unfold fX8_windsAt at hF
  refine fg_aload_n X (r := (some a0)) dX8_windsAt_0 rfl 0 rfl ?_
  refine fg_iconst X (v := (0 : Int32)) dX8_windsAt_1 (by decide) ?_
  replace hF := fg_ob_some hF
  obtain ⟨G1, e_1, hF⟩ := hF
  refine fg_putv X (ty := .int) (v := .int (0 : Int32)) ff_X8_thrown q1548 rfl (Or.inl rfl) rfl rfl rfl e_1 dX8_windsAt_2 ?_
  refine fg_aload_n X (r := (some a0)) dX8_windsAt_5 rfl 0 rfl ?_
  replace hF := fg_ob_some hF
  obtain ⟨r2, e_2, hF⟩ := hF
  refine fg_getr X ff_X8_ridge q1558 e_2 dX8_windsAt_6 ?_
  refine fg_iconst X (v := (2 : Int32)) dX8_windsAt_9 (by decide) ?_
  replace hF := fg_ob_some hF
  obtain ⟨a3, rfl, hF⟩ := hF
  replace hF := fg_ob_some hF
  obtain ⟨x4, e_3, hF⟩ := hF
  refine fg_iald X e_3 dX8_windsAt_10 ?_
  refine fg_bipush X (v := (6 : Int32)) dX8_windsAt_11 (by decide) ?_
  refine fg_icmp_gt X (tgt := 30) dX8_windsAt_13 (by decide) (fun hc => ?_) (fun hc => ?_)
  · rw [if_pos hc] at hF
    refine fg_iconst X (v := (-1 : Int32)) dX8_windsAt_30 (by decide) ?_
    refine fg_goto X (tgt := 39) dX8_windsAt_31 (by decide) ?_
    cases hF
    exact fg_iret X dX8_windsAt_39 (hT)
  · rw [if_neg hc] at hF
    refine fg_aload_n X (r := (some a0)) dX8_windsAt_16 rfl 0 rfl ?_
    replace hF := fg_ob_some hF
    obtain ⟨r5, e_4, hF⟩ := hF
    refine fg_getr X ff_X8_s q1585 e_4 dX8_windsAt_17 ?_
    refine fg_bipush X (v := (50 : Int32)) dX8_windsAt_20 (by decide) ?_
    replace hF := fg_ob_some hF
    obtain ⟨a6, rfl, hF⟩ := hF
    replace hF := fg_ob_some hF
    obtain ⟨x7, e_5, hF⟩ := hF
    refine fg_iald X e_5 dX8_windsAt_22 ?_
    refine fg_if_eq X (tgt := 30) dX8_windsAt_23 (by decide) (fun hc => ?_) (fun hc => ?_)
    · rw [if_pos hc] at hF
      refine fg_iconst X (v := (-1 : Int32)) dX8_windsAt_30 (by decide) ?_
      refine fg_goto X (tgt := 39) dX8_windsAt_31 (by decide) ?_
      cases hF
      exact fg_iret X dX8_windsAt_39 (hT)
    · rw [if_neg hc] at hF
      refine fg_iload_n X dX8_windsAt_26 rfl 1 rfl ?_
      refine fg_if_ge X (tgt := 34) dX8_windsAt_27 (by decide) (fun hc => ?_) (fun hc => ?_)
      · rw [if_pos hc] at hF
        refine fg_aload_n X (r := (some a0)) dX8_windsAt_34 rfl 0 rfl ?_
        refine fg_iload_n X dX8_windsAt_35 rfl 1 rfl ?_
        replace hF := fg_gd_some hF
        obtain ⟨eg_6, hF⟩ := hF
        obtain ⟨fs_7, eo_8⟩ := fg_rc_get eg_6
        replace hF := fg_oc_some hF
        obtain ⟨x9, G8, e_9, hF⟩ := hF
        refine fg_callV X (st := []) (mX8_blowing Ω.2.2.2.2.1 Ω.1 e_9) q2018 q2020 qs90 q105 q2021 hd_X8_blowing (by decide) rfl eo_8 (by decide) rfl rfl (Nat.le_of_ble_eq_true rfl) dX8_windsAt_36 ?_
        cases hF
        exact fg_iret X dX8_windsAt_39 (hT)
      · rw [if_neg hc] at hF
        refine fg_iconst X (v := (-1 : Int32)) dX8_windsAt_30 (by decide) ?_
        refine fg_goto X (tgt := 39) dX8_windsAt_31 (by decide) ?_
        cases hF
        exact fg_iret X dX8_windsAt_39 (hT)
theorem mX8_windsAt (l : Launch) (D : fg_D) {a0 : Nat} {i1 : Int32} {G : fg_H} {t : Int32 × fg_H} (hF : fX8_windsAt a0 i1 G = some t) : fg_M l D yX8_windsAt cX8_windsAt 2 (some .int) 7 [.ref a0, .int i1] G (.returned (some (.int t.1))) t.2 :=
  fg_Mof (own := RX8) (nm := "windsAt") (L := [(0, .ref a0), (1, .int i1)]) (plainFor_of_name pn_X8) rfl rfl rfl (Nat.le_of_ble_eq_true rfl) (fun Ω _ _ X hT => wX8_windsAt X hF hT)
theorem hd_X8_draws : yX8_draws.cls ≠ "java/lang/invoke/MethodHandle" ∧ yX8_draws.cls ≠ "java/lang/invoke/VarHandle" ∧ (parseMethodDescriptor yX8_draws.desc).map (fun d => d.parameters.length) = some 1 := ⟨by decide +kernel, by decide +kernel, by decide +kernel⟩
set_option maxHeartbeats 4000000 in
theorem wX8_draws {Ω : fg_O} {a0 : Nat} {i1 : Int32} {G : fg_H} {t : Int32 × fg_H} (X : fg_X Ω RX8 "draws" cX8_draws 2 (some .int) 0) (hF : fX8_draws a0 i1 G = some t) (hT : fg_T Ω (.returned (some (.int t.1))) t.2) : fg_W Ω G 0 [(0, .ref a0), (1, .int i1)] [] := by
  unfold fX8_draws at hF
  refine fg_aload_n X (r := (some a0)) dX8_draws_0 rfl 0 rfl ?_
  refine fg_aload_n X (r := (some a0)) dX8_draws_1 rfl 0 rfl ?_
  replace hF := fg_ob_some hF
  obtain ⟨y1, e_1, hF⟩ := hF
  refine fg_getl X ff_X8_g q1593 e_1 dX8_draws_2 ?_
  refine fg_ldc2 X q2034 dX8_draws_5 ?_
  refine fg_lmul X dX8_draws_8 ?_
  refine fg_ldc2 X q2035 dX8_draws_9 ?_
  refine fg_ladd X dX8_draws_12 ?_
  refine fg_ldc2 X q2036 dX8_draws_13 ?_
  refine fg_lrem X dX8_draws_16 (by decide) ?_
  replace hF := fg_ob_some hF
  obtain ⟨G2, e_2, hF⟩ := hF
  refine fg_putv X (ty := .long) (v := .long (((y1 * (1103515245 : Int64)) + (12345 : Int64)) - ((y1 * (1103515245 : Int64)) + (12345 : Int64)) / (2147483648 : Int64) * (2147483648 : Int64))) ff_X8_g q1593 rfl (Or.inl rfl) rfl rfl rfl e_2 dX8_draws_17 ?_
  refine fg_aload_n X (r := (some a0)) dX8_draws_20 rfl 0 rfl ?_
  replace hF := fg_ob_some hF
  obtain ⟨y3, e_3, hF⟩ := hF
  refine fg_getl X ff_X8_g q1593 e_3 dX8_draws_21 ?_
  refine fg_ldc2 X q2037 dX8_draws_24 ?_
  refine fg_ldiv X dX8_draws_27 (by decide) ?_
  refine fg_iload_n X dX8_draws_28 rfl 1 rfl ?_
  refine fg_i2l X dX8_draws_29 ?_
  replace hF := fg_gd_some hF
  obtain ⟨eg_4, hF⟩ := hF
  refine fg_lrem X dX8_draws_30 (fg_ne0l eg_4) ?_
  refine fg_l2i X dX8_draws_31 ?_
  cases hF
  exact fg_iret X dX8_draws_32 (hT)
theorem mX8_draws (l : Launch) (D : fg_D) {a0 : Nat} {i1 : Int32} {G : fg_H} {t : Int32 × fg_H} (hF : fX8_draws a0 i1 G = some t) : fg_M l D yX8_draws cX8_draws 2 (some .int) 0 [.ref a0, .int i1] G (.returned (some (.int t.1))) t.2 :=
  fg_Mof (own := RX8) (nm := "draws") (L := [(0, .ref a0), (1, .int i1)]) (plainFor_of_name pn_X8) rfl rfl rfl (Nat.le_of_ble_eq_true rfl) (fun Ω _ _ X hT => wX8_draws X hF hT)
theorem hd_X8_lots : yX8_lots.cls ≠ "java/lang/invoke/MethodHandle" ∧ yX8_lots.cls ≠ "java/lang/invoke/VarHandle" ∧ (parseMethodDescriptor yX8_lots.desc).map (fun d => d.parameters.length) = some 4 := ⟨by decide +kernel, by decide +kernel, by decide +kernel⟩
set_option maxHeartbeats 4000000 in
theorem wX8_lots_190b {Ω : fg_O} {a0 : Nat} {i2 : Int32} {i3 : Int32} {i4 : Int32} {i5 : Int32} {i6 : Int32} {i7 : Int32} {G : fg_H} {t : ((Nat × Int32 × Int32 × Int32 × Int32 × Int32 × Int32 × fg_H) ⊕ ((Nat × Int32 × Int32 × Int32 × Int32 × Int32 × fg_H) ⊕ (Int32 × fg_H)))} (X : fg_X Ω RX8 "lots" cX8_lots 10 (some .int) 6) (hF : fX8_lots_190b a0 i2 i3 i4 i5 i6 i7 G = some t) (h73 : ∀ z, t = (.inr (.inl z)) → fg_W Ω z.2.2.2.2.2.2 73 [(0, .ref z.1), (2, .int z.2.1), (3, .int z.2.2.1), (4, .int z.2.2.2.1), (5, .int z.2.2.2.2.1), (6, .int z.2.2.2.2.2.1)] []) (h190 : ∀ z, t = (.inl z) → fg_W Ω z.2.2.2.2.2.2.2 190 [(0, .ref z.1), (2, .int z.2.1), (3, .int z.2.2.1), (4, .int z.2.2.2.1), (5, .int z.2.2.2.2.1), (6, .int z.2.2.2.2.2.1), (7, .int z.2.2.2.2.2.2.1)] []) (hT : ∀ u, t = (.inr (.inr u)) → fg_T Ω (.returned (some (.int u.1))) u.2) : fg_W Ω G 190 [(0, .ref a0), (2, .int i2), (3, .int i3), (4, .int i4), (5, .int i5), (6, .int i6), (7, .int i7)] [] := by
  unfold fX8_lots_190b at hF
  refine fg_iload X dX8_lots_190 6 rfl ?_
  refine fg_aload_n X (r := (some a0)) dX8_lots_192 rfl 0 rfl ?_
  replace hF := fg_ob_some hF
  obtain ⟨r16, e_1, hF⟩ := hF
  refine fg_getr X ff_X8_ridge q1558 e_1 dX8_lots_193 ?_
  refine fg_iconst X (v := (5 : Int32)) dX8_lots_196 (by decide) ?_
  replace hF := fg_ob_some hF
  obtain ⟨a17, rfl, hF⟩ := hF
  replace hF := fg_ob_some hF
  obtain ⟨x18, e_2, hF⟩ := hF
  refine fg_iald X e_2 dX8_lots_197 ?_
  refine fg_icmp_ge X (tgt := 248) dX8_lots_198 (by decide) (fun hc => ?_) (fun hc => ?_)
  · rw [if_pos hc] at hF
    replace hF := fg_rt_some hF
    obtain ⟨t19, hF, ht_3⟩ := hF
    subst ht_3
    replace h73 := fun z q => h73 z (congrArg Sum.inr q)
    replace hT := fun u q => hT u (congrArg Sum.inr q)
    refine fg_aload_n X (r := (some a0)) dX8_lots_248 rfl 0 rfl ?_
    replace hF := fg_ob_some hF
    obtain ⟨r20, e_4, hF⟩ := hF
    refine fg_getr X ff_X8_aside q1586 e_4 dX8_lots_249 ?_
    refine fg_iconst X (v := (0 : Int32)) dX8_lots_252 (by decide) ?_
    refine fg_aload_n X (r := (some a0)) dX8_lots_253 rfl 0 rfl ?_
    replace hF := fg_ob_some hF
    obtain ⟨r21, e_5, hF⟩ := hF
    refine fg_getr X ff_X8_s q1585 e_5 dX8_lots_254 ?_
    refine fg_iconst X (v := (0 : Int32)) dX8_lots_257 (by decide) ?_
    replace hF := fg_oc_some hF
    obtain ⟨u, G22, e_6, hF⟩ := hF
    refine fg_callS X (st := []) (mX8_copies Ω.2.2.2.2.1 Ω.1 e_6) q1965 q1966 q105 q1967 hd_X8_copies (by decide) rfl rfl (Nat.le_of_ble_eq_true rfl) dX8_lots_258 ?_
    refine fg_iinc X (v := (i6 + (1 : Int32))) (L' := [(6, .int (i6 + (1 : Int32))), (0, .ref a0), (2, .int i2), (3, .int i3), (4, .int i4), (5, .int i5), (7, .int i7)]) dX8_lots_261 5 rfl rfl (by decide) rfl ?_
    refine fg_goto X (tgt := 73) dX8_lots_264 (by decide) ?_
    refine fg_sub [1, 2, 3, 4, 5, 0] rfl ?_
    exact h73 _ (Option.some.inj hF).symm
  · rw [if_neg hc] at hF
    refine fg_iload X dX8_lots_201 4 rfl ?_
    refine fg_iload X dX8_lots_203 3 rfl ?_
    refine fg_if_ne X (tgt := 218) dX8_lots_205 (by decide) (fun hc => ?_) (fun hc => ?_)
    · rw [if_neg hc] at hF
      refine fg_aload_n X (r := (some a0)) dX8_lots_218 rfl 0 rfl ?_
      replace hF := fg_ob_some hF
      obtain ⟨r23, e_7, hF⟩ := hF
      refine fg_getr X ff_X8_s q1585 e_7 dX8_lots_219 ?_
      refine fg_bipush X (v := (6 : Int32)) dX8_lots_222 (by decide) ?_
      refine fg_iload X dX8_lots_224 6 rfl ?_
      refine fg_iadd X dX8_lots_226 ?_
      replace hF := fg_ob_some hF
      obtain ⟨a24, rfl, hF⟩ := hF
      replace hF := fg_ob_some hF
      obtain ⟨x25, e_8, hF⟩ := hF
      refine fg_iald X e_8 dX8_lots_227 ?_
      refine fg_aload_n X (r := (some a0)) dX8_lots_228 rfl 0 rfl ?_
      replace hF := fg_ob_some hF
      obtain ⟨r26, e_9, hF⟩ := hF
      refine fg_getr X ff_X8_aside q1586 e_9 dX8_lots_229 ?_
      refine fg_bipush X (v := (6 : Int32)) dX8_lots_232 (by decide) ?_
      refine fg_iload X dX8_lots_234 6 rfl ?_
      refine fg_iadd X dX8_lots_236 ?_
      replace hF := fg_ob_some hF
      obtain ⟨a27, rfl, hF⟩ := hF
      replace hF := fg_ob_some hF
      obtain ⟨x28, e_10, hF⟩ := hF
      refine fg_iald X e_10 dX8_lots_237 ?_
      refine fg_isub X dX8_lots_238 ?_
      refine fg_iadd X dX8_lots_239 ?_
      replace hF := fg_ob_some hF
      obtain ⟨v29, ex_11, hF⟩ := hF
      refine fg_topi (Option.some.inj ex_11) ?_
      refine fg_istore X (L' := [(5, .int v29), (0, .ref a0), (2, .int i2), (3, .int i3), (4, .int i4), (6, .int i6), (7, .int i7)]) dX8_lots_240 (by decide) rfl ?_
      refine fg_iinc X (v := (i7 + (1 : Int32))) (L' := [(7, .int (i7 + (1 : Int32))), (5, .int v29), (0, .ref a0), (2, .int i2), (3, .int i3), (4, .int i4), (6, .int i6)]) dX8_lots_242 6 rfl rfl (by decide) rfl ?_
      refine fg_goto X (tgt := 190) dX8_lots_245 (by decide) ?_
      refine fg_sub [2, 3, 4, 5, 1, 6, 0] rfl ?_
      exact h190 _ (Option.some.inj hF).symm
    · rw [if_pos hc] at hF
      refine fg_aload_n X (r := (some a0)) dX8_lots_208 rfl 0 rfl ?_
      replace hF := fg_ob_some hF
      obtain ⟨r30, e_12, hF⟩ := hF
      refine fg_getr X ff_X8_s q1585 e_12 dX8_lots_209 ?_
      refine fg_iload X dX8_lots_212 6 rfl ?_
      replace hF := fg_ob_some hF
      obtain ⟨a31, rfl, hF⟩ := hF
      replace hF := fg_ob_some hF
      obtain ⟨x32, e_13, hF⟩ := hF
      refine fg_iald X e_13 dX8_lots_214 ?_
      refine fg_goto X (tgt := 239) dX8_lots_215 (by decide) ?_
      refine fg_iadd X dX8_lots_239 ?_
      replace hF := fg_ob_some hF
      obtain ⟨v33, ex_14, hF⟩ := hF
      refine fg_topi (Option.some.inj ex_14) ?_
      refine fg_istore X (L' := [(5, .int v33), (0, .ref a0), (2, .int i2), (3, .int i3), (4, .int i4), (6, .int i6), (7, .int i7)]) dX8_lots_240 (by decide) rfl ?_
      refine fg_iinc X (v := (i7 + (1 : Int32))) (L' := [(7, .int (i7 + (1 : Int32))), (5, .int v33), (0, .ref a0), (2, .int i2), (3, .int i3), (4, .int i4), (6, .int i6)]) dX8_lots_242 6 rfl rfl (by decide) rfl ?_
      refine fg_goto X (tgt := 190) dX8_lots_245 (by decide) ?_
      refine fg_sub [2, 3, 4, 5, 1, 6, 0] rfl ?_
      exact h190 _ (Option.some.inj hF).symm
set_option maxHeartbeats 4000000 in
seal fX8_lots_190b in
theorem wX8_lots_190 {Ω : fg_O} {a0 : Nat} {i2 : Int32} {i3 : Int32} {i4 : Int32} {i5 : Int32} {i6 : Int32} {i7 : Int32} {G : fg_H} {t : ((Nat × Int32 × Int32 × Int32 × Int32 × Int32 × fg_H) ⊕ (Int32 × fg_H))} (X : fg_X Ω RX8 "lots" cX8_lots 10 (some .int) 6) (hF : fX8_lots_190 a0 i2 i3 i4 i5 i6 i7 G = some t) (h73 : ∀ z, t = (.inl z) → fg_W Ω z.2.2.2.2.2.2 73 [(0, .ref z.1), (2, .int z.2.1), (3, .int z.2.2.1), (4, .int z.2.2.2.1), (5, .int z.2.2.2.2.1), (6, .int z.2.2.2.2.2.1)] []) (hT : ∀ u, t = (.inr u) → fg_T Ω (.returned (some (.int u.1))) u.2) : fg_W Ω G 190 [(0, .ref a0), (2, .int i2), (3, .int i3), (4, .int i4), (5, .int i5), (6, .int i6), (7, .int i7)] [] := by
  unfold fX8_lots_190 at hF
  exact fg_lp_walk (P := fun z => fg_W Ω z.2.2.2.2.2.2.2 190 [(0, .ref z.1), (2, .int z.2.1), (3, .int z.2.2.1), (4, .int z.2.2.2.1), (5, .int z.2.2.2.2.1), (6, .int z.2.2.2.2.2.1), (7, .int z.2.2.2.2.2.2.1)] []) (fun y o ho hl hr => wX8_lots_190b X ho (fun z e => h73 z (hr _ e).symm) (fun z e => hl z e) (fun u e => hT u (hr _ e).symm)) hF
set_option maxHeartbeats 4000000 in
theorem wX8_lots_168 {Ω : fg_O} {a0 : Nat} {i2 : Int32} {i3 : Int32} {i4 : Int32} {i5 : Int32} {i6 : Int32} {i7 : Int32} {i8 : Int32} {s0 : Nat} {s1 : Int32} {s2 : Int32} {s3 : Int32} {s4 : Int32} {G : fg_H} {t : ((Nat × Int32 × Int32 × Int32 × Int32 × Int32 × Int32 × Int32 × fg_H) ⊕ ((Nat × Int32 × Int32 × Int32 × Int32 × Int32 × Int32 × fg_H) ⊕ ((Nat × Int32 × Int32 × Int32 × Int32 × Int32 × fg_H) ⊕ (Int32 × fg_H))))} (X : fg_X Ω RX8 "lots" cX8_lots 10 (some .int) 6) (hF : fX8_lots_168 a0 i2 i3 i4 i5 i6 i7 i8 s0 s1 s2 s3 s4 G = some t) (h73 : ∀ z, t = (.inr (.inr (.inl z))) → fg_W Ω z.2.2.2.2.2.2 73 [(0, .ref z.1), (2, .int z.2.1), (3, .int z.2.2.1), (4, .int z.2.2.2.1), (5, .int z.2.2.2.2.1), (6, .int z.2.2.2.2.2.1)] []) (h82 : ∀ z, t = (.inr (.inl z)) → fg_W Ω z.2.2.2.2.2.2.2 82 [(0, .ref z.1), (2, .int z.2.1), (3, .int z.2.2.1), (4, .int z.2.2.2.1), (5, .int z.2.2.2.2.1), (6, .int z.2.2.2.2.2.1), (7, .int z.2.2.2.2.2.2.1)] []) (h95 : ∀ z, t = (.inl z) → fg_W Ω z.2.2.2.2.2.2.2.2 95 [(0, .ref z.1), (2, .int z.2.1), (3, .int z.2.2.1), (4, .int z.2.2.2.1), (5, .int z.2.2.2.2.1), (6, .int z.2.2.2.2.2.1), (7, .int z.2.2.2.2.2.2.1), (8, .int z.2.2.2.2.2.2.2.1)] []) (hT : ∀ u, t = (.inr (.inr (.inr u))) → fg_T Ω (.returned (some (.int u.1))) u.2) : fg_W Ω G 168 [(0, .ref a0), (2, .int i2), (3, .int i3), (4, .int i4), (5, .int i5), (6, .int i6), (7, .int i7), (8, .int i8)] [.int s4, .int s3, .int s2, .int s1, .ref s0] := by
  unfold fX8_lots_168 at hF
  replace hF := fg_gd_some hF
  obtain ⟨eg_1, hF⟩ := hF
  obtain ⟨fs_2, eo_3⟩ := fg_rc_get eg_1
  replace hF := fg_oc_some hF
  obtain ⟨u, G55, e_4, hF⟩ := hF
  refine fg_callV X (st := []) (mX8_blows Ω.2.2.2.2.1 Ω.1 e_4) q1917 q1919 qs82 q105 q1920 hd_X8_blows (by decide) rfl eo_3 (by decide) rfl rfl (Nat.le_of_ble_eq_true rfl) dX8_lots_168 ?_
  refine fg_iinc X (v := (i8 + (1 : Int32))) (L' := [(8, .int (i8 + (1 : Int32))), (0, .ref a0), (2, .int i2), (3, .int i3), (4, .int i4), (5, .int i5), (6, .int i6), (7, .int i7)]) dX8_lots_171 7 rfl rfl (by decide) rfl ?_
  refine fg_goto X (tgt := 95) dX8_lots_174 (by decide) ?_
  refine fg_sub [1, 2, 3, 4, 5, 6, 7, 0] rfl ?_
  exact h95 _ (Option.some.inj hF).symm
set_option maxHeartbeats 4000000 in
theorem wX8_lots_126 {Ω : fg_O} {a0 : Nat} {i2 : Int32} {i3 : Int32} {i4 : Int32} {i5 : Int32} {i6 : Int32} {i7 : Int32} {i8 : Int32} {s0 : Int32} {G : fg_H} {t : ((Nat × Int32 × Int32 × Int32 × Int32 × Int32 × Int32 × Int32 × fg_H) ⊕ ((Nat × Int32 × Int32 × Int32 × Int32 × Int32 × Int32 × fg_H) ⊕ ((Nat × Int32 × Int32 × Int32 × Int32 × Int32 × fg_H) ⊕ (Int32 × fg_H))))} (X : fg_X Ω RX8 "lots" cX8_lots 10 (some .int) 6) (hF : fX8_lots_126 a0 i2 i3 i4 i5 i6 i7 i8 s0 G = some t) (h73 : ∀ z, t = (.inr (.inr (.inl z))) → fg_W Ω z.2.2.2.2.2.2 73 [(0, .ref z.1), (2, .int z.2.1), (3, .int z.2.2.1), (4, .int z.2.2.2.1), (5, .int z.2.2.2.2.1), (6, .int z.2.2.2.2.2.1)] []) (h82 : ∀ z, t = (.inr (.inl z)) → fg_W Ω z.2.2.2.2.2.2.2 82 [(0, .ref z.1), (2, .int z.2.1), (3, .int z.2.2.1), (4, .int z.2.2.2.1), (5, .int z.2.2.2.2.1), (6, .int z.2.2.2.2.2.1), (7, .int z.2.2.2.2.2.2.1)] []) (h95 : ∀ z, t = (.inl z) → fg_W Ω z.2.2.2.2.2.2.2.2 95 [(0, .ref z.1), (2, .int z.2.1), (3, .int z.2.2.1), (4, .int z.2.2.2.1), (5, .int z.2.2.2.2.1), (6, .int z.2.2.2.2.2.1), (7, .int z.2.2.2.2.2.2.1), (8, .int z.2.2.2.2.2.2.2.1)] []) (hT : ∀ u, t = (.inr (.inr (.inr u))) → fg_T Ω (.returned (some (.int u.1))) u.2) : fg_W Ω G 126 [(0, .ref a0), (2, .int i2), (3, .int i3), (4, .int i4), (5, .int i5), (6, .int i6), (7, .int i7), (8, .int i8)] [.int s0] := by
  unfold fX8_lots_126 at hF
  refine fg_istore X (L' := [(9, .int s0), (0, .ref a0), (2, .int i2), (3, .int i3), (4, .int i4), (5, .int i5), (6, .int i6), (7, .int i7), (8, .int i8)]) dX8_lots_126 (by decide) rfl ?_
  refine fg_aload_n X (r := (some a0)) dX8_lots_128 rfl 1 rfl ?_
  refine fg_aload_n X (r := (some a0)) dX8_lots_129 rfl 1 rfl ?_
  replace hF := fg_gd_some hF
  obtain ⟨eg_1, hF⟩ := hF
  obtain ⟨fs_2, eo_3⟩ := fg_rc_get eg_1
  replace hF := fg_oc_some hF
  obtain ⟨x46, G45, e_4, hF⟩ := hF
  refine fg_callV X (st := [.ref a0]) (mX8_all Ω.2.2.2.2.1 Ω.1 e_4) q1885 q1887 qs75 q105 q1888 hd_X8_all (by decide) rfl eo_3 (by decide) rfl rfl (Nat.le_of_ble_eq_true rfl) dX8_lots_130 ?_
  refine fg_iload X dX8_lots_133 8 rfl ?_
  refine fg_aload_n X (r := (some a0)) dX8_lots_135 rfl 1 rfl ?_
  replace hF := fg_ob_some hF
  obtain ⟨r47, e_5, hF⟩ := hF
  refine fg_getr X ff_X8_s q1585 e_5 dX8_lots_136 ?_
  refine fg_bipush X (v := (50 : Int32)) dX8_lots_139 (by decide) ?_
  replace hF := fg_ob_some hF
  obtain ⟨a48, rfl, hF⟩ := hF
  replace hF := fg_ob_some hF
  obtain ⟨x49, e_6, hF⟩ := hF
  refine fg_iald X e_6 dX8_lots_141 ?_
  refine fg_iload X dX8_lots_142 0 rfl ?_
  refine fg_if_eq X (tgt := 155) dX8_lots_144 (by decide) (fun hc => ?_) (fun hc => ?_)
  · rw [if_pos hc] at hF
    refine fg_aload_n X (r := (some a0)) dX8_lots_155 rfl 1 rfl ?_
    refine fg_iload X dX8_lots_156 8 rfl ?_
    refine fg_aload_n X (r := (some a0)) dX8_lots_158 rfl 1 rfl ?_
    replace hF := fg_ob_some hF
    obtain ⟨r50, e_7, hF⟩ := hF
    refine fg_getr X ff_X8_s q1585 e_7 dX8_lots_159 ?_
    refine fg_bipush X (v := (50 : Int32)) dX8_lots_162 (by decide) ?_
    replace hF := fg_ob_some hF
    obtain ⟨a51, rfl, hF⟩ := hF
    replace hF := fg_ob_some hF
    obtain ⟨x52, e_8, hF⟩ := hF
    refine fg_iald X e_8 dX8_lots_164 ?_
    replace hF := fg_gd_some hF
    obtain ⟨eg_9, hF⟩ := hF
    obtain ⟨fs_10, eo_11⟩ := fg_rc_get eg_9
    replace hF := fg_oc_some hF
    obtain ⟨x54, G53, e_12, hF⟩ := hF
    refine fg_callV X (st := [.int x49, .int i8, .int x46, .ref a0]) (mX8_windAt Ω.2.2.2.2.1 Ω.1 e_12) q1852 q1854 qs68 q105 q1855 hd_X8_windAt (by decide) rfl eo_11 (by decide) rfl rfl (Nat.le_of_ble_eq_true rfl) dX8_lots_165 ?_
    refine fg_sub [1, 2, 3, 4, 5, 6, 7, 8] rfl ?_
    exact wX8_lots_168 X hF h73 h82 h95 hT
  · rw [if_neg hc] at hF
    refine fg_aload_n X (r := (some a0)) dX8_lots_147 rfl 1 rfl ?_
    refine fg_iconst X (v := (4 : Int32)) dX8_lots_148 (by decide) ?_
    replace hF := fg_gd_some hF
    obtain ⟨eg_13, hF⟩ := hF
    obtain ⟨fs_14, eo_15⟩ := fg_rc_get eg_13
    replace hF := fg_oc_some hF
    obtain ⟨x57, G56, e_16, hF⟩ := hF
    refine fg_callV X (st := [.int x49, .int i8, .int x46, .ref a0]) (mX8_draws Ω.2.2.2.2.1 Ω.1 e_16) q2030 q2032 qs91 q105 q2033 hd_X8_draws (by decide) rfl eo_15 (by decide) rfl rfl (Nat.le_of_ble_eq_true rfl) dX8_lots_149 ?_
    refine fg_goto X (tgt := 168) dX8_lots_152 (by decide) ?_
    refine fg_sub [1, 2, 3, 4, 5, 6, 7, 8] rfl ?_
    exact wX8_lots_168 X hF h73 h82 h95 hT
set_option maxHeartbeats 4000000 in
theorem wX8_lots_95b {Ω : fg_O} {a0 : Nat} {i2 : Int32} {i3 : Int32} {i4 : Int32} {i5 : Int32} {i6 : Int32} {i7 : Int32} {i8 : Int32} {G : fg_H} {t : ((Nat × Int32 × Int32 × Int32 × Int32 × Int32 × Int32 × Int32 × fg_H) ⊕ ((Nat × Int32 × Int32 × Int32 × Int32 × Int32 × Int32 × fg_H) ⊕ ((Nat × Int32 × Int32 × Int32 × Int32 × Int32 × fg_H) ⊕ (Int32 × fg_H))))} (X : fg_X Ω RX8 "lots" cX8_lots 10 (some .int) 6) (hF : fX8_lots_95b a0 i2 i3 i4 i5 i6 i7 i8 G = some t) (h73 : ∀ z, t = (.inr (.inr (.inl z))) → fg_W Ω z.2.2.2.2.2.2 73 [(0, .ref z.1), (2, .int z.2.1), (3, .int z.2.2.1), (4, .int z.2.2.2.1), (5, .int z.2.2.2.2.1), (6, .int z.2.2.2.2.2.1)] []) (h82 : ∀ z, t = (.inr (.inl z)) → fg_W Ω z.2.2.2.2.2.2.2 82 [(0, .ref z.1), (2, .int z.2.1), (3, .int z.2.2.1), (4, .int z.2.2.2.1), (5, .int z.2.2.2.2.1), (6, .int z.2.2.2.2.2.1), (7, .int z.2.2.2.2.2.2.1)] []) (h95 : ∀ z, t = (.inl z) → fg_W Ω z.2.2.2.2.2.2.2.2 95 [(0, .ref z.1), (2, .int z.2.1), (3, .int z.2.2.1), (4, .int z.2.2.2.1), (5, .int z.2.2.2.2.1), (6, .int z.2.2.2.2.2.1), (7, .int z.2.2.2.2.2.2.1), (8, .int z.2.2.2.2.2.2.2.1)] []) (hT : ∀ u, t = (.inr (.inr (.inr u))) → fg_T Ω (.returned (some (.int u.1))) u.2) : fg_W Ω G 95 [(0, .ref a0), (2, .int i2), (3, .int i3), (4, .int i4), (5, .int i5), (6, .int i6), (7, .int i7), (8, .int i8)] [] := by
  unfold fX8_lots_95b at hF
  refine fg_iload X dX8_lots_95 7 rfl ?_
  refine fg_aload_n X (r := (some a0)) dX8_lots_97 rfl 0 rfl ?_
  replace hF := fg_ob_some hF
  obtain ⟨r35, e_1, hF⟩ := hF
  refine fg_getr X ff_X8_ridge q1558 e_1 dX8_lots_98 ?_
  refine fg_iconst X (v := (2 : Int32)) dX8_lots_101 (by decide) ?_
  replace hF := fg_ob_some hF
  obtain ⟨a36, rfl, hF⟩ := hF
  replace hF := fg_ob_some hF
  obtain ⟨x37, e_2, hF⟩ := hF
  refine fg_iald X e_2 dX8_lots_102 ?_
  refine fg_icmp_ge X (tgt := 177) dX8_lots_103 (by decide) (fun hc => ?_) (fun hc => ?_)
  · rw [if_pos hc] at hF
    replace hF := fg_rt_some hF
    obtain ⟨t38, hF, ht_3⟩ := hF
    subst ht_3
    replace h73 := fun z q => h73 z (congrArg Sum.inr q)
    replace h82 := fun z q => h82 z (congrArg Sum.inr q)
    replace hT := fun u q => hT u (congrArg Sum.inr q)
    refine fg_aload_n X (r := (some a0)) dX8_lots_177 rfl 0 rfl ?_
    replace hF := fg_gd_some hF
    obtain ⟨eg_4, hF⟩ := hF
    obtain ⟨fs_5, eo_6⟩ := fg_rc_get eg_4
    replace hF := fg_oc_some hF
    obtain ⟨u, G39, e_7, hF⟩ := hF
    refine fg_callV X (st := []) (mX8_ends0 Ω.2.2.2.2.1 Ω.1 e_7) q1921 q1923 qs83 q105 q1924 hd_X8_ends0 (by decide) rfl eo_6 (by decide) rfl rfl (Nat.le_of_ble_eq_true rfl) dX8_lots_178 ?_
    refine fg_iinc X (v := (i7 + (1 : Int32))) (L' := [(7, .int (i7 + (1 : Int32))), (0, .ref a0), (2, .int i2), (3, .int i3), (4, .int i4), (5, .int i5), (6, .int i6), (8, .int i8)]) dX8_lots_181 6 rfl rfl (by decide) rfl ?_
    refine fg_goto X (tgt := 82) dX8_lots_184 (by decide) ?_
    refine fg_sub [1, 2, 3, 4, 5, 6, 0] rfl ?_
    exact h82 _ (Option.some.inj hF).symm
  · rw [if_neg hc] at hF
    refine fg_aload_n X (r := (some a0)) dX8_lots_106 rfl 0 rfl ?_
    refine fg_bipush X (v := (10 : Int32)) dX8_lots_107 (by decide) ?_
    replace hF := fg_gd_some hF
    obtain ⟨eg_8, hF⟩ := hF
    obtain ⟨fs_9, eo_10⟩ := fg_rc_get eg_8
    replace hF := fg_oc_some hF
    obtain ⟨x41, G40, e_11, hF⟩ := hF
    refine fg_callV X (st := []) (mX8_draws Ω.2.2.2.2.1 Ω.1 e_11) q2030 q2032 qs91 q105 q2033 hd_X8_draws (by decide) rfl eo_10 (by decide) rfl rfl (Nat.le_of_ble_eq_true rfl) dX8_lots_109 ?_
    refine fg_aload_n X (r := (some a0)) dX8_lots_112 rfl 0 rfl ?_
    replace hF := fg_ob_some hF
    obtain ⟨r42, e_12, hF⟩ := hF
    refine fg_getr X ff_X8_ridge q1558 e_12 dX8_lots_113 ?_
    refine fg_iconst X (v := (4 : Int32)) dX8_lots_116 (by decide) ?_
    replace hF := fg_ob_some hF
    obtain ⟨a43, rfl, hF⟩ := hF
    replace hF := fg_ob_some hF
    obtain ⟨x44, e_13, hF⟩ := hF
    refine fg_iald X e_13 dX8_lots_117 ?_
    refine fg_icmp_ge X (tgt := 125) dX8_lots_118 (by decide) (fun hc => ?_) (fun hc => ?_)
    · rw [if_pos hc] at hF
      refine fg_iconst X (v := (0 : Int32)) dX8_lots_125 (by decide) ?_
      refine fg_sub [0, 1, 2, 3, 4, 5, 6, 7] rfl ?_
      exact wX8_lots_126 X hF h73 h82 h95 hT
    · rw [if_neg hc] at hF
      refine fg_iconst X (v := (1 : Int32)) dX8_lots_121 (by decide) ?_
      refine fg_goto X (tgt := 126) dX8_lots_122 (by decide) ?_
      refine fg_sub [0, 1, 2, 3, 4, 5, 6, 7] rfl ?_
      exact wX8_lots_126 X hF h73 h82 h95 hT
set_option maxHeartbeats 4000000 in
seal fX8_lots_95b in
theorem wX8_lots_95 {Ω : fg_O} {a0 : Nat} {i2 : Int32} {i3 : Int32} {i4 : Int32} {i5 : Int32} {i6 : Int32} {i7 : Int32} {i8 : Int32} {G : fg_H} {t : ((Nat × Int32 × Int32 × Int32 × Int32 × Int32 × Int32 × fg_H) ⊕ ((Nat × Int32 × Int32 × Int32 × Int32 × Int32 × fg_H) ⊕ (Int32 × fg_H)))} (X : fg_X Ω RX8 "lots" cX8_lots 10 (some .int) 6) (hF : fX8_lots_95 a0 i2 i3 i4 i5 i6 i7 i8 G = some t) (h73 : ∀ z, t = (.inr (.inl z)) → fg_W Ω z.2.2.2.2.2.2 73 [(0, .ref z.1), (2, .int z.2.1), (3, .int z.2.2.1), (4, .int z.2.2.2.1), (5, .int z.2.2.2.2.1), (6, .int z.2.2.2.2.2.1)] []) (h82 : ∀ z, t = (.inl z) → fg_W Ω z.2.2.2.2.2.2.2 82 [(0, .ref z.1), (2, .int z.2.1), (3, .int z.2.2.1), (4, .int z.2.2.2.1), (5, .int z.2.2.2.2.1), (6, .int z.2.2.2.2.2.1), (7, .int z.2.2.2.2.2.2.1)] []) (hT : ∀ u, t = (.inr (.inr u)) → fg_T Ω (.returned (some (.int u.1))) u.2) : fg_W Ω G 95 [(0, .ref a0), (2, .int i2), (3, .int i3), (4, .int i4), (5, .int i5), (6, .int i6), (7, .int i7), (8, .int i8)] [] := by
  unfold fX8_lots_95 at hF
  exact fg_lp_walk (P := fun z => fg_W Ω z.2.2.2.2.2.2.2.2 95 [(0, .ref z.1), (2, .int z.2.1), (3, .int z.2.2.1), (4, .int z.2.2.2.1), (5, .int z.2.2.2.2.1), (6, .int z.2.2.2.2.2.1), (7, .int z.2.2.2.2.2.2.1), (8, .int z.2.2.2.2.2.2.2.1)] []) (fun y o ho hl hr => wX8_lots_95b X ho (fun z e => h73 z (hr _ e).symm) (fun z e => h82 z (hr _ e).symm) (fun z e => hl z e) (fun u e => hT u (hr _ e).symm)) hF
set_option maxHeartbeats 4000000 in
theorem wX8_lots_82b {Ω : fg_O} {a0 : Nat} {i2 : Int32} {i3 : Int32} {i4 : Int32} {i5 : Int32} {i6 : Int32} {i7 : Int32} {G : fg_H} {t : ((Nat × Int32 × Int32 × Int32 × Int32 × Int32 × Int32 × fg_H) ⊕ ((Nat × Int32 × Int32 × Int32 × Int32 × Int32 × fg_H) ⊕ (Int32 × fg_H)))} (X : fg_X Ω RX8 "lots" cX8_lots 10 (some .int) 6) (hF : fX8_lots_82b a0 i2 i3 i4 i5 i6 i7 G = some t) (h73 : ∀ z, t = (.inr (.inl z)) → fg_W Ω z.2.2.2.2.2.2 73 [(0, .ref z.1), (2, .int z.2.1), (3, .int z.2.2.1), (4, .int z.2.2.2.1), (5, .int z.2.2.2.2.1), (6, .int z.2.2.2.2.2.1)] []) (h82 : ∀ z, t = (.inl z) → fg_W Ω z.2.2.2.2.2.2.2 82 [(0, .ref z.1), (2, .int z.2.1), (3, .int z.2.2.1), (4, .int z.2.2.2.1), (5, .int z.2.2.2.2.1), (6, .int z.2.2.2.2.2.1), (7, .int z.2.2.2.2.2.2.1)] []) (hT : ∀ u, t = (.inr (.inr u)) → fg_T Ω (.returned (some (.int u.1))) u.2) : fg_W Ω G 82 [(0, .ref a0), (2, .int i2), (3, .int i3), (4, .int i4), (5, .int i5), (6, .int i6), (7, .int i7)] [] := by
  unfold fX8_lots_82b at hF
  refine fg_iload X dX8_lots_82 6 rfl ?_
  refine fg_iload_n X dX8_lots_84 rfl 2 rfl ?_
  refine fg_icmp_ge X (tgt := 187) dX8_lots_85 (by decide) (fun hc => ?_) (fun hc => ?_)
  · rw [if_pos hc] at hF
    replace hF := fg_rt_some hF
    obtain ⟨t15, hF, ht_1⟩ := hF
    subst ht_1
    replace h73 := fun z q => h73 z (congrArg Sum.inr q)
    replace hT := fun u q => hT u (congrArg Sum.inr q)
    refine fg_iconst X (v := (0 : Int32)) dX8_lots_187 (by decide) ?_
    refine fg_istore X (L' := [(7, .int (0 : Int32)), (0, .ref a0), (2, .int i2), (3, .int i3), (4, .int i4), (5, .int i5), (6, .int i6)]) dX8_lots_188 (by decide) rfl ?_
    refine fg_sub [1, 2, 3, 4, 5, 6, 0] rfl ?_
    exact wX8_lots_190 X hF h73 hT
  · rw [if_neg hc] at hF
    refine fg_aload_n X (r := (some a0)) dX8_lots_88 rfl 0 rfl ?_
    replace hF := fg_gd_some hF
    obtain ⟨eg_2, hF⟩ := hF
    obtain ⟨fs_3, eo_4⟩ := fg_rc_get eg_2
    replace hF := fg_oc_some hF
    obtain ⟨u, G34, e_5, hF⟩ := hF
    refine fg_callV X (st := []) (mX8_clears Ω.2.2.2.2.1 Ω.1 e_5) q1913 q1915 qs81 q105 q1916 hd_X8_clears (by decide) rfl eo_4 (by decide) rfl rfl (Nat.le_of_ble_eq_true rfl) dX8_lots_89 ?_
    refine fg_iconst X (v := (0 : Int32)) dX8_lots_92 (by decide) ?_
    refine fg_istore X (L' := [(8, .int (0 : Int32)), (0, .ref a0), (2, .int i2), (3, .int i3), (4, .int i4), (5, .int i5), (6, .int i6), (7, .int i7)]) dX8_lots_93 (by decide) rfl ?_
    refine fg_sub [1, 2, 3, 4, 5, 6, 7, 0] rfl ?_
    exact wX8_lots_95 X hF h73 h82 hT
set_option maxHeartbeats 4000000 in
seal fX8_lots_82b in
theorem wX8_lots_82 {Ω : fg_O} {a0 : Nat} {i2 : Int32} {i3 : Int32} {i4 : Int32} {i5 : Int32} {i6 : Int32} {i7 : Int32} {G : fg_H} {t : ((Nat × Int32 × Int32 × Int32 × Int32 × Int32 × fg_H) ⊕ (Int32 × fg_H))} (X : fg_X Ω RX8 "lots" cX8_lots 10 (some .int) 6) (hF : fX8_lots_82 a0 i2 i3 i4 i5 i6 i7 G = some t) (h73 : ∀ z, t = (.inl z) → fg_W Ω z.2.2.2.2.2.2 73 [(0, .ref z.1), (2, .int z.2.1), (3, .int z.2.2.1), (4, .int z.2.2.2.1), (5, .int z.2.2.2.2.1), (6, .int z.2.2.2.2.2.1)] []) (hT : ∀ u, t = (.inr u) → fg_T Ω (.returned (some (.int u.1))) u.2) : fg_W Ω G 82 [(0, .ref a0), (2, .int i2), (3, .int i3), (4, .int i4), (5, .int i5), (6, .int i6), (7, .int i7)] [] := by
  unfold fX8_lots_82 at hF
  exact fg_lp_walk (P := fun z => fg_W Ω z.2.2.2.2.2.2.2 82 [(0, .ref z.1), (2, .int z.2.1), (3, .int z.2.2.1), (4, .int z.2.2.2.1), (5, .int z.2.2.2.2.1), (6, .int z.2.2.2.2.2.1), (7, .int z.2.2.2.2.2.2.1)] []) (fun y o ho hl hr => wX8_lots_82b X ho (fun z e => h73 z (hr _ e).symm) (fun z e => hl z e) (fun u e => hT u (hr _ e).symm)) hF
set_option maxHeartbeats 4000000 in
theorem wX8_lots_73b {Ω : fg_O} {a0 : Nat} {i2 : Int32} {i3 : Int32} {i4 : Int32} {i5 : Int32} {i6 : Int32} {G : fg_H} {t : ((Nat × Int32 × Int32 × Int32 × Int32 × Int32 × fg_H) ⊕ (Int32 × fg_H))} (X : fg_X Ω RX8 "lots" cX8_lots 10 (some .int) 6) (hF : fX8_lots_73b a0 i2 i3 i4 i5 i6 G = some t) (h73 : ∀ z, t = (.inl z) → fg_W Ω z.2.2.2.2.2.2 73 [(0, .ref z.1), (2, .int z.2.1), (3, .int z.2.2.1), (4, .int z.2.2.2.1), (5, .int z.2.2.2.2.1), (6, .int z.2.2.2.2.2.1)] []) (hT : ∀ u, t = (.inr u) → fg_T Ω (.returned (some (.int u.1))) u.2) : fg_W Ω G 73 [(0, .ref a0), (2, .int i2), (3, .int i3), (4, .int i4), (5, .int i5), (6, .int i6)] [] := by
  unfold fX8_lots_73b at hF
  refine fg_iload X dX8_lots_73 5 rfl ?_
  refine fg_iload_n X dX8_lots_75 rfl 1 rfl ?_
  refine fg_icmp_ge X (tgt := 267) dX8_lots_76 (by decide) (fun hc => ?_) (fun hc => ?_)
  · rw [if_pos hc] at hF
    replace hF := fg_rt_some hF
    obtain ⟨t14, hF, ht_1⟩ := hF
    subst ht_1
    replace hT := hT _ rfl
    refine fg_iload X dX8_lots_267 4 rfl ?_
    cases hF
    exact fg_iret X dX8_lots_269 (hT)
  · rw [if_neg hc] at hF
    refine fg_iconst X (v := (0 : Int32)) dX8_lots_79 (by decide) ?_
    refine fg_istore X (L' := [(7, .int (0 : Int32)), (0, .ref a0), (2, .int i2), (3, .int i3), (4, .int i4), (5, .int i5), (6, .int i6)]) dX8_lots_80 (by decide) rfl ?_
    refine fg_sub [1, 2, 3, 4, 5, 6, 0] rfl ?_
    exact wX8_lots_82 X hF h73 hT
set_option maxHeartbeats 4000000 in
seal fX8_lots_73b in
theorem wX8_lots_73 {Ω : fg_O} {a0 : Nat} {i2 : Int32} {i3 : Int32} {i4 : Int32} {i5 : Int32} {i6 : Int32} {G : fg_H} {t : (Int32 × fg_H)} (X : fg_X Ω RX8 "lots" cX8_lots 10 (some .int) 6) (hF : fX8_lots_73 a0 i2 i3 i4 i5 i6 G = some t) (hT : fg_T Ω (.returned (some (.int t.1))) t.2) : fg_W Ω G 73 [(0, .ref a0), (2, .int i2), (3, .int i3), (4, .int i4), (5, .int i5), (6, .int i6)] [] := by
  unfold fX8_lots_73 at hF
  exact fg_lp_walk (P := fun z => fg_W Ω z.2.2.2.2.2.2 73 [(0, .ref z.1), (2, .int z.2.1), (3, .int z.2.2.1), (4, .int z.2.2.2.1), (5, .int z.2.2.2.2.1), (6, .int z.2.2.2.2.2.1)] []) (fun y o ho hl hr => wX8_lots_73b X ho (fun z e => hl z e) (fun u e => by rw [hr _ e]; exact hT)) hF
set_option maxHeartbeats 4000000 in
theorem wX8_lots {Ω : fg_O} {a0 : Nat} {i1 : Int32} {i2 : Int32} {i3 : Int32} {i4 : Int32} {G : fg_H} {t : Int32 × fg_H} (X : fg_X Ω RX8 "lots" cX8_lots 10 (some .int) 6) (hF : fX8_lots a0 i1 i2 i3 i4 G = some t) (hT : fg_T Ω (.returned (some (.int t.1))) t.2) : fg_W Ω G 0 [(0, .ref a0), (1, .int i1), (2, .int i2), (3, .int i3), (4, .int i4)] [] := by
  unfold fX8_lots at hF
  refine fg_aload_n X (r := (some a0)) dX8_lots_0 rfl 0 rfl ?_
  refine fg_iconst X (v := (0 : Int32)) dX8_lots_1 (by decide) ?_
  replace hF := fg_ob_some hF
  obtain ⟨G1, e_1, hF⟩ := hF
  refine fg_putv X (ty := .int) (v := .int (0 : Int32)) ff_X8_thrown q1548 rfl (Or.inl rfl) rfl rfl rfl e_1 dX8_lots_2 ?_
  refine fg_iload_n X dX8_lots_5 rfl 1 rfl ?_
  refine fg_iconst X (v := (0 : Int32)) dX8_lots_6 (by decide) ?_
  refine fg_sipush X (v := (9999 : Int32)) dX8_lots_7 (by decide) ?_
  replace hF := fg_oc_some hF
  obtain ⟨x3, G2, e_2, hF⟩ := hF
  refine fg_callS X (st := []) (mX8_within Ω.2.2.2.2.1 Ω.1 e_2) q1738 q1739 q105 q1740 hd_X8_within (by decide) rfl rfl (Nat.le_of_ble_eq_true rfl) dX8_lots_10 ?_
  refine fg_if_eq X (tgt := 46) dX8_lots_13 (by decide) (fun hc => ?_) (fun hc => ?_)
  · rw [if_pos hc] at hF
    refine fg_iconst X (v := (-1 : Int32)) dX8_lots_46 (by decide) ?_
    cases hF
    exact fg_iret X dX8_lots_47 (hT)
  · rw [if_neg hc] at hF
    refine fg_iload_n X dX8_lots_16 rfl 2 rfl ?_
    refine fg_iconst X (v := (1 : Int32)) dX8_lots_17 (by decide) ?_
    refine fg_bipush X (v := (20 : Int32)) dX8_lots_18 (by decide) ?_
    replace hF := fg_oc_some hF
    obtain ⟨x5, G4, e_3, hF⟩ := hF
    refine fg_callS X (st := []) (mX8_within Ω.2.2.2.2.1 Ω.1 e_3) q1738 q1739 q105 q1740 hd_X8_within (by decide) rfl rfl (Nat.le_of_ble_eq_true rfl) dX8_lots_20 ?_
    refine fg_if_eq X (tgt := 46) dX8_lots_23 (by decide) (fun hc => ?_) (fun hc => ?_)
    · rw [if_pos hc] at hF
      refine fg_iconst X (v := (-1 : Int32)) dX8_lots_46 (by decide) ?_
      cases hF
      exact fg_iret X dX8_lots_47 (hT)
    · rw [if_neg hc] at hF
      refine fg_iload_n X dX8_lots_26 rfl 3 rfl ?_
      refine fg_iconst X (v := (1 : Int32)) dX8_lots_27 (by decide) ?_
      refine fg_bipush X (v := (30 : Int32)) dX8_lots_28 (by decide) ?_
      replace hF := fg_oc_some hF
      obtain ⟨x7, G6, e_4, hF⟩ := hF
      refine fg_callS X (st := []) (mX8_within Ω.2.2.2.2.1 Ω.1 e_4) q1738 q1739 q105 q1740 hd_X8_within (by decide) rfl rfl (Nat.le_of_ble_eq_true rfl) dX8_lots_30 ?_
      refine fg_if_eq X (tgt := 46) dX8_lots_33 (by decide) (fun hc => ?_) (fun hc => ?_)
      · rw [if_pos hc] at hF
        refine fg_iconst X (v := (-1 : Int32)) dX8_lots_46 (by decide) ?_
        cases hF
        exact fg_iret X dX8_lots_47 (hT)
      · rw [if_neg hc] at hF
        refine fg_iload X dX8_lots_36 4 rfl ?_
        refine fg_iconst X (v := (0 : Int32)) dX8_lots_38 (by decide) ?_
        refine fg_iconst X (v := (1 : Int32)) dX8_lots_39 (by decide) ?_
        replace hF := fg_oc_some hF
        obtain ⟨x9, G8, e_5, hF⟩ := hF
        refine fg_callS X (st := []) (mX8_within Ω.2.2.2.2.1 Ω.1 e_5) q1738 q1739 q105 q1740 hd_X8_within (by decide) rfl rfl (Nat.le_of_ble_eq_true rfl) dX8_lots_40 ?_
        refine fg_if_ne X (tgt := 48) dX8_lots_43 (by decide) (fun hc => ?_) (fun hc => ?_)
        · rw [if_neg hc] at hF
          refine fg_aload_n X (r := (some a0)) dX8_lots_48 rfl 0 rfl ?_
          refine fg_iload_n X dX8_lots_49 rfl 1 rfl ?_
          refine fg_i2l X dX8_lots_50 ?_
          replace hF := fg_ob_some hF
          obtain ⟨G10, e_6, hF⟩ := hF
          refine fg_putv X (ty := .long) (v := .long (i1).toInt64) ff_X8_g q1593 rfl (Or.inl rfl) rfl rfl rfl e_6 dX8_lots_51 ?_
          refine fg_aload_n X (r := (some a0)) dX8_lots_54 rfl 0 rfl ?_
          replace hF := fg_ob_some hF
          obtain ⟨r11, e_7, hF⟩ := hF
          refine fg_getr X ff_X8_s q1585 e_7 dX8_lots_55 ?_
          refine fg_iconst X (v := (0 : Int32)) dX8_lots_58 (by decide) ?_
          refine fg_aload_n X (r := (some a0)) dX8_lots_59 rfl 0 rfl ?_
          replace hF := fg_ob_some hF
          obtain ⟨r12, e_8, hF⟩ := hF
          refine fg_getr X ff_X8_aside q1586 e_8 dX8_lots_60 ?_
          refine fg_iconst X (v := (0 : Int32)) dX8_lots_63 (by decide) ?_
          replace hF := fg_oc_some hF
          obtain ⟨u, G13, e_9, hF⟩ := hF
          refine fg_callS X (st := []) (mX8_copies Ω.2.2.2.2.1 Ω.1 e_9) q1965 q1966 q105 q1967 hd_X8_copies (by decide) rfl rfl (Nat.le_of_ble_eq_true rfl) dX8_lots_64 ?_
          refine fg_iconst X (v := (0 : Int32)) dX8_lots_67 (by decide) ?_
          refine fg_istore X (L' := [(5, .int (0 : Int32)), (0, .ref a0), (1, .int i1), (2, .int i2), (3, .int i3), (4, .int i4)]) dX8_lots_68 (by decide) rfl ?_
          refine fg_iconst X (v := (0 : Int32)) dX8_lots_70 (by decide) ?_
          refine fg_istore X (L' := [(6, .int (0 : Int32)), (5, .int (0 : Int32)), (0, .ref a0), (1, .int i1), (2, .int i2), (3, .int i3), (4, .int i4)]) dX8_lots_71 (by decide) rfl ?_
          refine fg_sub [2, 4, 5, 6, 1, 0] rfl ?_
          exact wX8_lots_73 X hF hT
        · rw [if_pos hc] at hF
          refine fg_iconst X (v := (-1 : Int32)) dX8_lots_46 (by decide) ?_
          cases hF
          exact fg_iret X dX8_lots_47 (hT)
theorem mX8_lots (l : Launch) (D : fg_D) {a0 : Nat} {i1 : Int32} {i2 : Int32} {i3 : Int32} {i4 : Int32} {G : fg_H} {t : Int32 × fg_H} (hF : fX8_lots a0 i1 i2 i3 i4 G = some t) : fg_M l D yX8_lots cX8_lots 10 (some .int) 6 [.ref a0, .int i1, .int i2, .int i3, .int i4] G (.returned (some (.int t.1))) t.2 :=
  fg_Mof (own := RX8) (nm := "lots") (L := [(0, .ref a0), (1, .int i1), (2, .int i2), (3, .int i3), (4, .int i4)]) (plainFor_of_name pn_X8) rfl rfl rfl (Nat.le_of_ble_eq_true rfl) (fun Ω _ _ X hT => wX8_lots X hF hT)
theorem hd_X8_mark : yX8_mark.cls ≠ "java/lang/invoke/MethodHandle" ∧ yX8_mark.cls ≠ "java/lang/invoke/VarHandle" ∧ (parseMethodDescriptor yX8_mark.desc).map (fun d => d.parameters.length) = some 2 := ⟨by decide +kernel, by decide +kernel, by decide +kernel⟩
set_option maxHeartbeats 4000000 in
theorem wX8_mark_29 {Ω : fg_O} {a0 : Nat} {i1 : Int32} {i2 : Int32} {G : fg_H} {t : (Int32 × fg_H)} (X : fg_X Ω RX8 "mark" cX8_mark 3 (some .boolean) 2) (hF : fX8_mark_29 a0 i1 i2 G = some t) (hT : fg_T Ω (.returned (some (.int t.1))) t.2) : fg_W Ω G 29 [(0, .ref a0), (1, .int i1), (2, .int i2)] [] := by
  unfold fX8_mark_29 at hF
  refine fg_aload_n X (r := (some a0)) dX8_mark_29 rfl 0 rfl ?_
  replace hF := fg_ob_some hF
  obtain ⟨r4, e_1, hF⟩ := hF
  refine fg_getr X ff_X8_isLaid q1594 e_1 dX8_mark_30 ?_
  refine fg_iload_n X dX8_mark_33 rfl 1 rfl ?_
  refine fg_iconst X (v := (1 : Int32)) dX8_mark_34 (by decide) ?_
  replace hF := fg_ob_some hF
  obtain ⟨a5, rfl, hF⟩ := hF
  replace hF := fg_ob_some hF
  obtain ⟨G6, e_2, hF⟩ := hF
  refine fg_zast X e_2 dX8_mark_35 ?_
  refine fg_iload_n X dX8_mark_36 rfl 2 rfl ?_
  refine fg_if_eq X (tgt := 66) dX8_mark_37 (by decide) (fun hc => ?_) (fun hc => ?_)
  · rw [if_pos hc] at hF
    refine fg_aload_n X (r := (some a0)) dX8_mark_66 rfl 0 rfl ?_
    refine fg_iconst X (v := (0 : Int32)) dX8_mark_67 (by decide) ?_
    refine fg_iconst X (v := (2 : Int32)) dX8_mark_68 (by decide) ?_
    refine fg_iload_n X dX8_mark_69 rfl 1 rfl ?_
    refine fg_iadd X dX8_mark_70 ?_
    replace hF := fg_gd_some hF
    obtain ⟨eg_3, hF⟩ := hF
    obtain ⟨fs_4, eo_5⟩ := fg_rc_get eg_3
    replace hF := fg_oc_some hF
    obtain ⟨u, G7, e_6, hF⟩ := hF
    refine fg_callV X (st := []) (mX8_lays Ω.2.2.2.2.1 Ω.1 e_6) q1817 q1819 qs63 q105 q1820 hd_X8_lays (by decide) rfl eo_5 (by decide) rfl rfl (Nat.le_of_ble_eq_true rfl) dX8_mark_71 ?_
    refine fg_aload_n X (r := (some a0)) dX8_mark_74 rfl 0 rfl ?_
    replace hF := fg_ob_some hF
    obtain ⟨r8, e_7, hF⟩ := hF
    refine fg_getr X ff_X8_s q1585 e_7 dX8_mark_75 ?_
    refine fg_iconst X (v := (0 : Int32)) dX8_mark_78 (by decide) ?_
    refine fg_aload_n X (r := (some a0)) dX8_mark_79 rfl 0 rfl ?_
    replace hF := fg_ob_some hF
    obtain ⟨r9, e_8, hF⟩ := hF
    refine fg_getr X ff_X8_marked q1587 e_8 dX8_mark_80 ?_
    refine fg_bipush X (v := (80 : Int32)) dX8_mark_83 (by decide) ?_
    refine fg_iload_n X dX8_mark_85 rfl 1 rfl ?_
    refine fg_imul X dX8_mark_86 ?_
    replace hF := fg_oc_some hF
    obtain ⟨u, G10, e_9, hF⟩ := hF
    refine fg_callS X (st := []) (mX8_copies Ω.2.2.2.2.1 Ω.1 e_9) q1965 q1966 q105 q1967 hd_X8_copies (by decide) rfl rfl (Nat.le_of_ble_eq_true rfl) dX8_mark_87 ?_
    refine fg_iconst X (v := (1 : Int32)) dX8_mark_90 (by decide) ?_
    cases hF
    exact fg_zret X (by decide) dX8_mark_91 (hT)
  · rw [if_neg hc] at hF
    refine fg_aload_n X (r := (some a0)) dX8_mark_40 rfl 0 rfl ?_
    refine fg_iconst X (v := (2 : Int32)) dX8_mark_41 (by decide) ?_
    refine fg_iload_n X dX8_mark_42 rfl 1 rfl ?_
    refine fg_iadd X dX8_mark_43 ?_
    refine fg_iconst X (v := (0 : Int32)) dX8_mark_44 (by decide) ?_
    replace hF := fg_gd_some hF
    obtain ⟨eg_10, hF⟩ := hF
    obtain ⟨fs_11, eo_12⟩ := fg_rc_get eg_10
    replace hF := fg_oc_some hF
    obtain ⟨u, G11, e_13, hF⟩ := hF
    refine fg_callV X (st := []) (mX8_lays Ω.2.2.2.2.1 Ω.1 e_13) q1817 q1819 qs63 q105 q1820 hd_X8_lays (by decide) rfl eo_12 (by decide) rfl rfl (Nat.le_of_ble_eq_true rfl) dX8_mark_45 ?_
    refine fg_aload_n X (r := (some a0)) dX8_mark_48 rfl 0 rfl ?_
    replace hF := fg_ob_some hF
    obtain ⟨r12, e_14, hF⟩ := hF
    refine fg_getr X ff_X8_marked q1587 e_14 dX8_mark_49 ?_
    refine fg_bipush X (v := (80 : Int32)) dX8_mark_52 (by decide) ?_
    refine fg_iload_n X dX8_mark_54 rfl 1 rfl ?_
    refine fg_imul X dX8_mark_55 ?_
    refine fg_aload_n X (r := (some a0)) dX8_mark_56 rfl 0 rfl ?_
    replace hF := fg_ob_some hF
    obtain ⟨r13, e_15, hF⟩ := hF
    refine fg_getr X ff_X8_s q1585 e_15 dX8_mark_57 ?_
    refine fg_iconst X (v := (0 : Int32)) dX8_mark_60 (by decide) ?_
    replace hF := fg_oc_some hF
    obtain ⟨u, G14, e_16, hF⟩ := hF
    refine fg_callS X (st := []) (mX8_copies Ω.2.2.2.2.1 Ω.1 e_16) q1965 q1966 q105 q1967 hd_X8_copies (by decide) rfl rfl (Nat.le_of_ble_eq_true rfl) dX8_mark_61 ?_
    refine fg_iconst X (v := (1 : Int32)) dX8_mark_64 (by decide) ?_
    cases hF
    exact fg_zret X (by decide) dX8_mark_65 (hT)
set_option maxHeartbeats 4000000 in
theorem wX8_mark {Ω : fg_O} {a0 : Nat} {i1 : Int32} {i2 : Int32} {G : fg_H} {t : Int32 × fg_H} (X : fg_X Ω RX8 "mark" cX8_mark 3 (some .boolean) 2) (hF : fX8_mark a0 i1 i2 G = some t) (hT : fg_T Ω (.returned (some (.int t.1))) t.2) : fg_W Ω G 0 [(0, .ref a0), (1, .int i1), (2, .int i2)] [] := by
  unfold fX8_mark at hF
  refine fg_aload_n X (r := (some a0)) dX8_mark_0 rfl 0 rfl ?_
  refine fg_iconst X (v := (0 : Int32)) dX8_mark_1 (by decide) ?_
  replace hF := fg_ob_some hF
  obtain ⟨G1, e_1, hF⟩ := hF
  refine fg_putv X (ty := .int) (v := .int (0 : Int32)) ff_X8_thrown q1548 rfl (Or.inl rfl) rfl rfl rfl e_1 dX8_mark_2 ?_
  refine fg_iload_n X dX8_mark_5 rfl 1 rfl ?_
  refine fg_iconst X (v := (0 : Int32)) dX8_mark_6 (by decide) ?_
  refine fg_iconst X (v := (3 : Int32)) dX8_mark_7 (by decide) ?_
  replace hF := fg_oc_some hF
  obtain ⟨x3, G2, e_2, hF⟩ := hF
  refine fg_callS X (st := []) (mX8_within Ω.2.2.2.2.1 Ω.1 e_2) q1738 q1739 q105 q1740 hd_X8_within (by decide) rfl rfl (Nat.le_of_ble_eq_true rfl) dX8_mark_8 ?_
  refine fg_if_eq X (tgt := 27) dX8_mark_11 (by decide) (fun hc => ?_) (fun hc => ?_)
  · rw [if_pos hc] at hF
    refine fg_iconst X (v := (0 : Int32)) dX8_mark_27 (by decide) ?_
    cases hF
    exact fg_zret X (by decide) dX8_mark_28 (hT)
  · rw [if_neg hc] at hF
    refine fg_iload_n X dX8_mark_14 rfl 2 rfl ?_
    refine fg_if_eq X (tgt := 29) dX8_mark_15 (by decide) (fun hc => ?_) (fun hc => ?_)
    · rw [if_pos hc] at hF
      refine fg_sub [0, 1, 2] rfl ?_
      exact wX8_mark_29 X hF hT
    · rw [if_neg hc] at hF
      refine fg_aload_n X (r := (some a0)) dX8_mark_18 rfl 0 rfl ?_
      replace hF := fg_ob_some hF
      obtain ⟨r15, e_3, hF⟩ := hF
      refine fg_getr X ff_X8_isLaid q1594 e_3 dX8_mark_19 ?_
      refine fg_iload_n X dX8_mark_22 rfl 1 rfl ?_
      replace hF := fg_ob_some hF
      obtain ⟨a16, rfl, hF⟩ := hF
      replace hF := fg_ob_some hF
      obtain ⟨x17, e_4, hF⟩ := hF
      refine fg_zald X e_4 dX8_mark_23 ?_
      refine fg_if_ne X (tgt := 29) dX8_mark_24 (by decide) (fun hc => ?_) (fun hc => ?_)
      · rw [if_neg hc] at hF
        refine fg_sub [0, 1, 2] rfl ?_
        exact wX8_mark_29 X hF hT
      · rw [if_pos hc] at hF
        refine fg_iconst X (v := (0 : Int32)) dX8_mark_27 (by decide) ?_
        cases hF
        exact fg_zret X (by decide) dX8_mark_28 (hT)
theorem mX8_mark (l : Launch) (D : fg_D) {a0 : Nat} {i1 : Int32} {i2 : Int32} {G : fg_H} {t : Int32 × fg_H} (hF : fX8_mark a0 i1 i2 G = some t) : fg_M l D yX8_mark cX8_mark 3 (some .boolean) 2 [.ref a0, .int i1, .int i2] G (.returned (some (.int t.1))) t.2 :=
  fg_Mof (own := RX8) (nm := "mark") (L := [(0, .ref a0), (1, .int i1), (2, .int i2)]) (plainFor_of_name pn_X8) rfl rfl rfl (Nat.le_of_ble_eq_true rfl) (fun Ω _ _ X hT => wX8_mark X hF hT)
theorem hd_X8_count : yX8_count.cls ≠ "java/lang/invoke/MethodHandle" ∧ yX8_count.cls ≠ "java/lang/invoke/VarHandle" ∧ (parseMethodDescriptor yX8_count.desc).map (fun d => d.parameters.length) = some 1 := ⟨by decide +kernel, by decide +kernel, by decide +kernel⟩
set_option maxHeartbeats 4000000 in
theorem wX8_count {Ω : fg_O} {a0 : Nat} {i1 : Int32} {G : fg_H} {t : Int32 × fg_H} (X : fg_X Ω RX8 "count" cX8_count 2 (some .int) 1) (hF : fX8_count a0 i1 G = some t) (hT : fg_T Ω (.returned (some (.int t.1))) t.2) : fg_W Ω G 0 [(0, .ref a0), (1, .int i1)] [] := by
  unfold fX8_count at hF
  refine fg_aload_n X (r := (some a0)) dX8_count_0 rfl 0 rfl ?_
  refine fg_iconst X (v := (0 : Int32)) dX8_count_1 (by decide) ?_
  replace hF := fg_ob_some hF
  obtain ⟨G1, e_1, hF⟩ := hF
  refine fg_putv X (ty := .int) (v := .int (0 : Int32)) ff_X8_thrown q1548 rfl (Or.inl rfl) rfl rfl rfl e_1 dX8_count_2 ?_
  refine fg_iload_n X dX8_count_5 rfl 1 rfl ?_
  refine fg_iconst X (v := (0 : Int32)) dX8_count_6 (by decide) ?_
  refine fg_bipush X (v := (8 : Int32)) dX8_count_7 (by decide) ?_
  replace hF := fg_oc_some hF
  obtain ⟨x3, G2, e_2, hF⟩ := hF
  refine fg_callS X (st := []) (mX8_within Ω.2.2.2.2.1 Ω.1 e_2) q1738 q1739 q105 q1740 hd_X8_within (by decide) rfl rfl (Nat.le_of_ble_eq_true rfl) dX8_count_9 ?_
  refine fg_if_ne X (tgt := 17) dX8_count_12 (by decide) (fun hc => ?_) (fun hc => ?_)
  · rw [if_neg hc] at hF
    refine fg_iload_n X dX8_count_17 rfl 1 rfl ?_
    refine fg_iconst X (v := (4 : Int32)) dX8_count_18 (by decide) ?_
    refine fg_icmp_ge X (tgt := 71) dX8_count_19 (by decide) (fun hc => ?_) (fun hc => ?_)
    · rw [if_pos hc] at hF
      refine fg_iload_n X dX8_count_71 rfl 1 rfl ?_
      refine fg_iconst X (v := (4 : Int32)) dX8_count_72 (by decide) ?_
      refine fg_icmp_ne X (tgt := 86) dX8_count_73 (by decide) (fun hc => ?_) (fun hc => ?_)
      · rw [if_neg hc] at hF
        refine fg_iload_n X dX8_count_86 rfl 1 rfl ?_
        refine fg_iconst X (v := (5 : Int32)) dX8_count_87 (by decide) ?_
        refine fg_icmp_ne X (tgt := 100) dX8_count_88 (by decide) (fun hc => ?_) (fun hc => ?_)
        · rw [if_neg hc] at hF
          refine fg_iload_n X dX8_count_100 rfl 1 rfl ?_
          refine fg_bipush X (v := (6 : Int32)) dX8_count_101 (by decide) ?_
          refine fg_icmp_ne X (tgt := 116) dX8_count_103 (by decide) (fun hc => ?_) (fun hc => ?_)
          · rw [if_neg hc] at hF
            refine fg_iload_n X dX8_count_116 rfl 1 rfl ?_
            refine fg_bipush X (v := (7 : Int32)) dX8_count_117 (by decide) ?_
            refine fg_icmp_ne X (tgt := 131) dX8_count_119 (by decide) (fun hc => ?_) (fun hc => ?_)
            · rw [if_neg hc] at hF
              refine fg_aload_n X (r := (some a0)) dX8_count_131 rfl 0 rfl ?_
              replace hF := fg_ob_some hF
              obtain ⟨x4, e_3, hF⟩ := hF
              refine fg_geti X ff_X8_taped q1549 e_3 dX8_count_132 ?_
              cases hF
              exact fg_iret X dX8_count_135 (hT)
            · rw [if_pos hc] at hF
              refine fg_aload_n X (r := (some a0)) dX8_count_122 rfl 0 rfl ?_
              replace hF := fg_ob_some hF
              obtain ⟨r5, e_4, hF⟩ := hF
              refine fg_getr X ff_X8_ridge q1558 e_4 dX8_count_123 ?_
              refine fg_iconst X (v := (4 : Int32)) dX8_count_126 (by decide) ?_
              replace hF := fg_ob_some hF
              obtain ⟨a6, rfl, hF⟩ := hF
              replace hF := fg_ob_some hF
              obtain ⟨x7, e_5, hF⟩ := hF
              refine fg_iald X e_5 dX8_count_127 ?_
              refine fg_goto X (tgt := 135) dX8_count_128 (by decide) ?_
              cases hF
              exact fg_iret X dX8_count_135 (hT)
          · rw [if_pos hc] at hF
            refine fg_aload_n X (r := (some a0)) dX8_count_106 rfl 0 rfl ?_
            replace hF := fg_ob_some hF
            obtain ⟨r8, e_6, hF⟩ := hF
            refine fg_getr X ff_X8_s q1585 e_6 dX8_count_107 ?_
            refine fg_bipush X (v := (51 : Int32)) dX8_count_110 (by decide) ?_
            replace hF := fg_ob_some hF
            obtain ⟨a9, rfl, hF⟩ := hF
            replace hF := fg_ob_some hF
            obtain ⟨x10, e_7, hF⟩ := hF
            refine fg_iald X e_7 dX8_count_112 ?_
            refine fg_goto X (tgt := 135) dX8_count_113 (by decide) ?_
            cases hF
            exact fg_iret X dX8_count_135 (hT)
        · rw [if_pos hc] at hF
          refine fg_aload_n X (r := (some a0)) dX8_count_91 rfl 0 rfl ?_
          replace hF := fg_ob_some hF
          obtain ⟨r11, e_8, hF⟩ := hF
          refine fg_getr X ff_X8_ridge q1558 e_8 dX8_count_92 ?_
          refine fg_iconst X (v := (2 : Int32)) dX8_count_95 (by decide) ?_
          replace hF := fg_ob_some hF
          obtain ⟨a12, rfl, hF⟩ := hF
          replace hF := fg_ob_some hF
          obtain ⟨x13, e_9, hF⟩ := hF
          refine fg_iald X e_9 dX8_count_96 ?_
          refine fg_goto X (tgt := 135) dX8_count_97 (by decide) ?_
          cases hF
          exact fg_iret X dX8_count_135 (hT)
      · rw [if_pos hc] at hF
        refine fg_aload_n X (r := (some a0)) dX8_count_76 rfl 0 rfl ?_
        replace hF := fg_ob_some hF
        obtain ⟨r14, e_10, hF⟩ := hF
        refine fg_getr X ff_X8_s q1585 e_10 dX8_count_77 ?_
        refine fg_bipush X (v := (50 : Int32)) dX8_count_80 (by decide) ?_
        replace hF := fg_ob_some hF
        obtain ⟨a15, rfl, hF⟩ := hF
        replace hF := fg_ob_some hF
        obtain ⟨x16, e_11, hF⟩ := hF
        refine fg_iald X e_11 dX8_count_82 ?_
        refine fg_goto X (tgt := 135) dX8_count_83 (by decide) ?_
        cases hF
        exact fg_iret X dX8_count_135 (hT)
    · rw [if_neg hc] at hF
      refine fg_iload_n X dX8_count_22 rfl 1 rfl ?_
      refine fg_if_ne X (tgt := 35) dX8_count_23 (by decide) (fun hc => ?_) (fun hc => ?_)
      · rw [if_neg hc] at hF
        refine fg_iload_n X dX8_count_35 rfl 1 rfl ?_
        refine fg_iconst X (v := (1 : Int32)) dX8_count_36 (by decide) ?_
        refine fg_icmp_ne X (tgt := 49) dX8_count_37 (by decide) (fun hc => ?_) (fun hc => ?_)
        · rw [if_neg hc] at hF
          refine fg_iload_n X dX8_count_49 rfl 1 rfl ?_
          refine fg_iconst X (v := (2 : Int32)) dX8_count_50 (by decide) ?_
          refine fg_icmp_ne X (tgt := 63) dX8_count_51 (by decide) (fun hc => ?_) (fun hc => ?_)
          · rw [if_neg hc] at hF
            refine fg_aload_n X (r := (some a0)) dX8_count_63 rfl 0 rfl ?_
            replace hF := fg_ob_some hF
            obtain ⟨r17, e_12, hF⟩ := hF
            refine fg_getr X ff_X8_ridge q1558 e_12 dX8_count_64 ?_
            refine fg_bipush X (v := (6 : Int32)) dX8_count_67 (by decide) ?_
            replace hF := fg_ob_some hF
            obtain ⟨a18, rfl, hF⟩ := hF
            replace hF := fg_ob_some hF
            obtain ⟨x19, e_13, hF⟩ := hF
            refine fg_iald X e_13 dX8_count_69 ?_
            cases hF
            exact fg_iret X dX8_count_70 (hT)
          · rw [if_pos hc] at hF
            refine fg_aload_n X (r := (some a0)) dX8_count_54 rfl 0 rfl ?_
            replace hF := fg_ob_some hF
            obtain ⟨r20, e_14, hF⟩ := hF
            refine fg_getr X ff_X8_ridge q1558 e_14 dX8_count_55 ?_
            refine fg_iconst X (v := (5 : Int32)) dX8_count_58 (by decide) ?_
            replace hF := fg_ob_some hF
            obtain ⟨a21, rfl, hF⟩ := hF
            replace hF := fg_ob_some hF
            obtain ⟨x22, e_15, hF⟩ := hF
            refine fg_iald X e_15 dX8_count_59 ?_
            refine fg_goto X (tgt := 70) dX8_count_60 (by decide) ?_
            cases hF
            exact fg_iret X dX8_count_70 (hT)
        · rw [if_pos hc] at hF
          refine fg_aload_n X (r := (some a0)) dX8_count_40 rfl 0 rfl ?_
          replace hF := fg_ob_some hF
          obtain ⟨r23, e_16, hF⟩ := hF
          refine fg_getr X ff_X8_ridge q1558 e_16 dX8_count_41 ?_
          refine fg_iconst X (v := (1 : Int32)) dX8_count_44 (by decide) ?_
          replace hF := fg_ob_some hF
          obtain ⟨a24, rfl, hF⟩ := hF
          replace hF := fg_ob_some hF
          obtain ⟨x25, e_17, hF⟩ := hF
          refine fg_iald X e_17 dX8_count_45 ?_
          refine fg_goto X (tgt := 70) dX8_count_46 (by decide) ?_
          cases hF
          exact fg_iret X dX8_count_70 (hT)
      · rw [if_pos hc] at hF
        refine fg_aload_n X (r := (some a0)) dX8_count_26 rfl 0 rfl ?_
        replace hF := fg_ob_some hF
        obtain ⟨r26, e_18, hF⟩ := hF
        refine fg_getr X ff_X8_ridge q1558 e_18 dX8_count_27 ?_
        refine fg_iconst X (v := (0 : Int32)) dX8_count_30 (by decide) ?_
        replace hF := fg_ob_some hF
        obtain ⟨a27, rfl, hF⟩ := hF
        replace hF := fg_ob_some hF
        obtain ⟨x28, e_19, hF⟩ := hF
        refine fg_iald X e_19 dX8_count_31 ?_
        refine fg_goto X (tgt := 70) dX8_count_32 (by decide) ?_
        cases hF
        exact fg_iret X dX8_count_70 (hT)
  · rw [if_pos hc] at hF
    refine fg_iconst X (v := (-1 : Int32)) dX8_count_15 (by decide) ?_
    cases hF
    exact fg_iret X dX8_count_16 (hT)
theorem mX8_count (l : Launch) (D : fg_D) {a0 : Nat} {i1 : Int32} {G : fg_H} {t : Int32 × fg_H} (hF : fX8_count a0 i1 G = some t) : fg_M l D yX8_count cX8_count 2 (some .int) 1 [.ref a0, .int i1] G (.returned (some (.int t.1))) t.2 :=
  fg_Mof (own := RX8) (nm := "count") (L := [(0, .ref a0), (1, .int i1)]) (plainFor_of_name pn_X8) rfl rfl rfl (Nat.le_of_ble_eq_true rfl) (fun Ω _ _ X hT => wX8_count X hF hT)

set_option maxRecDepth 100000
theorem hd_X1_tries : yX1_tries.cls ≠ "java/lang/invoke/MethodHandle" ∧ yX1_tries.cls ≠ "java/lang/invoke/VarHandle" ∧ (parseMethodDescriptor yX1_tries.desc).map (fun d => d.parameters.length) = some 0 := ⟨by decide +kernel, by decide +kernel, by decide +kernel⟩
set_option maxHeartbeats 4000000 in
theorem wX1_tries {Ω : fg_O} {a0 : Nat} {G : fg_H} {t : Option Nat × fg_H} (X : fg_X Ω RX1 "tries" cX1_tries 1 (some (.object "FogNets$Hung")) 124) (hF : fX1_tries a0 G = some t) (hT : fg_T Ω (.returned (some (va_rf t.1))) t.2) : fg_W Ω G 0 [(0, .ref a0)] [] := by
  unfold fX1_tries at hF
  refine fg_aload_n X (r := (some a0)) dX1_tries_0 rfl 0 rfl ?_
  replace hF := fg_ob_some hF
  obtain ⟨rz1, e_1, hF⟩ := hF
  refine fg_getr X ff_X1_sky q458 e_1 dX1_tries_1 ?_
  refine fg_aload_n X (r := (some a0)) dX1_tries_4 rfl 0 rfl ?_
  replace hF := fg_ob_some hF
  obtain ⟨rz2, e_2, hF⟩ := hF
  refine fg_getr X ff_X1_ridge q447 e_2 dX1_tries_5 ?_
  refine fg_aload_n X (r := (some a0)) dX1_tries_8 rfl 0 rfl ?_
  replace hF := fg_ob_some hF
  obtain ⟨xz3, e_3, hF⟩ := hF
  refine fg_geti X ff_X1_night q453 e_3 dX1_tries_9 ?_
  replace hF := fg_ob_some hF
  obtain ⟨az4, rfl, hF⟩ := hF
  replace hF := fg_gd_some hF
  obtain ⟨eg_4, hF⟩ := hF
  obtain ⟨fs_5, eo_6⟩ := fg_rc_get eg_4
  replace hF := fg_oc_some hF
  obtain ⟨rz6, Gz5, e_7, hF⟩ := hF
  refine fg_callV X (st := []) (mX7_finds Ω.2.2.2.2.1 Ω.1 e_7) q1250 q1251 q1252 q102 q1253 hd_X7_finds (by decide) rfl eo_6 (by decide) rfl rfl (Nat.le_of_ble_eq_true rfl) dX1_tries_12 ?_
  refine fg_pop X dX1_tries_15 (fg_cat _) ?_
  refine fg_aload_n X (r := (some a0)) dX1_tries_16 rfl 0 rfl ?_
  replace hF := fg_ob_some hF
  obtain ⟨rz7, e_8, hF⟩ := hF
  refine fg_getr X ff_X1_trial q459 e_8 dX1_tries_17 ?_
  refine fg_aload_n X (r := (some a0)) dX1_tries_20 rfl 0 rfl ?_
  replace hF := fg_ob_some hF
  obtain ⟨rz8, e_9, hF⟩ := hF
  refine fg_getr X ff_X1_hung q449 e_9 dX1_tries_21 ?_
  replace hF := fg_ob_some hF
  obtain ⟨az9, rfl, hF⟩ := hF
  replace hF := fg_gd_some hF
  obtain ⟨eg_10, hF⟩ := hF
  obtain ⟨fs_11, eo_12⟩ := fg_rc_get eg_10
  replace hF := fg_oc_some hF
  obtain ⟨rz11, Gz10, e_13, hF⟩ := hF
  refine fg_callV X (st := []) (mX5_copies Ω.2.2.2.2.1 Ω.1 e_13) q1205 q1206 q1207 q100 q1208 hd_X5_copies (by decide) rfl eo_12 (by decide) rfl rfl (Nat.le_of_ble_eq_true rfl) dX1_tries_24 ?_
  cases hF
  exact fg_aret (Or.inl ⟨_, rfl⟩) X (r := rz11) dX1_tries_27 (hT)
theorem mX1_tries (l : Launch) (D : fg_D) {a0 : Nat} {G : fg_H} {t : Option Nat × fg_H} (hF : fX1_tries a0 G = some t) : fg_M l D yX1_tries cX1_tries 1 (some (.object "FogNets$Hung")) 124 [.ref a0] G (.returned (some (va_rf t.1))) t.2 :=
  fg_Mof (own := RX1) (nm := "tries") (L := [(0, .ref a0)]) (plainFor_of_name pn_X1) rfl rfl rfl (Nat.le_of_ble_eq_true rfl) (fun Ω _ _ X hT => wX1_tries X hF hT)
theorem hd_X5_takesLast : yX5_takesLast.cls ≠ "java/lang/invoke/MethodHandle" ∧ yX5_takesLast.cls ≠ "java/lang/invoke/VarHandle" ∧ (parseMethodDescriptor yX5_takesLast.desc).map (fun d => d.parameters.length) = some 0 := ⟨by decide +kernel, by decide +kernel, by decide +kernel⟩
set_option maxHeartbeats 4000000 in
theorem wX5_takesLast {Ω : fg_O} {a0 : Nat} {G : fg_H} {t : Unit × fg_H} (X : fg_X Ω RX5 "takesLast" cX5_takesLast 1 none 0) (hF : fX5_takesLast a0 G = some t) (hT : fg_T Ω (.returned none) t.2) : fg_W Ω G 0 [(0, .ref a0)] [] := by
  unfold fX5_takesLast at hF
  refine fg_aload_n X (r := (some a0)) dX5_takesLast_0 rfl 0 rfl ?_
  refine fg_dup X dX5_takesLast_1 rfl ?_
  replace hF := fg_ob_some hF
  obtain ⟨xz1, e_1, hF⟩ := hF
  refine fg_geti X ff_X5_many q362 e_1 dX5_takesLast_2 ?_
  refine fg_iconst X (v := (1 : Int32)) dX5_takesLast_5 (by decide) ?_
  refine fg_isub X dX5_takesLast_6 ?_
  replace hF := fg_ob_some hF
  obtain ⟨Gz2, e_2, hF⟩ := hF
  refine fg_putv X (ty := .int) (v := .int (xz1 - (1 : Int32))) ff_X5_many q362 rfl (Or.inl rfl) rfl rfl rfl e_2 dX5_takesLast_7 ?_
  refine fg_aload_n X (r := (some a0)) dX5_takesLast_10 rfl 0 rfl ?_
  replace hF := fg_ob_some hF
  obtain ⟨rz3, e_3, hF⟩ := hF
  refine fg_getr X ff_X5_netAt q354 e_3 dX5_takesLast_11 ?_
  refine fg_aload_n X (r := (some a0)) dX5_takesLast_14 rfl 0 rfl ?_
  replace hF := fg_ob_some hF
  obtain ⟨rz4, e_4, hF⟩ := hF
  refine fg_getr X ff_X5_at q358 e_4 dX5_takesLast_15 ?_
  refine fg_aload_n X (r := (some a0)) dX5_takesLast_18 rfl 0 rfl ?_
  replace hF := fg_ob_some hF
  obtain ⟨xz5, e_5, hF⟩ := hF
  refine fg_geti X ff_X5_many q362 e_5 dX5_takesLast_19 ?_
  replace hF := fg_ob_some hF
  obtain ⟨az6, rfl, hF⟩ := hF
  replace hF := fg_ob_some hF
  obtain ⟨xz7, e_6, hF⟩ := hF
  refine fg_iald X e_6 dX5_takesLast_22 ?_
  refine fg_iconst X (v := (0 : Int32)) dX5_takesLast_23 (by decide) ?_
  replace hF := fg_ob_some hF
  obtain ⟨az8, rfl, hF⟩ := hF
  replace hF := fg_ob_some hF
  obtain ⟨Gz9, e_7, hF⟩ := hF
  refine fg_iast X e_7 dX5_takesLast_24 ?_
  cases hF
  exact fg_vret X dX5_takesLast_25 (hT)
theorem mX5_takesLast (l : Launch) (D : fg_D) {a0 : Nat} {G : fg_H} {t : Unit × fg_H} (hF : fX5_takesLast a0 G = some t) : fg_M l D yX5_takesLast cX5_takesLast 1 none 0 [.ref a0] G (.returned none) t.2 :=
  fg_Mof (own := RX5) (nm := "takesLast") (L := [(0, .ref a0)]) (plainFor_of_name pn_X5) rfl rfl rfl (Nat.le_of_ble_eq_true rfl) (fun Ω _ _ X hT => wX5_takesLast X hF hT)
theorem hd_X1_place : yX1_place.cls ≠ "java/lang/invoke/MethodHandle" ∧ yX1_place.cls ≠ "java/lang/invoke/VarHandle" ∧ (parseMethodDescriptor yX1_place.desc).map (fun d => d.parameters.length) = some 5 := ⟨by decide +kernel, by decide +kernel, by decide +kernel⟩
set_option maxHeartbeats 4000000 in
theorem wX1_place_207 {Ω : fg_O} {a0 : Nat} {i1 : Int32} {i4 : Int32} {i5 : Int32} {r6 : Option Nat} {i9 : Int32} {i10 : Int32} {G : fg_H} {t : ((Nat × Int32 × Int32 × Int32 × Option Nat × Int32 × Int32 × Int32 × fg_H) ⊕ (Int32 × fg_H))} (X : fg_X Ω RX1 "place" cX1_place 11 (some .int) 125) (hF : fX1_place_207 a0 i1 i4 i5 r6 i9 i10 G = some t) (h71 : ∀ z, t = (.inl z) → fg_W Ω z.2.2.2.2.2.2.2.2 71 [(0, .ref z.1), (1, .int z.2.1), (4, .int z.2.2.1), (5, .int z.2.2.2.1), (6, va_rf z.2.2.2.2.1), (7, .int z.2.2.2.2.2.1), (8, .int z.2.2.2.2.2.2.1), (9, .int z.2.2.2.2.2.2.2.1)] []) (hT : ∀ u, t = (.inr u) → fg_T Ω (.returned (some (.int u.1))) u.2) : fg_W Ω G 207 [(0, .ref a0), (1, .int i1), (4, .int i4), (5, .int i5), (6, va_rf r6), (9, .int i9), (10, .int i10)] [] := by
  unfold fX1_place_207 at hF
  refine fg_iload X dX1_place_207 5 rfl ?_
  refine fg_istore X (L' := [(7, .int i9), (0, .ref a0), (1, .int i1), (4, .int i4), (5, .int i5), (6, va_rf r6), (9, .int i9), (10, .int i10)]) dX1_place_209 (by decide) (by cases r6 <;> rfl) ?_
  refine fg_iload X dX1_place_211 7 rfl ?_
  refine fg_istore X (L' := [(8, .int i10), (7, .int i9), (0, .ref a0), (1, .int i1), (4, .int i4), (5, .int i5), (6, va_rf r6), (9, .int i9), (10, .int i10)]) dX1_place_213 (by decide) rfl ?_
  refine fg_iinc X (v := (i9 + (1 : Int32))) (L' := [(9, .int (i9 + (1 : Int32))), (8, .int i10), (7, .int i9), (0, .ref a0), (1, .int i1), (4, .int i4), (5, .int i5), (6, va_rf r6), (10, .int i10)]) dX1_place_215 7 rfl rfl (by decide) rfl ?_
  refine fg_goto X (tgt := 71) dX1_place_218 (by decide) ?_
  refine fg_sub [3, 4, 5, 6, 7, 2, 1, 0] rfl ?_
  exact h71 _ (Option.some.inj hF).symm
set_option maxHeartbeats 4000000 in
theorem wX1_place_166 {Ω : fg_O} {a0 : Nat} {i1 : Int32} {i4 : Int32} {i5 : Int32} {r6 : Option Nat} {i7 : Int32} {i8 : Int32} {i9 : Int32} {s0 : Int32} {G : fg_H} {t : ((Nat × Int32 × Int32 × Int32 × Option Nat × Int32 × Int32 × Int32 × fg_H) ⊕ (Int32 × fg_H))} (X : fg_X Ω RX1 "place" cX1_place 11 (some .int) 125) (hF : fX1_place_166 a0 i1 i4 i5 r6 i7 i8 i9 s0 G = some t) (h71 : ∀ z, t = (.inl z) → fg_W Ω z.2.2.2.2.2.2.2.2 71 [(0, .ref z.1), (1, .int z.2.1), (4, .int z.2.2.1), (5, .int z.2.2.2.1), (6, va_rf z.2.2.2.2.1), (7, .int z.2.2.2.2.2.1), (8, .int z.2.2.2.2.2.2.1), (9, .int z.2.2.2.2.2.2.2.1)] []) (hT : ∀ u, t = (.inr u) → fg_T Ω (.returned (some (.int u.1))) u.2) : fg_W Ω G 166 [(0, .ref a0), (1, .int i1), (4, .int i4), (5, .int i5), (6, va_rf r6), (7, .int i7), (8, .int i8), (9, .int i9)] [.int s0] := by
  unfold fX1_place_166 at hF
  refine fg_istore X (L' := [(10, .int s0), (0, .ref a0), (1, .int i1), (4, .int i4), (5, .int i5), (6, va_rf r6), (7, .int i7), (8, .int i8), (9, .int i9)]) dX1_place_166 (by decide) rfl ?_
  refine fg_aload_n X (r := (some a0)) dX1_place_168 rfl 1 rfl ?_
  replace hF := fg_ob_some hF
  obtain ⟨rz36, e_1, hF⟩ := hF
  refine fg_getr X ff_X1_trial q459 e_1 dX1_place_169 ?_
  replace hF := fg_ob_some hF
  obtain ⟨az37, rfl, hF⟩ := hF
  replace hF := fg_gd_some hF
  obtain ⟨eg_2, hF⟩ := hF
  obtain ⟨fs_3, eo_4⟩ := fg_rc_get eg_2
  replace hF := fg_oc_some hF
  obtain ⟨u, Gz38, e_5, hF⟩ := hF
  refine fg_callV X (st := []) (mX5_takesLast Ω.2.2.2.2.1 Ω.1 e_5) q1334 q1335 q1336 q100 q1337 hd_X5_takesLast (by decide) rfl eo_4 (by decide) rfl rfl (Nat.le_of_ble_eq_true rfl) dX1_place_172 ?_
  refine fg_iload X dX1_place_175 6 rfl ?_
  refine fg_iconst X (v := (-1 : Int32)) dX1_place_177 (by decide) ?_
  refine fg_icmp_eq X (tgt := 207) dX1_place_178 (by decide) (fun hc => ?_) (fun hc => ?_)
  · rw [if_pos hc] at hF
    refine fg_sub [1, 2, 3, 4, 5, 8, 0] rfl ?_
    exact wX1_place_207 X hF h71 hT
  · rw [if_neg hc] at hF
    refine fg_iload X dX1_place_181 3 rfl ?_
    refine fg_iconst X (v := (2 : Int32)) dX1_place_183 (by decide) ?_
    refine fg_icmp_ne X (tgt := 197) dX1_place_184 (by decide) (fun hc => ?_) (fun hc => ?_)
    · rw [if_neg hc] at hF
      refine fg_iload X dX1_place_197 0 rfl ?_
      refine fg_iload X dX1_place_199 7 rfl ?_
      refine fg_icmp_gt X (tgt := 207) dX1_place_201 (by decide) (fun hc => ?_) (fun hc => ?_)
      · rw [if_pos hc] at hF
        refine fg_sub [1, 2, 3, 4, 5, 8, 0] rfl ?_
        exact wX1_place_207 X hF h71 hT
      · rw [if_neg hc] at hF
        refine fg_goto X (tgt := 215) dX1_place_204 (by decide) ?_
        refine fg_iinc X (v := (i9 + (1 : Int32))) (L' := [(9, .int (i9 + (1 : Int32))), (10, .int s0), (0, .ref a0), (1, .int i1), (4, .int i4), (5, .int i5), (6, va_rf r6), (7, .int i7), (8, .int i8)]) dX1_place_215 8 rfl rfl (by decide) rfl ?_
        refine fg_goto X (tgt := 71) dX1_place_218 (by decide) ?_
        refine fg_sub [2, 3, 4, 5, 6, 7, 8, 0] rfl ?_
        exact h71 _ (Option.some.inj hF).symm
    · rw [if_pos hc] at hF
      refine fg_iload X dX1_place_187 0 rfl ?_
      refine fg_iload X dX1_place_189 7 rfl ?_
      refine fg_icmp_lt X (tgt := 207) dX1_place_191 (by decide) (fun hc => ?_) (fun hc => ?_)
      · rw [if_pos hc] at hF
        refine fg_sub [1, 2, 3, 4, 5, 8, 0] rfl ?_
        exact wX1_place_207 X hF h71 hT
      · rw [if_neg hc] at hF
        refine fg_goto X (tgt := 215) dX1_place_194 (by decide) ?_
        refine fg_iinc X (v := (i9 + (1 : Int32))) (L' := [(9, .int (i9 + (1 : Int32))), (10, .int s0), (0, .ref a0), (1, .int i1), (4, .int i4), (5, .int i5), (6, va_rf r6), (7, .int i7), (8, .int i8)]) dX1_place_215 8 rfl rfl (by decide) rfl ?_
        refine fg_goto X (tgt := 71) dX1_place_218 (by decide) ?_
        refine fg_sub [2, 3, 4, 5, 6, 7, 8, 0] rfl ?_
        exact h71 _ (Option.some.inj hF).symm
set_option maxHeartbeats 4000000 in
theorem wX1_place_71b {Ω : fg_O} {a0 : Nat} {i1 : Int32} {i4 : Int32} {i5 : Int32} {r6 : Option Nat} {i7 : Int32} {i8 : Int32} {i9 : Int32} {G : fg_H} {t : ((Nat × Int32 × Int32 × Int32 × Option Nat × Int32 × Int32 × Int32 × fg_H) ⊕ (Int32 × fg_H))} (X : fg_X Ω RX1 "place" cX1_place 11 (some .int) 125) (hF : fX1_place_71b a0 i1 i4 i5 r6 i7 i8 i9 G = some t) (h71 : ∀ z, t = (.inl z) → fg_W Ω z.2.2.2.2.2.2.2.2 71 [(0, .ref z.1), (1, .int z.2.1), (4, .int z.2.2.1), (5, .int z.2.2.2.1), (6, va_rf z.2.2.2.2.1), (7, .int z.2.2.2.2.2.1), (8, .int z.2.2.2.2.2.2.1), (9, .int z.2.2.2.2.2.2.2.1)] []) (hT : ∀ u, t = (.inr u) → fg_T Ω (.returned (some (.int u.1))) u.2) : fg_W Ω G 71 [(0, .ref a0), (1, .int i1), (4, .int i4), (5, .int i5), (6, va_rf r6), (7, .int i7), (8, .int i8), (9, .int i9)] [] := by
  unfold fX1_place_71b at hF
  refine fg_iload X dX1_place_71 7 rfl ?_
  refine fg_bipush X (v := (64 : Int32)) dX1_place_73 (by decide) ?_
  refine fg_icmp_ge X (tgt := 221) dX1_place_75 (by decide) (fun hc => ?_) (fun hc => ?_)
  · rw [if_pos hc] at hF
    replace hF := fg_rt_some hF
    obtain ⟨tz15, hF, ht_1⟩ := hF
    subst ht_1
    replace hT := hT _ rfl
    refine fg_iload X dX1_place_221 5 rfl ?_
    refine fg_iconst X (v := (-1 : Int32)) dX1_place_223 (by decide) ?_
    refine fg_icmp_eq X (tgt := 232) dX1_place_224 (by decide) (fun hc => ?_) (fun hc => ?_)
    · rw [if_pos hc] at hF
      refine fg_iload X dX1_place_232 5 rfl ?_
      refine fg_goto X (tgt := 239) dX1_place_234 (by decide) ?_
      cases hF
      exact fg_iret X dX1_place_239 (hT)
    · rw [if_neg hc] at hF
      refine fg_iload X dX1_place_227 3 rfl ?_
      refine fg_if_ne X (tgt := 237) dX1_place_229 (by decide) (fun hc => ?_) (fun hc => ?_)
      · rw [if_neg hc] at hF
        refine fg_iload X dX1_place_237 6 rfl ?_
        cases hF
        exact fg_iret X dX1_place_239 (hT)
      · rw [if_pos hc] at hF
        refine fg_iload X dX1_place_232 5 rfl ?_
        refine fg_goto X (tgt := 239) dX1_place_234 (by decide) ?_
        cases hF
        exact fg_iret X dX1_place_239 (hT)
  · rw [if_neg hc] at hF
    refine fg_aload_n X (r := (some a0)) dX1_place_78 rfl 0 rfl ?_
    replace hF := fg_ob_some hF
    obtain ⟨rz16, e_2, hF⟩ := hF
    refine fg_getr X ff_X1_trial q459 e_2 dX1_place_79 ?_
    refine fg_iload X dX1_place_82 7 rfl ?_
    replace hF := fg_ob_some hF
    obtain ⟨az17, rfl, hF⟩ := hF
    replace hF := fg_gd_some hF
    obtain ⟨eg_3, hF⟩ := hF
    obtain ⟨fs_4, eo_5⟩ := fg_rc_get eg_3
    replace hF := fg_oc_some hF
    obtain ⟨xz19, Gz18, e_6, hF⟩ := hF
    refine fg_callV X (st := []) (mX5_isFree Ω.2.2.2.2.1 Ω.1 e_6) q1310 q1311 q1312 q100 q1313 hd_X5_isFree (by decide) rfl eo_5 (by decide) rfl rfl (Nat.le_of_ble_eq_true rfl) dX1_place_84 ?_
    refine fg_if_ne X (tgt := 93) dX1_place_87 (by decide) (fun hc => ?_) (fun hc => ?_)
    · rw [if_neg hc] at hF
      refine fg_aload_n X (r := (some a0)) dX1_place_93 rfl 0 rfl ?_
      replace hF := fg_ob_some hF
      obtain ⟨rz20, e_7, hF⟩ := hF
      refine fg_getr X ff_X1_trial q459 e_7 dX1_place_94 ?_
      refine fg_aload X (r := r6) dX1_place_97 4 rfl ?_
      refine fg_iload X dX1_place_99 7 rfl ?_
      replace hF := fg_ob_some hF
      obtain ⟨az21, rfl, hF⟩ := hF
      replace hF := fg_gd_some hF
      obtain ⟨eg_8, hF⟩ := hF
      obtain ⟨fs_9, eo_10⟩ := fg_rc_get eg_8
      replace hF := fg_oc_some hF
      obtain ⟨u, Gz22, e_11, hF⟩ := hF
      refine fg_callV X (st := []) (mX5_hangs Ω.2.2.2.2.1 Ω.1 e_11) q1332 q442 q443 q100 q444 hd_X5_hangs (by decide) rfl eo_10 (by decide) rfl rfl (Nat.le_of_ble_eq_true rfl) dX1_place_101 ?_
      refine fg_aload_n X (r := (some a0)) dX1_place_104 rfl 0 rfl ?_
      replace hF := fg_ob_some hF
      obtain ⟨rz23, e_12, hF⟩ := hF
      refine fg_getr X ff_X1_trial q459 e_12 dX1_place_105 ?_
      refine fg_aload_n X (r := (some a0)) dX1_place_108 rfl 0 rfl ?_
      replace hF := fg_ob_some hF
      obtain ⟨rz24, e_13, hF⟩ := hF
      refine fg_getr X ff_X1_sky q458 e_13 dX1_place_109 ?_
      replace hF := fg_ob_some hF
      obtain ⟨az25, rfl, hF⟩ := hF
      replace hF := fg_gd_some hF
      obtain ⟨eg_14, hF⟩ := hF
      obtain ⟨fs_15, eo_16⟩ := fg_rc_get eg_14
      replace hF := fg_oc_some hF
      obtain ⟨rz27, Gz26, e_17, hF⟩ := hF
      refine fg_callV X (st := []) (mX5_takes Ω.2.2.2.2.1 Ω.1 e_17) q1261 q1262 q1263 q100 q1264 hd_X5_takes (by decide) rfl eo_16 (by decide) rfl rfl (Nat.le_of_ble_eq_true rfl) dX1_place_112 ?_
      refine fg_pop X dX1_place_115 (fg_cat _) ?_
      refine fg_iload X dX1_place_116 2 rfl ?_
      refine fg_if_ne X (tgt := 132) dX1_place_118 (by decide) (fun hc => ?_) (fun hc => ?_)
      · rw [if_neg hc] at hF
        refine fg_iload X dX1_place_132 2 rfl ?_
        refine fg_iconst X (v := (1 : Int32)) dX1_place_134 (by decide) ?_
        refine fg_icmp_ne X (tgt := 149) dX1_place_135 (by decide) (fun hc => ?_) (fun hc => ?_)
        · rw [if_neg hc] at hF
          refine fg_aload_n X (r := (some a0)) dX1_place_149 rfl 0 rfl ?_
          replace hF := fg_ob_some hF
          obtain ⟨rz28, e_18, hF⟩ := hF
          refine fg_getr X ff_X1_trial q459 e_18 dX1_place_150 ?_
          refine fg_iconst X (v := (-1 : Int32)) dX1_place_153 (by decide) ?_
          replace hF := fg_ob_some hF
          obtain ⟨az29, rfl, hF⟩ := hF
          replace hF := fg_gd_some hF
          obtain ⟨eg_19, hF⟩ := hF
          obtain ⟨fs_20, eo_21⟩ := fg_rc_get eg_19
          replace hF := fg_oc_some hF
          obtain ⟨xz31, Gz30, e_22, hF⟩ := hF
          refine fg_callV X (st := []) (mX5_yields Ω.2.2.2.2.1 Ω.1 e_22) q1333 q1273 q1274 q100 q1275 hd_X5_yields (by decide) rfl eo_21 (by decide) rfl rfl (Nat.le_of_ble_eq_true rfl) dX1_place_154 ?_
          refine fg_aload_n X (r := (some a0)) dX1_place_157 rfl 0 rfl ?_
          replace hF := fg_ob_some hF
          obtain ⟨rz32, e_23, hF⟩ := hF
          refine fg_getr X ff_X1_trial q459 e_23 dX1_place_158 ?_
          refine fg_iload_n X dX1_place_161 rfl 1 rfl ?_
          replace hF := fg_ob_some hF
          obtain ⟨az33, rfl, hF⟩ := hF
          replace hF := fg_gd_some hF
          obtain ⟨eg_24, hF⟩ := hF
          obtain ⟨fs_25, eo_26⟩ := fg_rc_get eg_24
          replace hF := fg_oc_some hF
          obtain ⟨xz35, Gz34, e_27, hF⟩ := hF
          refine fg_callV X (st := [.int xz31]) (mX5_yields Ω.2.2.2.2.1 Ω.1 e_27) q1333 q1273 q1274 q100 q1275 hd_X5_yields (by decide) rfl eo_26 (by decide) rfl rfl (Nat.le_of_ble_eq_true rfl) dX1_place_162 ?_
          refine fg_isub X dX1_place_165 ?_
          refine fg_sub [0, 1, 2, 3, 4, 5, 6, 7] rfl ?_
          exact wX1_place_166 X hF h71 hT
        · rw [if_pos hc] at hF
          refine fg_aload_n X (r := (some a0)) dX1_place_138 rfl 0 rfl ?_
          replace hF := fg_ob_some hF
          obtain ⟨rz39, e_28, hF⟩ := hF
          refine fg_getr X ff_X1_trial q459 e_28 dX1_place_139 ?_
          refine fg_iload_n X dX1_place_142 rfl 1 rfl ?_
          replace hF := fg_ob_some hF
          obtain ⟨az40, rfl, hF⟩ := hF
          replace hF := fg_gd_some hF
          obtain ⟨eg_29, hF⟩ := hF
          obtain ⟨fs_30, eo_31⟩ := fg_rc_get eg_29
          replace hF := fg_oc_some hF
          obtain ⟨xz42, Gz41, e_32, hF⟩ := hF
          refine fg_callV X (st := []) (mX5_yields Ω.2.2.2.2.1 Ω.1 e_32) q1333 q1273 q1274 q100 q1275 hd_X5_yields (by decide) rfl eo_31 (by decide) rfl rfl (Nat.le_of_ble_eq_true rfl) dX1_place_143 ?_
          refine fg_goto X (tgt := 166) dX1_place_146 (by decide) ?_
          refine fg_sub [0, 1, 2, 3, 4, 5, 6, 7] rfl ?_
          exact wX1_place_166 X hF h71 hT
      · rw [if_pos hc] at hF
        refine fg_aload_n X (r := (some a0)) dX1_place_121 rfl 0 rfl ?_
        replace hF := fg_ob_some hF
        obtain ⟨rz43, e_33, hF⟩ := hF
        refine fg_getr X ff_X1_trial q459 e_33 dX1_place_122 ?_
        refine fg_iconst X (v := (-1 : Int32)) dX1_place_125 (by decide) ?_
        replace hF := fg_ob_some hF
        obtain ⟨az44, rfl, hF⟩ := hF
        replace hF := fg_gd_some hF
        obtain ⟨eg_34, hF⟩ := hF
        obtain ⟨fs_35, eo_36⟩ := fg_rc_get eg_34
        replace hF := fg_oc_some hF
        obtain ⟨xz46, Gz45, e_37, hF⟩ := hF
        refine fg_callV X (st := []) (mX5_yields Ω.2.2.2.2.1 Ω.1 e_37) q1333 q1273 q1274 q100 q1275 hd_X5_yields (by decide) rfl eo_36 (by decide) rfl rfl (Nat.le_of_ble_eq_true rfl) dX1_place_126 ?_
        refine fg_goto X (tgt := 166) dX1_place_129 (by decide) ?_
        refine fg_sub [0, 1, 2, 3, 4, 5, 6, 7] rfl ?_
        exact wX1_place_166 X hF h71 hT
    · rw [if_pos hc] at hF
      refine fg_goto X (tgt := 215) dX1_place_90 (by decide) ?_
      refine fg_iinc X (v := (i9 + (1 : Int32))) (L' := [(9, .int (i9 + (1 : Int32))), (0, .ref a0), (1, .int i1), (4, .int i4), (5, .int i5), (6, va_rf r6), (7, .int i7), (8, .int i8)]) dX1_place_215 7 rfl rfl (by decide) rfl ?_
      refine fg_goto X (tgt := 71) dX1_place_218 (by decide) ?_
      refine fg_sub [1, 2, 3, 4, 5, 6, 7, 0] rfl ?_
      exact h71 _ (Option.some.inj hF).symm
set_option maxHeartbeats 4000000 in
seal fX1_place_71b in
theorem wX1_place_71 {Ω : fg_O} {a0 : Nat} {i1 : Int32} {i4 : Int32} {i5 : Int32} {r6 : Option Nat} {i7 : Int32} {i8 : Int32} {i9 : Int32} {G : fg_H} {t : (Int32 × fg_H)} (X : fg_X Ω RX1 "place" cX1_place 11 (some .int) 125) (hF : fX1_place_71 a0 i1 i4 i5 r6 i7 i8 i9 G = some t) (hT : fg_T Ω (.returned (some (.int t.1))) t.2) : fg_W Ω G 71 [(0, .ref a0), (1, .int i1), (4, .int i4), (5, .int i5), (6, va_rf r6), (7, .int i7), (8, .int i8), (9, .int i9)] [] := by
  unfold fX1_place_71 at hF
  exact fg_lp_walk (P := fun z => fg_W Ω z.2.2.2.2.2.2.2.2 71 [(0, .ref z.1), (1, .int z.2.1), (4, .int z.2.2.1), (5, .int z.2.2.2.1), (6, va_rf z.2.2.2.2.1), (7, .int z.2.2.2.2.2.1), (8, .int z.2.2.2.2.2.2.1), (9, .int z.2.2.2.2.2.2.2.1)] []) (fun y o ho hl hr => wX1_place_71b X ho (fun z e => hl z e) (fun u e => by rw [hr _ e]; exact hT)) hF
set_option maxHeartbeats 4000000 in
theorem wX1_place {Ω : fg_O} {a0 : Nat} {i1 : Int32} {i2 : Int32} {i3 : Int32} {i4 : Int32} {i5 : Int32} {G : fg_H} {t : Int32 × fg_H} (X : fg_X Ω RX1 "place" cX1_place 11 (some .int) 125) (hF : fX1_place a0 i1 i2 i3 i4 i5 G = some t) (hT : fg_T Ω (.returned (some (.int t.1))) t.2) : fg_W Ω G 0 [(0, .ref a0), (1, .int i1), (2, .int i2), (3, .int i3), (4, .int i4), (5, .int i5)] [] := by
  unfold fX1_place at hF
  refine fg_aload_n X (r := (some a0)) dX1_place_0 rfl 0 rfl ?_
  refine fg_iload_n X dX1_place_1 rfl 1 rfl ?_
  replace hF := fg_gd_some hF
  obtain ⟨eg_1, hF⟩ := hF
  obtain ⟨fs_2, eo_3⟩ := fg_rc_get eg_1
  replace hF := fg_oc_some hF
  obtain ⟨xz2, Gz1, e_4, hF⟩ := hF
  refine fg_callV X (st := []) (mX1_isVillage Ω.2.2.2.2.1 Ω.1 e_4) q1115 q1117 qs27 q93 q1118 hd_X1_isVillage (by decide) rfl eo_3 (by decide) rfl rfl (Nat.le_of_ble_eq_true rfl) dX1_place_2 ?_
  refine fg_if_eq X (tgt := 47) dX1_place_5 (by decide) (fun hc => ?_) (fun hc => ?_)
  · rw [if_pos hc] at hF
    refine fg_iconst X (v := (-1 : Int32)) dX1_place_47 (by decide) ?_
    cases hF
    exact fg_iret X dX1_place_48 (hT)
  · rw [if_neg hc] at hF
    refine fg_iload_n X dX1_place_8 rfl 2 rfl ?_
    refine fg_iconst X (v := (0 : Int32)) dX1_place_9 (by decide) ?_
    refine fg_bipush X (v := (10 : Int32)) dX1_place_10 (by decide) ?_
    replace hF := fg_oc_some hF
    obtain ⟨xz4, Gz3, e_5, hF⟩ := hF
    refine fg_callS X (st := []) (mX1_within Ω.2.2.2.2.1 Ω.1 e_5) q1086 q504 q93 q505 hd_X1_within (by decide) rfl rfl (Nat.le_of_ble_eq_true rfl) dX1_place_12 ?_
    refine fg_if_eq X (tgt := 47) dX1_place_15 (by decide) (fun hc => ?_) (fun hc => ?_)
    · rw [if_pos hc] at hF
      refine fg_iconst X (v := (-1 : Int32)) dX1_place_47 (by decide) ?_
      cases hF
      exact fg_iret X dX1_place_48 (hT)
    · rw [if_neg hc] at hF
      refine fg_iload_n X dX1_place_18 rfl 3 rfl ?_
      refine fg_iconst X (v := (0 : Int32)) dX1_place_19 (by decide) ?_
      refine fg_iconst X (v := (5 : Int32)) dX1_place_20 (by decide) ?_
      replace hF := fg_oc_some hF
      obtain ⟨xz6, Gz5, e_6, hF⟩ := hF
      refine fg_callS X (st := []) (mX1_within Ω.2.2.2.2.1 Ω.1 e_6) q1086 q504 q93 q505 hd_X1_within (by decide) rfl rfl (Nat.le_of_ble_eq_true rfl) dX1_place_21 ?_
      refine fg_if_eq X (tgt := 47) dX1_place_24 (by decide) (fun hc => ?_) (fun hc => ?_)
      · rw [if_pos hc] at hF
        refine fg_iconst X (v := (-1 : Int32)) dX1_place_47 (by decide) ?_
        cases hF
        exact fg_iret X dX1_place_48 (hT)
      · rw [if_neg hc] at hF
        refine fg_iload X dX1_place_27 4 rfl ?_
        refine fg_iconst X (v := (0 : Int32)) dX1_place_29 (by decide) ?_
        refine fg_iconst X (v := (2 : Int32)) dX1_place_30 (by decide) ?_
        replace hF := fg_oc_some hF
        obtain ⟨xz8, Gz7, e_7, hF⟩ := hF
        refine fg_callS X (st := []) (mX1_within Ω.2.2.2.2.1 Ω.1 e_7) q1086 q504 q93 q505 hd_X1_within (by decide) rfl rfl (Nat.le_of_ble_eq_true rfl) dX1_place_31 ?_
        refine fg_if_eq X (tgt := 47) dX1_place_34 (by decide) (fun hc => ?_) (fun hc => ?_)
        · rw [if_pos hc] at hF
          refine fg_iconst X (v := (-1 : Int32)) dX1_place_47 (by decide) ?_
          cases hF
          exact fg_iret X dX1_place_48 (hT)
        · rw [if_neg hc] at hF
          refine fg_iload X dX1_place_37 5 rfl ?_
          refine fg_iconst X (v := (0 : Int32)) dX1_place_39 (by decide) ?_
          refine fg_iconst X (v := (1 : Int32)) dX1_place_40 (by decide) ?_
          replace hF := fg_oc_some hF
          obtain ⟨xz10, Gz9, e_8, hF⟩ := hF
          refine fg_callS X (st := []) (mX1_within Ω.2.2.2.2.1 Ω.1 e_8) q1086 q504 q93 q505 hd_X1_within (by decide) rfl rfl (Nat.le_of_ble_eq_true rfl) dX1_place_41 ?_
          refine fg_if_ne X (tgt := 49) dX1_place_44 (by decide) (fun hc => ?_) (fun hc => ?_)
          · rw [if_neg hc] at hF
            refine fg_aload_n X (r := (some a0)) dX1_place_49 rfl 0 rfl ?_
            replace hF := fg_gd_some hF
            obtain ⟨eg_9, hF⟩ := hF
            obtain ⟨fs_10, eo_11⟩ := fg_rc_get eg_9
            replace hF := fg_oc_some hF
            obtain ⟨rz12, Gz11, e_12, hF⟩ := hF
            refine fg_callV X (st := []) (mX1_tries Ω.2.2.2.2.1 Ω.1 e_12) q1327 q1329 qs29 q93 q1330 hd_X1_tries (by decide) rfl eo_11 (by decide) rfl rfl (Nat.le_of_ble_eq_true rfl) dX1_place_50 ?_
            refine fg_pop X dX1_place_53 (fg_cat _) ?_
            refine fg_iload_n X dX1_place_54 rfl 3 rfl ?_
            refine fg_iload_n X dX1_place_55 rfl 1 rfl ?_
            refine fg_iload_n X dX1_place_56 rfl 2 rfl ?_
            replace hF := fg_oc_some hF
            obtain ⟨rz14, Gz13, e_13, hF⟩ := hF
            refine fg_callS X (st := []) (mX1_net Ω.2.2.2.2.1 Ω.1 e_13) q1331 q1006 q93 q1007 hd_X1_net (by decide) rfl rfl (Nat.le_of_ble_eq_true rfl) dX1_place_57 ?_
            refine fg_astore X (r := rz14) (L' := [(6, va_rf rz14), (0, .ref a0), (1, .int i1), (2, .int i2), (3, .int i3), (4, .int i4), (5, .int i5)]) dX1_place_60 (by decide) rfl ?_
            refine fg_iconst X (v := (-1 : Int32)) dX1_place_62 (by decide) ?_
            refine fg_istore X (L' := [(7, .int (-1 : Int32)), (6, va_rf rz14), (0, .ref a0), (1, .int i1), (2, .int i2), (3, .int i3), (4, .int i4), (5, .int i5)]) dX1_place_63 (by decide) (by cases rz14 <;> rfl) ?_
            refine fg_iconst X (v := (0 : Int32)) dX1_place_65 (by decide) ?_
            refine fg_istore X (L' := [(8, .int (0 : Int32)), (7, .int (-1 : Int32)), (6, va_rf rz14), (0, .ref a0), (1, .int i1), (2, .int i2), (3, .int i3), (4, .int i4), (5, .int i5)]) dX1_place_66 (by decide) rfl ?_
            refine fg_iconst X (v := (0 : Int32)) dX1_place_68 (by decide) ?_
            refine fg_istore X (L' := [(9, .int (0 : Int32)), (8, .int (0 : Int32)), (7, .int (-1 : Int32)), (6, va_rf rz14), (0, .ref a0), (1, .int i1), (2, .int i2), (3, .int i3), (4, .int i4), (5, .int i5)]) dX1_place_69 (by decide) rfl ?_
            refine fg_sub [4, 5, 8, 9, 3, 2, 1, 0] rfl ?_
            exact wX1_place_71 X hF hT
          · rw [if_pos hc] at hF
            refine fg_iconst X (v := (-1 : Int32)) dX1_place_47 (by decide) ?_
            cases hF
            exact fg_iret X dX1_place_48 (hT)
theorem mX1_place (l : Launch) (D : fg_D) {a0 : Nat} {i1 : Int32} {i2 : Int32} {i3 : Int32} {i4 : Int32} {i5 : Int32} {G : fg_H} {t : Int32 × fg_H} (hF : fX1_place a0 i1 i2 i3 i4 i5 G = some t) : fg_M l D yX1_place cX1_place 11 (some .int) 125 [.ref a0, .int i1, .int i2, .int i3, .int i4, .int i5] G (.returned (some (.int t.1))) t.2 :=
  fg_Mof (own := RX1) (nm := "place") (L := [(0, .ref a0), (1, .int i1), (2, .int i2), (3, .int i3), (4, .int i4), (5, .int i5)]) (plainFor_of_name pn_X1) rfl rfl rfl (Nat.le_of_ble_eq_true rfl) (fun Ω _ _ X hT => wX1_place X hF hT)
theorem hd_X1_wishes : yX1_wishes.cls ≠ "java/lang/invoke/MethodHandle" ∧ yX1_wishes.cls ≠ "java/lang/invoke/VarHandle" ∧ (parseMethodDescriptor yX1_wishes.desc).map (fun d => d.parameters.length) = some 1 := ⟨by decide +kernel, by decide +kernel, by decide +kernel⟩
set_option maxHeartbeats 4000000 in
theorem wX1_wishes_43b {Ω : fg_O} {a0 : Nat} {i1 : Int32} {i2 : Int32} {i3 : Int32} {i4 : Int32} {i5 : Int32} {G : fg_H} {t : ((Nat × Int32 × Int32 × Int32 × Int32 × Int32 × fg_H) ⊕ (Int32 × fg_H))} (X : fg_X Ω RX1 "wishes" cX1_wishes 7 (some .int) 4) (hF : fX1_wishes_43b a0 i1 i2 i3 i4 i5 G = some t) (h43 : ∀ z, t = (.inl z) → fg_W Ω z.2.2.2.2.2.2 43 [(0, .ref z.1), (1, .int z.2.1), (2, .int z.2.2.1), (3, .int z.2.2.2.1), (4, .int z.2.2.2.2.1), (5, .int z.2.2.2.2.2.1)] []) (hT : ∀ u, t = (.inr u) → fg_T Ω (.returned (some (.int u.1))) u.2) : fg_W Ω G 43 [(0, .ref a0), (1, .int i1), (2, .int i2), (3, .int i3), (4, .int i4), (5, .int i5)] [] := by
  unfold fX1_wishes_43b at hF
  refine fg_iload X dX1_wishes_43 5 rfl ?_
  refine fg_bipush X (v := (64 : Int32)) dX1_wishes_45 (by decide) ?_
  refine fg_icmp_ge X (tgt := 141) dX1_wishes_47 (by decide) (fun hc => ?_) (fun hc => ?_)
  · rw [if_pos hc] at hF
    replace hF := fg_rt_some hF
    obtain ⟨tz21, hF, ht_1⟩ := hF
    subst ht_1
    replace hT := hT _ rfl
    refine fg_iload_n X dX1_wishes_141 rfl 3 rfl ?_
    cases hF
    exact fg_iret X dX1_wishes_142 (hT)
  · rw [if_neg hc] at hF
    refine fg_iload X dX1_wishes_50 5 rfl ?_
    refine fg_iload_n X dX1_wishes_52 rfl 2 rfl ?_
    refine fg_icmp_eq X (tgt := 135) dX1_wishes_53 (by decide) (fun hc => ?_) (fun hc => ?_)
    · rw [if_pos hc] at hF
      refine fg_iinc X (v := (i5 + (1 : Int32))) (L' := [(5, .int (i5 + (1 : Int32))), (0, .ref a0), (1, .int i1), (2, .int i2), (3, .int i3), (4, .int i4)]) dX1_wishes_135 5 rfl rfl (by decide) rfl ?_
      refine fg_goto X (tgt := 43) dX1_wishes_138 (by decide) ?_
      refine fg_sub [1, 2, 3, 4, 5, 0] rfl ?_
      exact h43 _ (Option.some.inj hF).symm
    · rw [if_neg hc] at hF
      refine fg_aload_n X (r := (some a0)) dX1_wishes_56 rfl 0 rfl ?_
      replace hF := fg_ob_some hF
      obtain ⟨rz22, e_2, hF⟩ := hF
      refine fg_getr X ff_X1_trial q459 e_2 dX1_wishes_57 ?_
      refine fg_iload X dX1_wishes_60 5 rfl ?_
      replace hF := fg_ob_some hF
      obtain ⟨az23, rfl, hF⟩ := hF
      replace hF := fg_gd_some hF
      obtain ⟨eg_3, hF⟩ := hF
      obtain ⟨fs_4, eo_5⟩ := fg_rc_get eg_3
      replace hF := fg_oc_some hF
      obtain ⟨xz25, Gz24, e_6, hF⟩ := hF
      refine fg_callV X (st := []) (mX5_isFree Ω.2.2.2.2.1 Ω.1 e_6) q1310 q1311 q1312 q100 q1313 hd_X5_isFree (by decide) rfl eo_5 (by decide) rfl rfl (Nat.le_of_ble_eq_true rfl) dX1_wishes_62 ?_
      refine fg_if_ne X (tgt := 71) dX1_wishes_65 (by decide) (fun hc => ?_) (fun hc => ?_)
      · rw [if_neg hc] at hF
        refine fg_aload_n X (r := (some a0)) dX1_wishes_71 rfl 0 rfl ?_
        replace hF := fg_ob_some hF
        obtain ⟨rz26, e_7, hF⟩ := hF
        refine fg_getr X ff_X1_trial q459 e_7 dX1_wishes_72 ?_
        refine fg_iload_n X dX1_wishes_75 rfl 1 rfl ?_
        refine fg_iload X dX1_wishes_76 5 rfl ?_
        replace hF := fg_ob_some hF
        obtain ⟨az27, rfl, hF⟩ := hF
        replace hF := fg_gd_some hF
        obtain ⟨eg_8, hF⟩ := hF
        obtain ⟨fs_9, eo_10⟩ := fg_rc_get eg_8
        replace hF := fg_oc_some hF
        obtain ⟨u, Gz28, e_11, hF⟩ := hF
        refine fg_callV X (st := []) (mX5_moves Ω.2.2.2.2.1 Ω.1 e_11) q1319 q1320 q1321 q100 q1322 hd_X5_moves (by decide) rfl eo_10 (by decide) rfl rfl (Nat.le_of_ble_eq_true rfl) dX1_wishes_78 ?_
        refine fg_aload_n X (r := (some a0)) dX1_wishes_81 rfl 0 rfl ?_
        replace hF := fg_ob_some hF
        obtain ⟨rz29, e_12, hF⟩ := hF
        refine fg_getr X ff_X1_trial q459 e_12 dX1_wishes_82 ?_
        refine fg_aload_n X (r := (some a0)) dX1_wishes_85 rfl 0 rfl ?_
        replace hF := fg_ob_some hF
        obtain ⟨rz30, e_13, hF⟩ := hF
        refine fg_getr X ff_X1_sky q458 e_13 dX1_wishes_86 ?_
        replace hF := fg_ob_some hF
        obtain ⟨az31, rfl, hF⟩ := hF
        replace hF := fg_gd_some hF
        obtain ⟨eg_14, hF⟩ := hF
        obtain ⟨fs_15, eo_16⟩ := fg_rc_get eg_14
        replace hF := fg_oc_some hF
        obtain ⟨rz33, Gz32, e_17, hF⟩ := hF
        refine fg_callV X (st := []) (mX5_takes Ω.2.2.2.2.1 Ω.1 e_17) q1261 q1262 q1263 q100 q1264 hd_X5_takes (by decide) rfl eo_16 (by decide) rfl rfl (Nat.le_of_ble_eq_true rfl) dX1_wishes_89 ?_
        refine fg_aload_n X (r := (some a0)) dX1_wishes_92 rfl 0 rfl ?_
        replace hF := fg_ob_some hF
        obtain ⟨rz34, e_18, hF⟩ := hF
        refine fg_getr X ff_X1_trial q459 e_18 dX1_wishes_93 ?_
        replace hF := fg_ob_some hF
        obtain ⟨az35, rfl, hF⟩ := hF
        replace hF := fg_ob_some hF
        obtain ⟨rz36, e_19, hF⟩ := hF
        refine fg_getr X ff_X5_nets q357 e_19 dX1_wishes_96 ?_
        refine fg_iload_n X dX1_wishes_99 rfl 1 rfl ?_
        replace hF := fg_ob_some hF
        obtain ⟨az37, rfl, hF⟩ := hF
        replace hF := fg_ob_some hF
        obtain ⟨rz38, e_20, hF⟩ := hF
        refine fg_aald X (kd := 5) (by decide) e_20 dX1_wishes_100 ?_
        replace hF := fg_ob_some hF
        obtain ⟨az39, rfl, hF⟩ := hF
        replace hF := fg_ob_some hF
        obtain ⟨xz40, e_21, hF⟩ := hF
        refine fg_geti X ff_X23_village q1019 e_21 dX1_wishes_101 ?_
        replace hF := fg_ob_some hF
        obtain ⟨az41, rfl, hF⟩ := hF
        replace hF := fg_gd_some hF
        obtain ⟨eg_22, hF⟩ := hF
        obtain ⟨fs_23, eo_24⟩ := fg_rc_get eg_22
        replace hF := fg_oc_some hF
        obtain ⟨xz43, Gz42, e_25, hF⟩ := hF
        refine fg_callV X (st := []) (mX5_yields Ω.2.2.2.2.1 Ω.1 e_25) q1333 q1273 q1274 q100 q1275 hd_X5_yields (by decide) rfl eo_24 (by decide) rfl rfl (Nat.le_of_ble_eq_true rfl) dX1_wishes_104 ?_
        refine fg_istore X (L' := [(6, .int xz43), (0, .ref a0), (1, .int i1), (2, .int i2), (3, .int i3), (4, .int i4), (5, .int i5)]) dX1_wishes_107 (by decide) rfl ?_
        refine fg_aload_n X (r := (some a0)) dX1_wishes_109 rfl 1 rfl ?_
        replace hF := fg_ob_some hF
        obtain ⟨rz44, e_26, hF⟩ := hF
        refine fg_getr X ff_X1_trial q459 e_26 dX1_wishes_110 ?_
        refine fg_iload_n X dX1_wishes_113 rfl 2 rfl ?_
        refine fg_iload_n X dX1_wishes_114 rfl 3 rfl ?_
        replace hF := fg_ob_some hF
        obtain ⟨az45, rfl, hF⟩ := hF
        replace hF := fg_gd_some hF
        obtain ⟨eg_27, hF⟩ := hF
        obtain ⟨fs_28, eo_29⟩ := fg_rc_get eg_27
        replace hF := fg_oc_some hF
        obtain ⟨u, Gz46, e_30, hF⟩ := hF
        refine fg_callV X (st := []) (mX5_moves Ω.2.2.2.2.1 Ω.1 e_30) q1319 q1320 q1321 q100 q1322 hd_X5_moves (by decide) rfl eo_29 (by decide) rfl rfl (Nat.le_of_ble_eq_true rfl) dX1_wishes_115 ?_
        refine fg_iload X dX1_wishes_118 0 rfl ?_
        refine fg_iload X dX1_wishes_120 5 rfl ?_
        refine fg_icmp_gt X (tgt := 128) dX1_wishes_122 (by decide) (fun hc => ?_) (fun hc => ?_)
        · rw [if_pos hc] at hF
          refine fg_iload X dX1_wishes_128 6 rfl ?_
          refine fg_istore_n X (L' := [(3, .int i5), (6, .int xz43), (0, .ref a0), (1, .int i1), (2, .int i2), (4, .int i4), (5, .int i5)]) dX1_wishes_130 rfl (by decide) rfl ?_
          refine fg_iload X dX1_wishes_131 1 rfl ?_
          refine fg_istore X (L' := [(4, .int xz43), (3, .int i5), (6, .int xz43), (0, .ref a0), (1, .int i1), (2, .int i2), (5, .int i5)]) dX1_wishes_133 (by decide) rfl ?_
          refine fg_iinc X (v := (i5 + (1 : Int32))) (L' := [(5, .int (i5 + (1 : Int32))), (4, .int xz43), (3, .int i5), (6, .int xz43), (0, .ref a0), (1, .int i1), (2, .int i2)]) dX1_wishes_135 6 rfl rfl (by decide) rfl ?_
          refine fg_goto X (tgt := 43) dX1_wishes_138 (by decide) ?_
          refine fg_sub [4, 5, 6, 2, 1, 0] rfl ?_
          exact h43 _ (Option.some.inj hF).symm
        · rw [if_neg hc] at hF
          refine fg_goto X (tgt := 135) dX1_wishes_125 (by decide) ?_
          refine fg_iinc X (v := (i5 + (1 : Int32))) (L' := [(5, .int (i5 + (1 : Int32))), (6, .int xz43), (0, .ref a0), (1, .int i1), (2, .int i2), (3, .int i3), (4, .int i4)]) dX1_wishes_135 6 rfl rfl (by decide) rfl ?_
          refine fg_goto X (tgt := 43) dX1_wishes_138 (by decide) ?_
          refine fg_sub [2, 3, 4, 5, 6, 0] rfl ?_
          exact h43 _ (Option.some.inj hF).symm
      · rw [if_pos hc] at hF
        refine fg_goto X (tgt := 135) dX1_wishes_68 (by decide) ?_
        refine fg_iinc X (v := (i5 + (1 : Int32))) (L' := [(5, .int (i5 + (1 : Int32))), (0, .ref a0), (1, .int i1), (2, .int i2), (3, .int i3), (4, .int i4)]) dX1_wishes_135 5 rfl rfl (by decide) rfl ?_
        refine fg_goto X (tgt := 43) dX1_wishes_138 (by decide) ?_
        refine fg_sub [1, 2, 3, 4, 5, 0] rfl ?_
        exact h43 _ (Option.some.inj hF).symm
set_option maxHeartbeats 4000000 in
seal fX1_wishes_43b in
theorem wX1_wishes_43 {Ω : fg_O} {a0 : Nat} {i1 : Int32} {i2 : Int32} {i3 : Int32} {i4 : Int32} {i5 : Int32} {G : fg_H} {t : (Int32 × fg_H)} (X : fg_X Ω RX1 "wishes" cX1_wishes 7 (some .int) 4) (hF : fX1_wishes_43 a0 i1 i2 i3 i4 i5 G = some t) (hT : fg_T Ω (.returned (some (.int t.1))) t.2) : fg_W Ω G 43 [(0, .ref a0), (1, .int i1), (2, .int i2), (3, .int i3), (4, .int i4), (5, .int i5)] [] := by
  unfold fX1_wishes_43 at hF
  exact fg_lp_walk (P := fun z => fg_W Ω z.2.2.2.2.2.2 43 [(0, .ref z.1), (1, .int z.2.1), (2, .int z.2.2.1), (3, .int z.2.2.2.1), (4, .int z.2.2.2.2.1), (5, .int z.2.2.2.2.2.1)] []) (fun y o ho hl hr => wX1_wishes_43b X ho (fun z e => hl z e) (fun u e => by rw [hr _ e]; exact hT)) hF
set_option maxHeartbeats 4000000 in
theorem wX1_wishes {Ω : fg_O} {a0 : Nat} {i1 : Int32} {G : fg_H} {t : Int32 × fg_H} (X : fg_X Ω RX1 "wishes" cX1_wishes 7 (some .int) 4) (hF : fX1_wishes a0 i1 G = some t) (hT : fg_T Ω (.returned (some (.int t.1))) t.2) : fg_W Ω G 0 [(0, .ref a0), (1, .int i1)] [] := by
  unfold fX1_wishes at hF
  refine fg_aload_n X (r := (some a0)) dX1_wishes_0 rfl 0 rfl ?_
  replace hF := fg_ob_some hF
  obtain ⟨rz1, e_1, hF⟩ := hF
  refine fg_getr X ff_X1_trial q459 e_1 dX1_wishes_1 ?_
  replace hF := fg_ob_some hF
  obtain ⟨az2, rfl, hF⟩ := hF
  replace hF := fg_ob_some hF
  obtain ⟨rz3, e_2, hF⟩ := hF
  refine fg_getr X ff_X5_at q359 e_2 dX1_wishes_4 ?_
  refine fg_iload_n X dX1_wishes_7 rfl 1 rfl ?_
  replace hF := fg_ob_some hF
  obtain ⟨az4, rfl, hF⟩ := hF
  replace hF := fg_ob_some hF
  obtain ⟨xz5, e_3, hF⟩ := hF
  refine fg_iald X e_3 dX1_wishes_8 ?_
  refine fg_istore_n X (L' := [(2, .int xz5), (0, .ref a0), (1, .int i1)]) dX1_wishes_9 rfl (by decide) rfl ?_
  refine fg_iload_n X dX1_wishes_10 rfl 0 rfl ?_
  refine fg_istore_n X (L' := [(3, .int xz5), (2, .int xz5), (0, .ref a0), (1, .int i1)]) dX1_wishes_11 rfl (by decide) rfl ?_
  refine fg_aload_n X (r := (some a0)) dX1_wishes_12 rfl 2 rfl ?_
  replace hF := fg_ob_some hF
  obtain ⟨rz6, e_4, hF⟩ := hF
  refine fg_getr X ff_X1_trial q459 e_4 dX1_wishes_13 ?_
  refine fg_aload_n X (r := (some a0)) dX1_wishes_16 rfl 2 rfl ?_
  replace hF := fg_ob_some hF
  obtain ⟨rz7, e_5, hF⟩ := hF
  refine fg_getr X ff_X1_sky q458 e_5 dX1_wishes_17 ?_
  replace hF := fg_ob_some hF
  obtain ⟨az8, rfl, hF⟩ := hF
  replace hF := fg_gd_some hF
  obtain ⟨eg_6, hF⟩ := hF
  obtain ⟨fs_7, eo_8⟩ := fg_rc_get eg_6
  replace hF := fg_oc_some hF
  obtain ⟨rz10, Gz9, e_9, hF⟩ := hF
  refine fg_callV X (st := []) (mX5_takes Ω.2.2.2.2.1 Ω.1 e_9) q1261 q1262 q1263 q100 q1264 hd_X5_takes (by decide) rfl eo_8 (by decide) rfl rfl (Nat.le_of_ble_eq_true rfl) dX1_wishes_20 ?_
  refine fg_aload_n X (r := (some a0)) dX1_wishes_23 rfl 2 rfl ?_
  replace hF := fg_ob_some hF
  obtain ⟨rz11, e_10, hF⟩ := hF
  refine fg_getr X ff_X1_trial q459 e_10 dX1_wishes_24 ?_
  replace hF := fg_ob_some hF
  obtain ⟨az12, rfl, hF⟩ := hF
  replace hF := fg_ob_some hF
  obtain ⟨rz13, e_11, hF⟩ := hF
  refine fg_getr X ff_X5_nets q357 e_11 dX1_wishes_27 ?_
  refine fg_iload_n X dX1_wishes_30 rfl 3 rfl ?_
  replace hF := fg_ob_some hF
  obtain ⟨az14, rfl, hF⟩ := hF
  replace hF := fg_ob_some hF
  obtain ⟨rz15, e_12, hF⟩ := hF
  refine fg_aald X (kd := 5) (by decide) e_12 dX1_wishes_31 ?_
  replace hF := fg_ob_some hF
  obtain ⟨az16, rfl, hF⟩ := hF
  replace hF := fg_ob_some hF
  obtain ⟨xz17, e_13, hF⟩ := hF
  refine fg_geti X ff_X23_village q1019 e_13 dX1_wishes_32 ?_
  replace hF := fg_ob_some hF
  obtain ⟨az18, rfl, hF⟩ := hF
  replace hF := fg_gd_some hF
  obtain ⟨eg_14, hF⟩ := hF
  obtain ⟨fs_15, eo_16⟩ := fg_rc_get eg_14
  replace hF := fg_oc_some hF
  obtain ⟨xz20, Gz19, e_17, hF⟩ := hF
  refine fg_callV X (st := []) (mX5_yields Ω.2.2.2.2.1 Ω.1 e_17) q1333 q1273 q1274 q100 q1275 hd_X5_yields (by decide) rfl eo_16 (by decide) rfl rfl (Nat.le_of_ble_eq_true rfl) dX1_wishes_35 ?_
  refine fg_istore X (L' := [(4, .int xz20), (3, .int xz5), (2, .int xz5), (0, .ref a0), (1, .int i1)]) dX1_wishes_38 (by decide) rfl ?_
  refine fg_iconst X (v := (0 : Int32)) dX1_wishes_40 (by decide) ?_
  refine fg_istore X (L' := [(5, .int (0 : Int32)), (4, .int xz20), (3, .int xz5), (2, .int xz5), (0, .ref a0), (1, .int i1)]) dX1_wishes_41 (by decide) rfl ?_
  refine fg_sub [4, 5, 3, 2, 1, 0] rfl ?_
  exact wX1_wishes_43 X hF hT
theorem mX1_wishes (l : Launch) (D : fg_D) {a0 : Nat} {i1 : Int32} {G : fg_H} {t : Int32 × fg_H} (hF : fX1_wishes a0 i1 G = some t) : fg_M l D yX1_wishes cX1_wishes 7 (some .int) 4 [.ref a0, .int i1] G (.returned (some (.int t.1))) t.2 :=
  fg_Mof (own := RX1) (nm := "wishes") (L := [(0, .ref a0), (1, .int i1)]) (plainFor_of_name pn_X1) rfl rfl rfl (Nat.le_of_ble_eq_true rfl) (fun Ω _ _ X hT => wX1_wishes X hF hT)
theorem hd_X1_restless : yX1_restless.cls ≠ "java/lang/invoke/MethodHandle" ∧ yX1_restless.cls ≠ "java/lang/invoke/VarHandle" ∧ (parseMethodDescriptor yX1_restless.desc).map (fun d => d.parameters.length) = some 0 := ⟨by decide +kernel, by decide +kernel, by decide +kernel⟩
set_option maxHeartbeats 4000000 in
theorem wX1_restless_9b {Ω : fg_O} {a0 : Nat} {i1 : Int32} {i2 : Int32} {G : fg_H} {t : ((Nat × Int32 × Int32 × fg_H) ⊕ (Int32 × fg_H))} (X : fg_X Ω RX1 "restless" cX1_restless 3 (some .int) 125) (hF : fX1_restless_9b a0 i1 i2 G = some t) (h9 : ∀ z, t = (.inl z) → fg_W Ω z.2.2.2 9 [(0, .ref z.1), (1, .int z.2.1), (2, .int z.2.2.1)] []) (hT : ∀ u, t = (.inr u) → fg_T Ω (.returned (some (.int u.1))) u.2) : fg_W Ω G 9 [(0, .ref a0), (1, .int i1), (2, .int i2)] [] := by
  unfold fX1_restless_9b at hF
  refine fg_iload_n X dX1_restless_9 rfl 2 rfl ?_
  refine fg_aload_n X (r := (some a0)) dX1_restless_10 rfl 0 rfl ?_
  replace hF := fg_ob_some hF
  obtain ⟨rz3, e_1, hF⟩ := hF
  refine fg_getr X ff_X1_trial q459 e_1 dX1_restless_11 ?_
  replace hF := fg_ob_some hF
  obtain ⟨az4, rfl, hF⟩ := hF
  replace hF := fg_ob_some hF
  obtain ⟨xz5, e_2, hF⟩ := hF
  refine fg_geti X ff_X5_many q363 e_2 dX1_restless_14 ?_
  refine fg_icmp_ge X (tgt := 49) dX1_restless_17 (by decide) (fun hc => ?_) (fun hc => ?_)
  · rw [if_pos hc] at hF
    replace hF := fg_rt_some hF
    obtain ⟨tz6, hF, ht_3⟩ := hF
    subst ht_3
    replace hT := hT _ rfl
    refine fg_iload_n X dX1_restless_49 rfl 1 rfl ?_
    cases hF
    exact fg_iret X dX1_restless_50 (hT)
  · rw [if_neg hc] at hF
    refine fg_aload_n X (r := (some a0)) dX1_restless_20 rfl 0 rfl ?_
    refine fg_iload_n X dX1_restless_21 rfl 2 rfl ?_
    replace hF := fg_gd_some hF
    obtain ⟨eg_4, hF⟩ := hF
    obtain ⟨fs_5, eo_6⟩ := fg_rc_get eg_4
    replace hF := fg_oc_some hF
    obtain ⟨xz8, Gz7, e_7, hF⟩ := hF
    refine fg_callV X (st := []) (mX1_wishes Ω.2.2.2.2.1 Ω.1 e_7) q1342 q1344 qs30 q93 q1345 hd_X1_wishes (by decide) rfl eo_6 (by decide) rfl rfl (Nat.le_of_ble_eq_true rfl) dX1_restless_22 ?_
    refine fg_aload_n X (r := (some a0)) dX1_restless_25 rfl 0 rfl ?_
    replace hF := fg_ob_some hF
    obtain ⟨rz9, e_8, hF⟩ := hF
    refine fg_getr X ff_X1_trial q459 e_8 dX1_restless_26 ?_
    replace hF := fg_ob_some hF
    obtain ⟨az10, rfl, hF⟩ := hF
    replace hF := fg_ob_some hF
    obtain ⟨rz11, e_9, hF⟩ := hF
    refine fg_getr X ff_X5_at q359 e_9 dX1_restless_29 ?_
    refine fg_iload_n X dX1_restless_32 rfl 2 rfl ?_
    replace hF := fg_ob_some hF
    obtain ⟨az12, rfl, hF⟩ := hF
    replace hF := fg_ob_some hF
    obtain ⟨xz13, e_10, hF⟩ := hF
    refine fg_iald X e_10 dX1_restless_33 ?_
    refine fg_icmp_eq X (tgt := 43) dX1_restless_34 (by decide) (fun hc => ?_) (fun hc => ?_)
    · rw [if_pos hc] at hF
      refine fg_iinc X (v := (i2 + (1 : Int32))) (L' := [(2, .int (i2 + (1 : Int32))), (0, .ref a0), (1, .int i1)]) dX1_restless_43 2 rfl rfl (by decide) rfl ?_
      refine fg_goto X (tgt := 9) dX1_restless_46 (by decide) ?_
      refine fg_sub [1, 2, 0] rfl ?_
      exact h9 _ (Option.some.inj hF).symm
    · rw [if_neg hc] at hF
      refine fg_iload_n X dX1_restless_37 rfl 1 rfl ?_
      refine fg_iconst X (v := (1 : Int32)) dX1_restless_38 (by decide) ?_
      refine fg_iload_n X dX1_restless_39 rfl 2 rfl ?_
      refine fg_ishl X dX1_restless_40 ?_
      refine fg_ior X dX1_restless_41 ?_
      replace hF := fg_ob_some hF
      obtain ⟨vz14, ex_11, hF⟩ := hF
      refine fg_topi (Option.some.inj ex_11) ?_
      refine fg_istore_n X (L' := [(1, .int vz14), (0, .ref a0), (2, .int i2)]) dX1_restless_42 rfl (by decide) rfl ?_
      refine fg_iinc X (v := (i2 + (1 : Int32))) (L' := [(2, .int (i2 + (1 : Int32))), (1, .int vz14), (0, .ref a0)]) dX1_restless_43 2 rfl rfl (by decide) rfl ?_
      refine fg_goto X (tgt := 9) dX1_restless_46 (by decide) ?_
      refine fg_sub [2, 1, 0] rfl ?_
      exact h9 _ (Option.some.inj hF).symm
set_option maxHeartbeats 4000000 in
seal fX1_restless_9b in
theorem wX1_restless_9 {Ω : fg_O} {a0 : Nat} {i1 : Int32} {i2 : Int32} {G : fg_H} {t : (Int32 × fg_H)} (X : fg_X Ω RX1 "restless" cX1_restless 3 (some .int) 125) (hF : fX1_restless_9 a0 i1 i2 G = some t) (hT : fg_T Ω (.returned (some (.int t.1))) t.2) : fg_W Ω G 9 [(0, .ref a0), (1, .int i1), (2, .int i2)] [] := by
  unfold fX1_restless_9 at hF
  exact fg_lp_walk (P := fun z => fg_W Ω z.2.2.2 9 [(0, .ref z.1), (1, .int z.2.1), (2, .int z.2.2.1)] []) (fun y o ho hl hr => wX1_restless_9b X ho (fun z e => hl z e) (fun u e => by rw [hr _ e]; exact hT)) hF
set_option maxHeartbeats 4000000 in
theorem wX1_restless {Ω : fg_O} {a0 : Nat} {G : fg_H} {t : Int32 × fg_H} (X : fg_X Ω RX1 "restless" cX1_restless 3 (some .int) 125) (hF : fX1_restless a0 G = some t) (hT : fg_T Ω (.returned (some (.int t.1))) t.2) : fg_W Ω G 0 [(0, .ref a0)] [] := by
  unfold fX1_restless at hF
  refine fg_aload_n X (r := (some a0)) dX1_restless_0 rfl 0 rfl ?_
  replace hF := fg_gd_some hF
  obtain ⟨eg_1, hF⟩ := hF
  obtain ⟨fs_2, eo_3⟩ := fg_rc_get eg_1
  replace hF := fg_oc_some hF
  obtain ⟨rz2, Gz1, e_4, hF⟩ := hF
  refine fg_callV X (st := []) (mX1_tries Ω.2.2.2.2.1 Ω.1 e_4) q1327 q1329 qs29 q93 q1330 hd_X1_tries (by decide) rfl eo_3 (by decide) rfl rfl (Nat.le_of_ble_eq_true rfl) dX1_restless_1 ?_
  refine fg_pop X dX1_restless_4 (fg_cat _) ?_
  refine fg_iconst X (v := (0 : Int32)) dX1_restless_5 (by decide) ?_
  refine fg_istore_n X (L' := [(1, .int (0 : Int32)), (0, .ref a0)]) dX1_restless_6 rfl (by decide) rfl ?_
  refine fg_iconst X (v := (0 : Int32)) dX1_restless_7 (by decide) ?_
  refine fg_istore_n X (L' := [(2, .int (0 : Int32)), (1, .int (0 : Int32)), (0, .ref a0)]) dX1_restless_8 rfl (by decide) rfl ?_
  refine fg_sub [2, 1, 0] rfl ?_
  exact wX1_restless_9 X hF hT
theorem mX1_restless (l : Launch) (D : fg_D) {a0 : Nat} {G : fg_H} {t : Int32 × fg_H} (hF : fX1_restless a0 G = some t) : fg_M l D yX1_restless cX1_restless 3 (some .int) 125 [.ref a0] G (.returned (some (.int t.1))) t.2 :=
  fg_Mof (own := RX1) (nm := "restless") (L := [(0, .ref a0)]) (plainFor_of_name pn_X1) rfl rfl rfl (Nat.le_of_ble_eq_true rfl) (fun Ω _ _ X hT => wX1_restless X hF hT)
theorem hd_J7_abs : yJ7_abs.cls ≠ "java/lang/invoke/MethodHandle" ∧ yJ7_abs.cls ≠ "java/lang/invoke/VarHandle" ∧ (parseMethodDescriptor yJ7_abs.desc).map (fun d => d.parameters.length) = some 1 := ⟨by decide +kernel, by decide +kernel, by decide +kernel⟩
set_option maxHeartbeats 4000000 in
theorem wJ7_abs {Ω : fg_O} {i0 : Int32} {G : fg_H} {t : Int32 × fg_H} (X : fg_X Ω RJ7 "abs" cJ7_abs 1 (some .int) 0) (hF : fJ7_abs i0 G = some t) (hT : fg_T Ω (.returned (some (.int t.1))) t.2) : fg_W Ω G 0 [(0, .int i0)] [] := by
  unfold fJ7_abs at hF
  refine fg_iload_n X dJ7_abs_0 rfl 0 rfl ?_
  refine fg_if_ge X (tgt := 9) dJ7_abs_1 (by decide) (fun hc => ?_) (fun hc => ?_)
  · rw [if_pos hc] at hF
    refine fg_iload_n X dJ7_abs_9 rfl 0 rfl ?_
    cases hF
    exact fg_iret X dJ7_abs_10 (hT)
  · rw [if_neg hc] at hF
    refine fg_iload_n X dJ7_abs_4 rfl 0 rfl ?_
    refine fg_ineg X dJ7_abs_5 ?_
    refine fg_goto X (tgt := 10) dJ7_abs_6 (by decide) ?_
    cases hF
    exact fg_iret X dJ7_abs_10 (hT)
theorem mJ7_abs (l : Launch) (D : fg_D) {i0 : Int32} {G : fg_H} {t : Int32 × fg_H} (hF : fJ7_abs i0 G = some t) : fg_M l D yJ7_abs cJ7_abs 1 (some .int) 0 [.int i0] G (.returned (some (.int t.1))) t.2 :=
  fg_Mof (own := RJ7) (nm := "abs") (L := [(0, .int i0)]) (by decide +kernel) rfl rfl rfl (Nat.le_of_ble_eq_true rfl) (fun Ω _ _ X hT => wJ7_abs X hF hT)
theorem hd_X1_isThere : yX1_isThere.cls ≠ "java/lang/invoke/MethodHandle" ∧ yX1_isThere.cls ≠ "java/lang/invoke/VarHandle" ∧ (parseMethodDescriptor yX1_isThere.desc).map (fun d => d.parameters.length) = some 1 := ⟨by decide +kernel, by decide +kernel, by decide +kernel⟩
set_option maxHeartbeats 4000000 in
theorem wX1_isThere_67 {Ω : fg_O} {a0 : Nat} {a1 : Nat} {i2 : Int32} {i3 : Int32} {G : fg_H} {t : ((Nat × Option Nat × Int32 × fg_H) ⊕ (Int32 × fg_H))} (X : fg_X Ω RX1 "isThere" cX1_isThere 5 (some .boolean) 3) (hF : fX1_isThere_67 a0 a1 i2 i3 G = some t) (h2 : ∀ z, t = (.inl z) → fg_W Ω z.2.2.2 2 [(0, .ref z.1), (1, va_rf z.2.1), (2, .int z.2.2.1)] []) (hT : ∀ u, t = (.inr u) → fg_T Ω (.returned (some (.int u.1))) u.2) : fg_W Ω G 67 [(0, .ref a0), (1, .ref a1), (2, .int i2), (3, .int i3)] [] := by
  unfold fX1_isThere_67 at hF
  refine fg_iload_n X dX1_isThere_67 rfl 3 rfl ?_
  refine fg_if_eq X (tgt := 73) dX1_isThere_68 (by decide) (fun hc => ?_) (fun hc => ?_)
  · rw [if_pos hc] at hF
    refine fg_iinc X (v := (i2 + (1 : Int32))) (L' := [(2, .int (i2 + (1 : Int32))), (0, .ref a0), (1, .ref a1), (3, .int i3)]) dX1_isThere_73 2 rfl rfl (by decide) rfl ?_
    refine fg_goto X (tgt := 2) dX1_isThere_76 (by decide) ?_
    refine fg_sub [1, 2, 0] rfl ?_
    exact h2 _ (Option.some.inj hF).symm
  · rw [if_neg hc] at hF
    replace hF := fg_rt_some hF
    obtain ⟨tz9, hF, ht_1⟩ := hF
    subst ht_1
    replace hT := hT _ rfl
    refine fg_iconst X (v := (1 : Int32)) dX1_isThere_71 (by decide) ?_
    cases hF
    exact fg_zret X (by decide) dX1_isThere_72 (hT)
set_option maxHeartbeats 4000000 in
theorem wX1_isThere_15b {Ω : fg_O} {a0 : Nat} {a1 : Nat} {i2 : Int32} {i3 : Int32} {i4 : Int32} {G : fg_H} {t : ((Nat × Nat × Int32 × Int32 × Int32 × fg_H) ⊕ ((Nat × Option Nat × Int32 × fg_H) ⊕ (Int32 × fg_H)))} (X : fg_X Ω RX1 "isThere" cX1_isThere 5 (some .boolean) 3) (hF : fX1_isThere_15b a0 a1 i2 i3 i4 G = some t) (h2 : ∀ z, t = (.inr (.inl z)) → fg_W Ω z.2.2.2 2 [(0, .ref z.1), (1, va_rf z.2.1), (2, .int z.2.2.1)] []) (h15 : ∀ z, t = (.inl z) → fg_W Ω z.2.2.2.2.2 15 [(0, .ref z.1), (1, .ref z.2.1), (2, .int z.2.2.1), (3, .int z.2.2.2.1), (4, .int z.2.2.2.2.1)] []) (hT : ∀ u, t = (.inr (.inr u)) → fg_T Ω (.returned (some (.int u.1))) u.2) : fg_W Ω G 15 [(0, .ref a0), (1, .ref a1), (2, .int i2), (3, .int i3), (4, .int i4)] [] := by
  unfold fX1_isThere_15b at hF
  refine fg_iload X dX1_isThere_15 4 rfl ?_
  refine fg_aload_n X (r := (some a0)) dX1_isThere_17 rfl 0 rfl ?_
  replace hF := fg_ob_some hF
  obtain ⟨rz5, e_1, hF⟩ := hF
  refine fg_getr X ff_X1_trial q459 e_1 dX1_isThere_18 ?_
  replace hF := fg_ob_some hF
  obtain ⟨az6, rfl, hF⟩ := hF
  replace hF := fg_ob_some hF
  obtain ⟨xz7, e_2, hF⟩ := hF
  refine fg_geti X ff_X5_many q363 e_2 dX1_isThere_21 ?_
  refine fg_icmp_ge X (tgt := 67) dX1_isThere_24 (by decide) (fun hc => ?_) (fun hc => ?_)
  · rw [if_pos hc] at hF
    replace hF := fg_rt_some hF
    obtain ⟨tz8, hF, ht_3⟩ := hF
    subst ht_3
    replace h2 := fun z q => h2 z (congrArg Sum.inr q)
    replace hT := fun u q => hT u (congrArg Sum.inr q)
    refine fg_sub [0, 1, 2, 3] rfl ?_
    exact wX1_isThere_67 X hF h2 hT
  · rw [if_neg hc] at hF
    refine fg_iload_n X dX1_isThere_27 rfl 3 rfl ?_
    refine fg_if_eq X (tgt := 67) dX1_isThere_28 (by decide) (fun hc => ?_) (fun hc => ?_)
    · rw [if_pos hc] at hF
      replace hF := fg_rt_some hF
      obtain ⟨tz10, hF, ht_4⟩ := hF
      subst ht_4
      replace h2 := fun z q => h2 z (congrArg Sum.inr q)
      replace hT := fun u q => hT u (congrArg Sum.inr q)
      refine fg_sub [0, 1, 2, 3] rfl ?_
      exact wX1_isThere_67 X hF h2 hT
    · rw [if_neg hc] at hF
      refine fg_aload_n X (r := (some a1)) dX1_isThere_31 rfl 1 rfl ?_
      refine fg_iload_n X dX1_isThere_32 rfl 2 rfl ?_
      replace hF := fg_gd_some hF
      obtain ⟨eg_5, hF⟩ := hF
      obtain ⟨fs_6, eo_7⟩ := fg_rc_get eg_5
      replace hF := fg_oc_some hF
      obtain ⟨rz12, Gz11, e_8, hF⟩ := hF
      refine fg_callV X (st := []) (mJ2_get Ω.2.2.2.2.1 Ω.1 e_8) q1363 q428 q429 q98 q430 hd_J2_get (by decide) rfl eo_7 (by decide) rfl rfl (Nat.le_of_ble_eq_true rfl) dX1_isThere_33 ?_
      replace hF := fg_gd_some hF
      obtain ⟨eg_9, hF⟩ := hF
      refine fg_castI X (r := rz12) q1364 eg_9 dX1_isThere_36 ?_
      refine fg_iload X dX1_isThere_39 4 rfl ?_
      replace hF := fg_ob_some hF
      obtain ⟨az13, rfl, hF⟩ := hF
      replace hF := fg_ob_some hF
      obtain ⟨xz14, e_10, hF⟩ := hF
      refine fg_iald X e_10 dX1_isThere_41 ?_
      refine fg_aload_n X (r := (some a0)) dX1_isThere_42 rfl 0 rfl ?_
      replace hF := fg_ob_some hF
      obtain ⟨rz15, e_11, hF⟩ := hF
      refine fg_getr X ff_X1_trial q459 e_11 dX1_isThere_43 ?_
      replace hF := fg_ob_some hF
      obtain ⟨az16, rfl, hF⟩ := hF
      replace hF := fg_ob_some hF
      obtain ⟨rz17, e_12, hF⟩ := hF
      refine fg_getr X ff_X5_at q359 e_12 dX1_isThere_46 ?_
      refine fg_iload X dX1_isThere_49 4 rfl ?_
      replace hF := fg_ob_some hF
      obtain ⟨az18, rfl, hF⟩ := hF
      replace hF := fg_ob_some hF
      obtain ⟨xz19, e_13, hF⟩ := hF
      refine fg_iald X e_13 dX1_isThere_51 ?_
      refine fg_icmp_ne X (tgt := 59) dX1_isThere_52 (by decide) (fun hc => ?_) (fun hc => ?_)
      · rw [if_neg hc] at hF
        refine fg_iconst X (v := (0 : Int32)) dX1_isThere_59 (by decide) ?_
        refine fg_istore_n X (L' := [(3, .int (0 : Int32)), (0, .ref a0), (1, .ref a1), (2, .int i2), (4, .int i4)]) dX1_isThere_60 rfl (by decide) rfl ?_
        refine fg_iinc X (v := (i4 + (1 : Int32))) (L' := [(4, .int (i4 + (1 : Int32))), (3, .int (0 : Int32)), (0, .ref a0), (1, .ref a1), (2, .int i2)]) dX1_isThere_61 4 rfl rfl (by decide) rfl ?_
        refine fg_goto X (tgt := 15) dX1_isThere_64 (by decide) ?_
        refine fg_sub [2, 3, 4, 1, 0] rfl ?_
        exact h15 _ (Option.some.inj hF).symm
      · rw [if_pos hc] at hF
        refine fg_iconst X (v := (1 : Int32)) dX1_isThere_55 (by decide) ?_
        refine fg_goto X (tgt := 60) dX1_isThere_56 (by decide) ?_
        refine fg_istore_n X (L' := [(3, .int (1 : Int32)), (0, .ref a0), (1, .ref a1), (2, .int i2), (4, .int i4)]) dX1_isThere_60 rfl (by decide) rfl ?_
        refine fg_iinc X (v := (i4 + (1 : Int32))) (L' := [(4, .int (i4 + (1 : Int32))), (3, .int (1 : Int32)), (0, .ref a0), (1, .ref a1), (2, .int i2)]) dX1_isThere_61 4 rfl rfl (by decide) rfl ?_
        refine fg_goto X (tgt := 15) dX1_isThere_64 (by decide) ?_
        refine fg_sub [2, 3, 4, 1, 0] rfl ?_
        exact h15 _ (Option.some.inj hF).symm
set_option maxHeartbeats 4000000 in
seal fX1_isThere_15b in
theorem wX1_isThere_15 {Ω : fg_O} {a0 : Nat} {a1 : Nat} {i2 : Int32} {i3 : Int32} {i4 : Int32} {G : fg_H} {t : ((Nat × Option Nat × Int32 × fg_H) ⊕ (Int32 × fg_H))} (X : fg_X Ω RX1 "isThere" cX1_isThere 5 (some .boolean) 3) (hF : fX1_isThere_15 a0 a1 i2 i3 i4 G = some t) (h2 : ∀ z, t = (.inl z) → fg_W Ω z.2.2.2 2 [(0, .ref z.1), (1, va_rf z.2.1), (2, .int z.2.2.1)] []) (hT : ∀ u, t = (.inr u) → fg_T Ω (.returned (some (.int u.1))) u.2) : fg_W Ω G 15 [(0, .ref a0), (1, .ref a1), (2, .int i2), (3, .int i3), (4, .int i4)] [] := by
  unfold fX1_isThere_15 at hF
  exact fg_lp_walk (P := fun z => fg_W Ω z.2.2.2.2.2 15 [(0, .ref z.1), (1, .ref z.2.1), (2, .int z.2.2.1), (3, .int z.2.2.2.1), (4, .int z.2.2.2.2.1)] []) (fun y o ho hl hr => wX1_isThere_15b X ho (fun z e => h2 z (hr _ e).symm) (fun z e => hl z e) (fun u e => hT u (hr _ e).symm)) hF
set_option maxHeartbeats 4000000 in
theorem wX1_isThere_2b {Ω : fg_O} {a0 : Nat} {r1 : Option Nat} {i2 : Int32} {G : fg_H} {t : ((Nat × Option Nat × Int32 × fg_H) ⊕ (Int32 × fg_H))} (X : fg_X Ω RX1 "isThere" cX1_isThere 5 (some .boolean) 3) (hF : fX1_isThere_2b a0 r1 i2 G = some t) (h2 : ∀ z, t = (.inl z) → fg_W Ω z.2.2.2 2 [(0, .ref z.1), (1, va_rf z.2.1), (2, .int z.2.2.1)] []) (hT : ∀ u, t = (.inr u) → fg_T Ω (.returned (some (.int u.1))) u.2) : fg_W Ω G 2 [(0, .ref a0), (1, va_rf r1), (2, .int i2)] [] := by
  unfold fX1_isThere_2b at hF
  refine fg_iload_n X dX1_isThere_2 rfl 2 rfl ?_
  refine fg_aload_n X (r := r1) dX1_isThere_3 rfl 1 rfl ?_
  replace hF := fg_ob_some hF
  obtain ⟨az1, rfl, hF⟩ := hF
  replace hF := fg_gd_some hF
  obtain ⟨eg_1, hF⟩ := hF
  obtain ⟨fs_2, eo_3⟩ := fg_rc_get eg_1
  replace hF := fg_oc_some hF
  obtain ⟨xz3, Gz2, e_4, hF⟩ := hF
  refine fg_callV X (st := [.int i2]) (mJ2_size Ω.2.2.2.2.1 Ω.1 e_4) q1119 q424 q425 q98 q426 hd_J2_size (by decide) rfl eo_3 (by decide) rfl rfl (Nat.le_of_ble_eq_true rfl) dX1_isThere_4 ?_
  refine fg_icmp_ge X (tgt := 79) dX1_isThere_7 (by decide) (fun hc => ?_) (fun hc => ?_)
  · rw [if_pos hc] at hF
    replace hF := fg_rt_some hF
    obtain ⟨tz4, hF, ht_5⟩ := hF
    subst ht_5
    replace hT := hT _ rfl
    refine fg_iconst X (v := (0 : Int32)) dX1_isThere_79 (by decide) ?_
    cases hF
    exact fg_zret X (by decide) dX1_isThere_80 (hT)
  · rw [if_neg hc] at hF
    refine fg_iconst X (v := (1 : Int32)) dX1_isThere_10 (by decide) ?_
    refine fg_istore_n X (L' := [(3, .int (1 : Int32)), (0, .ref a0), (1, .ref az1), (2, .int i2)]) dX1_isThere_11 rfl (by decide) rfl ?_
    refine fg_iconst X (v := (0 : Int32)) dX1_isThere_12 (by decide) ?_
    refine fg_istore X (L' := [(4, .int (0 : Int32)), (3, .int (1 : Int32)), (0, .ref a0), (1, .ref az1), (2, .int i2)]) dX1_isThere_13 (by decide) rfl ?_
    refine fg_sub [2, 3, 4, 1, 0] rfl ?_
    exact wX1_isThere_15 X hF h2 hT
set_option maxHeartbeats 4000000 in
seal fX1_isThere_2b in
theorem wX1_isThere_2 {Ω : fg_O} {a0 : Nat} {r1 : Option Nat} {i2 : Int32} {G : fg_H} {t : (Int32 × fg_H)} (X : fg_X Ω RX1 "isThere" cX1_isThere 5 (some .boolean) 3) (hF : fX1_isThere_2 a0 r1 i2 G = some t) (hT : fg_T Ω (.returned (some (.int t.1))) t.2) : fg_W Ω G 2 [(0, .ref a0), (1, va_rf r1), (2, .int i2)] [] := by
  unfold fX1_isThere_2 at hF
  exact fg_lp_walk (P := fun z => fg_W Ω z.2.2.2 2 [(0, .ref z.1), (1, va_rf z.2.1), (2, .int z.2.2.1)] []) (fun y o ho hl hr => wX1_isThere_2b X ho (fun z e => hl z e) (fun u e => by rw [hr _ e]; exact hT)) hF
set_option maxHeartbeats 4000000 in
theorem wX1_isThere {Ω : fg_O} {a0 : Nat} {r1 : Option Nat} {G : fg_H} {t : Int32 × fg_H} (X : fg_X Ω RX1 "isThere" cX1_isThere 5 (some .boolean) 3) (hF : fX1_isThere a0 r1 G = some t) (hT : fg_T Ω (.returned (some (.int t.1))) t.2) : fg_W Ω G 0 [(0, .ref a0), (1, va_rf r1)] [] := by
  unfold fX1_isThere at hF
  refine fg_iconst X (v := (0 : Int32)) dX1_isThere_0 (by decide) ?_
  refine fg_istore_n X (L' := [(2, .int (0 : Int32)), (0, .ref a0), (1, va_rf r1)]) dX1_isThere_1 rfl (by decide) (by cases r1 <;> rfl) ?_
  refine fg_sub [1, 2, 0] rfl ?_
  exact wX1_isThere_2 X hF hT
theorem mX1_isThere (l : Launch) (D : fg_D) {a0 : Nat} {r1 : Option Nat} {G : fg_H} {t : Int32 × fg_H} (hF : fX1_isThere a0 r1 G = some t) : fg_M l D yX1_isThere cX1_isThere 5 (some .boolean) 3 [.ref a0, va_rf r1] G (.returned (some (.int t.1))) t.2 :=
  fg_Mof (own := RX1) (nm := "isThere") (L := [(0, .ref a0), (1, va_rf r1)]) (plainFor_of_name pn_X1) rfl rfl (by cases r1 <;> rfl) (by cases r1 <;> exact Nat.le_of_ble_eq_true rfl) (fun Ω _ _ X hT => wX1_isThere X hF hT)
theorem hd_J12_newLength : yJ12_newLength.cls ≠ "java/lang/invoke/MethodHandle" ∧ yJ12_newLength.cls ≠ "java/lang/invoke/VarHandle" ∧ (parseMethodDescriptor yJ12_newLength.desc).map (fun d => d.parameters.length) = some 3 := ⟨by decide +kernel, by decide +kernel, by decide +kernel⟩
set_option maxHeartbeats 4000000 in
theorem wJ12_newLength_21 {Ω : fg_O} {i0 : Int32} {i1 : Int32} {G : fg_H} {t : (Int32 × fg_H)} (X : fg_X Ω RJ12 "newLength" cJ12_newLength 4 (some .int) 1) (hF : fJ12_newLength_21 i0 i1 G = some t) (hT : fg_T Ω (.returned (some (.int t.1))) t.2) : fg_W Ω G 21 [(0, .int i0), (1, .int i1)] [] := by
  unfold fJ12_newLength_21 at hF
  cases hF
set_option maxHeartbeats 4000000 in
theorem wJ12_newLength {Ω : fg_O} {i0 : Int32} {i1 : Int32} {i2 : Int32} {G : fg_H} {t : Int32 × fg_H} (X : fg_X Ω RJ12 "newLength" cJ12_newLength 4 (some .int) 1) (hF : fJ12_newLength i0 i1 i2 G = some t) (hT : fg_T Ω (.returned (some (.int t.1))) t.2) : fg_W Ω G 0 [(0, .int i0), (1, .int i1), (2, .int i2)] [] := by
  unfold fJ12_newLength at hF
  refine fg_iload_n X dJ12_newLength_0 rfl 0 rfl ?_
  refine fg_iload_n X dJ12_newLength_1 rfl 1 rfl ?_
  refine fg_iload_n X dJ12_newLength_2 rfl 2 rfl ?_
  replace hF := fg_oc_some hF
  obtain ⟨xz2, Gz1, e_1, hF⟩ := hF
  refine fg_callS X (st := [.int i0]) (mJ7_max Ω.2.2.2.2.1 Ω.1 e_1) q849 q559 q108 q560 hd_J7_max (by decide) rfl rfl (Nat.le_of_ble_eq_true rfl) dJ12_newLength_3 ?_
  refine fg_iadd X dJ12_newLength_6 ?_
  replace hF := fg_ob_some hF
  obtain ⟨vz3, ex_2, hF⟩ := hF
  refine fg_topi (Option.some.inj ex_2) ?_
  refine fg_istore_n X (L' := [(3, .int vz3), (0, .int i0), (1, .int i1), (2, .int i2)]) dJ12_newLength_7 rfl (by decide) rfl ?_
  refine fg_iconst X (v := (0 : Int32)) dJ12_newLength_8 (by decide) ?_
  refine fg_iload_n X dJ12_newLength_9 rfl 0 rfl ?_
  refine fg_icmp_ge X (tgt := 21) dJ12_newLength_10 (by decide) (fun hc => ?_) (fun hc => ?_)
  · rw [if_pos hc] at hF
    refine fg_sub [1, 2] rfl ?_
    exact wJ12_newLength_21 X hF hT
  · rw [if_neg hc] at hF
    refine fg_iload_n X dJ12_newLength_13 rfl 0 rfl ?_
    refine fg_ldc X q850 dJ12_newLength_14 ?_
    refine fg_icmp_gt X (tgt := 21) dJ12_newLength_16 (by decide) (fun hc => ?_) (fun hc => ?_)
    · rw [if_pos hc] at hF
      refine fg_sub [1, 2] rfl ?_
      exact wJ12_newLength_21 X hF hT
    · rw [if_neg hc] at hF
      refine fg_iload_n X dJ12_newLength_19 rfl 0 rfl ?_
      cases hF
      exact fg_iret X dJ12_newLength_20 (hT)
theorem mJ12_newLength (l : Launch) (D : fg_D) {i0 : Int32} {i1 : Int32} {i2 : Int32} {G : fg_H} {t : Int32 × fg_H} (hF : fJ12_newLength i0 i1 i2 G = some t) : fg_M l D yJ12_newLength cJ12_newLength 4 (some .int) 1 [.int i0, .int i1, .int i2] G (.returned (some (.int t.1))) t.2 :=
  fg_Mof (own := RJ12) (nm := "newLength") (L := [(0, .int i0), (1, .int i1), (2, .int i2)]) (plainFor_of_name pn_J12) rfl rfl rfl (Nat.le_of_ble_eq_true rfl) (fun Ω _ _ X hT => wJ12_newLength X hF hT)
theorem hd_J13_copyOf_2 : yJ13_copyOf_2.cls ≠ "java/lang/invoke/MethodHandle" ∧ yJ13_copyOf_2.cls ≠ "java/lang/invoke/VarHandle" ∧ (parseMethodDescriptor yJ13_copyOf_2.desc).map (fun d => d.parameters.length) = some 3 := ⟨by decide +kernel, by decide +kernel, by decide +kernel⟩
set_option maxHeartbeats 4000000 in
theorem wJ13_copyOf_2_24 {Ω : fg_O} {r0 : Option Nat} {i1 : Int32} {s0 : Nat} {G : fg_H} {t : (Option Nat × fg_H)} (X : fg_X Ω RJ13 "copyOf" cJ13_copyOf_2 4 (some (.array (.object "java/lang/Object"))) 1) (hF : fJ13_copyOf_2_24 r0 i1 s0 G = some t) (hT : fg_T Ω (.returned (some (va_rf t.1))) t.2) : fg_W Ω G 24 [(0, va_rf r0), (1, .int i1)] [.ref s0] := by
  unfold fJ13_copyOf_2_24 at hF
  refine fg_astore_n X (r := (some s0)) (L' := [(3, .ref s0), (0, va_rf r0), (1, .int i1)]) dJ13_copyOf_2_24 rfl (by decide) rfl ?_
  refine fg_aload_n X (r := r0) dJ13_copyOf_2_25 rfl 1 rfl ?_
  refine fg_iconst X (v := (0 : Int32)) dJ13_copyOf_2_26 (by decide) ?_
  refine fg_aload_n X (r := (some s0)) dJ13_copyOf_2_27 rfl 0 rfl ?_
  refine fg_iconst X (v := (0 : Int32)) dJ13_copyOf_2_28 (by decide) ?_
  refine fg_aload_n X (r := r0) dJ13_copyOf_2_29 rfl 1 rfl ?_
  replace hF := fg_ob_some hF
  obtain ⟨az4, rfl, hF⟩ := hF
  replace hF := fg_ob_some hF
  obtain ⟨xz5, e_1, hF⟩ := hF
  refine fg_alen X e_1 dJ13_copyOf_2_30 ?_
  refine fg_iload_n X dJ13_copyOf_2_31 rfl 2 rfl ?_
  replace hF := fg_oc_some hF
  obtain ⟨xz7, Gz6, e_2, hF⟩ := hF
  refine fg_callS X (st := [.int (0 : Int32), .ref s0, .int (0 : Int32), .ref az4]) (mJ7_min Ω.2.2.2.2.1 Ω.1 e_2) q896 q562 q108 q563 hd_J7_min (by decide) rfl rfl (Nat.le_of_ble_eq_true rfl) dJ13_copyOf_2_32 ?_
  replace hF := fg_ob_some hF
  obtain ⟨Gz8, e_3, hF⟩ := hF
  refine fg_copyq X (kd := 4) (by decide) q897 q899 q898 q123 (by decide) e_3 (Nat.le_of_ble_eq_true rfl) dJ13_copyOf_2_35 ?_
  refine fg_aload_n X (r := (some s0)) dJ13_copyOf_2_38 rfl 0 rfl ?_
  cases hF
  exact fg_aret (Or.inr ⟨_, rfl⟩) X (r := (some s0)) dJ13_copyOf_2_39 (hT)
set_option maxHeartbeats 4000000 in
theorem wJ13_copyOf_2 {Ω : fg_O} {r0 : Option Nat} {i1 : Int32} {r2 : Option Nat} {G : fg_H} {t : Option Nat × fg_H} (X : fg_X Ω RJ13 "copyOf" cJ13_copyOf_2 4 (some (.array (.object "java/lang/Object"))) 1) (hF : fJ13_copyOf_2 r0 i1 r2 G = some t) (hT : fg_T Ω (.returned (some (va_rf t.1))) t.2) : fg_W Ω G 0 [(0, va_rf r0), (1, .int i1), (2, va_rf r2)] [] := by
  unfold fJ13_copyOf_2 at hF
  refine fg_aload_n X (r := r2) dJ13_copyOf_2_0 rfl 2 rfl ?_
  replace hF := fg_ob_some hF
  obtain ⟨az1, ex_1, hF⟩ := hF
  refine fg_ldcM X q894 (Option.some.inj ex_1) dJ13_copyOf_2_1 ?_
  refine fg_acmp_ne X (rx := r2) (ry := (some az1)) (tgt := 13) dJ13_copyOf_2_3 (by decide) (fun hc => ?_) (fun hc => ?_)
  · rw [if_neg hc] at hF
    cases hF
  · rw [if_pos hc] at hF
    refine fg_iload_n X dJ13_copyOf_2_6 rfl 1 rfl ?_
    replace hF := fg_oc_some hF
    obtain ⟨az2, Gz3, e_2, hF⟩ := hF
    refine fg_newq X (kd := 4) (by decide) rfl q895 e_2 dJ13_copyOf_2_7 ?_
    refine fg_goto X (tgt := 24) dJ13_copyOf_2_10 (by decide) ?_
    refine fg_sub [0, 1] rfl ?_
    exact wJ13_copyOf_2_24 X hF hT
theorem mJ13_copyOf_2 (l : Launch) (D : fg_D) {r0 : Option Nat} {i1 : Int32} {r2 : Option Nat} {G : fg_H} {t : Option Nat × fg_H} (hF : fJ13_copyOf_2 r0 i1 r2 G = some t) : fg_M l D yJ13_copyOf_2 cJ13_copyOf_2 4 (some (.array (.object "java/lang/Object"))) 1 [va_rf r0, .int i1, va_rf r2] G (.returned (some (va_rf t.1))) t.2 :=
  fg_Mof (own := RJ13) (nm := "copyOf") (L := [(0, va_rf r0), (1, .int i1), (2, va_rf r2)]) (plainFor_of_name pn_J13) rfl rfl (by cases r0 <;> cases r2 <;> rfl) (by cases r0 <;> cases r2 <;> exact Nat.le_of_ble_eq_true rfl) (fun Ω _ _ X hT => wJ13_copyOf_2 X hF hT)
theorem hd_J13_copyOf : yJ13_copyOf.cls ≠ "java/lang/invoke/MethodHandle" ∧ yJ13_copyOf.cls ≠ "java/lang/invoke/VarHandle" ∧ (parseMethodDescriptor yJ13_copyOf.desc).map (fun d => d.parameters.length) = some 2 := ⟨by decide +kernel, by decide +kernel, by decide +kernel⟩
set_option maxHeartbeats 4000000 in
theorem wJ13_copyOf {Ω : fg_O} {r0 : Option Nat} {i1 : Int32} {G : fg_H} {t : Option Nat × fg_H} (X : fg_X Ω RJ13 "copyOf" cJ13_copyOf 2 (some (.array (.object "java/lang/Object"))) 2) (hF : fJ13_copyOf r0 i1 G = some t) (hT : fg_T Ω (.returned (some (va_rf t.1))) t.2) : fg_W Ω G 0 [(0, va_rf r0), (1, .int i1)] [] := by
  unfold fJ13_copyOf at hF
  refine fg_aload_n X (r := r0) dJ13_copyOf_0 rfl 0 rfl ?_
  refine fg_iload_n X dJ13_copyOf_1 rfl 1 rfl ?_
  refine fg_aload_n X (r := r0) dJ13_copyOf_2 rfl 0 rfl ?_
  replace hF := fg_ob_some hF
  obtain ⟨az1, rfl, hF⟩ := hF
  replace hF := fg_gd_some hF
  obtain ⟨eg_1, hF⟩ := hF
  replace hF := fg_ob_some hF
  obtain ⟨az2, ex_2, hF⟩ := hF
  refine fg_getC X q857 q2095 q2094 q858 q890 eg_1 (Option.some.inj ex_2) (by decide) (Nat.le_of_ble_eq_true rfl) dJ13_copyOf_3 ?_
  replace hF := fg_oc_some hF
  obtain ⟨rz4, Gz3, e_3, hF⟩ := hF
  refine fg_callS X (st := []) (mJ13_copyOf_2 Ω.2.2.2.2.1 Ω.1 e_3) q891 q892 q122 q893 hd_J13_copyOf_2 (by decide) rfl rfl (Nat.le_of_ble_eq_true rfl) dJ13_copyOf_6 ?_
  cases hF
  exact fg_aret (Or.inr ⟨_, rfl⟩) X (r := rz4) dJ13_copyOf_9 (hT)
theorem mJ13_copyOf (l : Launch) (D : fg_D) {r0 : Option Nat} {i1 : Int32} {G : fg_H} {t : Option Nat × fg_H} (hF : fJ13_copyOf r0 i1 G = some t) : fg_M l D yJ13_copyOf cJ13_copyOf 2 (some (.array (.object "java/lang/Object"))) 2 [va_rf r0, .int i1] G (.returned (some (va_rf t.1))) t.2 :=
  fg_Mof (own := RJ13) (nm := "copyOf") (L := [(0, va_rf r0), (1, .int i1)]) (plainFor_of_name pn_J13) rfl rfl (by cases r0 <;> rfl) (by cases r0 <;> exact Nat.le_of_ble_eq_true rfl) (fun Ω _ _ X hT => wJ13_copyOf X hF hT)
theorem hd_J2_grow_2 : yJ2_grow_2.cls ≠ "java/lang/invoke/MethodHandle" ∧ yJ2_grow_2.cls ≠ "java/lang/invoke/VarHandle" ∧ (parseMethodDescriptor yJ2_grow_2.desc).map (fun d => d.parameters.length) = some 1 := ⟨by decide +kernel, by decide +kernel, by decide +kernel⟩
set_option maxHeartbeats 4000000 in
theorem wJ2_grow_2_20 {Ω : fg_O} {a0 : Nat} {i1 : Int32} {i2 : Int32} {G : fg_H} {t : (Option Nat × fg_H)} (X : fg_X Ω RJ2 "grow" cJ2_grow_2 4 (some (.array (.object "java/lang/Object"))) 3) (hF : fJ2_grow_2_20 a0 i1 i2 G = some t) (hT : fg_T Ω (.returned (some (va_rf t.1))) t.2) : fg_W Ω G 20 [(0, .ref a0), (1, .int i1), (2, .int i2)] [] := by
  unfold fJ2_grow_2_20 at hF
  refine fg_iload_n X dJ2_grow_2_20 rfl 2 rfl ?_
  refine fg_iload_n X dJ2_grow_2_21 rfl 1 rfl ?_
  refine fg_iload_n X dJ2_grow_2_22 rfl 2 rfl ?_
  refine fg_isub X dJ2_grow_2_23 ?_
  refine fg_iload_n X dJ2_grow_2_24 rfl 2 rfl ?_
  refine fg_iconst X (v := (1 : Int32)) dJ2_grow_2_25 (by decide) ?_
  refine fg_ishr X dJ2_grow_2_26 ?_
  replace hF := fg_oc_some hF
  obtain ⟨xz5, Gz4, e_1, hF⟩ := hF
  refine fg_callS X (st := []) (mJ12_newLength Ω.2.2.2.2.1 Ω.1 e_1) q846 q847 q121 q848 hd_J12_newLength (by decide) rfl rfl (Nat.le_of_ble_eq_true rfl) dJ2_grow_2_27 ?_
  refine fg_istore_n X (L' := [(3, .int xz5), (0, .ref a0), (1, .int i1), (2, .int i2)]) dJ2_grow_2_30 rfl (by decide) rfl ?_
  refine fg_aload_n X (r := (some a0)) dJ2_grow_2_31 rfl 1 rfl ?_
  refine fg_aload_n X (r := (some a0)) dJ2_grow_2_32 rfl 1 rfl ?_
  replace hF := fg_ob_some hF
  obtain ⟨rz6, e_2, hF⟩ := hF
  refine fg_getr X ff_J2_elementData q256 e_2 dJ2_grow_2_33 ?_
  refine fg_iload_n X dJ2_grow_2_36 rfl 0 rfl ?_
  replace hF := fg_oc_some hF
  obtain ⟨rz8, Gz7, e_3, hF⟩ := hF
  refine fg_callS X (st := [.ref a0]) (mJ13_copyOf Ω.2.2.2.2.1 Ω.1 e_3) q854 q855 q122 q856 hd_J13_copyOf (by decide) rfl rfl (Nat.le_of_ble_eq_true rfl) dJ2_grow_2_37 ?_
  refine fg_dup_x1 X dJ2_grow_2_40 (fg_cat _) rfl ?_
  replace hF := fg_ob_some hF
  obtain ⟨Gz9, e_4, hF⟩ := hF
  refine fg_putv X (ty := (.array (.object "java/lang/Object"))) (v := va_rf rz8) ff_J2_elementData q256 rfl (Or.inl rfl) rfl (fg_nrf _ (Or.inr ⟨_, rfl⟩)) (fg_frf _ (Or.inr ⟨_, rfl⟩)) e_4 dJ2_grow_2_41 ?_
  cases hF
  exact fg_aret (Or.inr ⟨_, rfl⟩) X (r := rz8) dJ2_grow_2_44 (hT)
set_option maxHeartbeats 4000000 in
theorem wJ2_grow_2 {Ω : fg_O} {a0 : Nat} {i1 : Int32} {G : fg_H} {t : Option Nat × fg_H} (X : fg_X Ω RJ2 "grow" cJ2_grow_2 4 (some (.array (.object "java/lang/Object"))) 3) (hF : fJ2_grow_2 a0 i1 G = some t) (hT : fg_T Ω (.returned (some (va_rf t.1))) t.2) : fg_W Ω G 0 [(0, .ref a0), (1, .int i1)] [] := by
  unfold fJ2_grow_2 at hF
  refine fg_aload_n X (r := (some a0)) dJ2_grow_2_0 rfl 0 rfl ?_
  replace hF := fg_ob_some hF
  obtain ⟨rz1, e_1, hF⟩ := hF
  refine fg_getr X ff_J2_elementData q256 e_1 dJ2_grow_2_1 ?_
  replace hF := fg_ob_some hF
  obtain ⟨az2, rfl, hF⟩ := hF
  replace hF := fg_ob_some hF
  obtain ⟨xz3, e_2, hF⟩ := hF
  refine fg_alen X e_2 dJ2_grow_2_4 ?_
  refine fg_istore_n X (L' := [(2, .int xz3), (0, .ref a0), (1, .int i1)]) dJ2_grow_2_5 rfl (by decide) rfl ?_
  refine fg_iload_n X dJ2_grow_2_6 rfl 0 rfl ?_
  refine fg_if_gt X (tgt := 20) dJ2_grow_2_7 (by decide) (fun hc => ?_) (fun hc => ?_)
  · rw [if_pos hc] at hF
    refine fg_sub [1, 2, 0] rfl ?_
    exact wJ2_grow_2_20 X hF hT
  · rw [if_neg hc] at hF
    refine fg_aload_n X (r := (some a0)) dJ2_grow_2_10 rfl 1 rfl ?_
    replace hF := fg_ob_some hF
    obtain ⟨rz10, e_3, hF⟩ := hF
    refine fg_getr X ff_J2_elementData q256 e_3 dJ2_grow_2_11 ?_
    replace hF := fg_ob_some hF
    obtain ⟨rz11, ex_4, hF⟩ := hF
    refine fg_getsR X (i := 1) q400 (fun _ => rfl) (Option.some.inj ex_4) dJ2_grow_2_14 ?_
    refine fg_acmp_eq X (rx := rz10) (ry := rz11) (tgt := 45) dJ2_grow_2_17 (by decide) (fun hc => ?_) (fun hc => ?_)
    · rw [if_pos hc] at hF
      refine fg_aload_n X (r := (some a0)) dJ2_grow_2_45 rfl 1 rfl ?_
      refine fg_bipush X (v := (10 : Int32)) dJ2_grow_2_46 (by decide) ?_
      refine fg_iload_n X dJ2_grow_2_48 rfl 2 rfl ?_
      replace hF := fg_oc_some hF
      obtain ⟨xz13, Gz12, e_5, hF⟩ := hF
      refine fg_callS X (st := [.ref a0]) (mJ7_max Ω.2.2.2.2.1 Ω.1 e_5) q900 q559 q108 q560 hd_J7_max (by decide) rfl rfl (Nat.le_of_ble_eq_true rfl) dJ2_grow_2_49 ?_
      replace hF := fg_oc_some hF
      obtain ⟨az14, Gz15, e_6, hF⟩ := hF
      refine fg_newq X (kd := 4) (by decide) rfl q252 e_6 dJ2_grow_2_52 ?_
      refine fg_dup_x1 X dJ2_grow_2_55 rfl rfl ?_
      replace hF := fg_ob_some hF
      obtain ⟨Gz16, e_7, hF⟩ := hF
      refine fg_putv X (ty := (.array (.object "java/lang/Object"))) (v := .ref az14) ff_J2_elementData q256 rfl (Or.inl rfl) rfl rfl rfl e_7 dJ2_grow_2_56 ?_
      cases hF
      exact fg_aret (Or.inr ⟨_, rfl⟩) X (r := (some az14)) dJ2_grow_2_59 (hT)
    · rw [if_neg hc] at hF
      refine fg_sub [1, 2, 0] rfl ?_
      exact wJ2_grow_2_20 X hF hT
theorem mJ2_grow_2 (l : Launch) (D : fg_D) {a0 : Nat} {i1 : Int32} {G : fg_H} {t : Option Nat × fg_H} (hF : fJ2_grow_2 a0 i1 G = some t) : fg_M l D yJ2_grow_2 cJ2_grow_2 4 (some (.array (.object "java/lang/Object"))) 3 [.ref a0, .int i1] G (.returned (some (va_rf t.1))) t.2 :=
  fg_Mof (own := RJ2) (nm := "grow") (L := [(0, .ref a0), (1, .int i1)]) (plainFor_of_name pn_J2) rfl rfl rfl (Nat.le_of_ble_eq_true rfl) (fun Ω _ _ X hT => wJ2_grow_2 X hF hT)
theorem hd_J2_grow : yJ2_grow.cls ≠ "java/lang/invoke/MethodHandle" ∧ yJ2_grow.cls ≠ "java/lang/invoke/VarHandle" ∧ (parseMethodDescriptor yJ2_grow.desc).map (fun d => d.parameters.length) = some 0 := ⟨by decide +kernel, by decide +kernel, by decide +kernel⟩
set_option maxHeartbeats 4000000 in
theorem wJ2_grow {Ω : fg_O} {a0 : Nat} {G : fg_H} {t : Option Nat × fg_H} (X : fg_X Ω RJ2 "grow" cJ2_grow 1 (some (.array (.object "java/lang/Object"))) 4) (hF : fJ2_grow a0 G = some t) (hT : fg_T Ω (.returned (some (va_rf t.1))) t.2) : fg_W Ω G 0 [(0, .ref a0)] [] := by
  unfold fJ2_grow at hF
  refine fg_aload_n X (r := (some a0)) dJ2_grow_0 rfl 0 rfl ?_
  refine fg_aload_n X (r := (some a0)) dJ2_grow_1 rfl 0 rfl ?_
  replace hF := fg_ob_some hF
  obtain ⟨xz1, e_1, hF⟩ := hF
  refine fg_geti X ff_J2_size q257 e_1 dJ2_grow_2 ?_
  refine fg_iconst X (v := (1 : Int32)) dJ2_grow_5 (by decide) ?_
  refine fg_iadd X dJ2_grow_6 ?_
  replace hF := fg_gd_some hF
  obtain ⟨eg_2, hF⟩ := hF
  obtain ⟨fs_3, eo_4⟩ := fg_rc_get eg_2
  replace hF := fg_oc_some hF
  obtain ⟨rz3, Gz2, e_5, hF⟩ := hF
  refine fg_callV X (st := []) (mJ2_grow_2 Ω.2.2.2.2.1 Ω.1 e_5) q842 q844 qs19 q98 q845 hd_J2_grow_2 (by decide) rfl eo_4 (by decide) rfl rfl (Nat.le_of_ble_eq_true rfl) dJ2_grow_7 ?_
  cases hF
  exact fg_aret (Or.inr ⟨_, rfl⟩) X (r := rz3) dJ2_grow_10 (hT)
theorem mJ2_grow (l : Launch) (D : fg_D) {a0 : Nat} {G : fg_H} {t : Option Nat × fg_H} (hF : fJ2_grow a0 G = some t) : fg_M l D yJ2_grow cJ2_grow 1 (some (.array (.object "java/lang/Object"))) 4 [.ref a0] G (.returned (some (va_rf t.1))) t.2 :=
  fg_Mof (own := RJ2) (nm := "grow") (L := [(0, .ref a0)]) (plainFor_of_name pn_J2) rfl rfl rfl (Nat.le_of_ble_eq_true rfl) (fun Ω _ _ X hT => wJ2_grow X hF hT)
theorem hd_J2_add_2 : yJ2_add_2.cls ≠ "java/lang/invoke/MethodHandle" ∧ yJ2_add_2.cls ≠ "java/lang/invoke/VarHandle" ∧ (parseMethodDescriptor yJ2_add_2.desc).map (fun d => d.parameters.length) = some 3 := ⟨by decide +kernel, by decide +kernel, by decide +kernel⟩
set_option maxHeartbeats 4000000 in
theorem wJ2_add_2_11 {Ω : fg_O} {a0 : Nat} {r1 : Option Nat} {r2 : Option Nat} {i3 : Int32} {G : fg_H} {t : (Unit × fg_H)} (X : fg_X Ω RJ2 "add" cJ2_add_2 4 none 5) (hF : fJ2_add_2_11 a0 r1 r2 i3 G = some t) (hT : fg_T Ω (.returned none) t.2) : fg_W Ω G 11 [(0, .ref a0), (1, va_rf r1), (2, va_rf r2), (3, .int i3)] [] := by
  unfold fJ2_add_2_11 at hF
  refine fg_aload_n X (r := r2) dJ2_add_2_11 rfl 2 rfl ?_
  refine fg_iload_n X dJ2_add_2_12 rfl 3 rfl ?_
  refine fg_aload_n X (r := r1) dJ2_add_2_13 rfl 1 rfl ?_
  replace hF := fg_ob_some hF
  obtain ⟨az3, rfl, hF⟩ := hF
  replace hF := fg_ob_some hF
  obtain ⟨Gz4, e_1, hF⟩ := hF
  refine fg_aast X (kd := 4) (by decide) (r := r1) e_1 dJ2_add_2_14 ?_
  refine fg_aload_n X (r := (some a0)) dJ2_add_2_15 rfl 0 rfl ?_
  refine fg_iload_n X dJ2_add_2_16 rfl 3 rfl ?_
  refine fg_iconst X (v := (1 : Int32)) dJ2_add_2_17 (by decide) ?_
  refine fg_iadd X dJ2_add_2_18 ?_
  replace hF := fg_ob_some hF
  obtain ⟨Gz5, e_2, hF⟩ := hF
  refine fg_putv X (ty := .int) (v := .int (i3 + (1 : Int32))) ff_J2_size q257 rfl (Or.inl rfl) rfl rfl rfl e_2 dJ2_add_2_19 ?_
  cases hF
  exact fg_vret X dJ2_add_2_22 (hT)
set_option maxHeartbeats 4000000 in
theorem wJ2_add_2 {Ω : fg_O} {a0 : Nat} {r1 : Option Nat} {r2 : Option Nat} {i3 : Int32} {G : fg_H} {t : Unit × fg_H} (X : fg_X Ω RJ2 "add" cJ2_add_2 4 none 5) (hF : fJ2_add_2 a0 r1 r2 i3 G = some t) (hT : fg_T Ω (.returned none) t.2) : fg_W Ω G 0 [(0, .ref a0), (1, va_rf r1), (2, va_rf r2), (3, .int i3)] [] := by
  unfold fJ2_add_2 at hF
  refine fg_iload_n X dJ2_add_2_0 rfl 3 rfl ?_
  refine fg_aload_n X (r := r2) dJ2_add_2_1 rfl 2 rfl ?_
  replace hF := fg_ob_some hF
  obtain ⟨az1, rfl, hF⟩ := hF
  replace hF := fg_ob_some hF
  obtain ⟨xz2, e_1, hF⟩ := hF
  refine fg_alen X e_1 dJ2_add_2_2 ?_
  refine fg_icmp_ne X (tgt := 11) dJ2_add_2_3 (by decide) (fun hc => ?_) (fun hc => ?_)
  · rw [if_neg hc] at hF
    refine fg_sub [0, 1, 2, 3] rfl ?_
    exact wJ2_add_2_11 X hF hT
  · rw [if_pos hc] at hF
    refine fg_aload_n X (r := (some a0)) dJ2_add_2_6 rfl 0 rfl ?_
    replace hF := fg_gd_some hF
    obtain ⟨eg_2, hF⟩ := hF
    obtain ⟨fs_3, eo_4⟩ := fg_rc_get eg_2
    replace hF := fg_oc_some hF
    obtain ⟨rz7, Gz6, e_5, hF⟩ := hF
    refine fg_callV X (st := []) (mJ2_grow Ω.2.2.2.2.1 Ω.1 e_5) q838 q840 qs18 q98 q841 hd_J2_grow (by decide) rfl eo_4 (by decide) rfl rfl (Nat.le_of_ble_eq_true rfl) dJ2_add_2_7 ?_
    refine fg_astore_n X (r := rz7) (L' := [(2, va_rf rz7), (0, .ref a0), (1, va_rf r1), (3, .int i3)]) dJ2_add_2_10 rfl (by decide) (by cases r1 <;> rfl) ?_
    refine fg_sub [1, 2, 0, 3] rfl ?_
    exact wJ2_add_2_11 X hF hT
theorem mJ2_add_2 (l : Launch) (D : fg_D) {a0 : Nat} {r1 : Option Nat} {r2 : Option Nat} {i3 : Int32} {G : fg_H} {t : Unit × fg_H} (hF : fJ2_add_2 a0 r1 r2 i3 G = some t) : fg_M l D yJ2_add_2 cJ2_add_2 4 none 5 [.ref a0, va_rf r1, va_rf r2, .int i3] G (.returned none) t.2 :=
  fg_Mof (own := RJ2) (nm := "add") (L := [(0, .ref a0), (1, va_rf r1), (2, va_rf r2), (3, .int i3)]) (plainFor_of_name pn_J2) rfl rfl (by cases r1 <;> cases r2 <;> rfl) (by cases r1 <;> cases r2 <;> exact Nat.le_of_ble_eq_true rfl) (fun Ω _ _ X hT => wJ2_add_2 X hF hT)
theorem hd_J2_add : yJ2_add.cls ≠ "java/lang/invoke/MethodHandle" ∧ yJ2_add.cls ≠ "java/lang/invoke/VarHandle" ∧ (parseMethodDescriptor yJ2_add.desc).map (fun d => d.parameters.length) = some 1 := ⟨by decide +kernel, by decide +kernel, by decide +kernel⟩
set_option maxHeartbeats 4000000 in
theorem wJ2_add {Ω : fg_O} {a0 : Nat} {r1 : Option Nat} {G : fg_H} {t : Int32 × fg_H} (X : fg_X Ω RJ2 "add" cJ2_add 2 (some .boolean) 6) (hF : fJ2_add a0 r1 G = some t) (hT : fg_T Ω (.returned (some (.int t.1))) t.2) : fg_W Ω G 0 [(0, .ref a0), (1, va_rf r1)] [] := by
  unfold fJ2_add at hF
  refine fg_aload_n X (r := (some a0)) dJ2_add_0 rfl 0 rfl ?_
  refine fg_dup X dJ2_add_1 rfl ?_
  replace hF := fg_ob_some hF
  obtain ⟨xz1, e_1, hF⟩ := hF
  refine fg_getiS X ff_J1_modCount q259 q260 e_1 dJ2_add_2 ?_
  refine fg_iconst X (v := (1 : Int32)) dJ2_add_5 (by decide) ?_
  refine fg_iadd X dJ2_add_6 ?_
  replace hF := fg_ob_some hF
  obtain ⟨Gz2, e_2, hF⟩ := hF
  refine fg_putvS X (ty := .int) (v := .int (xz1 + (1 : Int32))) ff_J1_modCount q259 q260 (Or.inl rfl) rfl rfl rfl e_2 dJ2_add_7 ?_
  refine fg_aload_n X (r := (some a0)) dJ2_add_10 rfl 0 rfl ?_
  refine fg_aload_n X (r := r1) dJ2_add_11 rfl 1 rfl ?_
  refine fg_aload_n X (r := (some a0)) dJ2_add_12 rfl 0 rfl ?_
  replace hF := fg_ob_some hF
  obtain ⟨rz3, e_3, hF⟩ := hF
  refine fg_getr X ff_J2_elementData q256 e_3 dJ2_add_13 ?_
  refine fg_aload_n X (r := (some a0)) dJ2_add_16 rfl 0 rfl ?_
  replace hF := fg_ob_some hF
  obtain ⟨xz4, e_4, hF⟩ := hF
  refine fg_geti X ff_J2_size q257 e_4 dJ2_add_17 ?_
  replace hF := fg_gd_some hF
  obtain ⟨eg_5, hF⟩ := hF
  obtain ⟨fs_6, eo_7⟩ := fg_rc_get eg_5
  replace hF := fg_oc_some hF
  obtain ⟨u, Gz5, e_8, hF⟩ := hF
  refine fg_callV X (st := []) (mJ2_add_2 Ω.2.2.2.2.1 Ω.1 e_8) q834 q836 qs17 q98 q837 hd_J2_add_2 (by decide) rfl eo_7 (by decide) rfl rfl (Nat.le_of_ble_eq_true rfl) dJ2_add_20 ?_
  refine fg_iconst X (v := (1 : Int32)) dJ2_add_23 (by decide) ?_
  cases hF
  exact fg_zret X (by decide) dJ2_add_24 (hT)
theorem mJ2_add (l : Launch) (D : fg_D) {a0 : Nat} {r1 : Option Nat} {G : fg_H} {t : Int32 × fg_H} (hF : fJ2_add a0 r1 G = some t) : fg_M l D yJ2_add cJ2_add 2 (some .boolean) 6 [.ref a0, va_rf r1] G (.returned (some (.int t.1))) t.2 :=
  fg_Mof (own := RJ2) (nm := "add") (L := [(0, .ref a0), (1, va_rf r1)]) (plainFor_of_name pn_J2) rfl rfl (by cases r1 <;> rfl) (by cases r1 <;> exact Nat.le_of_ble_eq_true rfl) (fun Ω _ _ X hT => wJ2_add X hF hT)
theorem hd_X1_keeps : yX1_keeps.cls ≠ "java/lang/invoke/MethodHandle" ∧ yX1_keeps.cls ≠ "java/lang/invoke/VarHandle" ∧ (parseMethodDescriptor yX1_keeps.desc).map (fun d => d.parameters.length) = some 1 := ⟨by decide +kernel, by decide +kernel, by decide +kernel⟩
set_option maxHeartbeats 4000000 in
theorem wX1_keeps {Ω : fg_O} {a0 : Nat} {r1 : Option Nat} {G : fg_H} {t : Unit × fg_H} (X : fg_X Ω RX1 "keeps" cX1_keeps 3 none 7) (hF : fX1_keeps a0 r1 G = some t) (hT : fg_T Ω (.returned none) t.2) : fg_W Ω G 0 [(0, .ref a0), (1, va_rf r1)] [] := by
  unfold fX1_keeps at hF
  refine fg_aload_n X (r := (some a0)) dX1_keeps_0 rfl 0 rfl ?_
  replace hF := fg_ob_some hF
  obtain ⟨rz1, e_1, hF⟩ := hF
  refine fg_getr X ff_X1_trial q459 e_1 dX1_keeps_1 ?_
  replace hF := fg_ob_some hF
  obtain ⟨az2, rfl, hF⟩ := hF
  replace hF := fg_ob_some hF
  obtain ⟨xz3, e_2, hF⟩ := hF
  refine fg_geti X ff_X5_many q363 e_2 dX1_keeps_4 ?_
  replace hF := fg_oc_some hF
  obtain ⟨az4, Gz5, e_3, hF⟩ := hF
  refine fg_newa X (kd := 0) (atype := .int) q232 (by decide) rfl (by decide) (fun _ _ => rfl) e_3 dX1_keeps_7 ?_
  refine fg_astore_n X (r := (some az4)) (L' := [(2, .ref az4), (0, .ref a0), (1, va_rf r1)]) dX1_keeps_9 rfl (by decide) (by cases r1 <;> rfl) ?_
  refine fg_aload_n X (r := (some a0)) dX1_keeps_10 rfl 1 rfl ?_
  replace hF := fg_ob_some hF
  obtain ⟨rz6, e_4, hF⟩ := hF
  refine fg_getr X ff_X1_trial q459 e_4 dX1_keeps_11 ?_
  replace hF := fg_ob_some hF
  obtain ⟨az7, rfl, hF⟩ := hF
  replace hF := fg_ob_some hF
  obtain ⟨rz8, e_5, hF⟩ := hF
  refine fg_getr X ff_X5_at q359 e_5 dX1_keeps_14 ?_
  refine fg_iconst X (v := (0 : Int32)) dX1_keeps_17 (by decide) ?_
  refine fg_aload_n X (r := (some az4)) dX1_keeps_18 rfl 0 rfl ?_
  refine fg_iconst X (v := (0 : Int32)) dX1_keeps_19 (by decide) ?_
  refine fg_aload_n X (r := (some a0)) dX1_keeps_20 rfl 1 rfl ?_
  replace hF := fg_ob_some hF
  obtain ⟨rz9, e_6, hF⟩ := hF
  refine fg_getr X ff_X1_trial q459 e_6 dX1_keeps_21 ?_
  replace hF := fg_ob_some hF
  obtain ⟨az10, rfl, hF⟩ := hF
  replace hF := fg_ob_some hF
  obtain ⟨xz11, e_7, hF⟩ := hF
  refine fg_geti X ff_X5_many q363 e_7 dX1_keeps_24 ?_
  replace hF := fg_ob_some hF
  obtain ⟨az12, rfl, hF⟩ := hF
  replace hF := fg_ob_some hF
  obtain ⟨Gz13, e_8, hF⟩ := hF
  refine fg_copyi X q1289 q899 q898 q123 (by decide) e_8 (Nat.le_of_ble_eq_true rfl) dX1_keeps_27 ?_
  refine fg_aload_n X (r := r1) dX1_keeps_30 rfl 2 rfl ?_
  refine fg_aload_n X (r := (some az4)) dX1_keeps_31 rfl 0 rfl ?_
  replace hF := fg_ob_some hF
  obtain ⟨az14, rfl, hF⟩ := hF
  replace hF := fg_gd_some hF
  obtain ⟨eg_9, hF⟩ := hF
  obtain ⟨fs_10, eo_11⟩ := fg_rc_get eg_9
  replace hF := fg_oc_some hF
  obtain ⟨xz16, Gz15, e_12, hF⟩ := hF
  refine fg_callV X (st := []) (mJ2_add Ω.2.2.2.2.1 Ω.1 e_12) q1358 q831 q832 q98 q833 hd_J2_add (by decide) rfl eo_11 (by decide) rfl rfl (Nat.le_of_ble_eq_true rfl) dX1_keeps_32 ?_
  refine fg_pop X dX1_keeps_35 rfl ?_
  cases hF
  exact fg_vret X dX1_keeps_36 (hT)
theorem mX1_keeps (l : Launch) (D : fg_D) {a0 : Nat} {r1 : Option Nat} {G : fg_H} {t : Unit × fg_H} (hF : fX1_keeps a0 r1 G = some t) : fg_M l D yX1_keeps cX1_keeps 3 none 7 [.ref a0, va_rf r1] G (.returned none) t.2 :=
  fg_Mof (own := RX1) (nm := "keeps") (L := [(0, .ref a0), (1, va_rf r1)]) (plainFor_of_name pn_X1) rfl rfl (by cases r1 <;> rfl) (by cases r1 <;> exact Nat.le_of_ble_eq_true rfl) (fun Ω _ _ X hT => wX1_keeps X hF hT)
theorem hd_X1_plays : yX1_plays.cls ≠ "java/lang/invoke/MethodHandle" ∧ yX1_plays.cls ≠ "java/lang/invoke/VarHandle" ∧ (parseMethodDescriptor yX1_plays.desc).map (fun d => d.parameters.length) = some 0 := ⟨by decide +kernel, by decide +kernel, by decide +kernel⟩
set_option maxHeartbeats 4000000 in
theorem wX1_plays_31b {Ω : fg_O} {a0 : Nat} {a1 : Nat} {i2 : Int32} {i3 : Int32} {i4 : Int32} {G : fg_H} {t : ((Nat × Nat × Int32 × Int32 × Int32 × fg_H) ⊕ ((Nat × Nat × Int32 × fg_H) ⊕ (Int32 × fg_H)))} (X : fg_X Ω RX1 "plays" cX1_plays 6 (some .int) 125) (hF : fX1_plays_31b a0 a1 i2 i3 i4 G = some t) (h20 : ∀ z, t = (.inr (.inl z)) → fg_W Ω z.2.2.2 20 [(0, .ref z.1), (1, .ref z.2.1), (2, .int z.2.2.1)] []) (h31 : ∀ z, t = (.inl z) → fg_W Ω z.2.2.2.2.2 31 [(0, .ref z.1), (1, .ref z.2.1), (2, .int z.2.2.1), (3, .int z.2.2.2.1), (4, .int z.2.2.2.2.1)] []) (hT : ∀ u, t = (.inr (.inr u)) → fg_T Ω (.returned (some (.int u.1))) u.2) : fg_W Ω G 31 [(0, .ref a0), (1, .ref a1), (2, .int i2), (3, .int i3), (4, .int i4)] [] := by
  unfold fX1_plays_31b at hF
  refine fg_iload X dX1_plays_31 4 rfl ?_
  refine fg_aload_n X (r := (some a0)) dX1_plays_33 rfl 0 rfl ?_
  replace hF := fg_ob_some hF
  obtain ⟨rz8, e_1, hF⟩ := hF
  refine fg_getr X ff_X1_trial q459 e_1 dX1_plays_34 ?_
  replace hF := fg_ob_some hF
  obtain ⟨az9, rfl, hF⟩ := hF
  replace hF := fg_ob_some hF
  obtain ⟨xz10, e_2, hF⟩ := hF
  refine fg_geti X ff_X5_many q363 e_2 dX1_plays_37 ?_
  refine fg_icmp_ge X (tgt := 88) dX1_plays_40 (by decide) (fun hc => ?_) (fun hc => ?_)
  · rw [if_pos hc] at hF
    replace hF := fg_rt_some hF
    obtain ⟨tz11, hF, ht_3⟩ := hF
    subst ht_3
    replace h20 := fun z q => h20 z (congrArg Sum.inr q)
    replace hT := fun u q => hT u (congrArg Sum.inr q)
    refine fg_iload_n X dX1_plays_88 rfl 3 rfl ?_
    refine fg_if_ne X (tgt := 94) dX1_plays_89 (by decide) (fun hc => ?_) (fun hc => ?_)
    · rw [if_neg hc] at hF
      refine fg_aload_n X (r := (some a0)) dX1_plays_94 rfl 0 rfl ?_
      refine fg_aload_n X (r := (some a1)) dX1_plays_95 rfl 1 rfl ?_
      replace hF := fg_gd_some hF
      obtain ⟨eg_4, hF⟩ := hF
      obtain ⟨fs_5, eo_6⟩ := fg_rc_get eg_4
      replace hF := fg_oc_some hF
      obtain ⟨xz13, Gz12, e_7, hF⟩ := hF
      refine fg_callV X (st := []) (mX1_isThere Ω.2.2.2.2.1 Ω.1 e_7) q1359 q1361 qs33 q93 q1362 hd_X1_isThere (by decide) rfl eo_6 (by decide) rfl rfl (Nat.le_of_ble_eq_true rfl) dX1_plays_96 ?_
      refine fg_if_eq X (tgt := 105) dX1_plays_99 (by decide) (fun hc => ?_) (fun hc => ?_)
      · rw [if_pos hc] at hF
        refine fg_aload_n X (r := (some a0)) dX1_plays_105 rfl 0 rfl ?_
        refine fg_aload_n X (r := (some a1)) dX1_plays_106 rfl 1 rfl ?_
        replace hF := fg_gd_some hF
        obtain ⟨eg_8, hF⟩ := hF
        obtain ⟨fs_9, eo_10⟩ := fg_rc_get eg_8
        replace hF := fg_oc_some hF
        obtain ⟨u, Gz14, e_11, hF⟩ := hF
        refine fg_callV X (st := []) (mX1_keeps Ω.2.2.2.2.1 Ω.1 e_11) q1354 q1356 qs32 q93 q1357 hd_X1_keeps (by decide) rfl eo_10 (by decide) rfl rfl (Nat.le_of_ble_eq_true rfl) dX1_plays_107 ?_
        refine fg_iinc X (v := (i2 + (1 : Int32))) (L' := [(2, .int (i2 + (1 : Int32))), (0, .ref a0), (1, .ref a1), (3, .int i3), (4, .int i4)]) dX1_plays_110 2 rfl rfl (by decide) rfl ?_
        refine fg_goto X (tgt := 20) dX1_plays_113 (by decide) ?_
        refine fg_sub [1, 2, 0] rfl ?_
        exact h20 _ (Option.some.inj hF).symm
      · rw [if_neg hc] at hF
        replace hF := fg_rt_some hF
        obtain ⟨tz15, hF, ht_12⟩ := hF
        subst ht_12
        replace hT := hT _ rfl
        refine fg_iload_n X dX1_plays_102 rfl 2 rfl ?_
        refine fg_ineg X dX1_plays_103 ?_
        cases hF
        exact fg_iret X dX1_plays_104 (hT)
    · rw [if_pos hc] at hF
      replace hF := fg_rt_some hF
      obtain ⟨tz16, hF, ht_13⟩ := hF
      subst ht_13
      replace hT := hT _ rfl
      refine fg_iload_n X dX1_plays_92 rfl 2 rfl ?_
      cases hF
      exact fg_iret X dX1_plays_93 (hT)
  · rw [if_neg hc] at hF
    refine fg_aload_n X (r := (some a0)) dX1_plays_43 rfl 0 rfl ?_
    refine fg_iload X dX1_plays_44 4 rfl ?_
    replace hF := fg_gd_some hF
    obtain ⟨eg_14, hF⟩ := hF
    obtain ⟨fs_15, eo_16⟩ := fg_rc_get eg_14
    replace hF := fg_oc_some hF
    obtain ⟨xz18, Gz17, e_17, hF⟩ := hF
    refine fg_callV X (st := []) (mX1_wishes Ω.2.2.2.2.1 Ω.1 e_17) q1342 q1344 qs30 q93 q1345 hd_X1_wishes (by decide) rfl eo_16 (by decide) rfl rfl (Nat.le_of_ble_eq_true rfl) dX1_plays_46 ?_
    refine fg_istore X (L' := [(5, .int xz18), (0, .ref a0), (1, .ref a1), (2, .int i2), (3, .int i3), (4, .int i4)]) dX1_plays_49 (by decide) rfl ?_
    refine fg_iload X dX1_plays_51 0 rfl ?_
    refine fg_aload_n X (r := (some a0)) dX1_plays_53 rfl 1 rfl ?_
    replace hF := fg_ob_some hF
    obtain ⟨rz19, e_18, hF⟩ := hF
    refine fg_getr X ff_X1_trial q459 e_18 dX1_plays_54 ?_
    replace hF := fg_ob_some hF
    obtain ⟨az20, rfl, hF⟩ := hF
    replace hF := fg_ob_some hF
    obtain ⟨rz21, e_19, hF⟩ := hF
    refine fg_getr X ff_X5_at q359 e_19 dX1_plays_57 ?_
    refine fg_iload X dX1_plays_60 5 rfl ?_
    replace hF := fg_ob_some hF
    obtain ⟨az22, rfl, hF⟩ := hF
    replace hF := fg_ob_some hF
    obtain ⟨xz23, e_20, hF⟩ := hF
    refine fg_iald X e_20 dX1_plays_62 ?_
    refine fg_icmp_ne X (tgt := 69) dX1_plays_63 (by decide) (fun hc => ?_) (fun hc => ?_)
    · rw [if_neg hc] at hF
      refine fg_aload_n X (r := (some a0)) dX1_plays_69 rfl 1 rfl ?_
      replace hF := fg_ob_some hF
      obtain ⟨rz24, e_21, hF⟩ := hF
      refine fg_getr X ff_X1_trial q459 e_21 dX1_plays_70 ?_
      refine fg_iload X dX1_plays_73 5 rfl ?_
      refine fg_iload X dX1_plays_75 0 rfl ?_
      replace hF := fg_ob_some hF
      obtain ⟨az25, rfl, hF⟩ := hF
      replace hF := fg_gd_some hF
      obtain ⟨eg_22, hF⟩ := hF
      obtain ⟨fs_23, eo_24⟩ := fg_rc_get eg_22
      replace hF := fg_oc_some hF
      obtain ⟨u, Gz26, e_25, hF⟩ := hF
      refine fg_callV X (st := []) (mX5_moves Ω.2.2.2.2.1 Ω.1 e_25) q1319 q1320 q1321 q100 q1322 hd_X5_moves (by decide) rfl eo_24 (by decide) rfl rfl (Nat.le_of_ble_eq_true rfl) dX1_plays_77 ?_
      refine fg_iconst X (v := (1 : Int32)) dX1_plays_80 (by decide) ?_
      refine fg_istore_n X (L' := [(3, .int (1 : Int32)), (5, .int xz18), (0, .ref a0), (1, .ref a1), (2, .int i2), (4, .int i4)]) dX1_plays_81 rfl (by decide) rfl ?_
      refine fg_iinc X (v := (i4 + (1 : Int32))) (L' := [(4, .int (i4 + (1 : Int32))), (3, .int (1 : Int32)), (5, .int xz18), (0, .ref a0), (1, .ref a1), (2, .int i2)]) dX1_plays_82 5 rfl rfl (by decide) rfl ?_
      refine fg_goto X (tgt := 31) dX1_plays_85 (by decide) ?_
      refine fg_sub [3, 4, 5, 1, 0] rfl ?_
      exact h31 _ (Option.some.inj hF).symm
    · rw [if_pos hc] at hF
      refine fg_goto X (tgt := 82) dX1_plays_66 (by decide) ?_
      refine fg_iinc X (v := (i4 + (1 : Int32))) (L' := [(4, .int (i4 + (1 : Int32))), (5, .int xz18), (0, .ref a0), (1, .ref a1), (2, .int i2), (3, .int i3)]) dX1_plays_82 5 rfl rfl (by decide) rfl ?_
      refine fg_goto X (tgt := 31) dX1_plays_85 (by decide) ?_
      refine fg_sub [2, 3, 4, 5, 0] rfl ?_
      exact h31 _ (Option.some.inj hF).symm
set_option maxHeartbeats 4000000 in
seal fX1_plays_31b in
theorem wX1_plays_31 {Ω : fg_O} {a0 : Nat} {a1 : Nat} {i2 : Int32} {i3 : Int32} {i4 : Int32} {G : fg_H} {t : ((Nat × Nat × Int32 × fg_H) ⊕ (Int32 × fg_H))} (X : fg_X Ω RX1 "plays" cX1_plays 6 (some .int) 125) (hF : fX1_plays_31 a0 a1 i2 i3 i4 G = some t) (h20 : ∀ z, t = (.inl z) → fg_W Ω z.2.2.2 20 [(0, .ref z.1), (1, .ref z.2.1), (2, .int z.2.2.1)] []) (hT : ∀ u, t = (.inr u) → fg_T Ω (.returned (some (.int u.1))) u.2) : fg_W Ω G 31 [(0, .ref a0), (1, .ref a1), (2, .int i2), (3, .int i3), (4, .int i4)] [] := by
  unfold fX1_plays_31 at hF
  exact fg_lp_walk (P := fun z => fg_W Ω z.2.2.2.2.2 31 [(0, .ref z.1), (1, .ref z.2.1), (2, .int z.2.2.1), (3, .int z.2.2.2.1), (4, .int z.2.2.2.2.1)] []) (fun y o ho hl hr => wX1_plays_31b X ho (fun z e => h20 z (hr _ e).symm) (fun z e => hl z e) (fun u e => hT u (hr _ e).symm)) hF
set_option maxHeartbeats 4000000 in
theorem wX1_plays_20b {Ω : fg_O} {a0 : Nat} {a1 : Nat} {i2 : Int32} {G : fg_H} {t : ((Nat × Nat × Int32 × fg_H) ⊕ (Int32 × fg_H))} (X : fg_X Ω RX1 "plays" cX1_plays 6 (some .int) 125) (hF : fX1_plays_20b a0 a1 i2 G = some t) (h20 : ∀ z, t = (.inl z) → fg_W Ω z.2.2.2 20 [(0, .ref z.1), (1, .ref z.2.1), (2, .int z.2.2.1)] []) (hT : ∀ u, t = (.inr u) → fg_T Ω (.returned (some (.int u.1))) u.2) : fg_W Ω G 20 [(0, .ref a0), (1, .ref a1), (2, .int i2)] [] := by
  unfold fX1_plays_20b at hF
  refine fg_iload_n X dX1_plays_20 rfl 2 rfl ?_
  refine fg_bipush X (v := (100 : Int32)) dX1_plays_21 (by decide) ?_
  refine fg_icmp_gt X (tgt := 116) dX1_plays_23 (by decide) (fun hc => ?_) (fun hc => ?_)
  · rw [if_pos hc] at hF
    replace hF := fg_rt_some hF
    obtain ⟨tz7, hF, ht_1⟩ := hF
    subst ht_1
    replace hT := hT _ rfl
    refine fg_bipush X (v := (-100 : Int32)) dX1_plays_116 (by decide) ?_
    cases hF
    exact fg_iret X dX1_plays_118 (hT)
  · rw [if_neg hc] at hF
    refine fg_iconst X (v := (0 : Int32)) dX1_plays_26 (by decide) ?_
    refine fg_istore_n X (L' := [(3, .int (0 : Int32)), (0, .ref a0), (1, .ref a1), (2, .int i2)]) dX1_plays_27 rfl (by decide) rfl ?_
    refine fg_iconst X (v := (0 : Int32)) dX1_plays_28 (by decide) ?_
    refine fg_istore X (L' := [(4, .int (0 : Int32)), (3, .int (0 : Int32)), (0, .ref a0), (1, .ref a1), (2, .int i2)]) dX1_plays_29 (by decide) rfl ?_
    refine fg_sub [2, 3, 4, 1, 0] rfl ?_
    exact wX1_plays_31 X hF h20 hT
set_option maxHeartbeats 4000000 in
seal fX1_plays_20b in
theorem wX1_plays_20 {Ω : fg_O} {a0 : Nat} {a1 : Nat} {i2 : Int32} {G : fg_H} {t : (Int32 × fg_H)} (X : fg_X Ω RX1 "plays" cX1_plays 6 (some .int) 125) (hF : fX1_plays_20 a0 a1 i2 G = some t) (hT : fg_T Ω (.returned (some (.int t.1))) t.2) : fg_W Ω G 20 [(0, .ref a0), (1, .ref a1), (2, .int i2)] [] := by
  unfold fX1_plays_20 at hF
  exact fg_lp_walk (P := fun z => fg_W Ω z.2.2.2 20 [(0, .ref z.1), (1, .ref z.2.1), (2, .int z.2.2.1)] []) (fun y o ho hl hr => wX1_plays_20b X ho (fun z e => hl z e) (fun u e => by rw [hr _ e]; exact hT)) hF
set_option maxHeartbeats 4000000 in
theorem wX1_plays {Ω : fg_O} {a0 : Nat} {G : fg_H} {t : Int32 × fg_H} (X : fg_X Ω RX1 "plays" cX1_plays 6 (some .int) 125) (hF : fX1_plays a0 G = some t) (hT : fg_T Ω (.returned (some (.int t.1))) t.2) : fg_W Ω G 0 [(0, .ref a0)] [] := by
  unfold fX1_plays at hF
  refine fg_aload_n X (r := (some a0)) dX1_plays_0 rfl 0 rfl ?_
  replace hF := fg_gd_some hF
  obtain ⟨eg_1, hF⟩ := hF
  obtain ⟨fs_2, eo_3⟩ := fg_rc_get eg_1
  replace hF := fg_oc_some hF
  obtain ⟨rz2, Gz1, e_4, hF⟩ := hF
  refine fg_callV X (st := []) (mX1_tries Ω.2.2.2.2.1 Ω.1 e_4) q1327 q1329 qs29 q93 q1330 hd_X1_tries (by decide) rfl eo_3 (by decide) rfl rfl (Nat.le_of_ble_eq_true rfl) dX1_plays_1 ?_
  refine fg_pop X dX1_plays_4 (fg_cat _) ?_
  replace hF := fg_oc_some hF
  obtain ⟨az3, Gz4, e_5, hF⟩ := hF
  refine fg_newo X q396 q241 q98 rfl (by decide) tyJ2_ok nwk_J2 e_5 dX1_plays_5 ?_
  refine fg_dup X dX1_plays_8 rfl ?_
  replace hF := fg_oc_some hF
  obtain ⟨u, Gz5, e_6, hF⟩ := hF
  refine fg_callI X (st := [.ref az3]) (mJ2_init_2 Ω.2.2.2.2.1 Ω.1 e_6) q397 q398 q98 q399 rfl hd_J2_init_2 (by decide) rfl rfl (Nat.le_of_ble_eq_true rfl) dX1_plays_9 ?_
  refine fg_astore_n X (r := (some az3)) (L' := [(1, .ref az3), (0, .ref a0)]) dX1_plays_12 rfl (by decide) rfl ?_
  refine fg_aload_n X (r := (some a0)) dX1_plays_13 rfl 1 rfl ?_
  refine fg_aload_n X (r := (some az3)) dX1_plays_14 rfl 0 rfl ?_
  replace hF := fg_gd_some hF
  obtain ⟨eg_7, hF⟩ := hF
  obtain ⟨fs_8, eo_9⟩ := fg_rc_get eg_7
  replace hF := fg_oc_some hF
  obtain ⟨u, Gz6, e_10, hF⟩ := hF
  refine fg_callV X (st := []) (mX1_keeps Ω.2.2.2.2.1 Ω.1 e_10) q1354 q1356 qs32 q93 q1357 hd_X1_keeps (by decide) rfl eo_9 (by decide) rfl rfl (Nat.le_of_ble_eq_true rfl) dX1_plays_15 ?_
  refine fg_iconst X (v := (1 : Int32)) dX1_plays_18 (by decide) ?_
  refine fg_istore_n X (L' := [(2, .int (1 : Int32)), (1, .ref az3), (0, .ref a0)]) dX1_plays_19 rfl (by decide) rfl ?_
  refine fg_sub [2, 1, 0] rfl ?_
  exact wX1_plays_20 X hF hT
theorem mX1_plays (l : Launch) (D : fg_D) {a0 : Nat} {G : fg_H} {t : Int32 × fg_H} (hF : fX1_plays a0 G = some t) : fg_M l D yX1_plays cX1_plays 6 (some .int) 125 [.ref a0] G (.returned (some (.int t.1))) t.2 :=
  fg_Mof (own := RX1) (nm := "plays") (L := [(0, .ref a0)]) (plainFor_of_name pn_X1) rfl rfl rfl (Nat.le_of_ble_eq_true rfl) (fun Ω _ _ X hT => wX1_plays X hF hT)
theorem hd_X1_played : yX1_played.cls ≠ "java/lang/invoke/MethodHandle" ∧ yX1_played.cls ≠ "java/lang/invoke/VarHandle" ∧ (parseMethodDescriptor yX1_played.desc).map (fun d => d.parameters.length) = some 1 := ⟨by decide +kernel, by decide +kernel, by decide +kernel⟩
set_option maxHeartbeats 4000000 in
theorem wX1_played {Ω : fg_O} {a0 : Nat} {i1 : Int32} {G : fg_H} {t : Int32 × fg_H} (X : fg_X Ω RX1 "played" cX1_played 3 (some .int) 126) (hF : fX1_played a0 i1 G = some t) (hT : fg_T Ω (.returned (some (.int t.1))) t.2) : fg_W Ω G 0 [(0, .ref a0), (1, .int i1)] [] := by
  unfold fX1_played at hF
  refine fg_iload_n X dX1_played_0 rfl 1 rfl ?_
  refine fg_iconst X (v := (0 : Int32)) dX1_played_1 (by decide) ?_
  refine fg_iconst X (v := (1 : Int32)) dX1_played_2 (by decide) ?_
  refine fg_aload_n X (r := (some a0)) dX1_played_3 rfl 0 rfl ?_
  replace hF := fg_ob_some hF
  obtain ⟨rz1, e_1, hF⟩ := hF
  refine fg_getr X ff_X1_hung q449 e_1 dX1_played_4 ?_
  replace hF := fg_ob_some hF
  obtain ⟨az2, rfl, hF⟩ := hF
  replace hF := fg_ob_some hF
  obtain ⟨xz3, e_2, hF⟩ := hF
  refine fg_geti X ff_X5_many q363 e_2 dX1_played_7 ?_
  refine fg_iadd X dX1_played_10 ?_
  replace hF := fg_oc_some hF
  obtain ⟨xz5, Gz4, e_3, hF⟩ := hF
  refine fg_callS X (st := []) (mX1_within Ω.2.2.2.2.1 Ω.1 e_3) q1086 q504 q93 q505 hd_X1_within (by decide) rfl rfl (Nat.le_of_ble_eq_true rfl) dX1_played_11 ?_
  refine fg_if_ne X (tgt := 19) dX1_played_14 (by decide) (fun hc => ?_) (fun hc => ?_)
  · rw [if_neg hc] at hF
    refine fg_aload_n X (r := (some a0)) dX1_played_19 rfl 0 rfl ?_
    replace hF := fg_gd_some hF
    obtain ⟨eg_4, hF⟩ := hF
    obtain ⟨fs_5, eo_6⟩ := fg_rc_get eg_4
    replace hF := fg_oc_some hF
    obtain ⟨xz7, Gz6, e_7, hF⟩ := hF
    refine fg_callV X (st := []) (mX1_plays Ω.2.2.2.2.1 Ω.1 e_7) q1350 q1352 qs31 q93 q1353 hd_X1_plays (by decide) rfl eo_6 (by decide) rfl rfl (Nat.le_of_ble_eq_true rfl) dX1_played_20 ?_
    refine fg_istore_n X (L' := [(2, .int xz7), (0, .ref a0), (1, .int i1)]) dX1_played_23 rfl (by decide) rfl ?_
    refine fg_iload_n X dX1_played_24 rfl 2 rfl ?_
    refine fg_if_ne X (tgt := 35) dX1_played_25 (by decide) (fun hc => ?_) (fun hc => ?_)
    · rw [if_neg hc] at hF
      refine fg_iload_n X dX1_played_35 rfl 2 rfl ?_
      refine fg_iconst X (v := (1 : Int32)) dX1_played_36 (by decide) ?_
      refine fg_icmp_ne X (tgt := 52) dX1_played_37 (by decide) (fun hc => ?_) (fun hc => ?_)
      · rw [if_neg hc] at hF
        refine fg_aload_n X (r := (some a0)) dX1_played_52 rfl 1 rfl ?_
        replace hF := fg_ob_some hF
        obtain ⟨rz8, e_8, hF⟩ := hF
        refine fg_getr X ff_X1_trial q459 e_8 dX1_played_53 ?_
        replace hF := fg_ob_some hF
        obtain ⟨az9, rfl, hF⟩ := hF
        replace hF := fg_ob_some hF
        obtain ⟨rz10, e_9, hF⟩ := hF
        refine fg_getr X ff_X5_at q359 e_9 dX1_played_56 ?_
        refine fg_iload_n X dX1_played_59 rfl 2 rfl ?_
        refine fg_iconst X (v := (2 : Int32)) dX1_played_60 (by decide) ?_
        refine fg_isub X dX1_played_61 ?_
        replace hF := fg_ob_some hF
        obtain ⟨az11, rfl, hF⟩ := hF
        replace hF := fg_ob_some hF
        obtain ⟨xz12, e_10, hF⟩ := hF
        refine fg_iald X e_10 dX1_played_62 ?_
        cases hF
        exact fg_iret X dX1_played_63 (hT)
      · rw [if_pos hc] at hF
        refine fg_iload_n X dX1_played_40 rfl 0 rfl ?_
        refine fg_if_le X (tgt := 48) dX1_played_41 (by decide) (fun hc => ?_) (fun hc => ?_)
        · rw [if_pos hc] at hF
          refine fg_iconst X (v := (0 : Int32)) dX1_played_48 (by decide) ?_
          refine fg_goto X (tgt := 63) dX1_played_49 (by decide) ?_
          cases hF
          exact fg_iret X dX1_played_63 (hT)
        · rw [if_neg hc] at hF
          refine fg_iconst X (v := (1 : Int32)) dX1_played_44 (by decide) ?_
          refine fg_goto X (tgt := 63) dX1_played_45 (by decide) ?_
          cases hF
          exact fg_iret X dX1_played_63 (hT)
    · rw [if_pos hc] at hF
      refine fg_iload_n X dX1_played_28 rfl 0 rfl ?_
      replace hF := fg_oc_some hF
      obtain ⟨xz14, Gz13, e_11, hF⟩ := hF
      refine fg_callS X (st := []) (mJ7_abs Ω.2.2.2.2.1 Ω.1 e_11) q1365 q1366 q108 q1367 hd_J7_abs (by decide) rfl rfl (Nat.le_of_ble_eq_true rfl) dX1_played_29 ?_
      refine fg_goto X (tgt := 63) dX1_played_32 (by decide) ?_
      cases hF
      exact fg_iret X dX1_played_63 (hT)
  · rw [if_pos hc] at hF
    refine fg_iconst X (v := (-1 : Int32)) dX1_played_17 (by decide) ?_
    cases hF
    exact fg_iret X dX1_played_18 (hT)
theorem mX1_played (l : Launch) (D : fg_D) {a0 : Nat} {i1 : Int32} {G : fg_H} {t : Int32 × fg_H} (hF : fX1_played a0 i1 G = some t) : fg_M l D yX1_played cX1_played 3 (some .int) 126 [.ref a0, .int i1] G (.returned (some (.int t.1))) t.2 :=
  fg_Mof (own := RX1) (nm := "played") (L := [(0, .ref a0), (1, .int i1)]) (plainFor_of_name pn_X1) rfl rfl rfl (Nat.le_of_ble_eq_true rfl) (fun Ω _ _ X hT => wX1_played X hF hT)

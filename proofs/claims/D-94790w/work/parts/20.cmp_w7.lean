set_option maxRecDepth 100000
theorem hd_X2_sum : yX2_sum.cls ≠ "java/lang/invoke/MethodHandle" ∧ yX2_sum.cls ≠ "java/lang/invoke/VarHandle" ∧ (parseMethodDescriptor yX2_sum.desc).map (fun d => d.parameters.length) = some 0 := ⟨by decide +kernel, by decide +kernel, by decide +kernel⟩
set_option maxHeartbeats 4000000 in
theorem wX2_sum_83 {Ω : fg_O} {vp : (Nat → fg_H → Option ((Option Nat ⊕ Nat) × fg_H))} {n : Nat} (hvp : fg_RP vp n) {a0 : Nat} {r1 : Option Nat} {a2 : Nat} {s0 : Option Nat} {s1 : Nat} {G : fg_H} {t : ((Nat × Option Nat × Option Nat × fg_H) ⊕ ((Option Nat ⊕ Nat) × fg_H))} (X : fg_X Ω RX2 "sum" cX2_sum 5 (some (.object "FogNets$Expression")) (n + 8)) (hF : fX2_sum_83 vp a0 r1 a2 s0 s1 G = some t) (h7 : ∀ z, t = (.inl z) → fg_W Ω z.2.2.2 7 [(0, .ref z.1), (1, va_rf z.2.1), (2, va_rf z.2.2.1)] []) (hT : ∀ u, t = (.inr u) → fg_TX Ω (fg_or u.1) u.2) : fg_W Ω G 83 [(0, .ref a0), (1, va_rf r1), (2, .ref a2)] [.ref s1, va_rf s0] := by
  unfold fX2_sum_83 at hF
  replace hF := fg_ob_some hF
  obtain ⟨az22, rfl, hF⟩ := hF
  replace hF := fg_gd_some hF
  obtain ⟨eg_1, hF⟩ := hF
  obtain ⟨fs_2, eo_3⟩ := fg_rc_get eg_1
  replace hF := fg_oc_some hF
  obtain ⟨xz24, Gz23, e_4, hF⟩ := hF
  refine fg_callV X (st := []) (mJ2_add Ω.2.2.2.2.1 Ω.1 e_4) q830 q831 q832 q98 q833 hd_J2_add (by decide) rfl eo_3 ⟨by omega, by decide⟩ rfl rfl (Nat.le_of_ble_eq_true rfl) dX2_sum_83 ?_
  refine fg_pop X dX2_sum_86 rfl ?_
  refine fg_goto X (tgt := 7) dX2_sum_87 (by decide) ?_
  refine fg_sub [0, 1, 2] rfl ?_
  exact h7 _ (Option.some.inj hF).symm
set_option maxHeartbeats 4000000 in
theorem wX2_sum_25 {Ω : fg_O} {vp : (Nat → fg_H → Option ((Option Nat ⊕ Nat) × fg_H))} {n : Nat} (hvp : fg_RP vp n) {a0 : Nat} {r1 : Option Nat} {r2 : Option Nat} {G : fg_H} {t : ((Nat × Option Nat × Option Nat × fg_H) ⊕ ((Option Nat ⊕ Nat) × fg_H))} (X : fg_X Ω RX2 "sum" cX2_sum 5 (some (.object "FogNets$Expression")) (n + 8)) (hF : fX2_sum_25 vp a0 r1 r2 G = some t) (h7 : ∀ z, t = (.inl z) → fg_W Ω z.2.2.2 7 [(0, .ref z.1), (1, va_rf z.2.1), (2, va_rf z.2.2.1)] []) (hT : ∀ u, t = (.inr u) → fg_TX Ω (fg_or u.1) u.2) : fg_W Ω G 25 [(0, .ref a0), (1, va_rf r1), (2, va_rf r2)] [] := by
  unfold fX2_sum_25 at hF
  refine fg_aload_n X (r := (some a0)) dX2_sum_25 rfl 0 rfl ?_
  refine fg_bipush X (v := (43 : Int32)) dX2_sum_26 (by decide) ?_
  replace hF := fg_gd_some hF
  obtain ⟨eg_1, hF⟩ := hF
  obtain ⟨fs_2, eo_3⟩ := fg_rc_get eg_1
  replace hF := fg_oc_some hF
  obtain ⟨xz8, Gz7, e_4, hF⟩ := hF
  refine fg_callV X (st := []) (mX2_isSign Ω.2.2.2.2.1 Ω.1 e_4) q753 q755 qs14 q94 q756 hd_X2_isSign (by decide) rfl eo_3 ⟨by omega, by decide⟩ rfl rfl (Nat.le_of_ble_eq_true rfl) dX2_sum_28 ?_
  refine fg_istore_n X (L' := [(3, .int xz8), (0, .ref a0), (1, va_rf r1), (2, va_rf r2)]) dX2_sum_31 rfl (by decide) (by cases r2 <;> rfl) ?_
  refine fg_aload_n X (r := (some a0)) dX2_sum_32 rfl 1 rfl ?_
  refine fg_dup X dX2_sum_33 rfl ?_
  replace hF := fg_ob_some hF
  obtain ⟨xz9, e_5, hF⟩ := hF
  refine fg_geti X ff_X2_at q197 e_5 dX2_sum_34 ?_
  refine fg_iconst X (v := (1 : Int32)) dX2_sum_37 (by decide) ?_
  refine fg_iadd X dX2_sum_38 ?_
  replace hF := fg_ob_some hF
  obtain ⟨Gz10, e_6, hF⟩ := hF
  refine fg_putv X (ty := .int) (v := .int (xz9 + (1 : Int32))) ff_X2_at q197 rfl (Or.inl rfl) rfl rfl rfl e_6 dX2_sum_39 ?_
  refine fg_aload_n X (r := (some a0)) dX2_sum_42 rfl 1 rfl ?_
  replace hF := fg_gd_some hF
  obtain ⟨eg_7, hF⟩ := hF
  obtain ⟨fs_8, eo_9⟩ := fg_rc_get eg_7
  replace hF := fg_oc_some hF
  obtain ⟨zz13, Gz11, e_10, hF⟩ := hF
  rcases zz13 with rz12 | qz14
  swap
  · dsimp only [fg_th] at hF
    exact fg_callVT (G1 := Gz11) (q := qz14) X (st := []) (mX2_term Ω.2.2.2.2.1 Ω.1 hvp e_10) q745 q747 qs12 q94 q748 hd_X2_term (by decide) rfl eo_9 ⟨by omega, by decide⟩ rfl rfl (Nat.le_of_ble_eq_true rfl) dX2_sum_43 (hT _ (Option.some.inj hF).symm)
  dsimp only [fg_th] at hF
  refine fg_callVX (G1 := Gz11) (v := some (va_rf rz12)) X (st := []) (mX2_term Ω.2.2.2.2.1 Ω.1 hvp e_10) q745 q747 qs12 q94 q748 hd_X2_term (by decide) rfl eo_9 ⟨by omega, by decide⟩ rfl rfl (Nat.le_of_ble_eq_true rfl) dX2_sum_43 ?_
  refine fg_astore X (r := rz12) (L' := [(4, va_rf rz12), (3, .int xz8), (0, .ref a0), (1, va_rf r1), (2, va_rf r2)]) dX2_sum_46 (by decide) rfl ?_
  refine fg_aload_n X (r := r1) dX2_sum_48 rfl 3 rfl ?_
  refine fg_aload_n X (r := r2) dX2_sum_49 rfl 4 rfl ?_
  replace hF := fg_oc_some hF
  obtain ⟨rz16, Gz15, e_11, hF⟩ := hF
  refine fg_callS X (st := []) (mX2_chain Ω.2.2.2.2.1 Ω.1 e_11) q798 q799 q94 q800 hd_X2_chain ⟨by omega, by decide⟩ rfl rfl (Nat.le_of_ble_eq_true rfl) dX2_sum_50 ?_
  refine fg_astore_n X (r := rz16) (L' := [(2, va_rf rz16), (4, va_rf rz12), (3, .int xz8), (0, .ref a0), (1, va_rf r1)]) dX2_sum_53 rfl (by decide) (by cases r1 <;> rfl) ?_
  refine fg_aload_n X (r := rz16) dX2_sum_54 rfl 0 rfl ?_
  replace hF := fg_ob_some hF
  obtain ⟨az17, rfl, hF⟩ := hF
  replace hF := fg_ob_some hF
  obtain ⟨rz18, e_12, hF⟩ := hF
  refine fg_getr X ff_X14_links q811 e_12 dX2_sum_55 ?_
  refine fg_iload_n X dX2_sum_58 rfl 2 rfl ?_
  refine fg_if_eq X (tgt := 74) dX2_sum_59 (by decide) (fun hc => ?_) (fun hc => ?_)
  · rw [if_pos hc] at hF
    replace hF := fg_oc_some hF
    obtain ⟨az19, Gz20, e_13, hF⟩ := hF
    refine fg_newo X q909 q910 q125 rfl (by decide) tyX18_ok nwk_X18 e_13 dX2_sum_74 ?_
    refine fg_dup X dX2_sum_77 rfl ?_
    refine fg_aload X (r := rz12) dX2_sum_78 1 rfl ?_
    replace hF := fg_oc_some hF
    obtain ⟨u, Gz21, e_14, hF⟩ := hF
    refine fg_callI X (st := [.ref az19, va_rf rz18]) (mX18_init Ω.2.2.2.2.1 Ω.1 e_14) q911 q912 q125 q913 rfl hd_X18_init ⟨by omega, by decide⟩ rfl rfl (by cases rz18 <;> exact Nat.le_of_ble_eq_true rfl) dX2_sum_80 ?_
    refine fg_sub [3, 4, 0] rfl ?_
    exact wX2_sum_83 hvp X hF h7 hT
  · rw [if_neg hc] at hF
    replace hF := fg_oc_some hF
    obtain ⟨az25, Gz26, e_15, hF⟩ := hF
    refine fg_newo X q901 q902 q124 rfl (by decide) tyX17_ok nwk_X17 e_15 dX2_sum_62 ?_
    refine fg_dup X dX2_sum_65 rfl ?_
    refine fg_aload X (r := rz12) dX2_sum_66 1 rfl ?_
    replace hF := fg_oc_some hF
    obtain ⟨u, Gz27, e_16, hF⟩ := hF
    refine fg_callI X (st := [.ref az25, va_rf rz18]) (mX17_init Ω.2.2.2.2.1 Ω.1 e_16) q903 q904 q124 q905 rfl hd_X17_init ⟨by omega, by decide⟩ rfl rfl (by cases rz18 <;> exact Nat.le_of_ble_eq_true rfl) dX2_sum_68 ?_
    refine fg_goto X (tgt := 83) dX2_sum_71 (by decide) ?_
    refine fg_sub [3, 4, 0] rfl ?_
    exact wX2_sum_83 hvp X hF h7 hT
set_option maxHeartbeats 4000000 in
theorem wX2_sum_7b {Ω : fg_O} {vp : (Nat → fg_H → Option ((Option Nat ⊕ Nat) × fg_H))} {n : Nat} (hvp : fg_RP vp n) {a0 : Nat} {r1 : Option Nat} {r2 : Option Nat} {G : fg_H} {t : ((Nat × Option Nat × Option Nat × fg_H) ⊕ ((Option Nat ⊕ Nat) × fg_H))} (X : fg_X Ω RX2 "sum" cX2_sum 5 (some (.object "FogNets$Expression")) (n + 8)) (hF : fX2_sum_7b vp a0 r1 r2 G = some t) (h7 : ∀ z, t = (.inl z) → fg_W Ω z.2.2.2 7 [(0, .ref z.1), (1, va_rf z.2.1), (2, va_rf z.2.2.1)] []) (hT : ∀ u, t = (.inr u) → fg_TX Ω (fg_or u.1) u.2) : fg_W Ω G 7 [(0, .ref a0), (1, va_rf r1), (2, va_rf r2)] [] := by
  unfold fX2_sum_7b at hF
  refine fg_aload_n X (r := (some a0)) dX2_sum_7 rfl 0 rfl ?_
  refine fg_bipush X (v := (43 : Int32)) dX2_sum_8 (by decide) ?_
  replace hF := fg_gd_some hF
  obtain ⟨eg_1, hF⟩ := hF
  obtain ⟨fs_2, eo_3⟩ := fg_rc_get eg_1
  replace hF := fg_oc_some hF
  obtain ⟨xz6, Gz5, e_4, hF⟩ := hF
  refine fg_callV X (st := []) (mX2_isSign Ω.2.2.2.2.1 Ω.1 e_4) q753 q755 qs14 q94 q756 hd_X2_isSign (by decide) rfl eo_3 ⟨by omega, by decide⟩ rfl rfl (Nat.le_of_ble_eq_true rfl) dX2_sum_10 ?_
  refine fg_if_ne X (tgt := 25) dX2_sum_13 (by decide) (fun hc => ?_) (fun hc => ?_)
  · rw [if_neg hc] at hF
    refine fg_sub [0, 1, 2] rfl ?_
    exact wX2_sum_25 hvp X hF h7 hT
  · rw [if_pos hc] at hF
    refine fg_aload_n X (r := (some a0)) dX2_sum_16 rfl 0 rfl ?_
    refine fg_bipush X (v := (45 : Int32)) dX2_sum_17 (by decide) ?_
    replace hF := fg_gd_some hF
    obtain ⟨eg_5, hF⟩ := hF
    obtain ⟨fs_6, eo_7⟩ := fg_rc_get eg_5
    replace hF := fg_oc_some hF
    obtain ⟨xz29, Gz28, e_8, hF⟩ := hF
    refine fg_callV X (st := []) (mX2_isSign Ω.2.2.2.2.1 Ω.1 e_8) q753 q755 qs14 q94 q756 hd_X2_isSign (by decide) rfl eo_7 ⟨by omega, by decide⟩ rfl rfl (Nat.le_of_ble_eq_true rfl) dX2_sum_19 ?_
    refine fg_if_eq X (tgt := 90) dX2_sum_22 (by decide) (fun hc => ?_) (fun hc => ?_)
    · rw [if_pos hc] at hF
      replace hF := fg_rt_some hF
      obtain ⟨tz30, hF, ht_9⟩ := hF
      subst ht_9
      replace hT := hT _ rfl
      refine fg_aload_n X (r := r2) dX2_sum_90 rfl 2 rfl ?_
      refine fg_ifnonnull X (r := r2) (tgt := 98) dX2_sum_91 (by decide) (fun az31 hc => ?_) (fun hc => ?_)
      · subst hc
        unfold fg_on at hF
        dsimp only at hF
        refine fg_aload_n X (r := (some az31)) dX2_sum_98 rfl 2 rfl ?_
        cases hF
        exact fg_aret (Or.inl ⟨_, rfl⟩) X (r := (some az31)) dX2_sum_99 ((hT).1)
      · subst hc
        unfold fg_on at hF
        dsimp only at hF
        refine fg_aload_n X (r := r1) dX2_sum_94 rfl 1 rfl ?_
        refine fg_goto X (tgt := 99) dX2_sum_95 (by decide) ?_
        cases hF
        exact fg_aret (Or.inl ⟨_, rfl⟩) X (r := r1) dX2_sum_99 ((hT).1)
    · rw [if_neg hc] at hF
      refine fg_sub [0, 1, 2] rfl ?_
      exact wX2_sum_25 hvp X hF h7 hT
set_option maxHeartbeats 4000000 in
seal fX2_sum_7b in
theorem wX2_sum_7 {Ω : fg_O} {vp : (Nat → fg_H → Option ((Option Nat ⊕ Nat) × fg_H))} {n : Nat} (hvp : fg_RP vp n) {a0 : Nat} {r1 : Option Nat} {r2 : Option Nat} {G : fg_H} {t : ((Option Nat ⊕ Nat) × fg_H)} (X : fg_X Ω RX2 "sum" cX2_sum 5 (some (.object "FogNets$Expression")) (n + 8)) (hF : fX2_sum_7 vp a0 r1 r2 G = some t) (hT : fg_TX Ω (fg_or t.1) t.2) : fg_W Ω G 7 [(0, .ref a0), (1, va_rf r1), (2, va_rf r2)] [] := by
  unfold fX2_sum_7 at hF
  exact fg_lp_walk (P := fun z => fg_W Ω z.2.2.2 7 [(0, .ref z.1), (1, va_rf z.2.1), (2, va_rf z.2.2.1)] []) (fun y o ho hl hr => wX2_sum_7b hvp X ho (fun z e => hl z e) (fun u e => by rw [hr _ e]; exact hT)) hF
set_option maxHeartbeats 4000000 in
theorem wX2_sum {Ω : fg_O} {vp : (Nat → fg_H → Option ((Option Nat ⊕ Nat) × fg_H))} {n : Nat} (hvp : fg_RP vp n) {a0 : Nat} {G : fg_H} {t : (Option Nat ⊕ Nat) × fg_H} (X : fg_X Ω RX2 "sum" cX2_sum 5 (some (.object "FogNets$Expression")) (n + 8)) (hF : fX2_sum vp a0 G = some t) (hT : fg_TX Ω (fg_or t.1) t.2) : fg_W Ω G 0 [(0, .ref a0)] [] := by
  unfold fX2_sum at hF
  refine fg_aload_n X (r := (some a0)) dX2_sum_0 rfl 0 rfl ?_
  replace hF := fg_gd_some hF
  obtain ⟨eg_1, hF⟩ := hF
  obtain ⟨fs_2, eo_3⟩ := fg_rc_get eg_1
  replace hF := fg_oc_some hF
  obtain ⟨zz3, Gz1, e_4, hF⟩ := hF
  rcases zz3 with rz2 | qz4
  swap
  · dsimp only [fg_th] at hF
    cases hF
    exact fg_callVT (G1 := Gz1) (q := qz4) X (st := []) (mX2_term Ω.2.2.2.2.1 Ω.1 hvp e_4) q745 q747 qs12 q94 q748 hd_X2_term (by decide) rfl eo_3 ⟨by omega, by decide⟩ rfl rfl (Nat.le_of_ble_eq_true rfl) dX2_sum_1 (hT)
  dsimp only [fg_th] at hF
  refine fg_callVX (G1 := Gz1) (v := some (va_rf rz2)) X (st := []) (mX2_term Ω.2.2.2.2.1 Ω.1 hvp e_4) q745 q747 qs12 q94 q748 hd_X2_term (by decide) rfl eo_3 ⟨by omega, by decide⟩ rfl rfl (Nat.le_of_ble_eq_true rfl) dX2_sum_1 ?_
  refine fg_astore_n X (r := rz2) (L' := [(1, va_rf rz2), (0, .ref a0)]) dX2_sum_4 rfl (by decide) rfl ?_
  refine fg_anull X dX2_sum_5 ?_
  refine fg_astore_n X (r := none) (L' := [(2, va_rf none), (1, va_rf rz2), (0, .ref a0)]) dX2_sum_6 rfl (by decide) (by cases rz2 <;> rfl) ?_
  refine fg_sub [2, 1, 0] rfl ?_
  exact wX2_sum_7 hvp X hF hT
theorem mX2_sum (l : Launch) (D : fg_D) {vp : (Nat → fg_H → Option ((Option Nat ⊕ Nat) × fg_H))} {n : Nat} (hvp : fg_RP vp n) {a0 : Nat} {G : fg_H} {t : (Option Nat ⊕ Nat) × fg_H} (hF : fX2_sum vp a0 G = some t) : fg_MX l D yX2_sum cX2_sum 5 (some (.object "FogNets$Expression")) (n + 8) [.ref a0] G (fg_or t.1) t.2 :=
  fg_MXof (own := RX2) (nm := "sum") (L := [(0, .ref a0)]) pn_X2 rfl rfl rfl (Nat.le_of_ble_eq_true rfl) (fun Ω _ _ X hT => wX2_sum hvp X hF hT)
theorem hd_X2_test : yX2_test.cls ≠ "java/lang/invoke/MethodHandle" ∧ yX2_test.cls ≠ "java/lang/invoke/VarHandle" ∧ (parseMethodDescriptor yX2_test.desc).map (fun d => d.parameters.length) = some 0 := ⟨by decide +kernel, by decide +kernel, by decide +kernel⟩
set_option maxHeartbeats 4000000 in
theorem wX2_test_85 {Ω : fg_O} {vp : (Nat → fg_H → Option ((Option Nat ⊕ Nat) × fg_H))} {n : Nat} (hvp : fg_RP vp n) {a4 : Nat} {s0 : Option Nat} {s1 : Nat} {G : fg_H} {t : ((Option Nat ⊕ Nat) × fg_H)} (X : fg_X Ω RX2 "test" cX2_test 5 (some (.object "FogNets$Expression")) (n + 9)) (hF : fX2_test_85 vp a4 s0 s1 G = some t) (hT : fg_TX Ω (fg_or t.1) t.2) : fg_W Ω G 85 [(4, .ref a4)] [.ref s1, va_rf s0] := by
  unfold fX2_test_85 at hF
  replace hF := fg_ob_some hF
  obtain ⟨az22, rfl, hF⟩ := hF
  replace hF := fg_gd_some hF
  obtain ⟨eg_1, hF⟩ := hF
  obtain ⟨fs_2, eo_3⟩ := fg_rc_get eg_1
  replace hF := fg_oc_some hF
  obtain ⟨xz24, Gz23, e_4, hF⟩ := hF
  refine fg_callV X (st := []) (mJ2_add Ω.2.2.2.2.1 Ω.1 e_4) q830 q831 q832 q98 q833 hd_J2_add (by decide) rfl eo_3 ⟨by omega, by decide⟩ rfl rfl (Nat.le_of_ble_eq_true rfl) dX2_test_85 ?_
  refine fg_pop X dX2_test_88 rfl ?_
  refine fg_aload X (r := (some a4)) dX2_test_89 0 rfl ?_
  cases hF
  exact fg_aret (Or.inl ⟨_, rfl⟩) X (r := (some a4)) dX2_test_91 ((hT).1)
set_option maxHeartbeats 4000000 in
theorem wX2_test_25 {Ω : fg_O} {vp : (Nat → fg_H → Option ((Option Nat ⊕ Nat) × fg_H))} {n : Nat} (hvp : fg_RP vp n) {a0 : Nat} {r1 : Option Nat} {G : fg_H} {t : ((Option Nat ⊕ Nat) × fg_H)} (X : fg_X Ω RX2 "test" cX2_test 5 (some (.object "FogNets$Expression")) (n + 9)) (hF : fX2_test_25 vp a0 r1 G = some t) (hT : fg_TX Ω (fg_or t.1) t.2) : fg_W Ω G 25 [(0, .ref a0), (1, va_rf r1)] [] := by
  unfold fX2_test_25 at hF
  refine fg_aload_n X (r := (some a0)) dX2_test_25 rfl 0 rfl ?_
  refine fg_bipush X (v := (60 : Int32)) dX2_test_26 (by decide) ?_
  replace hF := fg_gd_some hF
  obtain ⟨eg_1, hF⟩ := hF
  obtain ⟨fs_2, eo_3⟩ := fg_rc_get eg_1
  replace hF := fg_oc_some hF
  obtain ⟨xz8, Gz7, e_4, hF⟩ := hF
  refine fg_callV X (st := []) (mX2_isSign Ω.2.2.2.2.1 Ω.1 e_4) q753 q755 qs14 q94 q756 hd_X2_isSign (by decide) rfl eo_3 ⟨by omega, by decide⟩ rfl rfl (Nat.le_of_ble_eq_true rfl) dX2_test_28 ?_
  refine fg_istore_n X (L' := [(2, .int xz8), (0, .ref a0), (1, va_rf r1)]) dX2_test_31 rfl (by decide) (by cases r1 <;> rfl) ?_
  refine fg_aload_n X (r := (some a0)) dX2_test_32 rfl 1 rfl ?_
  refine fg_dup X dX2_test_33 rfl ?_
  replace hF := fg_ob_some hF
  obtain ⟨xz9, e_5, hF⟩ := hF
  refine fg_geti X ff_X2_at q197 e_5 dX2_test_34 ?_
  refine fg_iconst X (v := (1 : Int32)) dX2_test_37 (by decide) ?_
  refine fg_iadd X dX2_test_38 ?_
  replace hF := fg_ob_some hF
  obtain ⟨Gz10, e_6, hF⟩ := hF
  refine fg_putv X (ty := .int) (v := .int (xz9 + (1 : Int32))) ff_X2_at q197 rfl (Or.inl rfl) rfl rfl rfl e_6 dX2_test_39 ?_
  refine fg_aload_n X (r := (some a0)) dX2_test_42 rfl 1 rfl ?_
  replace hF := fg_gd_some hF
  obtain ⟨eg_7, hF⟩ := hF
  obtain ⟨fs_8, eo_9⟩ := fg_rc_get eg_7
  replace hF := fg_oc_some hF
  obtain ⟨zz13, Gz11, e_10, hF⟩ := hF
  rcases zz13 with rz12 | qz14
  swap
  · dsimp only [fg_th] at hF
    cases hF
    exact fg_callVT (G1 := Gz11) (q := qz14) X (st := []) (mX2_sum Ω.2.2.2.2.1 Ω.1 hvp e_10) q741 q743 qs11 q94 q744 hd_X2_sum (by decide) rfl eo_9 ⟨by omega, by decide⟩ rfl rfl (Nat.le_of_ble_eq_true rfl) dX2_test_43 (hT)
  dsimp only [fg_th] at hF
  refine fg_callVX (G1 := Gz11) (v := some (va_rf rz12)) X (st := []) (mX2_sum Ω.2.2.2.2.1 Ω.1 hvp e_10) q741 q743 qs11 q94 q744 hd_X2_sum (by decide) rfl eo_9 ⟨by omega, by decide⟩ rfl rfl (Nat.le_of_ble_eq_true rfl) dX2_test_43 ?_
  refine fg_astore_n X (r := rz12) (L' := [(3, va_rf rz12), (2, .int xz8), (0, .ref a0), (1, va_rf r1)]) dX2_test_46 rfl (by decide) rfl ?_
  replace hF := fg_oc_some hF
  obtain ⟨az15, Gz16, e_11, hF⟩ := hF
  refine fg_newo X q801 q802 q118 rfl (by decide) tyX14_ok nwk_X14 e_11 dX2_test_47 ?_
  refine fg_dup X dX2_test_50 rfl ?_
  refine fg_aload_n X (r := r1) dX2_test_51 rfl 3 rfl ?_
  replace hF := fg_oc_some hF
  obtain ⟨u, Gz17, e_12, hF⟩ := hF
  refine fg_callI X (st := [.ref az15]) (mX14_init Ω.2.2.2.2.1 Ω.1 e_12) q803 q804 q118 q805 rfl hd_X14_init ⟨by omega, by decide⟩ rfl rfl (Nat.le_of_ble_eq_true rfl) dX2_test_52 ?_
  refine fg_astore X (r := (some az15)) (L' := [(4, .ref az15), (3, va_rf rz12), (2, .int xz8), (0, .ref a0), (1, va_rf r1)]) dX2_test_55 (by decide) (by cases rz12 <;> rfl) ?_
  refine fg_aload X (r := (some az15)) dX2_test_57 0 rfl ?_
  replace hF := fg_ob_some hF
  obtain ⟨rz18, e_13, hF⟩ := hF
  refine fg_getr X ff_X14_links q811 e_13 dX2_test_59 ?_
  refine fg_iload_n X dX2_test_62 rfl 2 rfl ?_
  refine fg_if_eq X (tgt := 77) dX2_test_63 (by decide) (fun hc => ?_) (fun hc => ?_)
  · rw [if_pos hc] at hF
    replace hF := fg_oc_some hF
    obtain ⟨az19, Gz20, e_14, hF⟩ := hF
    refine fg_newo X q925 q926 q127 rfl (by decide) tyX20_ok nwk_X20 e_14 dX2_test_77 ?_
    refine fg_dup X dX2_test_80 rfl ?_
    refine fg_aload_n X (r := rz12) dX2_test_81 rfl 1 rfl ?_
    replace hF := fg_oc_some hF
    obtain ⟨u, Gz21, e_15, hF⟩ := hF
    refine fg_callI X (st := [.ref az19, va_rf rz18]) (mX20_init Ω.2.2.2.2.1 Ω.1 e_15) q927 q928 q127 q929 rfl hd_X20_init ⟨by omega, by decide⟩ rfl rfl (by cases rz18 <;> exact Nat.le_of_ble_eq_true rfl) dX2_test_82 ?_
    refine fg_sub [0] rfl ?_
    exact wX2_test_85 hvp X hF hT
  · rw [if_neg hc] at hF
    replace hF := fg_oc_some hF
    obtain ⟨az25, Gz26, e_16, hF⟩ := hF
    refine fg_newo X q917 q918 q126 rfl (by decide) tyX19_ok nwk_X19 e_16 dX2_test_66 ?_
    refine fg_dup X dX2_test_69 rfl ?_
    refine fg_aload_n X (r := rz12) dX2_test_70 rfl 1 rfl ?_
    replace hF := fg_oc_some hF
    obtain ⟨u, Gz27, e_17, hF⟩ := hF
    refine fg_callI X (st := [.ref az25, va_rf rz18]) (mX19_init Ω.2.2.2.2.1 Ω.1 e_17) q919 q920 q126 q921 rfl hd_X19_init ⟨by omega, by decide⟩ rfl rfl (by cases rz18 <;> exact Nat.le_of_ble_eq_true rfl) dX2_test_71 ?_
    refine fg_goto X (tgt := 85) dX2_test_74 (by decide) ?_
    refine fg_sub [0] rfl ?_
    exact wX2_test_85 hvp X hF hT
set_option maxHeartbeats 4000000 in
theorem wX2_test {Ω : fg_O} {vp : (Nat → fg_H → Option ((Option Nat ⊕ Nat) × fg_H))} {n : Nat} (hvp : fg_RP vp n) {a0 : Nat} {G : fg_H} {t : (Option Nat ⊕ Nat) × fg_H} (X : fg_X Ω RX2 "test" cX2_test 5 (some (.object "FogNets$Expression")) (n + 9)) (hF : fX2_test vp a0 G = some t) (hT : fg_TX Ω (fg_or t.1) t.2) : fg_W Ω G 0 [(0, .ref a0)] [] := by
  unfold fX2_test at hF
  refine fg_aload_n X (r := (some a0)) dX2_test_0 rfl 0 rfl ?_
  replace hF := fg_gd_some hF
  obtain ⟨eg_1, hF⟩ := hF
  obtain ⟨fs_2, eo_3⟩ := fg_rc_get eg_1
  replace hF := fg_oc_some hF
  obtain ⟨zz3, Gz1, e_4, hF⟩ := hF
  rcases zz3 with rz2 | qz4
  swap
  · dsimp only [fg_th] at hF
    cases hF
    exact fg_callVT (G1 := Gz1) (q := qz4) X (st := []) (mX2_sum Ω.2.2.2.2.1 Ω.1 hvp e_4) q741 q743 qs11 q94 q744 hd_X2_sum (by decide) rfl eo_3 ⟨by omega, by decide⟩ rfl rfl (Nat.le_of_ble_eq_true rfl) dX2_test_1 (hT)
  dsimp only [fg_th] at hF
  refine fg_callVX (G1 := Gz1) (v := some (va_rf rz2)) X (st := []) (mX2_sum Ω.2.2.2.2.1 Ω.1 hvp e_4) q741 q743 qs11 q94 q744 hd_X2_sum (by decide) rfl eo_3 ⟨by omega, by decide⟩ rfl rfl (Nat.le_of_ble_eq_true rfl) dX2_test_1 ?_
  refine fg_astore_n X (r := rz2) (L' := [(1, va_rf rz2), (0, .ref a0)]) dX2_test_4 rfl (by decide) rfl ?_
  refine fg_aload_n X (r := (some a0)) dX2_test_5 rfl 1 rfl ?_
  refine fg_bipush X (v := (60 : Int32)) dX2_test_6 (by decide) ?_
  replace hF := fg_gd_some hF
  obtain ⟨eg_5, hF⟩ := hF
  obtain ⟨fs_6, eo_7⟩ := fg_rc_get eg_5
  replace hF := fg_oc_some hF
  obtain ⟨xz6, Gz5, e_8, hF⟩ := hF
  refine fg_callV X (st := []) (mX2_isSign Ω.2.2.2.2.1 Ω.1 e_8) q753 q755 qs14 q94 q756 hd_X2_isSign (by decide) rfl eo_7 ⟨by omega, by decide⟩ rfl rfl (Nat.le_of_ble_eq_true rfl) dX2_test_8 ?_
  refine fg_if_ne X (tgt := 25) dX2_test_11 (by decide) (fun hc => ?_) (fun hc => ?_)
  · rw [if_neg hc] at hF
    refine fg_sub [1, 0] rfl ?_
    exact wX2_test_25 hvp X hF hT
  · rw [if_pos hc] at hF
    refine fg_aload_n X (r := (some a0)) dX2_test_14 rfl 1 rfl ?_
    refine fg_bipush X (v := (61 : Int32)) dX2_test_15 (by decide) ?_
    replace hF := fg_gd_some hF
    obtain ⟨eg_9, hF⟩ := hF
    obtain ⟨fs_10, eo_11⟩ := fg_rc_get eg_9
    replace hF := fg_oc_some hF
    obtain ⟨xz29, Gz28, e_12, hF⟩ := hF
    refine fg_callV X (st := []) (mX2_isSign Ω.2.2.2.2.1 Ω.1 e_12) q753 q755 qs14 q94 q756 hd_X2_isSign (by decide) rfl eo_11 ⟨by omega, by decide⟩ rfl rfl (Nat.le_of_ble_eq_true rfl) dX2_test_17 ?_
    refine fg_if_ne X (tgt := 25) dX2_test_20 (by decide) (fun hc => ?_) (fun hc => ?_)
    · rw [if_neg hc] at hF
      refine fg_sub [1, 0] rfl ?_
      exact wX2_test_25 hvp X hF hT
    · rw [if_pos hc] at hF
      refine fg_aload_n X (r := rz2) dX2_test_23 rfl 0 rfl ?_
      cases hF
      exact fg_aret (Or.inl ⟨_, rfl⟩) X (r := rz2) dX2_test_24 ((hT).1)
theorem mX2_test (l : Launch) (D : fg_D) {vp : (Nat → fg_H → Option ((Option Nat ⊕ Nat) × fg_H))} {n : Nat} (hvp : fg_RP vp n) {a0 : Nat} {G : fg_H} {t : (Option Nat ⊕ Nat) × fg_H} (hF : fX2_test vp a0 G = some t) : fg_MX l D yX2_test cX2_test 5 (some (.object "FogNets$Expression")) (n + 9) [.ref a0] G (fg_or t.1) t.2 :=
  fg_MXof (own := RX2) (nm := "test") (L := [(0, .ref a0)]) pn_X2 rfl rfl rfl (Nat.le_of_ble_eq_true rfl) (fun Ω _ _ X hT => wX2_test hvp X hF hT)
theorem hd_X2_all : yX2_all.cls ≠ "java/lang/invoke/MethodHandle" ∧ yX2_all.cls ≠ "java/lang/invoke/VarHandle" ∧ (parseMethodDescriptor yX2_all.desc).map (fun d => d.parameters.length) = some 0 := ⟨by decide +kernel, by decide +kernel, by decide +kernel⟩
set_option maxHeartbeats 4000000 in
theorem wX2_all_83 {Ω : fg_O} {vp : (Nat → fg_H → Option ((Option Nat ⊕ Nat) × fg_H))} {n : Nat} (hvp : fg_RP vp n) {a0 : Nat} {r1 : Option Nat} {a2 : Nat} {s0 : Option Nat} {s1 : Nat} {G : fg_H} {t : ((Nat × Option Nat × Option Nat × fg_H) ⊕ ((Option Nat ⊕ Nat) × fg_H))} (X : fg_X Ω RX2 "all" cX2_all 5 (some (.object "FogNets$Expression")) (n + 10)) (hF : fX2_all_83 vp a0 r1 a2 s0 s1 G = some t) (h7 : ∀ z, t = (.inl z) → fg_W Ω z.2.2.2 7 [(0, .ref z.1), (1, va_rf z.2.1), (2, va_rf z.2.2.1)] []) (hT : ∀ u, t = (.inr u) → fg_TX Ω (fg_or u.1) u.2) : fg_W Ω G 83 [(0, .ref a0), (1, va_rf r1), (2, .ref a2)] [.ref s1, va_rf s0] := by
  unfold fX2_all_83 at hF
  replace hF := fg_ob_some hF
  obtain ⟨az24, rfl, hF⟩ := hF
  replace hF := fg_gd_some hF
  obtain ⟨eg_1, hF⟩ := hF
  obtain ⟨fs_2, eo_3⟩ := fg_rc_get eg_1
  replace hF := fg_oc_some hF
  obtain ⟨xz26, Gz25, e_4, hF⟩ := hF
  refine fg_callV X (st := []) (mJ2_add Ω.2.2.2.2.1 Ω.1 e_4) q830 q831 q832 q98 q833 hd_J2_add (by decide) rfl eo_3 ⟨by omega, by decide⟩ rfl rfl (Nat.le_of_ble_eq_true rfl) dX2_all_83 ?_
  refine fg_pop X dX2_all_86 rfl ?_
  refine fg_goto X (tgt := 7) dX2_all_87 (by decide) ?_
  refine fg_sub [0, 1, 2] rfl ?_
  exact h7 _ (Option.some.inj hF).symm
set_option maxHeartbeats 4000000 in
theorem wX2_all_25 {Ω : fg_O} {vp : (Nat → fg_H → Option ((Option Nat ⊕ Nat) × fg_H))} {n : Nat} (hvp : fg_RP vp n) {a0 : Nat} {r1 : Option Nat} {r2 : Option Nat} {G : fg_H} {t : ((Nat × Option Nat × Option Nat × fg_H) ⊕ ((Option Nat ⊕ Nat) × fg_H))} (X : fg_X Ω RX2 "all" cX2_all 5 (some (.object "FogNets$Expression")) (n + 10)) (hF : fX2_all_25 vp a0 r1 r2 G = some t) (h7 : ∀ z, t = (.inl z) → fg_W Ω z.2.2.2 7 [(0, .ref z.1), (1, va_rf z.2.1), (2, va_rf z.2.2.1)] []) (hT : ∀ u, t = (.inr u) → fg_TX Ω (fg_or u.1) u.2) : fg_W Ω G 25 [(0, .ref a0), (1, va_rf r1), (2, va_rf r2)] [] := by
  unfold fX2_all_25 at hF
  refine fg_aload_n X (r := (some a0)) dX2_all_25 rfl 0 rfl ?_
  replace hF := fg_ob_some hF
  obtain ⟨rz8, ex_1, hF⟩ := hF
  refine fg_ldcS X (i := 23) (by decide) rfl rfl (Option.some.inj ex_1) dX2_all_26 ?_
  replace hF := fg_gd_some hF
  obtain ⟨eg_2, hF⟩ := hF
  obtain ⟨fs_3, eo_4⟩ := fg_rc_get eg_2
  replace hF := fg_oc_some hF
  obtain ⟨xz10, Gz9, e_5, hF⟩ := hF
  refine fg_callV X (st := []) (mX2_isWord Ω.2.2.2.2.1 Ω.1 e_5) q622 q624 qs2 q94 q625 hd_X2_isWord (by decide) rfl eo_4 ⟨by omega, by decide⟩ rfl rfl (Nat.le_of_ble_eq_true rfl) dX2_all_28 ?_
  refine fg_istore_n X (L' := [(3, .int xz10), (0, .ref a0), (1, va_rf r1), (2, va_rf r2)]) dX2_all_31 rfl (by decide) (by cases r2 <;> rfl) ?_
  refine fg_aload_n X (r := (some a0)) dX2_all_32 rfl 1 rfl ?_
  refine fg_dup X dX2_all_33 rfl ?_
  replace hF := fg_ob_some hF
  obtain ⟨xz11, e_6, hF⟩ := hF
  refine fg_geti X ff_X2_at q197 e_6 dX2_all_34 ?_
  refine fg_iconst X (v := (1 : Int32)) dX2_all_37 (by decide) ?_
  refine fg_iadd X dX2_all_38 ?_
  replace hF := fg_ob_some hF
  obtain ⟨Gz12, e_7, hF⟩ := hF
  refine fg_putv X (ty := .int) (v := .int (xz11 + (1 : Int32))) ff_X2_at q197 rfl (Or.inl rfl) rfl rfl rfl e_7 dX2_all_39 ?_
  refine fg_aload_n X (r := (some a0)) dX2_all_42 rfl 1 rfl ?_
  replace hF := fg_gd_some hF
  obtain ⟨eg_8, hF⟩ := hF
  obtain ⟨fs_9, eo_10⟩ := fg_rc_get eg_8
  replace hF := fg_oc_some hF
  obtain ⟨zz15, Gz13, e_11, hF⟩ := hF
  rcases zz15 with rz14 | qz16
  swap
  · dsimp only [fg_th] at hF
    exact fg_callVT (G1 := Gz13) (q := qz16) X (st := []) (mX2_test Ω.2.2.2.2.1 Ω.1 hvp e_11) q737 q739 qs10 q94 q740 hd_X2_test (by decide) rfl eo_10 ⟨by omega, by decide⟩ rfl rfl (Nat.le_of_ble_eq_true rfl) dX2_all_43 (hT _ (Option.some.inj hF).symm)
  dsimp only [fg_th] at hF
  refine fg_callVX (G1 := Gz13) (v := some (va_rf rz14)) X (st := []) (mX2_test Ω.2.2.2.2.1 Ω.1 hvp e_11) q737 q739 qs10 q94 q740 hd_X2_test (by decide) rfl eo_10 ⟨by omega, by decide⟩ rfl rfl (Nat.le_of_ble_eq_true rfl) dX2_all_43 ?_
  refine fg_astore X (r := rz14) (L' := [(4, va_rf rz14), (3, .int xz10), (0, .ref a0), (1, va_rf r1), (2, va_rf r2)]) dX2_all_46 (by decide) rfl ?_
  refine fg_aload_n X (r := r1) dX2_all_48 rfl 3 rfl ?_
  refine fg_aload_n X (r := r2) dX2_all_49 rfl 4 rfl ?_
  replace hF := fg_oc_some hF
  obtain ⟨rz18, Gz17, e_12, hF⟩ := hF
  refine fg_callS X (st := []) (mX2_chain Ω.2.2.2.2.1 Ω.1 e_12) q798 q799 q94 q800 hd_X2_chain ⟨by omega, by decide⟩ rfl rfl (Nat.le_of_ble_eq_true rfl) dX2_all_50 ?_
  refine fg_astore_n X (r := rz18) (L' := [(2, va_rf rz18), (4, va_rf rz14), (3, .int xz10), (0, .ref a0), (1, va_rf r1)]) dX2_all_53 rfl (by decide) (by cases r1 <;> rfl) ?_
  refine fg_aload_n X (r := rz18) dX2_all_54 rfl 0 rfl ?_
  replace hF := fg_ob_some hF
  obtain ⟨az19, rfl, hF⟩ := hF
  replace hF := fg_ob_some hF
  obtain ⟨rz20, e_13, hF⟩ := hF
  refine fg_getr X ff_X14_links q811 e_13 dX2_all_55 ?_
  refine fg_iload_n X dX2_all_58 rfl 2 rfl ?_
  refine fg_if_eq X (tgt := 74) dX2_all_59 (by decide) (fun hc => ?_) (fun hc => ?_)
  · rw [if_pos hc] at hF
    replace hF := fg_oc_some hF
    obtain ⟨az21, Gz22, e_14, hF⟩ := hF
    refine fg_newo X q941 q942 q129 rfl (by decide) tyX22_ok nwk_X22 e_14 dX2_all_74 ?_
    refine fg_dup X dX2_all_77 rfl ?_
    refine fg_aload X (r := rz14) dX2_all_78 1 rfl ?_
    replace hF := fg_oc_some hF
    obtain ⟨u, Gz23, e_15, hF⟩ := hF
    refine fg_callI X (st := [.ref az21, va_rf rz20]) (mX22_init Ω.2.2.2.2.1 Ω.1 e_15) q943 q944 q129 q945 rfl hd_X22_init ⟨by omega, by decide⟩ rfl rfl (by cases rz20 <;> exact Nat.le_of_ble_eq_true rfl) dX2_all_80 ?_
    refine fg_sub [3, 4, 0] rfl ?_
    exact wX2_all_83 hvp X hF h7 hT
  · rw [if_neg hc] at hF
    replace hF := fg_oc_some hF
    obtain ⟨az27, Gz28, e_16, hF⟩ := hF
    refine fg_newo X q933 q934 q128 rfl (by decide) tyX21_ok nwk_X21 e_16 dX2_all_62 ?_
    refine fg_dup X dX2_all_65 rfl ?_
    refine fg_aload X (r := rz14) dX2_all_66 1 rfl ?_
    replace hF := fg_oc_some hF
    obtain ⟨u, Gz29, e_17, hF⟩ := hF
    refine fg_callI X (st := [.ref az27, va_rf rz20]) (mX21_init Ω.2.2.2.2.1 Ω.1 e_17) q935 q936 q128 q937 rfl hd_X21_init ⟨by omega, by decide⟩ rfl rfl (by cases rz20 <;> exact Nat.le_of_ble_eq_true rfl) dX2_all_68 ?_
    refine fg_goto X (tgt := 83) dX2_all_71 (by decide) ?_
    refine fg_sub [3, 4, 0] rfl ?_
    exact wX2_all_83 hvp X hF h7 hT
set_option maxHeartbeats 4000000 in
theorem wX2_all_7b {Ω : fg_O} {vp : (Nat → fg_H → Option ((Option Nat ⊕ Nat) × fg_H))} {n : Nat} (hvp : fg_RP vp n) {a0 : Nat} {r1 : Option Nat} {r2 : Option Nat} {G : fg_H} {t : ((Nat × Option Nat × Option Nat × fg_H) ⊕ ((Option Nat ⊕ Nat) × fg_H))} (X : fg_X Ω RX2 "all" cX2_all 5 (some (.object "FogNets$Expression")) (n + 10)) (hF : fX2_all_7b vp a0 r1 r2 G = some t) (h7 : ∀ z, t = (.inl z) → fg_W Ω z.2.2.2 7 [(0, .ref z.1), (1, va_rf z.2.1), (2, va_rf z.2.2.1)] []) (hT : ∀ u, t = (.inr u) → fg_TX Ω (fg_or u.1) u.2) : fg_W Ω G 7 [(0, .ref a0), (1, va_rf r1), (2, va_rf r2)] [] := by
  unfold fX2_all_7b at hF
  refine fg_aload_n X (r := (some a0)) dX2_all_7 rfl 0 rfl ?_
  replace hF := fg_ob_some hF
  obtain ⟨rz5, ex_1, hF⟩ := hF
  refine fg_ldcS X (i := 23) (by decide) rfl rfl (Option.some.inj ex_1) dX2_all_8 ?_
  replace hF := fg_gd_some hF
  obtain ⟨eg_2, hF⟩ := hF
  obtain ⟨fs_3, eo_4⟩ := fg_rc_get eg_2
  replace hF := fg_oc_some hF
  obtain ⟨xz7, Gz6, e_5, hF⟩ := hF
  refine fg_callV X (st := []) (mX2_isWord Ω.2.2.2.2.1 Ω.1 e_5) q622 q624 qs2 q94 q625 hd_X2_isWord (by decide) rfl eo_4 ⟨by omega, by decide⟩ rfl rfl (Nat.le_of_ble_eq_true rfl) dX2_all_10 ?_
  refine fg_if_ne X (tgt := 25) dX2_all_13 (by decide) (fun hc => ?_) (fun hc => ?_)
  · rw [if_neg hc] at hF
    refine fg_sub [0, 1, 2] rfl ?_
    exact wX2_all_25 hvp X hF h7 hT
  · rw [if_pos hc] at hF
    refine fg_aload_n X (r := (some a0)) dX2_all_16 rfl 0 rfl ?_
    replace hF := fg_ob_some hF
    obtain ⟨rz30, ex_6, hF⟩ := hF
    refine fg_ldcS X (i := 24) (by decide) rfl rfl (Option.some.inj ex_6) dX2_all_17 ?_
    replace hF := fg_gd_some hF
    obtain ⟨eg_7, hF⟩ := hF
    obtain ⟨fs_8, eo_9⟩ := fg_rc_get eg_7
    replace hF := fg_oc_some hF
    obtain ⟨xz32, Gz31, e_10, hF⟩ := hF
    refine fg_callV X (st := []) (mX2_isWord Ω.2.2.2.2.1 Ω.1 e_10) q622 q624 qs2 q94 q625 hd_X2_isWord (by decide) rfl eo_9 ⟨by omega, by decide⟩ rfl rfl (Nat.le_of_ble_eq_true rfl) dX2_all_19 ?_
    refine fg_if_eq X (tgt := 90) dX2_all_22 (by decide) (fun hc => ?_) (fun hc => ?_)
    · rw [if_pos hc] at hF
      replace hF := fg_rt_some hF
      obtain ⟨tz33, hF, ht_11⟩ := hF
      subst ht_11
      replace hT := hT _ rfl
      refine fg_aload_n X (r := r2) dX2_all_90 rfl 2 rfl ?_
      refine fg_ifnonnull X (r := r2) (tgt := 98) dX2_all_91 (by decide) (fun az34 hc => ?_) (fun hc => ?_)
      · subst hc
        unfold fg_on at hF
        dsimp only at hF
        refine fg_aload_n X (r := (some az34)) dX2_all_98 rfl 2 rfl ?_
        cases hF
        exact fg_aret (Or.inl ⟨_, rfl⟩) X (r := (some az34)) dX2_all_99 ((hT).1)
      · subst hc
        unfold fg_on at hF
        dsimp only at hF
        refine fg_aload_n X (r := r1) dX2_all_94 rfl 1 rfl ?_
        refine fg_goto X (tgt := 99) dX2_all_95 (by decide) ?_
        cases hF
        exact fg_aret (Or.inl ⟨_, rfl⟩) X (r := r1) dX2_all_99 ((hT).1)
    · rw [if_neg hc] at hF
      refine fg_sub [0, 1, 2] rfl ?_
      exact wX2_all_25 hvp X hF h7 hT
set_option maxHeartbeats 4000000 in
seal fX2_all_7b in
theorem wX2_all_7 {Ω : fg_O} {vp : (Nat → fg_H → Option ((Option Nat ⊕ Nat) × fg_H))} {n : Nat} (hvp : fg_RP vp n) {a0 : Nat} {r1 : Option Nat} {r2 : Option Nat} {G : fg_H} {t : ((Option Nat ⊕ Nat) × fg_H)} (X : fg_X Ω RX2 "all" cX2_all 5 (some (.object "FogNets$Expression")) (n + 10)) (hF : fX2_all_7 vp a0 r1 r2 G = some t) (hT : fg_TX Ω (fg_or t.1) t.2) : fg_W Ω G 7 [(0, .ref a0), (1, va_rf r1), (2, va_rf r2)] [] := by
  unfold fX2_all_7 at hF
  exact fg_lp_walk (P := fun z => fg_W Ω z.2.2.2 7 [(0, .ref z.1), (1, va_rf z.2.1), (2, va_rf z.2.2.1)] []) (fun y o ho hl hr => wX2_all_7b hvp X ho (fun z e => hl z e) (fun u e => by rw [hr _ e]; exact hT)) hF
set_option maxHeartbeats 4000000 in
theorem wX2_all {Ω : fg_O} {vp : (Nat → fg_H → Option ((Option Nat ⊕ Nat) × fg_H))} {n : Nat} (hvp : fg_RP vp n) {a0 : Nat} {G : fg_H} {t : (Option Nat ⊕ Nat) × fg_H} (X : fg_X Ω RX2 "all" cX2_all 5 (some (.object "FogNets$Expression")) (n + 10)) (hF : fX2_all vp a0 G = some t) (hT : fg_TX Ω (fg_or t.1) t.2) : fg_W Ω G 0 [(0, .ref a0)] [] := by
  unfold fX2_all at hF
  refine fg_aload_n X (r := (some a0)) dX2_all_0 rfl 0 rfl ?_
  replace hF := fg_gd_some hF
  obtain ⟨eg_1, hF⟩ := hF
  obtain ⟨fs_2, eo_3⟩ := fg_rc_get eg_1
  replace hF := fg_oc_some hF
  obtain ⟨zz3, Gz1, e_4, hF⟩ := hF
  rcases zz3 with rz2 | qz4
  swap
  · dsimp only [fg_th] at hF
    cases hF
    exact fg_callVT (G1 := Gz1) (q := qz4) X (st := []) (mX2_test Ω.2.2.2.2.1 Ω.1 hvp e_4) q737 q739 qs10 q94 q740 hd_X2_test (by decide) rfl eo_3 ⟨by omega, by decide⟩ rfl rfl (Nat.le_of_ble_eq_true rfl) dX2_all_1 (hT)
  dsimp only [fg_th] at hF
  refine fg_callVX (G1 := Gz1) (v := some (va_rf rz2)) X (st := []) (mX2_test Ω.2.2.2.2.1 Ω.1 hvp e_4) q737 q739 qs10 q94 q740 hd_X2_test (by decide) rfl eo_3 ⟨by omega, by decide⟩ rfl rfl (Nat.le_of_ble_eq_true rfl) dX2_all_1 ?_
  refine fg_astore_n X (r := rz2) (L' := [(1, va_rf rz2), (0, .ref a0)]) dX2_all_4 rfl (by decide) rfl ?_
  refine fg_anull X dX2_all_5 ?_
  refine fg_astore_n X (r := none) (L' := [(2, va_rf none), (1, va_rf rz2), (0, .ref a0)]) dX2_all_6 rfl (by decide) (by cases rz2 <;> rfl) ?_
  refine fg_sub [2, 1, 0] rfl ?_
  exact wX2_all_7 hvp X hF hT
theorem mX2_all (l : Launch) (D : fg_D) {vp : (Nat → fg_H → Option ((Option Nat ⊕ Nat) × fg_H))} {n : Nat} (hvp : fg_RP vp n) {a0 : Nat} {G : fg_H} {t : (Option Nat ⊕ Nat) × fg_H} (hF : fX2_all vp a0 G = some t) : fg_MX l D yX2_all cX2_all 5 (some (.object "FogNets$Expression")) (n + 10) [.ref a0] G (fg_or t.1) t.2 :=
  fg_MXof (own := RX2) (nm := "all") (L := [(0, .ref a0)]) pn_X2 rfl rfl rfl (Nat.le_of_ble_eq_true rfl) (fun Ω _ _ X hT => wX2_all hvp X hF hT)
theorem hd_X9_init : yX9_init.cls ≠ "java/lang/invoke/MethodHandle" ∧ yX9_init.cls ≠ "java/lang/invoke/VarHandle" ∧ (parseMethodDescriptor yX9_init.desc).map (fun d => d.parameters.length) = some 1 := ⟨by decide +kernel, by decide +kernel, by decide +kernel⟩
set_option maxHeartbeats 4000000 in
theorem wX9_init {Ω : fg_O} {a0 : Nat} {i1 : Int32} {G : fg_H} {t : Unit × fg_H} (X : fg_X Ω RX9 "<init>" cX9_init 2 none 4) (hF : fX9_init a0 i1 G = some t) (hT : fg_T Ω (.returned none) t.2) : fg_W Ω G 0 [(0, .ref a0), (1, .int i1)] [] := by
  unfold fX9_init at hF
  refine fg_aload_n X (r := (some a0)) dX9_init_0 rfl 0 rfl ?_
  replace hF := fg_ob_some hF
  obtain ⟨Gz1, e_1, hF⟩ := hF
  refine fg_ctor9 X q701 e_1 (by decide) (Nat.le_of_ble_eq_true rfl) dX9_init_1 ?_
  refine fg_aload_n X (r := (some a0)) dX9_init_4 rfl 0 rfl ?_
  refine fg_iload_n X dX9_init_5 rfl 1 rfl ?_
  replace hF := fg_ob_some hF
  obtain ⟨Gz2, e_2, hF⟩ := hF
  refine fg_putv X (ty := .int) (v := .int i1) ff_X9_fault q705 rfl (Or.inr ⟨rfl, rfl⟩) rfl rfl rfl e_2 dX9_init_6 ?_
  cases hF
  exact fg_vret X dX9_init_9 (hT)
theorem mX9_init (l : Launch) (D : fg_D) {a0 : Nat} {i1 : Int32} {G : fg_H} {t : Unit × fg_H} (hF : fX9_init a0 i1 G = some t) : fg_M l D yX9_init cX9_init 2 none 4 [.ref a0, .int i1] G (.returned none) t.2 :=
  fg_Mof (own := RX9) (nm := "<init>") (L := [(0, .ref a0), (1, .int i1)]) (plainFor_of_name pn_X9) rfl rfl rfl (Nat.le_of_ble_eq_true rfl) (fun Ω _ _ X hT => wX9_init X hF hT)
theorem hd_X2_wrong : yX2_wrong.cls ≠ "java/lang/invoke/MethodHandle" ∧ yX2_wrong.cls ≠ "java/lang/invoke/VarHandle" ∧ (parseMethodDescriptor yX2_wrong.desc).map (fun d => d.parameters.length) = some 1 := ⟨by decide +kernel, by decide +kernel, by decide +kernel⟩
set_option maxHeartbeats 4000000 in
theorem wX2_wrong {Ω : fg_O} {a0 : Nat} {i1 : Int32} {G : fg_H} {t : Option Nat × fg_H} (X : fg_X Ω RX2 "wrong" cX2_wrong 2 (some (.object "FogNets$Wrong")) 5) (hF : fX2_wrong a0 i1 G = some t) (hT : fg_T Ω (.returned (some (va_rf t.1))) t.2) : fg_W Ω G 0 [(0, .ref a0), (1, .int i1)] [] := by
  unfold fX2_wrong at hF
  replace hF := fg_oc_some hF
  obtain ⟨az1, Gz2, e_1, hF⟩ := hF
  refine fg_newo X q660 q661 q113 rfl (by decide) tyX9_ok nwk_X9 e_1 dX2_wrong_0 ?_
  refine fg_dup X dX2_wrong_3 rfl ?_
  refine fg_iload_n X dX2_wrong_4 rfl 1 rfl ?_
  refine fg_bipush X (v := (16 : Int32)) dX2_wrong_5 (by decide) ?_
  refine fg_aload_n X (r := (some a0)) dX2_wrong_7 rfl 0 rfl ?_
  replace hF := fg_ob_some hF
  obtain ⟨rz3, e_2, hF⟩ := hF
  refine fg_getr X ff_X2_place q196 e_2 dX2_wrong_8 ?_
  refine fg_aload_n X (r := (some a0)) dX2_wrong_11 rfl 0 rfl ?_
  replace hF := fg_ob_some hF
  obtain ⟨xz4, e_3, hF⟩ := hF
  refine fg_geti X ff_X2_at q197 e_3 dX2_wrong_12 ?_
  replace hF := fg_ob_some hF
  obtain ⟨az5, rfl, hF⟩ := hF
  replace hF := fg_ob_some hF
  obtain ⟨xz6, e_4, hF⟩ := hF
  refine fg_iald X e_4 dX2_wrong_15 ?_
  refine fg_imul X dX2_wrong_16 ?_
  refine fg_iadd X dX2_wrong_17 ?_
  replace hF := fg_oc_some hF
  obtain ⟨u, Gz7, e_5, hF⟩ := hF
  refine fg_callI X (st := [.ref az1]) (mX9_init Ω.2.2.2.2.1 Ω.1 e_5) q698 q699 q113 q700 rfl hd_X9_init (by decide) rfl rfl (Nat.le_of_ble_eq_true rfl) dX2_wrong_18 ?_
  cases hF
  exact fg_aret (Or.inl ⟨_, rfl⟩) X (r := (some az1)) dX2_wrong_21 (hT)
theorem mX2_wrong (l : Launch) (D : fg_D) {a0 : Nat} {i1 : Int32} {G : fg_H} {t : Option Nat × fg_H} (hF : fX2_wrong a0 i1 G = some t) : fg_M l D yX2_wrong cX2_wrong 2 (some (.object "FogNets$Wrong")) 5 [.ref a0, .int i1] G (.returned (some (va_rf t.1))) t.2 :=
  fg_Mof (own := RX2) (nm := "wrong") (L := [(0, .ref a0), (1, .int i1)]) (plainFor_of_name pn_X2) rfl rfl rfl (Nat.le_of_ble_eq_true rfl) (fun Ω _ _ X hT => wX2_wrong X hF hT)
theorem hd_X2_sign : yX2_sign.cls ≠ "java/lang/invoke/MethodHandle" ∧ yX2_sign.cls ≠ "java/lang/invoke/VarHandle" ∧ (parseMethodDescriptor yX2_sign.desc).map (fun d => d.parameters.length) = some 1 := ⟨by decide +kernel, by decide +kernel, by decide +kernel⟩
set_option maxHeartbeats 4000000 in
theorem wX2_sign {Ω : fg_O} {a0 : Nat} {i1 : Int32} {G : fg_H} {t : (Unit ⊕ Nat) × fg_H} (X : fg_X Ω RX2 "sign" cX2_sign 2 none 6) (hF : fX2_sign a0 i1 G = some t) (hT : fg_TX Ω (fg_ov t.1) t.2) : fg_W Ω G 0 [(0, .ref a0), (1, .int i1)] [] := by
  unfold fX2_sign at hF
  refine fg_aload_n X (r := (some a0)) dX2_sign_0 rfl 0 rfl ?_
  refine fg_iload_n X dX2_sign_1 rfl 1 rfl ?_
  replace hF := fg_gd_some hF
  obtain ⟨eg_1, hF⟩ := hF
  obtain ⟨fs_2, eo_3⟩ := fg_rc_get eg_1
  replace hF := fg_oc_some hF
  obtain ⟨xz2, Gz1, e_4, hF⟩ := hF
  refine fg_callV X (st := []) (mX2_hasSign Ω.2.2.2.2.1 Ω.1 e_4) q794 q796 qs16 q94 q797 hd_X2_hasSign (by decide) rfl eo_3 (by decide) rfl rfl (Nat.le_of_ble_eq_true rfl) dX2_sign_2 ?_
  refine fg_if_ne X (tgt := 14) dX2_sign_5 (by decide) (fun hc => ?_) (fun hc => ?_)
  · rw [if_neg hc] at hF
    cases hF
    exact fg_vret X dX2_sign_14 ((hT).1)
  · rw [if_pos hc] at hF
    refine fg_aload_n X (r := (some a0)) dX2_sign_8 rfl 0 rfl ?_
    refine fg_iconst X (v := (1 : Int32)) dX2_sign_9 (by decide) ?_
    replace hF := fg_gd_some hF
    obtain ⟨eg_5, hF⟩ := hF
    obtain ⟨fs_6, eo_7⟩ := fg_rc_get eg_5
    replace hF := fg_oc_some hF
    obtain ⟨rz4, Gz3, e_8, hF⟩ := hF
    refine fg_callV X (st := []) (mX2_wrong Ω.2.2.2.2.1 Ω.1 e_8) q656 q658 qs4 q94 q659 hd_X2_wrong (by decide) rfl eo_7 (by decide) rfl rfl (Nat.le_of_ble_eq_true rfl) dX2_sign_10 ?_
    replace hF := fg_ob_some hF
    obtain ⟨az5, rfl, hF⟩ := hF
    replace hF := fg_gd_some hF
    obtain ⟨eg_9, hF⟩ := hF
    obtain ⟨fs_10, eo_11⟩ := fg_rc_get eg_9
    cases hF
    exact fg_athrow X rfl (by decide) eo_11 dX2_sign_13 ((hT).1)
theorem mX2_sign (l : Launch) (D : fg_D) {a0 : Nat} {i1 : Int32} {G : fg_H} {t : (Unit ⊕ Nat) × fg_H} (hF : fX2_sign a0 i1 G = some t) : fg_MX l D yX2_sign cX2_sign 2 none 6 [.ref a0, .int i1] G (fg_ov t.1) t.2 :=
  fg_MXof (own := RX2) (nm := "sign") (L := [(0, .ref a0), (1, .int i1)]) pn_X2 rfl rfl rfl (Nat.le_of_ble_eq_true rfl) (fun Ω _ _ X hT => wX2_sign X hF hT)
theorem hd_X2_which : yX2_which.cls ≠ "java/lang/invoke/MethodHandle" ∧ yX2_which.cls ≠ "java/lang/invoke/VarHandle" ∧ (parseMethodDescriptor yX2_which.desc).map (fun d => d.parameters.length) = some 1 := ⟨by decide +kernel, by decide +kernel, by decide +kernel⟩
set_option maxHeartbeats 4000000 in
theorem wX2_which_2b {Ω : fg_O} {a0 : Nat} {r1 : Option Nat} {i2 : Int32} {G : fg_H} {t : ((Nat × Option Nat × Int32 × fg_H) ⊕ (Int32 × fg_H))} (X : fg_X Ω RX2 "which" cX2_which 3 (some .int) 6) (hF : fX2_which_2b a0 r1 i2 G = some t) (h2 : ∀ z, t = (.inl z) → fg_W Ω z.2.2.2 2 [(0, .ref z.1), (1, va_rf z.2.1), (2, .int z.2.2.1)] []) (hT : ∀ u, t = (.inr u) → fg_T Ω (.returned (some (.int u.1))) u.2) : fg_W Ω G 2 [(0, .ref a0), (1, va_rf r1), (2, .int i2)] [] := by
  unfold fX2_which_2b at hF
  refine fg_iload_n X dX2_which_2 rfl 2 rfl ?_
  refine fg_aload_n X (r := r1) dX2_which_3 rfl 1 rfl ?_
  replace hF := fg_ob_some hF
  obtain ⟨az1, rfl, hF⟩ := hF
  replace hF := fg_ob_some hF
  obtain ⟨xz2, e_1, hF⟩ := hF
  refine fg_alen X e_1 dX2_which_4 ?_
  refine fg_icmp_ge X (tgt := 26) dX2_which_5 (by decide) (fun hc => ?_) (fun hc => ?_)
  · rw [if_pos hc] at hF
    replace hF := fg_rt_some hF
    obtain ⟨tz3, hF, ht_2⟩ := hF
    subst ht_2
    replace hT := hT _ rfl
    refine fg_iconst X (v := (-1 : Int32)) dX2_which_26 (by decide) ?_
    cases hF
    exact fg_iret X dX2_which_27 (hT)
  · rw [if_neg hc] at hF
    refine fg_aload_n X (r := (some a0)) dX2_which_8 rfl 0 rfl ?_
    refine fg_aload_n X (r := (some az1)) dX2_which_9 rfl 1 rfl ?_
    refine fg_iload_n X dX2_which_10 rfl 2 rfl ?_
    replace hF := fg_ob_some hF
    obtain ⟨rz4, e_3, hF⟩ := hF
    refine fg_aald X (kd := 7) (by decide) e_3 dX2_which_11 ?_
    replace hF := fg_gd_some hF
    obtain ⟨eg_4, hF⟩ := hF
    obtain ⟨fs_5, eo_6⟩ := fg_rc_get eg_4
    replace hF := fg_oc_some hF
    obtain ⟨xz6, Gz5, e_7, hF⟩ := hF
    refine fg_callV X (st := []) (mX2_isWord Ω.2.2.2.2.1 Ω.1 e_7) q622 q624 qs2 q94 q625 hd_X2_isWord (by decide) rfl eo_6 (by decide) rfl rfl (Nat.le_of_ble_eq_true rfl) dX2_which_12 ?_
    refine fg_if_eq X (tgt := 20) dX2_which_15 (by decide) (fun hc => ?_) (fun hc => ?_)
    · rw [if_pos hc] at hF
      refine fg_iinc X (v := (i2 + (1 : Int32))) (L' := [(2, .int (i2 + (1 : Int32))), (0, .ref a0), (1, .ref az1)]) dX2_which_20 2 rfl rfl (by decide) rfl ?_
      refine fg_goto X (tgt := 2) dX2_which_23 (by decide) ?_
      refine fg_sub [1, 2, 0] rfl ?_
      exact h2 _ (Option.some.inj hF).symm
    · rw [if_neg hc] at hF
      replace hF := fg_rt_some hF
      obtain ⟨tz7, hF, ht_8⟩ := hF
      subst ht_8
      replace hT := hT _ rfl
      refine fg_iload_n X dX2_which_18 rfl 2 rfl ?_
      cases hF
      exact fg_iret X dX2_which_19 (hT)
set_option maxHeartbeats 4000000 in
seal fX2_which_2b in
theorem wX2_which_2 {Ω : fg_O} {a0 : Nat} {r1 : Option Nat} {i2 : Int32} {G : fg_H} {t : (Int32 × fg_H)} (X : fg_X Ω RX2 "which" cX2_which 3 (some .int) 6) (hF : fX2_which_2 a0 r1 i2 G = some t) (hT : fg_T Ω (.returned (some (.int t.1))) t.2) : fg_W Ω G 2 [(0, .ref a0), (1, va_rf r1), (2, .int i2)] [] := by
  unfold fX2_which_2 at hF
  exact fg_lp_walk (P := fun z => fg_W Ω z.2.2.2 2 [(0, .ref z.1), (1, va_rf z.2.1), (2, .int z.2.2.1)] []) (fun y o ho hl hr => wX2_which_2b X ho (fun z e => hl z e) (fun u e => by rw [hr _ e]; exact hT)) hF
set_option maxHeartbeats 4000000 in
theorem wX2_which {Ω : fg_O} {a0 : Nat} {r1 : Option Nat} {G : fg_H} {t : Int32 × fg_H} (X : fg_X Ω RX2 "which" cX2_which 3 (some .int) 6) (hF : fX2_which a0 r1 G = some t) (hT : fg_T Ω (.returned (some (.int t.1))) t.2) : fg_W Ω G 0 [(0, .ref a0), (1, va_rf r1)] [] := by
  unfold fX2_which at hF
  refine fg_iconst X (v := (0 : Int32)) dX2_which_0 (by decide) ?_
  refine fg_istore_n X (L' := [(2, .int (0 : Int32)), (0, .ref a0), (1, va_rf r1)]) dX2_which_1 rfl (by decide) (by cases r1 <;> rfl) ?_
  refine fg_sub [1, 2, 0] rfl ?_
  exact wX2_which_2 X hF hT
theorem mX2_which (l : Launch) (D : fg_D) {a0 : Nat} {r1 : Option Nat} {G : fg_H} {t : Int32 × fg_H} (hF : fX2_which a0 r1 G = some t) : fg_M l D yX2_which cX2_which 3 (some .int) 6 [.ref a0, va_rf r1] G (.returned (some (.int t.1))) t.2 :=
  fg_Mof (own := RX2) (nm := "which") (L := [(0, .ref a0), (1, va_rf r1)]) (plainFor_of_name pn_X2) rfl rfl (by cases r1 <;> rfl) (by cases r1 <;> exact Nat.le_of_ble_eq_true rfl) (fun Ω _ _ X hT => wX2_which X hF hT)
theorem hd_X2_part : yX2_part.cls ≠ "java/lang/invoke/MethodHandle" ∧ yX2_part.cls ≠ "java/lang/invoke/VarHandle" ∧ (parseMethodDescriptor yX2_part.desc).map (fun d => d.parameters.length) = some 0 := ⟨by decide +kernel, by decide +kernel, by decide +kernel⟩
set_option maxHeartbeats 4000000 in
theorem wX2_part_173 {Ω : fg_O} {vp : (Nat → fg_H → Option ((Option Nat ⊕ Nat) × fg_H))} {n : Nat} (hvp : fg_RP vp n) {a0 : Nat} {r3 : Option Nat} {G : fg_H} {t : ((Option Nat ⊕ Nat) × fg_H)} (X : fg_X Ω RX2 "part" cX2_part 4 (some (.object "FogNets$Expression")) (n + 11)) (hF : fX2_part_173 vp a0 r3 G = some t) (hT : fg_TX Ω (fg_or t.1) t.2) : fg_W Ω G 173 [(0, .ref a0), (3, va_rf r3)] [] := by
  unfold fX2_part_173 at hF
  refine fg_aload_n X (r := (some a0)) dX2_part_173 rfl 0 rfl ?_
  refine fg_dup X dX2_part_174 rfl ?_
  replace hF := fg_ob_some hF
  obtain ⟨xz16, e_1, hF⟩ := hF
  refine fg_geti X ff_X2_deep q198 e_1 dX2_part_175 ?_
  refine fg_iconst X (v := (1 : Int32)) dX2_part_178 (by decide) ?_
  refine fg_isub X dX2_part_179 ?_
  replace hF := fg_ob_some hF
  obtain ⟨Gz17, e_2, hF⟩ := hF
  refine fg_putv X (ty := .int) (v := .int (xz16 - (1 : Int32))) ff_X2_deep q198 rfl (Or.inl rfl) rfl rfl rfl e_2 dX2_part_180 ?_
  refine fg_aload_n X (r := r3) dX2_part_183 rfl 1 rfl ?_
  cases hF
  exact fg_aret (Or.inl ⟨_, rfl⟩) X (r := r3) dX2_part_184 ((hT).1)
set_option maxHeartbeats 4000000 in
theorem wX2_part_162 {Ω : fg_O} {vp : (Nat → fg_H → Option ((Option Nat ⊕ Nat) × fg_H))} {n : Nat} (hvp : fg_RP vp n) {a0 : Nat} {i2 : Int32} {s0 : Option Nat} {G : fg_H} {t : ((Option Nat ⊕ Nat) × fg_H)} (X : fg_X Ω RX2 "part" cX2_part 4 (some (.object "FogNets$Expression")) (n + 11)) (hF : fX2_part_162 vp a0 i2 s0 G = some t) (hT : fg_TX Ω (fg_or t.1) t.2) : fg_W Ω G 162 [(0, .ref a0), (2, .int i2)] [va_rf s0] := by
  unfold fX2_part_162 at hF
  refine fg_astore_n X (r := s0) (L' := [(3, va_rf s0), (0, .ref a0), (2, .int i2)]) dX2_part_162 rfl (by decide) rfl ?_
  refine fg_iload_n X dX2_part_163 rfl 2 rfl ?_
  refine fg_if_ne X (tgt := 173) dX2_part_164 (by decide) (fun hc => ?_) (fun hc => ?_)
  · rw [if_neg hc] at hF
    refine fg_sub [1, 0] rfl ?_
    exact wX2_part_173 hvp X hF hT
  · rw [if_pos hc] at hF
    refine fg_aload_n X (r := (some a0)) dX2_part_167 rfl 1 rfl ?_
    refine fg_bipush X (v := (41 : Int32)) dX2_part_168 (by decide) ?_
    replace hF := fg_gd_some hF
    obtain ⟨eg_1, hF⟩ := hF
    obtain ⟨fs_2, eo_3⟩ := fg_rc_get eg_1
    replace hF := fg_oc_some hF
    obtain ⟨zz19, Gz18, e_4, hF⟩ := hF
    rcases zz19 with uz21 | qz20
    swap
    · dsimp only [fg_th] at hF
      cases hF
      exact fg_callVT (G1 := Gz18) (q := qz20) X (st := []) (mX2_sign Ω.2.2.2.2.1 Ω.1 e_4) q790 q792 qs15 q94 q793 hd_X2_sign (by decide) rfl eo_3 ⟨by omega, by decide⟩ rfl rfl (Nat.le_of_ble_eq_true rfl) dX2_part_170 (hT)
    dsimp only [fg_th] at hF
    refine fg_callVX (G1 := Gz18) (v := none) X (st := []) (mX2_sign Ω.2.2.2.2.1 Ω.1 e_4) q790 q792 qs15 q94 q793 hd_X2_sign (by decide) rfl eo_3 ⟨by omega, by decide⟩ rfl rfl (Nat.le_of_ble_eq_true rfl) dX2_part_170 ?_
    refine fg_sub [1, 0] rfl ?_
    exact wX2_part_173 hvp X hF hT
set_option maxHeartbeats 4000000 in
theorem wX2_part_130 {Ω : fg_O} {vp : (Nat → fg_H → Option ((Option Nat ⊕ Nat) × fg_H))} {n : Nat} (hvp : fg_RP vp n) {a0 : Nat} {i2 : Int32} {G : fg_H} {t : ((Option Nat ⊕ Nat) × fg_H)} (X : fg_X Ω RX2 "part" cX2_part 4 (some (.object "FogNets$Expression")) (n + 11)) (hF : fX2_part_130 vp a0 i2 G = some t) (hT : fg_TX Ω (fg_or t.1) t.2) : fg_W Ω G 130 [(0, .ref a0), (2, .int i2)] [] := by
  unfold fX2_part_130 at hF
  refine fg_aload_n X (r := (some a0)) dX2_part_130 rfl 0 rfl ?_
  refine fg_dup X dX2_part_131 rfl ?_
  replace hF := fg_ob_some hF
  obtain ⟨xz10, e_1, hF⟩ := hF
  refine fg_geti X ff_X2_deep q198 e_1 dX2_part_132 ?_
  refine fg_iconst X (v := (1 : Int32)) dX2_part_135 (by decide) ?_
  refine fg_iadd X dX2_part_136 ?_
  replace hF := fg_ob_some hF
  obtain ⟨Gz11, e_2, hF⟩ := hF
  refine fg_putv X (ty := .int) (v := .int (xz10 + (1 : Int32))) ff_X2_deep q198 rfl (Or.inl rfl) rfl rfl rfl e_2 dX2_part_137 ?_
  refine fg_iload_n X dX2_part_140 rfl 1 rfl ?_
  refine fg_if_eq X (tgt := 158) dX2_part_141 (by decide) (fun hc => ?_) (fun hc => ?_)
  · rw [if_pos hc] at hF
    refine fg_aload_n X (r := (some a0)) dX2_part_158 rfl 0 rfl ?_
    replace hF := fg_gd_some hF
    obtain ⟨eg_3, hF⟩ := hF
    obtain ⟨fs_4, eo_5⟩ := fg_rc_get eg_3
    replace hF := fg_oc_some hF
    obtain ⟨zz14, Gz12, e_6, hF⟩ := hF
    rcases zz14 with rz13 | qz15
    swap
    · dsimp only [fg_th] at hF
      cases hF
      exact fg_callVT (G1 := Gz12) (q := qz15) X (st := []) (mX2_all Ω.2.2.2.2.1 Ω.1 hvp e_6) q733 q735 qs9 q94 q736 hd_X2_all (by decide) rfl eo_5 ⟨by omega, by decide⟩ rfl rfl (Nat.le_of_ble_eq_true rfl) dX2_part_159 (hT)
    dsimp only [fg_th] at hF
    refine fg_callVX (G1 := Gz12) (v := some (va_rf rz13)) X (st := []) (mX2_all Ω.2.2.2.2.1 Ω.1 hvp e_6) q733 q735 qs9 q94 q736 hd_X2_all (by decide) rfl eo_5 ⟨by omega, by decide⟩ rfl rfl (Nat.le_of_ble_eq_true rfl) dX2_part_159 ?_
    refine fg_sub [0, 1] rfl ?_
    exact wX2_part_162 hvp X hF hT
  · rw [if_neg hc] at hF
    replace hF := fg_oc_some hF
    obtain ⟨az22, Gz23, e_7, hF⟩ := hF
    refine fg_newo X q780 q781 q117 rfl (by decide) tyX13_ok nwk_X13 e_7 dX2_part_144 ?_
    refine fg_dup X dX2_part_147 rfl ?_
    refine fg_aload_n X (r := (some a0)) dX2_part_148 rfl 0 rfl ?_
    replace hF := fg_gd_some hF
    obtain ⟨eg_8, hF⟩ := hF
    obtain ⟨fs_9, eo_10⟩ := fg_rc_get eg_8
    replace hF := fg_oc_some hF
    obtain ⟨zz26, Gz24, e_11, hF⟩ := hF
    rcases zz26 with rz25 | qz27
    swap
    · dsimp only [fg_th] at hF
      cases hF
      exact fg_callVT (G1 := Gz24) (q := qz27) X (st := [.ref az22, .ref az22]) (hvp.use Ω.2.2.2.2.1 Ω.1 e_11) q749 q751 qs13 q94 q752 hd_X2_part (by decide) rfl eo_10 ⟨by omega, by decide⟩ rfl rfl (Nat.le_of_ble_eq_true rfl) dX2_part_149 (hT)
    dsimp only [fg_th] at hF
    refine fg_callVX (G1 := Gz24) (v := some (va_rf rz25)) X (st := [.ref az22, .ref az22]) (hvp.use Ω.2.2.2.2.1 Ω.1 e_11) q749 q751 qs13 q94 q752 hd_X2_part (by decide) rfl eo_10 ⟨by omega, by decide⟩ rfl rfl (Nat.le_of_ble_eq_true rfl) dX2_part_149 ?_
    replace hF := fg_oc_some hF
    obtain ⟨u, Gz28, e_12, hF⟩ := hF
    refine fg_callI X (st := [.ref az22]) (mX13_init Ω.2.2.2.2.1 Ω.1 e_12) q782 q783 q117 q784 rfl hd_X13_init ⟨by omega, by decide⟩ rfl rfl (Nat.le_of_ble_eq_true rfl) dX2_part_152 ?_
    refine fg_goto X (tgt := 162) dX2_part_155 (by decide) ?_
    refine fg_sub [0, 1] rfl ?_
    exact wX2_part_162 hvp X hF hT
set_option maxHeartbeats 4000000 in
theorem wX2_part_53 {Ω : fg_O} {vp : (Nat → fg_H → Option ((Option Nat ⊕ Nat) × fg_H))} {n : Nat} (hvp : fg_RP vp n) {a0 : Nat} {i1 : Int32} {i2 : Int32} {G : fg_H} {t : ((Option Nat ⊕ Nat) × fg_H)} (X : fg_X Ω RX2 "part" cX2_part 4 (some (.object "FogNets$Expression")) (n + 11)) (hF : fX2_part_53 vp a0 i1 i2 G = some t) (hT : fg_TX Ω (fg_or t.1) t.2) : fg_W Ω G 53 [(0, .ref a0), (1, .int i1), (2, .int i2)] [] := by
  unfold fX2_part_53 at hF
  refine fg_aload_n X (r := (some a0)) dX2_part_53 rfl 0 rfl ?_
  replace hF := fg_ob_some hF
  obtain ⟨xz7, e_1, hF⟩ := hF
  refine fg_geti X ff_X2_deep q198 e_1 dX2_part_54 ?_
  refine fg_iconst X (v := (5 : Int32)) dX2_part_57 (by decide) ?_
  refine fg_icmp_ne X (tgt := 67) dX2_part_58 (by decide) (fun hc => ?_) (fun hc => ?_)
  · rw [if_neg hc] at hF
    refine fg_aload_n X (r := (some a0)) dX2_part_67 rfl 0 rfl ?_
    refine fg_dup X dX2_part_68 rfl ?_
    replace hF := fg_ob_some hF
    obtain ⟨xz8, e_2, hF⟩ := hF
    refine fg_geti X ff_X2_at q197 e_2 dX2_part_69 ?_
    refine fg_iconst X (v := (1 : Int32)) dX2_part_72 (by decide) ?_
    refine fg_iadd X dX2_part_73 ?_
    replace hF := fg_ob_some hF
    obtain ⟨Gz9, e_3, hF⟩ := hF
    refine fg_putv X (ty := .int) (v := .int (xz8 + (1 : Int32))) ff_X2_at q197 rfl (Or.inl rfl) rfl rfl rfl e_3 dX2_part_74 ?_
    refine fg_iload_n X dX2_part_77 rfl 1 rfl ?_
    refine fg_iconst X (v := (-1 : Int32)) dX2_part_78 (by decide) ?_
    refine fg_icmp_eq X (tgt := 91) dX2_part_79 (by decide) (fun hc => ?_) (fun hc => ?_)
    · rw [if_pos hc] at hF
      refine fg_iload_n X dX2_part_91 rfl 2 rfl ?_
      refine fg_if_ne X (tgt := 130) dX2_part_92 (by decide) (fun hc => ?_) (fun hc => ?_)
      · rw [if_neg hc] at hF
        refine fg_sub [0, 2] rfl ?_
        exact wX2_part_130 hvp X hF hT
      · rw [if_pos hc] at hF
        refine fg_aload_n X (r := (some a0)) dX2_part_95 rfl 0 rfl ?_
        replace hF := fg_ob_some hF
        obtain ⟨rz29, e_4, hF⟩ := hF
        refine fg_getr X ff_X2_sort q194 e_4 dX2_part_96 ?_
        refine fg_aload_n X (r := (some a0)) dX2_part_99 rfl 0 rfl ?_
        replace hF := fg_ob_some hF
        obtain ⟨xz30, e_5, hF⟩ := hF
        refine fg_geti X ff_X2_at q197 e_5 dX2_part_100 ?_
        refine fg_iconst X (v := (1 : Int32)) dX2_part_103 (by decide) ?_
        refine fg_isub X dX2_part_104 ?_
        replace hF := fg_ob_some hF
        obtain ⟨az31, rfl, hF⟩ := hF
        replace hF := fg_ob_some hF
        obtain ⟨xz32, e_6, hF⟩ := hF
        refine fg_iald X e_6 dX2_part_105 ?_
        refine fg_iconst X (v := (2 : Int32)) dX2_part_106 (by decide) ?_
        refine fg_icmp_ne X (tgt := 130) dX2_part_107 (by decide) (fun hc => ?_) (fun hc => ?_)
        · rw [if_neg hc] at hF
          refine fg_sub [0, 2] rfl ?_
          exact wX2_part_130 hvp X hF hT
        · rw [if_pos hc] at hF
          replace hF := fg_oc_some hF
          obtain ⟨az33, Gz34, e_7, hF⟩ := hF
          refine fg_newo X q770 q771 q116 rfl (by decide) tyX12_ok nwk_X12 e_7 dX2_part_110 ?_
          refine fg_dup X dX2_part_113 rfl ?_
          refine fg_aload_n X (r := (some a0)) dX2_part_114 rfl 0 rfl ?_
          replace hF := fg_ob_some hF
          obtain ⟨rz35, e_8, hF⟩ := hF
          refine fg_getr X ff_X2_value q195 e_8 dX2_part_115 ?_
          refine fg_aload_n X (r := (some a0)) dX2_part_118 rfl 0 rfl ?_
          replace hF := fg_ob_some hF
          obtain ⟨xz36, e_9, hF⟩ := hF
          refine fg_geti X ff_X2_at q197 e_9 dX2_part_119 ?_
          refine fg_iconst X (v := (1 : Int32)) dX2_part_122 (by decide) ?_
          refine fg_isub X dX2_part_123 ?_
          replace hF := fg_ob_some hF
          obtain ⟨az37, rfl, hF⟩ := hF
          replace hF := fg_ob_some hF
          obtain ⟨yz38, e_10, hF⟩ := hF
          refine fg_lald X e_10 dX2_part_124 ?_
          refine fg_l2i X dX2_part_125 ?_
          replace hF := fg_oc_some hF
          obtain ⟨u, Gz39, e_11, hF⟩ := hF
          refine fg_callI X (st := [.ref az33]) (mX12_init Ω.2.2.2.2.1 Ω.1 e_11) q772 q773 q116 q774 rfl hd_X12_init ⟨by omega, by decide⟩ rfl rfl (Nat.le_of_ble_eq_true rfl) dX2_part_126 ?_
          cases hF
          exact fg_aret (Or.inl ⟨_, rfl⟩) X (r := (some az33)) dX2_part_129 ((hT).1)
    · rw [if_neg hc] at hF
      replace hF := fg_oc_some hF
      obtain ⟨az40, Gz41, e_12, hF⟩ := hF
      refine fg_newo X q757 q758 q115 rfl (by decide) tyX11_ok nwk_X11 e_12 dX2_part_82 ?_
      refine fg_dup X dX2_part_85 rfl ?_
      refine fg_iload_n X dX2_part_86 rfl 1 rfl ?_
      replace hF := fg_oc_some hF
      obtain ⟨u, Gz42, e_13, hF⟩ := hF
      refine fg_callI X (st := [.ref az40]) (mX11_init Ω.2.2.2.2.1 Ω.1 e_13) q759 q760 q115 q761 rfl hd_X11_init ⟨by omega, by decide⟩ rfl rfl (Nat.le_of_ble_eq_true rfl) dX2_part_87 ?_
      cases hF
      exact fg_aret (Or.inl ⟨_, rfl⟩) X (r := (some az40)) dX2_part_90 ((hT).1)
  · rw [if_pos hc] at hF
    refine fg_aload_n X (r := (some a0)) dX2_part_61 rfl 0 rfl ?_
    refine fg_iconst X (v := (5 : Int32)) dX2_part_62 (by decide) ?_
    replace hF := fg_gd_some hF
    obtain ⟨eg_14, hF⟩ := hF
    obtain ⟨fs_15, eo_16⟩ := fg_rc_get eg_14
    replace hF := fg_oc_some hF
    obtain ⟨rz44, Gz43, e_17, hF⟩ := hF
    refine fg_callV X (st := []) (mX2_wrong Ω.2.2.2.2.1 Ω.1 e_17) q656 q658 qs4 q94 q659 hd_X2_wrong (by decide) rfl eo_16 ⟨by omega, by decide⟩ rfl rfl (Nat.le_of_ble_eq_true rfl) dX2_part_63 ?_
    replace hF := fg_ob_some hF
    obtain ⟨az45, rfl, hF⟩ := hF
    replace hF := fg_gd_some hF
    obtain ⟨eg_18, hF⟩ := hF
    obtain ⟨fs_19, eo_20⟩ := fg_rc_get eg_18
    cases hF
    exact fg_athrow X rfl (by decide) eo_20 dX2_part_66 ((hT).1)
set_option maxHeartbeats 4000000 in
theorem wX2_part {Ω : fg_O} {vp : (Nat → fg_H → Option ((Option Nat ⊕ Nat) × fg_H))} {n : Nat} (hvp : fg_RP vp n) {a0 : Nat} {G : fg_H} {t : (Option Nat ⊕ Nat) × fg_H} (X : fg_X Ω RX2 "part" cX2_part 4 (some (.object "FogNets$Expression")) (n + 11)) (hF : fX2_part vp a0 G = some t) (hT : fg_TX Ω (fg_or t.1) t.2) : fg_W Ω G 0 [(0, .ref a0)] [] := by
  unfold fX2_part at hF
  refine fg_aload_n X (r := (some a0)) dX2_part_0 rfl 0 rfl ?_
  refine fg_aload_n X (r := (some a0)) dX2_part_1 rfl 0 rfl ?_
  replace hF := fg_ob_some hF
  obtain ⟨rz1, e_1, hF⟩ := hF
  refine fg_getr X ff_X2_facts q190 e_1 dX2_part_2 ?_
  replace hF := fg_gd_some hF
  obtain ⟨eg_2, hF⟩ := hF
  obtain ⟨fs_3, eo_4⟩ := fg_rc_get eg_2
  replace hF := fg_oc_some hF
  obtain ⟨xz3, Gz2, e_5, hF⟩ := hF
  refine fg_callV X (st := []) (mX2_which Ω.2.2.2.2.1 Ω.1 e_5) q618 q620 qs1 q94 q621 hd_X2_which (by decide) rfl eo_4 ⟨by omega, by decide⟩ rfl rfl (Nat.le_of_ble_eq_true rfl) dX2_part_5 ?_
  refine fg_istore_n X (L' := [(1, .int xz3), (0, .ref a0)]) dX2_part_8 rfl (by decide) rfl ?_
  refine fg_aload_n X (r := (some a0)) dX2_part_9 rfl 1 rfl ?_
  replace hF := fg_ob_some hF
  obtain ⟨rz4, ex_6, hF⟩ := hF
  refine fg_ldcS X (i := 22) (by decide) rfl rfl (Option.some.inj ex_6) dX2_part_10 ?_
  replace hF := fg_gd_some hF
  obtain ⟨eg_7, hF⟩ := hF
  obtain ⟨fs_8, eo_9⟩ := fg_rc_get eg_7
  replace hF := fg_oc_some hF
  obtain ⟨xz6, Gz5, e_10, hF⟩ := hF
  refine fg_callV X (st := []) (mX2_isWord Ω.2.2.2.2.1 Ω.1 e_10) q622 q624 qs2 q94 q625 hd_X2_isWord (by decide) rfl eo_9 ⟨by omega, by decide⟩ rfl rfl (Nat.le_of_ble_eq_true rfl) dX2_part_12 ?_
  refine fg_istore_n X (L' := [(2, .int xz6), (1, .int xz3), (0, .ref a0)]) dX2_part_15 rfl (by decide) rfl ?_
  refine fg_iload_n X dX2_part_16 rfl 1 rfl ?_
  refine fg_iconst X (v := (-1 : Int32)) dX2_part_17 (by decide) ?_
  refine fg_icmp_ne X (tgt := 53) dX2_part_18 (by decide) (fun hc => ?_) (fun hc => ?_)
  · rw [if_neg hc] at hF
    refine fg_sub [2, 1, 0] rfl ?_
    exact wX2_part_53 hvp X hF hT
  · rw [if_pos hc] at hF
    refine fg_iload_n X dX2_part_21 rfl 0 rfl ?_
    refine fg_if_ne X (tgt := 53) dX2_part_22 (by decide) (fun hc => ?_) (fun hc => ?_)
    · rw [if_neg hc] at hF
      refine fg_sub [2, 1, 0] rfl ?_
      exact wX2_part_53 hvp X hF hT
    · rw [if_pos hc] at hF
      refine fg_aload_n X (r := (some a0)) dX2_part_25 rfl 2 rfl ?_
      replace hF := fg_ob_some hF
      obtain ⟨rz46, e_11, hF⟩ := hF
      refine fg_getr X ff_X2_sort q194 e_11 dX2_part_26 ?_
      refine fg_aload_n X (r := (some a0)) dX2_part_29 rfl 2 rfl ?_
      replace hF := fg_ob_some hF
      obtain ⟨xz47, e_12, hF⟩ := hF
      refine fg_geti X ff_X2_at q197 e_12 dX2_part_30 ?_
      replace hF := fg_ob_some hF
      obtain ⟨az48, rfl, hF⟩ := hF
      replace hF := fg_ob_some hF
      obtain ⟨xz49, e_13, hF⟩ := hF
      refine fg_iald X e_13 dX2_part_33 ?_
      refine fg_iconst X (v := (2 : Int32)) dX2_part_34 (by decide) ?_
      refine fg_icmp_eq X (tgt := 53) dX2_part_35 (by decide) (fun hc => ?_) (fun hc => ?_)
      · rw [if_pos hc] at hF
        refine fg_sub [2, 1, 0] rfl ?_
        exact wX2_part_53 hvp X hF hT
      · rw [if_neg hc] at hF
        refine fg_aload_n X (r := (some a0)) dX2_part_38 rfl 2 rfl ?_
        refine fg_bipush X (v := (40 : Int32)) dX2_part_39 (by decide) ?_
        replace hF := fg_gd_some hF
        obtain ⟨eg_14, hF⟩ := hF
        obtain ⟨fs_15, eo_16⟩ := fg_rc_get eg_14
        replace hF := fg_oc_some hF
        obtain ⟨xz51, Gz50, e_17, hF⟩ := hF
        refine fg_callV X (st := []) (mX2_isSign Ω.2.2.2.2.1 Ω.1 e_17) q753 q755 qs14 q94 q756 hd_X2_isSign (by decide) rfl eo_16 ⟨by omega, by decide⟩ rfl rfl (Nat.le_of_ble_eq_true rfl) dX2_part_41 ?_
        refine fg_if_ne X (tgt := 53) dX2_part_44 (by decide) (fun hc => ?_) (fun hc => ?_)
        · rw [if_neg hc] at hF
          refine fg_sub [2, 1, 0] rfl ?_
          exact wX2_part_53 hvp X hF hT
        · rw [if_pos hc] at hF
          refine fg_aload_n X (r := (some a0)) dX2_part_47 rfl 2 rfl ?_
          refine fg_iconst X (v := (1 : Int32)) dX2_part_48 (by decide) ?_
          replace hF := fg_gd_some hF
          obtain ⟨eg_18, hF⟩ := hF
          obtain ⟨fs_19, eo_20⟩ := fg_rc_get eg_18
          replace hF := fg_oc_some hF
          obtain ⟨rz53, Gz52, e_21, hF⟩ := hF
          refine fg_callV X (st := []) (mX2_wrong Ω.2.2.2.2.1 Ω.1 e_21) q656 q658 qs4 q94 q659 hd_X2_wrong (by decide) rfl eo_20 ⟨by omega, by decide⟩ rfl rfl (Nat.le_of_ble_eq_true rfl) dX2_part_49 ?_
          replace hF := fg_ob_some hF
          obtain ⟨az54, rfl, hF⟩ := hF
          replace hF := fg_gd_some hF
          obtain ⟨eg_22, hF⟩ := hF
          obtain ⟨fs_23, eo_24⟩ := fg_rc_get eg_22
          cases hF
          exact fg_athrow X rfl (by decide) eo_24 dX2_part_52 ((hT).1)
theorem mX2_part (l : Launch) (D : fg_D) {vp : (Nat → fg_H → Option ((Option Nat ⊕ Nat) × fg_H))} {n : Nat} (hvp : fg_RP vp n) {a0 : Nat} {G : fg_H} {t : (Option Nat ⊕ Nat) × fg_H} (hF : fX2_part vp a0 G = some t) : fg_MX l D yX2_part cX2_part 4 (some (.object "FogNets$Expression")) (n + 11) [.ref a0] G (fg_or t.1) t.2 :=
  fg_MXof (own := RX2) (nm := "part") (L := [(0, .ref a0)]) pn_X2 rfl rfl rfl (Nat.le_of_ble_eq_true rfl) (fun Ω _ _ X hT => wX2_part hvp X hF hT)
theorem vX2_part_ok : ∀ m : Nat, fg_RP (vX2_part m) (11 * m)
  | 0 => fun _ _ _ _ _ h => by cases h
  | m + 1 => fun l D _ _ _ h => by
    unfold vX2_part at h
    exact mX2_part l D (vX2_part_ok m) h
theorem hd_X2_whole : yX2_whole.cls ≠ "java/lang/invoke/MethodHandle" ∧ yX2_whole.cls ≠ "java/lang/invoke/VarHandle" ∧ (parseMethodDescriptor yX2_whole.desc).map (fun d => d.parameters.length) = some 0 := ⟨by decide +kernel, by decide +kernel, by decide +kernel⟩
set_option maxHeartbeats 4000000 in
theorem wX2_whole {Ω : fg_O} {a0 : Nat} {G : fg_H} {t : (Option Nat ⊕ Nat) × fg_H} (X : fg_X Ω RX2 "whole" cX2_whole 1 (some (.object "FogNets$Expression")) 88) (hF : fX2_whole a0 G = some t) (hT : fg_TX Ω (fg_or t.1) t.2) : fg_W Ω G 0 [(0, .ref a0)] [] := by
  unfold fX2_whole at hF
  refine fg_aload_n X (r := (some a0)) dX2_whole_0 rfl 0 rfl ?_
  refine fg_iconst X (v := (0 : Int32)) dX2_whole_1 (by decide) ?_
  replace hF := fg_ob_some hF
  obtain ⟨Gz1, e_1, hF⟩ := hF
  refine fg_putv X (ty := .int) (v := .int (0 : Int32)) ff_X2_deep q198 rfl (Or.inl rfl) rfl rfl rfl e_1 dX2_whole_2 ?_
  refine fg_aload_n X (r := (some a0)) dX2_whole_5 rfl 0 rfl ?_
  replace hF := fg_gd_some hF
  obtain ⟨eg_2, hF⟩ := hF
  obtain ⟨fs_3, eo_4⟩ := fg_rc_get eg_2
  replace hF := fg_oc_some hF
  obtain ⟨zz4, Gz2, e_5, hF⟩ := hF
  rcases zz4 with rz3 | qz5
  swap
  · dsimp only [fg_th] at hF
    cases hF
    exact fg_callVT (G1 := Gz2) (q := qz5) X (st := []) (mX2_all Ω.2.2.2.2.1 Ω.1 (vX2_part_ok 7) e_5) q733 q735 qs9 q94 q736 hd_X2_all (by decide) rfl eo_4 (by decide) rfl rfl (Nat.le_of_ble_eq_true rfl) dX2_whole_6 (hT)
  dsimp only [fg_th] at hF
  refine fg_callVX (G1 := Gz2) (v := some (va_rf rz3)) X (st := []) (mX2_all Ω.2.2.2.2.1 Ω.1 (vX2_part_ok 7) e_5) q733 q735 qs9 q94 q736 hd_X2_all (by decide) rfl eo_4 (by decide) rfl rfl (Nat.le_of_ble_eq_true rfl) dX2_whole_6 ?_
  cases hF
  exact fg_aret (Or.inl ⟨_, rfl⟩) X (r := rz3) dX2_whole_9 ((hT).1)
theorem mX2_whole (l : Launch) (D : fg_D) {a0 : Nat} {G : fg_H} {t : (Option Nat ⊕ Nat) × fg_H} (hF : fX2_whole a0 G = some t) : fg_MX l D yX2_whole cX2_whole 1 (some (.object "FogNets$Expression")) 88 [.ref a0] G (fg_or t.1) t.2 :=
  fg_MXof (own := RX2) (nm := "whole") (L := [(0, .ref a0)]) pn_X2 rfl rfl rfl (Nat.le_of_ble_eq_true rfl) (fun Ω _ _ X hT => wX2_whole X hF hT)
theorem hd_X2_law : yX2_law.cls ≠ "java/lang/invoke/MethodHandle" ∧ yX2_law.cls ≠ "java/lang/invoke/VarHandle" ∧ (parseMethodDescriptor yX2_law.desc).map (fun d => d.parameters.length) = some 1 := ⟨by decide +kernel, by decide +kernel, by decide +kernel⟩
set_option maxHeartbeats 4000000 in
theorem wX2_law {Ω : fg_O} {a0 : Nat} {r1 : Option Nat} {G : fg_H} {t : (Option Nat ⊕ Nat) × fg_H} (X : fg_X Ω RX2 "law" cX2_law 2 (some (.object "FogNets$Expression")) 89) (hF : fX2_law a0 r1 G = some t) (hT : fg_TX Ω (fg_or t.1) t.2) : fg_W Ω G 0 [(0, .ref a0), (1, va_rf r1)] [] := by
  unfold fX2_law at hF
  refine fg_aload_n X (r := (some a0)) dX2_law_0 rfl 0 rfl ?_
  refine fg_aload_n X (r := r1) dX2_law_1 rfl 1 rfl ?_
  replace hF := fg_ob_some hF
  obtain ⟨Gz1, e_1, hF⟩ := hF
  refine fg_putv X (ty := (.array (.object "java/lang/String"))) (v := va_rf r1) ff_X2_facts q190 rfl (Or.inl rfl) rfl (fg_nrf _ (Or.inr ⟨_, rfl⟩)) (fg_frf _ (Or.inr ⟨_, rfl⟩)) e_1 dX2_law_2 ?_
  refine fg_aload_n X (r := (some a0)) dX2_law_5 rfl 0 rfl ?_
  replace hF := fg_gd_some hF
  obtain ⟨eg_2, hF⟩ := hF
  obtain ⟨fs_3, eo_4⟩ := fg_rc_get eg_2
  replace hF := fg_oc_some hF
  obtain ⟨zz4, Gz2, e_5, hF⟩ := hF
  rcases zz4 with rz3 | qz5
  swap
  · dsimp only [fg_th] at hF
    cases hF
    exact fg_callVT (G1 := Gz2) (q := qz5) X (st := []) (mX2_whole Ω.2.2.2.2.1 Ω.1 e_5) q729 q731 qs8 q94 q732 hd_X2_whole (by decide) rfl eo_4 (by decide) rfl rfl (Nat.le_of_ble_eq_true rfl) dX2_law_6 (hT)
  dsimp only [fg_th] at hF
  refine fg_callVX (G1 := Gz2) (v := some (va_rf rz3)) X (st := []) (mX2_whole Ω.2.2.2.2.1 Ω.1 e_5) q729 q731 qs8 q94 q732 hd_X2_whole (by decide) rfl eo_4 (by decide) rfl rfl (Nat.le_of_ble_eq_true rfl) dX2_law_6 ?_
  cases hF
  exact fg_aret (Or.inl ⟨_, rfl⟩) X (r := rz3) dX2_law_9 ((hT).1)
theorem mX2_law (l : Launch) (D : fg_D) {a0 : Nat} {r1 : Option Nat} {G : fg_H} {t : (Option Nat ⊕ Nat) × fg_H} (hF : fX2_law a0 r1 G = some t) : fg_MX l D yX2_law cX2_law 2 (some (.object "FogNets$Expression")) 89 [.ref a0, va_rf r1] G (fg_or t.1) t.2 :=
  fg_MXof (own := RX2) (nm := "law") (L := [(0, .ref a0), (1, va_rf r1)]) pn_X2 rfl rfl (by cases r1 <;> rfl) (by cases r1 <;> exact Nat.le_of_ble_eq_true rfl) (fun Ω _ _ X hT => wX2_law X hF hT)
theorem hd_X2_number : yX2_number.cls ≠ "java/lang/invoke/MethodHandle" ∧ yX2_number.cls ≠ "java/lang/invoke/VarHandle" ∧ (parseMethodDescriptor yX2_number.desc).map (fun d => d.parameters.length) = some 2 := ⟨by decide +kernel, by decide +kernel, by decide +kernel⟩
set_option maxHeartbeats 4000000 in
theorem wX2_number_49 {Ω : fg_O} {a0 : Nat} {G : fg_H} {t : ((Int32 ⊕ Nat) × fg_H)} (X : fg_X Ω RX2 "number" cX2_number 3 (some .int) 6) (hF : fX2_number_49 a0 G = some t) (hT : fg_TX Ω (fg_oi t.1) t.2) : fg_W Ω G 49 [(0, .ref a0)] [] := by
  unfold fX2_number_49 at hF
  refine fg_aload_n X (r := (some a0)) dX2_number_49 rfl 0 rfl ?_
  refine fg_iconst X (v := (4 : Int32)) dX2_number_50 (by decide) ?_
  replace hF := fg_gd_some hF
  obtain ⟨eg_1, hF⟩ := hF
  obtain ⟨fs_2, eo_3⟩ := fg_rc_get eg_1
  replace hF := fg_oc_some hF
  obtain ⟨rz10, Gz9, e_4, hF⟩ := hF
  refine fg_callV X (st := []) (mX2_wrong Ω.2.2.2.2.1 Ω.1 e_4) q656 q658 qs4 q94 q659 hd_X2_wrong (by decide) rfl eo_3 (by decide) rfl rfl (Nat.le_of_ble_eq_true rfl) dX2_number_51 ?_
  replace hF := fg_ob_some hF
  obtain ⟨az11, rfl, hF⟩ := hF
  replace hF := fg_gd_some hF
  obtain ⟨eg_5, hF⟩ := hF
  obtain ⟨fs_6, eo_7⟩ := fg_rc_get eg_5
  cases hF
  exact fg_athrow X rfl (by decide) eo_7 dX2_number_54 ((hT).1)
set_option maxHeartbeats 4000000 in
theorem wX2_number {Ω : fg_O} {a0 : Nat} {i1 : Int32} {i2 : Int32} {G : fg_H} {t : (Int32 ⊕ Nat) × fg_H} (X : fg_X Ω RX2 "number" cX2_number 3 (some .int) 6) (hF : fX2_number a0 i1 i2 G = some t) (hT : fg_TX Ω (fg_oi t.1) t.2) : fg_W Ω G 0 [(0, .ref a0), (1, .int i1), (2, .int i2)] [] := by
  unfold fX2_number at hF
  refine fg_aload_n X (r := (some a0)) dX2_number_0 rfl 0 rfl ?_
  replace hF := fg_ob_some hF
  obtain ⟨rz1, e_1, hF⟩ := hF
  refine fg_getr X ff_X2_sort q194 e_1 dX2_number_1 ?_
  refine fg_aload_n X (r := (some a0)) dX2_number_4 rfl 0 rfl ?_
  replace hF := fg_ob_some hF
  obtain ⟨xz2, e_2, hF⟩ := hF
  refine fg_geti X ff_X2_at q197 e_2 dX2_number_5 ?_
  replace hF := fg_ob_some hF
  obtain ⟨az3, rfl, hF⟩ := hF
  replace hF := fg_ob_some hF
  obtain ⟨xz4, e_3, hF⟩ := hF
  refine fg_iald X e_3 dX2_number_8 ?_
  refine fg_iconst X (v := (2 : Int32)) dX2_number_9 (by decide) ?_
  refine fg_icmp_eq X (tgt := 19) dX2_number_10 (by decide) (fun hc => ?_) (fun hc => ?_)
  · rw [if_pos hc] at hF
    refine fg_aload_n X (r := (some a0)) dX2_number_19 rfl 0 rfl ?_
    replace hF := fg_ob_some hF
    obtain ⟨rz5, e_4, hF⟩ := hF
    refine fg_getr X ff_X2_value q195 e_4 dX2_number_20 ?_
    refine fg_aload_n X (r := (some a0)) dX2_number_23 rfl 0 rfl ?_
    replace hF := fg_ob_some hF
    obtain ⟨xz6, e_5, hF⟩ := hF
    refine fg_geti X ff_X2_at q197 e_5 dX2_number_24 ?_
    replace hF := fg_ob_some hF
    obtain ⟨az7, rfl, hF⟩ := hF
    replace hF := fg_ob_some hF
    obtain ⟨yz8, e_6, hF⟩ := hF
    refine fg_lald X e_6 dX2_number_27 ?_
    refine fg_iload_n X dX2_number_28 rfl 1 rfl ?_
    refine fg_i2l X dX2_number_29 ?_
    refine fg_lcmp X dX2_number_30 ?_
    refine fg_if_lt X (tgt := 49) dX2_number_31 (by decide) (fun hc => ?_) (fun hc => ?_)
    · rw [if_pos hc] at hF
      refine fg_sub [0] rfl ?_
      exact wX2_number_49 X hF hT
    · rw [if_neg hc] at hF
      refine fg_aload_n X (r := (some a0)) dX2_number_34 rfl 0 rfl ?_
      replace hF := fg_ob_some hF
      obtain ⟨rz12, e_7, hF⟩ := hF
      refine fg_getr X ff_X2_value q195 e_7 dX2_number_35 ?_
      refine fg_aload_n X (r := (some a0)) dX2_number_38 rfl 0 rfl ?_
      replace hF := fg_ob_some hF
      obtain ⟨xz13, e_8, hF⟩ := hF
      refine fg_geti X ff_X2_at q197 e_8 dX2_number_39 ?_
      replace hF := fg_ob_some hF
      obtain ⟨az14, rfl, hF⟩ := hF
      replace hF := fg_ob_some hF
      obtain ⟨yz15, e_9, hF⟩ := hF
      refine fg_lald X e_9 dX2_number_42 ?_
      refine fg_iload_n X dX2_number_43 rfl 2 rfl ?_
      refine fg_i2l X dX2_number_44 ?_
      refine fg_lcmp X dX2_number_45 ?_
      refine fg_if_le X (tgt := 55) dX2_number_46 (by decide) (fun hc => ?_) (fun hc => ?_)
      · rw [if_pos hc] at hF
        refine fg_aload_n X (r := (some a0)) dX2_number_55 rfl 0 rfl ?_
        refine fg_dup X dX2_number_56 rfl ?_
        replace hF := fg_ob_some hF
        obtain ⟨xz16, e_10, hF⟩ := hF
        refine fg_geti X ff_X2_at q197 e_10 dX2_number_57 ?_
        refine fg_iconst X (v := (1 : Int32)) dX2_number_60 (by decide) ?_
        refine fg_iadd X dX2_number_61 ?_
        replace hF := fg_ob_some hF
        obtain ⟨Gz17, e_11, hF⟩ := hF
        refine fg_putv X (ty := .int) (v := .int (xz16 + (1 : Int32))) ff_X2_at q197 rfl (Or.inl rfl) rfl rfl rfl e_11 dX2_number_62 ?_
        refine fg_aload_n X (r := (some a0)) dX2_number_65 rfl 0 rfl ?_
        replace hF := fg_ob_some hF
        obtain ⟨rz18, e_12, hF⟩ := hF
        refine fg_getr X ff_X2_value q195 e_12 dX2_number_66 ?_
        refine fg_aload_n X (r := (some a0)) dX2_number_69 rfl 0 rfl ?_
        replace hF := fg_ob_some hF
        obtain ⟨xz19, e_13, hF⟩ := hF
        refine fg_geti X ff_X2_at q197 e_13 dX2_number_70 ?_
        refine fg_iconst X (v := (1 : Int32)) dX2_number_73 (by decide) ?_
        refine fg_isub X dX2_number_74 ?_
        replace hF := fg_ob_some hF
        obtain ⟨az20, rfl, hF⟩ := hF
        replace hF := fg_ob_some hF
        obtain ⟨yz21, e_14, hF⟩ := hF
        refine fg_lald X e_14 dX2_number_75 ?_
        refine fg_l2i X dX2_number_76 ?_
        cases hF
        exact fg_iret X dX2_number_77 ((hT).1)
      · rw [if_neg hc] at hF
        refine fg_sub [0] rfl ?_
        exact wX2_number_49 X hF hT
  · rw [if_neg hc] at hF
    refine fg_aload_n X (r := (some a0)) dX2_number_13 rfl 0 rfl ?_
    refine fg_iconst X (v := (1 : Int32)) dX2_number_14 (by decide) ?_
    replace hF := fg_gd_some hF
    obtain ⟨eg_15, hF⟩ := hF
    obtain ⟨fs_16, eo_17⟩ := fg_rc_get eg_15
    replace hF := fg_oc_some hF
    obtain ⟨rz23, Gz22, e_18, hF⟩ := hF
    refine fg_callV X (st := []) (mX2_wrong Ω.2.2.2.2.1 Ω.1 e_18) q656 q658 qs4 q94 q659 hd_X2_wrong (by decide) rfl eo_17 (by decide) rfl rfl (Nat.le_of_ble_eq_true rfl) dX2_number_15 ?_
    replace hF := fg_ob_some hF
    obtain ⟨az24, rfl, hF⟩ := hF
    replace hF := fg_gd_some hF
    obtain ⟨eg_19, hF⟩ := hF
    obtain ⟨fs_20, eo_21⟩ := fg_rc_get eg_19
    cases hF
    exact fg_athrow X rfl (by decide) eo_21 dX2_number_18 ((hT).1)
theorem mX2_number (l : Launch) (D : fg_D) {a0 : Nat} {i1 : Int32} {i2 : Int32} {G : fg_H} {t : (Int32 ⊕ Nat) × fg_H} (hF : fX2_number a0 i1 i2 G = some t) : fg_MX l D yX2_number cX2_number 3 (some .int) 6 [.ref a0, .int i1, .int i2] G (fg_oi t.1) t.2 :=
  fg_MXof (own := RX2) (nm := "number") (L := [(0, .ref a0), (1, .int i1), (2, .int i2)]) pn_X2 rfl rfl rfl (Nat.le_of_ble_eq_true rfl) (fun Ω _ _ X hT => wX2_number X hF hT)
theorem hd_X2_line : yX2_line.cls ≠ "java/lang/invoke/MethodHandle" ∧ yX2_line.cls ≠ "java/lang/invoke/VarHandle" ∧ (parseMethodDescriptor yX2_line.desc).map (fun d => d.parameters.length) = some 1 := ⟨by decide +kernel, by decide +kernel, by decide +kernel⟩
set_option maxHeartbeats 4000000 in
theorem wX2_line_26 {Ω : fg_O} {a0 : Nat} {G : fg_H} {t : ((Unit ⊕ Nat) × fg_H)} (X : fg_X Ω RX2 "line" cX2_line 2 none 90) (hF : fX2_line_26 a0 G = some t) (hT : fg_TX Ω (fg_ov t.1) t.2) : fg_W Ω G 26 [(0, .ref a0)] [] := by
  unfold fX2_line_26 at hF
  refine fg_aload_n X (r := (some a0)) dX2_line_26 rfl 0 rfl ?_
  refine fg_iconst X (v := (3 : Int32)) dX2_line_27 (by decide) ?_
  replace hF := fg_gd_some hF
  obtain ⟨eg_1, hF⟩ := hF
  obtain ⟨fs_2, eo_3⟩ := fg_rc_get eg_1
  replace hF := fg_oc_some hF
  obtain ⟨rz5, Gz4, e_4, hF⟩ := hF
  refine fg_callV X (st := []) (mX2_wrong Ω.2.2.2.2.1 Ω.1 e_4) q656 q658 qs4 q94 q659 hd_X2_wrong (by decide) rfl eo_3 (by decide) rfl rfl (Nat.le_of_ble_eq_true rfl) dX2_line_28 ?_
  replace hF := fg_ob_some hF
  obtain ⟨az6, rfl, hF⟩ := hF
  replace hF := fg_gd_some hF
  obtain ⟨eg_5, hF⟩ := hF
  obtain ⟨fs_6, eo_7⟩ := fg_rc_get eg_5
  cases hF
  exact fg_athrow X rfl (by decide) eo_7 dX2_line_31 ((hT).1)
set_option maxHeartbeats 4000000 in
theorem wX2_line_32 {Ω : fg_O} {a0 : Nat} {i1 : Int32} {G : fg_H} {t : ((Unit ⊕ Nat) × fg_H)} (X : fg_X Ω RX2 "line" cX2_line 2 none 90) (hF : fX2_line_32 a0 i1 G = some t) (hT : fg_TX Ω (fg_ov t.1) t.2) : fg_W Ω G 32 [(0, .ref a0), (1, .int i1)] [] := by
  unfold fX2_line_32 at hF
  refine fg_aload_n X (r := (some a0)) dX2_line_32 rfl 0 rfl ?_
  replace hF := fg_ob_some hF
  obtain ⟨rz7, e_1, hF⟩ := hF
  refine fg_getr X ff_X2_isTold q188 e_1 dX2_line_33 ?_
  refine fg_iload_n X dX2_line_36 rfl 1 rfl ?_
  refine fg_iconst X (v := (1 : Int32)) dX2_line_37 (by decide) ?_
  replace hF := fg_ob_some hF
  obtain ⟨az8, rfl, hF⟩ := hF
  replace hF := fg_ob_some hF
  obtain ⟨Gz9, e_2, hF⟩ := hF
  refine fg_zast X e_2 dX2_line_38 ?_
  refine fg_aload_n X (r := (some a0)) dX2_line_39 rfl 0 rfl ?_
  refine fg_dup X dX2_line_40 rfl ?_
  replace hF := fg_ob_some hF
  obtain ⟨xz10, e_3, hF⟩ := hF
  refine fg_geti X ff_X2_at q197 e_3 dX2_line_41 ?_
  refine fg_iconst X (v := (1 : Int32)) dX2_line_44 (by decide) ?_
  refine fg_iadd X dX2_line_45 ?_
  replace hF := fg_ob_some hF
  obtain ⟨Gz11, e_4, hF⟩ := hF
  refine fg_putv X (ty := .int) (v := .int (xz10 + (1 : Int32))) ff_X2_at q197 rfl (Or.inl rfl) rfl rfl rfl e_4 dX2_line_46 ?_
  refine fg_iload_n X dX2_line_49 rfl 1 rfl ?_
  by_cases e0 : i1 = (0 : Int32)
  · rw [if_pos e0] at hF
    refine fg_tableIn X (tgt := 84) (off := 34) dX2_line_50 (by rw [e0]; decide) (by rw [e0]; decide) (by rw [e0]; decide) (by decide) ?_
    refine fg_aload_n X (r := (some a0)) dX2_line_84 rfl 0 rfl ?_
    replace hF := fg_ob_some hF
    obtain ⟨rz12, e_5, hF⟩ := hF
    refine fg_getr X ff_X2_draft q189 e_5 dX2_line_85 ?_
    refine fg_aload_n X (r := (some a0)) dX2_line_88 rfl 0 rfl ?_
    refine fg_iconst X (v := (1 : Int32)) dX2_line_89 (by decide) ?_
    refine fg_bipush X (v := (8 : Int32)) dX2_line_90 (by decide) ?_
    replace hF := fg_gd_some hF
    obtain ⟨eg_6, hF⟩ := hF
    obtain ⟨fs_7, eo_8⟩ := fg_rc_get eg_6
    replace hF := fg_oc_some hF
    obtain ⟨zz15, Gz13, e_9, hF⟩ := hF
    rcases zz15 with xz14 | qz16
    swap
    · dsimp only [fg_th] at hF
      cases hF
      exact fg_callVT (G1 := Gz13) (q := qz16) X (st := [va_rf rz12]) (mX2_number Ω.2.2.2.2.1 Ω.1 e_9) q721 q723 qs6 q94 q724 hd_X2_number (by decide) rfl eo_8 (by decide) rfl rfl (by cases rz12 <;> exact Nat.le_of_ble_eq_true rfl) dX2_line_92 (hT)
    dsimp only [fg_th] at hF
    refine fg_callVX (G1 := Gz13) (v := some (.int xz14)) X (st := [va_rf rz12]) (mX2_number Ω.2.2.2.2.1 Ω.1 e_9) q721 q723 qs6 q94 q724 hd_X2_number (by decide) rfl eo_8 (by decide) rfl rfl (by cases rz12 <;> exact Nat.le_of_ble_eq_true rfl) dX2_line_92 ?_
    replace hF := fg_ob_some hF
    obtain ⟨az17, rfl, hF⟩ := hF
    replace hF := fg_ob_some hF
    obtain ⟨Gz18, e_10, hF⟩ := hF
    refine fg_putv X (ty := .int) (v := .int xz14) ff_X3_columns q281 rfl (Or.inl rfl) rfl rfl rfl e_10 dX2_line_95 ?_
    refine fg_aload_n X (r := (some a0)) dX2_line_98 rfl 0 rfl ?_
    replace hF := fg_ob_some hF
    obtain ⟨rz19, e_11, hF⟩ := hF
    refine fg_getr X ff_X2_draft q189 e_11 dX2_line_99 ?_
    refine fg_aload_n X (r := (some a0)) dX2_line_102 rfl 0 rfl ?_
    refine fg_iconst X (v := (1 : Int32)) dX2_line_103 (by decide) ?_
    refine fg_bipush X (v := (8 : Int32)) dX2_line_104 (by decide) ?_
    replace hF := fg_gd_some hF
    obtain ⟨eg_12, hF⟩ := hF
    obtain ⟨fs_13, eo_14⟩ := fg_rc_get eg_12
    replace hF := fg_oc_some hF
    obtain ⟨zz22, Gz20, e_15, hF⟩ := hF
    rcases zz22 with xz21 | qz23
    swap
    · dsimp only [fg_th] at hF
      cases hF
      exact fg_callVT (G1 := Gz20) (q := qz23) X (st := [va_rf rz19]) (mX2_number Ω.2.2.2.2.1 Ω.1 e_15) q721 q723 qs6 q94 q724 hd_X2_number (by decide) rfl eo_14 (by decide) rfl rfl (by cases rz19 <;> exact Nat.le_of_ble_eq_true rfl) dX2_line_106 (hT)
    dsimp only [fg_th] at hF
    refine fg_callVX (G1 := Gz20) (v := some (.int xz21)) X (st := [va_rf rz19]) (mX2_number Ω.2.2.2.2.1 Ω.1 e_15) q721 q723 qs6 q94 q724 hd_X2_number (by decide) rfl eo_14 (by decide) rfl rfl (by cases rz19 <;> exact Nat.le_of_ble_eq_true rfl) dX2_line_106 ?_
    replace hF := fg_ob_some hF
    obtain ⟨az24, rfl, hF⟩ := hF
    replace hF := fg_ob_some hF
    obtain ⟨Gz25, e_16, hF⟩ := hF
    refine fg_putv X (ty := .int) (v := .int xz21) ff_X3_rows q284 rfl (Or.inl rfl) rfl rfl rfl e_16 dX2_line_109 ?_
    refine fg_goto X (tgt := 199) dX2_line_112 (by decide) ?_
    cases hF
    exact fg_vret X dX2_line_199 ((hT).1)
  rw [if_neg e0] at hF
  by_cases e1 : i1 = (1 : Int32)
  · rw [if_pos e1] at hF
    refine fg_tableIn X (tgt := 115) (off := 65) dX2_line_50 (by rw [e1]; decide) (by rw [e1]; decide) (by rw [e1]; decide) (by decide) ?_
    refine fg_aload_n X (r := (some a0)) dX2_line_115 rfl 0 rfl ?_
    replace hF := fg_ob_some hF
    obtain ⟨rz26, e_17, hF⟩ := hF
    refine fg_getr X ff_X2_draft q189 e_17 dX2_line_116 ?_
    refine fg_aload_n X (r := (some a0)) dX2_line_119 rfl 0 rfl ?_
    refine fg_iconst X (v := (1 : Int32)) dX2_line_120 (by decide) ?_
    refine fg_bipush X (v := (12 : Int32)) dX2_line_121 (by decide) ?_
    replace hF := fg_gd_some hF
    obtain ⟨eg_18, hF⟩ := hF
    obtain ⟨fs_19, eo_20⟩ := fg_rc_get eg_18
    replace hF := fg_oc_some hF
    obtain ⟨zz29, Gz27, e_21, hF⟩ := hF
    rcases zz29 with xz28 | qz30
    swap
    · dsimp only [fg_th] at hF
      cases hF
      exact fg_callVT (G1 := Gz27) (q := qz30) X (st := [va_rf rz26]) (mX2_number Ω.2.2.2.2.1 Ω.1 e_21) q721 q723 qs6 q94 q724 hd_X2_number (by decide) rfl eo_20 (by decide) rfl rfl (by cases rz26 <;> exact Nat.le_of_ble_eq_true rfl) dX2_line_123 (hT)
    dsimp only [fg_th] at hF
    refine fg_callVX (G1 := Gz27) (v := some (.int xz28)) X (st := [va_rf rz26]) (mX2_number Ω.2.2.2.2.1 Ω.1 e_21) q721 q723 qs6 q94 q724 hd_X2_number (by decide) rfl eo_20 (by decide) rfl rfl (by cases rz26 <;> exact Nat.le_of_ble_eq_true rfl) dX2_line_123 ?_
    replace hF := fg_ob_some hF
    obtain ⟨az31, rfl, hF⟩ := hF
    replace hF := fg_ob_some hF
    obtain ⟨Gz32, e_22, hF⟩ := hF
    refine fg_putv X (ty := .int) (v := .int xz28) ff_X3_hours q290 rfl (Or.inl rfl) rfl rfl rfl e_22 dX2_line_126 ?_
    refine fg_goto X (tgt := 199) dX2_line_129 (by decide) ?_
    cases hF
    exact fg_vret X dX2_line_199 ((hT).1)
  rw [if_neg e1] at hF
  by_cases e2 : i1 = (2 : Int32)
  · rw [if_pos e2] at hF
    refine fg_tableIn X (tgt := 132) (off := 82) dX2_line_50 (by rw [e2]; decide) (by rw [e2]; decide) (by rw [e2]; decide) (by decide) ?_
    refine fg_aload_n X (r := (some a0)) dX2_line_132 rfl 0 rfl ?_
    replace hF := fg_ob_some hF
    obtain ⟨rz33, e_23, hF⟩ := hF
    refine fg_getr X ff_X2_draft q189 e_23 dX2_line_133 ?_
    refine fg_aload_n X (r := (some a0)) dX2_line_136 rfl 0 rfl ?_
    refine fg_iconst X (v := (0 : Int32)) dX2_line_137 (by decide) ?_
    refine fg_bipush X (v := (99 : Int32)) dX2_line_138 (by decide) ?_
    replace hF := fg_gd_some hF
    obtain ⟨eg_24, hF⟩ := hF
    obtain ⟨fs_25, eo_26⟩ := fg_rc_get eg_24
    replace hF := fg_oc_some hF
    obtain ⟨zz36, Gz34, e_27, hF⟩ := hF
    rcases zz36 with xz35 | qz37
    swap
    · dsimp only [fg_th] at hF
      cases hF
      exact fg_callVT (G1 := Gz34) (q := qz37) X (st := [va_rf rz33]) (mX2_number Ω.2.2.2.2.1 Ω.1 e_27) q721 q723 qs6 q94 q724 hd_X2_number (by decide) rfl eo_26 (by decide) rfl rfl (by cases rz33 <;> exact Nat.le_of_ble_eq_true rfl) dX2_line_140 (hT)
    dsimp only [fg_th] at hF
    refine fg_callVX (G1 := Gz34) (v := some (.int xz35)) X (st := [va_rf rz33]) (mX2_number Ω.2.2.2.2.1 Ω.1 e_27) q721 q723 qs6 q94 q724 hd_X2_number (by decide) rfl eo_26 (by decide) rfl rfl (by cases rz33 <;> exact Nat.le_of_ble_eq_true rfl) dX2_line_140 ?_
    replace hF := fg_ob_some hF
    obtain ⟨az38, rfl, hF⟩ := hF
    replace hF := fg_ob_some hF
    obtain ⟨Gz39, e_28, hF⟩ := hF
    refine fg_putv X (ty := .int) (v := .int xz35) ff_X3_dew q292 rfl (Or.inl rfl) rfl rfl rfl e_28 dX2_line_143 ?_
    refine fg_goto X (tgt := 199) dX2_line_146 (by decide) ?_
    cases hF
    exact fg_vret X dX2_line_199 ((hT).1)
  rw [if_neg e2] at hF
  by_cases e3 : i1 = (3 : Int32)
  · rw [if_pos e3] at hF
    refine fg_tableIn X (tgt := 149) (off := 99) dX2_line_50 (by rw [e3]; decide) (by rw [e3]; decide) (by rw [e3]; decide) (by decide) ?_
    refine fg_aload_n X (r := (some a0)) dX2_line_149 rfl 0 rfl ?_
    replace hF := fg_ob_some hF
    obtain ⟨rz40, e_29, hF⟩ := hF
    refine fg_getr X ff_X2_draft q189 e_29 dX2_line_150 ?_
    refine fg_aload_n X (r := (some a0)) dX2_line_153 rfl 0 rfl ?_
    refine fg_iconst X (v := (0 : Int32)) dX2_line_154 (by decide) ?_
    refine fg_bipush X (v := (10 : Int32)) dX2_line_155 (by decide) ?_
    replace hF := fg_gd_some hF
    obtain ⟨eg_30, hF⟩ := hF
    obtain ⟨fs_31, eo_32⟩ := fg_rc_get eg_30
    replace hF := fg_oc_some hF
    obtain ⟨zz43, Gz41, e_33, hF⟩ := hF
    rcases zz43 with xz42 | qz44
    swap
    · dsimp only [fg_th] at hF
      cases hF
      exact fg_callVT (G1 := Gz41) (q := qz44) X (st := [va_rf rz40]) (mX2_number Ω.2.2.2.2.1 Ω.1 e_33) q721 q723 qs6 q94 q724 hd_X2_number (by decide) rfl eo_32 (by decide) rfl rfl (by cases rz40 <;> exact Nat.le_of_ble_eq_true rfl) dX2_line_157 (hT)
    dsimp only [fg_th] at hF
    refine fg_callVX (G1 := Gz41) (v := some (.int xz42)) X (st := [va_rf rz40]) (mX2_number Ω.2.2.2.2.1 Ω.1 e_33) q721 q723 qs6 q94 q724 hd_X2_number (by decide) rfl eo_32 (by decide) rfl rfl (by cases rz40 <;> exact Nat.le_of_ble_eq_true rfl) dX2_line_157 ?_
    replace hF := fg_ob_some hF
    obtain ⟨az45, rfl, hF⟩ := hF
    replace hF := fg_ob_some hF
    obtain ⟨Gz46, e_34, hF⟩ := hF
    refine fg_putv X (ty := .int) (v := .int xz42) ff_X3_turns q293 rfl (Or.inl rfl) rfl rfl rfl e_34 dX2_line_160 ?_
    refine fg_goto X (tgt := 199) dX2_line_163 (by decide) ?_
    cases hF
    exact fg_vret X dX2_line_199 ((hT).1)
  rw [if_neg e3] at hF
  by_cases e4 : i1 = (4 : Int32)
  · rw [if_pos e4] at hF
    refine fg_tableIn X (tgt := 166) (off := 116) dX2_line_50 (by rw [e4]; decide) (by rw [e4]; decide) (by rw [e4]; decide) (by decide) ?_
    refine fg_aload_n X (r := (some a0)) dX2_line_166 rfl 0 rfl ?_
    replace hF := fg_ob_some hF
    obtain ⟨rz47, e_35, hF⟩ := hF
    refine fg_getr X ff_X2_draft q189 e_35 dX2_line_167 ?_
    refine fg_aload_n X (r := (some a0)) dX2_line_170 rfl 0 rfl ?_
    refine fg_aload_n X (r := (some a0)) dX2_line_171 rfl 0 rfl ?_
    replace hF := fg_ob_some hF
    obtain ⟨rz48, e_36, hF⟩ := hF
    refine fg_getr X ff_X2_windFacts q183 e_36 dX2_line_172 ?_
    replace hF := fg_gd_some hF
    obtain ⟨eg_37, hF⟩ := hF
    obtain ⟨fs_38, eo_39⟩ := fg_rc_get eg_37
    replace hF := fg_oc_some hF
    obtain ⟨zz51, Gz49, e_40, hF⟩ := hF
    rcases zz51 with rz50 | qz52
    swap
    · dsimp only [fg_th] at hF
      cases hF
      exact fg_callVT (G1 := Gz49) (q := qz52) X (st := [va_rf rz47]) (mX2_law Ω.2.2.2.2.1 Ω.1 e_40) q725 q727 qs7 q94 q728 hd_X2_law (by decide) rfl eo_39 (by decide) rfl rfl (by cases rz47 <;> exact Nat.le_of_ble_eq_true rfl) dX2_line_175 (hT)
    dsimp only [fg_th] at hF
    refine fg_callVX (G1 := Gz49) (v := some (va_rf rz50)) X (st := [va_rf rz47]) (mX2_law Ω.2.2.2.2.1 Ω.1 e_40) q725 q727 qs7 q94 q728 hd_X2_law (by decide) rfl eo_39 (by decide) rfl rfl (by cases rz47 <;> exact Nat.le_of_ble_eq_true rfl) dX2_line_175 ?_
    replace hF := fg_ob_some hF
    obtain ⟨az53, rfl, hF⟩ := hF
    replace hF := fg_ob_some hF
    obtain ⟨Gz54, e_41, hF⟩ := hF
    refine fg_putv X (ty := (.object "FogNets$Expression")) (v := va_rf rz50) ff_X3_wind q296 rfl (Or.inl rfl) rfl (fg_nrf _ (Or.inl ⟨_, rfl⟩)) (fg_frf _ (Or.inl ⟨_, rfl⟩)) e_41 dX2_line_178 ?_
    refine fg_goto X (tgt := 199) dX2_line_181 (by decide) ?_
    cases hF
    exact fg_vret X dX2_line_199 ((hT).1)
  rw [if_neg e4] at hF
  refine fg_tableOut X (tgt := 184) dX2_line_50 (fg_swout 5 (x := i1) (lo := 0) (hi := 4) (by decide) (fun j hj => ?_)) (by decide) ?_
  · rcases fg_lt5 hj with rfl | rfl | rfl | rfl | rfl
    · exact fun hh => e0 (Int32.toInt_inj.mp (hh.trans (by decide)))
    · exact fun hh => e1 (Int32.toInt_inj.mp (hh.trans (by decide)))
    · exact fun hh => e2 (Int32.toInt_inj.mp (hh.trans (by decide)))
    · exact fun hh => e3 (Int32.toInt_inj.mp (hh.trans (by decide)))
    · exact fun hh => e4 (Int32.toInt_inj.mp (hh.trans (by decide)))
  refine fg_aload_n X (r := (some a0)) dX2_line_184 rfl 0 rfl ?_
  replace hF := fg_ob_some hF
  obtain ⟨rz55, e_42, hF⟩ := hF
  refine fg_getr X ff_X2_draft q189 e_42 dX2_line_185 ?_
  refine fg_aload_n X (r := (some a0)) dX2_line_188 rfl 0 rfl ?_
  refine fg_aload_n X (r := (some a0)) dX2_line_189 rfl 0 rfl ?_
  replace hF := fg_ob_some hF
  obtain ⟨rz56, e_43, hF⟩ := hF
  refine fg_getr X ff_X2_fogFacts q184 e_43 dX2_line_190 ?_
  replace hF := fg_gd_some hF
  obtain ⟨eg_44, hF⟩ := hF
  obtain ⟨fs_45, eo_46⟩ := fg_rc_get eg_44
  replace hF := fg_oc_some hF
  obtain ⟨zz59, Gz57, e_47, hF⟩ := hF
  rcases zz59 with rz58 | qz60
  swap
  · dsimp only [fg_th] at hF
    cases hF
    exact fg_callVT (G1 := Gz57) (q := qz60) X (st := [va_rf rz55]) (mX2_law Ω.2.2.2.2.1 Ω.1 e_47) q725 q727 qs7 q94 q728 hd_X2_law (by decide) rfl eo_46 (by decide) rfl rfl (by cases rz55 <;> exact Nat.le_of_ble_eq_true rfl) dX2_line_193 (hT)
  dsimp only [fg_th] at hF
  refine fg_callVX (G1 := Gz57) (v := some (va_rf rz58)) X (st := [va_rf rz55]) (mX2_law Ω.2.2.2.2.1 Ω.1 e_47) q725 q727 qs7 q94 q728 hd_X2_law (by decide) rfl eo_46 (by decide) rfl rfl (by cases rz55 <;> exact Nat.le_of_ble_eq_true rfl) dX2_line_193 ?_
  replace hF := fg_ob_some hF
  obtain ⟨az61, rfl, hF⟩ := hF
  replace hF := fg_ob_some hF
  obtain ⟨Gz62, e_48, hF⟩ := hF
  refine fg_putv X (ty := (.object "FogNets$Expression")) (v := va_rf rz58) ff_X3_fog q298 rfl (Or.inl rfl) rfl (fg_nrf _ (Or.inl ⟨_, rfl⟩)) (fg_frf _ (Or.inl ⟨_, rfl⟩)) e_48 dX2_line_196 ?_
  cases hF
  exact fg_vret X dX2_line_199 ((hT).1)
set_option maxHeartbeats 4000000 in
theorem wX2_line {Ω : fg_O} {a0 : Nat} {i1 : Int32} {G : fg_H} {t : (Unit ⊕ Nat) × fg_H} (X : fg_X Ω RX2 "line" cX2_line 2 none 90) (hF : fX2_line a0 i1 G = some t) (hT : fg_TX Ω (fg_ov t.1) t.2) : fg_W Ω G 0 [(0, .ref a0), (1, .int i1)] [] := by
  unfold fX2_line at hF
  refine fg_aload_n X (r := (some a0)) dX2_line_0 rfl 0 rfl ?_
  replace hF := fg_ob_some hF
  obtain ⟨rz1, e_1, hF⟩ := hF
  refine fg_getr X ff_X2_isTold q188 e_1 dX2_line_1 ?_
  refine fg_iload_n X dX2_line_4 rfl 1 rfl ?_
  replace hF := fg_ob_some hF
  obtain ⟨az2, rfl, hF⟩ := hF
  replace hF := fg_ob_some hF
  obtain ⟨xz3, e_2, hF⟩ := hF
  refine fg_zald X e_2 dX2_line_5 ?_
  refine fg_if_ne X (tgt := 26) dX2_line_6 (by decide) (fun hc => ?_) (fun hc => ?_)
  · rw [if_neg hc] at hF
    refine fg_sub [0] rfl ?_
    exact wX2_line_26 X hF hT
  · rw [if_pos hc] at hF
    refine fg_iload_n X dX2_line_9 rfl 1 rfl ?_
    refine fg_if_ne X (tgt := 32) dX2_line_10 (by decide) (fun hc => ?_) (fun hc => ?_)
    · rw [if_neg hc] at hF
      refine fg_sub [0, 1] rfl ?_
      exact wX2_line_32 X hF hT
    · rw [if_pos hc] at hF
      refine fg_aload_n X (r := (some a0)) dX2_line_13 rfl 0 rfl ?_
      replace hF := fg_ob_some hF
      obtain ⟨rz63, e_3, hF⟩ := hF
      refine fg_getr X ff_X2_draft q189 e_3 dX2_line_14 ?_
      replace hF := fg_ob_some hF
      obtain ⟨az64, rfl, hF⟩ := hF
      replace hF := fg_ob_some hF
      obtain ⟨rz65, e_4, hF⟩ := hF
      refine fg_getr X ff_X3_nets q312 e_4 dX2_line_17 ?_
      replace hF := fg_ob_some hF
      obtain ⟨az66, rfl, hF⟩ := hF
      replace hF := fg_gd_some hF
      obtain ⟨eg_5, hF⟩ := hF
      obtain ⟨fs_6, eo_7⟩ := fg_rc_get eg_5
      replace hF := fg_oc_some hF
      obtain ⟨xz68, Gz67, e_8, hF⟩ := hF
      refine fg_callV X (st := []) (mJ2_isEmpty Ω.2.2.2.2.1 Ω.1 e_8) q652 q653 q654 q98 q655 hd_J2_isEmpty (by decide) rfl eo_7 (by decide) rfl rfl (Nat.le_of_ble_eq_true rfl) dX2_line_20 ?_
      refine fg_if_ne X (tgt := 32) dX2_line_23 (by decide) (fun hc => ?_) (fun hc => ?_)
      · rw [if_neg hc] at hF
        refine fg_sub [0, 1] rfl ?_
        exact wX2_line_32 X hF hT
      · rw [if_pos hc] at hF
        refine fg_sub [0] rfl ?_
        exact wX2_line_26 X hF hT
theorem mX2_line (l : Launch) (D : fg_D) {a0 : Nat} {i1 : Int32} {G : fg_H} {t : (Unit ⊕ Nat) × fg_H} (hF : fX2_line a0 i1 G = some t) : fg_MX l D yX2_line cX2_line 2 none 90 [.ref a0, .int i1] G (fg_ov t.1) t.2 :=
  fg_MXof (own := RX2) (nm := "line") (L := [(0, .ref a0), (1, .int i1)]) pn_X2 rfl rfl rfl (Nat.le_of_ble_eq_true rfl) (fun Ω _ _ X hT => wX2_line X hF hT)
theorem hd_X2_isName : yX2_isName.cls ≠ "java/lang/invoke/MethodHandle" ∧ yX2_isName.cls ≠ "java/lang/invoke/VarHandle" ∧ (parseMethodDescriptor yX2_isName.desc).map (fun d => d.parameters.length) = some 0 := ⟨by decide +kernel, by decide +kernel, by decide +kernel⟩
set_option maxHeartbeats 4000000 in
theorem wX2_isName {Ω : fg_O} {a0 : Nat} {G : fg_H} {t : Int32 × fg_H} (X : fg_X Ω RX2 "isName" cX2_isName 1 (some .boolean) 7) (hF : fX2_isName a0 G = some t) (hT : fg_T Ω (.returned (some (.int t.1))) t.2) : fg_W Ω G 0 [(0, .ref a0)] [] := by
  unfold fX2_isName at hF
  refine fg_aload_n X (r := (some a0)) dX2_isName_0 rfl 0 rfl ?_
  replace hF := fg_ob_some hF
  obtain ⟨rz1, e_1, hF⟩ := hF
  refine fg_getr X ff_X2_sort q194 e_1 dX2_isName_1 ?_
  refine fg_aload_n X (r := (some a0)) dX2_isName_4 rfl 0 rfl ?_
  replace hF := fg_ob_some hF
  obtain ⟨xz2, e_2, hF⟩ := hF
  refine fg_geti X ff_X2_at q197 e_2 dX2_isName_5 ?_
  replace hF := fg_ob_some hF
  obtain ⟨az3, rfl, hF⟩ := hF
  replace hF := fg_ob_some hF
  obtain ⟨xz4, e_3, hF⟩ := hF
  refine fg_iald X e_3 dX2_isName_8 ?_
  refine fg_iconst X (v := (1 : Int32)) dX2_isName_9 (by decide) ?_
  refine fg_icmp_ne X (tgt := 53) dX2_isName_10 (by decide) (fun hc => ?_) (fun hc => ?_)
  · rw [if_neg hc] at hF
    refine fg_iconst X (v := (0 : Int32)) dX2_isName_53 (by decide) ?_
    cases hF
    exact fg_zret X (by decide) dX2_isName_54 (hT)
  · rw [if_pos hc] at hF
    refine fg_aload_n X (r := (some a0)) dX2_isName_13 rfl 0 rfl ?_
    refine fg_aload_n X (r := (some a0)) dX2_isName_14 rfl 0 rfl ?_
    replace hF := fg_ob_some hF
    obtain ⟨rz5, e_4, hF⟩ := hF
    refine fg_getr X ff_X2_lines q186 e_4 dX2_isName_15 ?_
    replace hF := fg_gd_some hF
    obtain ⟨eg_5, hF⟩ := hF
    obtain ⟨fs_6, eo_7⟩ := fg_rc_get eg_5
    replace hF := fg_oc_some hF
    obtain ⟨xz7, Gz6, e_8, hF⟩ := hF
    refine fg_callV X (st := []) (mX2_which Ω.2.2.2.2.1 Ω.1 e_8) q618 q620 qs1 q94 q621 hd_X2_which (by decide) rfl eo_7 (by decide) rfl rfl (Nat.le_of_ble_eq_true rfl) dX2_isName_18 ?_
    refine fg_iconst X (v := (-1 : Int32)) dX2_isName_21 (by decide) ?_
    refine fg_icmp_ne X (tgt := 53) dX2_isName_22 (by decide) (fun hc => ?_) (fun hc => ?_)
    · rw [if_neg hc] at hF
      refine fg_iconst X (v := (0 : Int32)) dX2_isName_53 (by decide) ?_
      cases hF
      exact fg_zret X (by decide) dX2_isName_54 (hT)
    · rw [if_pos hc] at hF
      refine fg_aload_n X (r := (some a0)) dX2_isName_25 rfl 0 rfl ?_
      refine fg_aload_n X (r := (some a0)) dX2_isName_26 rfl 0 rfl ?_
      replace hF := fg_ob_some hF
      obtain ⟨rz8, e_9, hF⟩ := hF
      refine fg_getr X ff_X2_kept q187 e_9 dX2_isName_27 ?_
      replace hF := fg_gd_some hF
      obtain ⟨eg_10, hF⟩ := hF
      obtain ⟨fs_11, eo_12⟩ := fg_rc_get eg_10
      replace hF := fg_oc_some hF
      obtain ⟨xz10, Gz9, e_13, hF⟩ := hF
      refine fg_callV X (st := []) (mX2_which Ω.2.2.2.2.1 Ω.1 e_13) q618 q620 qs1 q94 q621 hd_X2_which (by decide) rfl eo_12 (by decide) rfl rfl (Nat.le_of_ble_eq_true rfl) dX2_isName_30 ?_
      refine fg_iconst X (v := (-1 : Int32)) dX2_isName_33 (by decide) ?_
      refine fg_icmp_ne X (tgt := 53) dX2_isName_34 (by decide) (fun hc => ?_) (fun hc => ?_)
      · rw [if_neg hc] at hF
        refine fg_iconst X (v := (0 : Int32)) dX2_isName_53 (by decide) ?_
        cases hF
        exact fg_zret X (by decide) dX2_isName_54 (hT)
      · rw [if_pos hc] at hF
        refine fg_aload_n X (r := (some a0)) dX2_isName_37 rfl 0 rfl ?_
        refine fg_aload_n X (r := (some a0)) dX2_isName_38 rfl 0 rfl ?_
        replace hF := fg_ob_some hF
        obtain ⟨rz11, e_14, hF⟩ := hF
        refine fg_getr X ff_X2_kinds q185 e_14 dX2_isName_39 ?_
        replace hF := fg_gd_some hF
        obtain ⟨eg_15, hF⟩ := hF
        obtain ⟨fs_16, eo_17⟩ := fg_rc_get eg_15
        replace hF := fg_oc_some hF
        obtain ⟨xz13, Gz12, e_18, hF⟩ := hF
        refine fg_callV X (st := []) (mX2_which Ω.2.2.2.2.1 Ω.1 e_18) q618 q620 qs1 q94 q621 hd_X2_which (by decide) rfl eo_17 (by decide) rfl rfl (Nat.le_of_ble_eq_true rfl) dX2_isName_42 ?_
        refine fg_iconst X (v := (-1 : Int32)) dX2_isName_45 (by decide) ?_
        refine fg_icmp_ne X (tgt := 53) dX2_isName_46 (by decide) (fun hc => ?_) (fun hc => ?_)
        · rw [if_neg hc] at hF
          refine fg_iconst X (v := (0 : Int32)) dX2_isName_53 (by decide) ?_
          cases hF
          exact fg_zret X (by decide) dX2_isName_54 (hT)
        · rw [if_pos hc] at hF
          refine fg_iconst X (v := (1 : Int32)) dX2_isName_49 (by decide) ?_
          refine fg_goto X (tgt := 54) dX2_isName_50 (by decide) ?_
          cases hF
          exact fg_zret X (by decide) dX2_isName_54 (hT)
theorem mX2_isName (l : Launch) (D : fg_D) {a0 : Nat} {G : fg_H} {t : Int32 × fg_H} (hF : fX2_isName a0 G = some t) : fg_M l D yX2_isName cX2_isName 1 (some .boolean) 7 [.ref a0] G (.returned (some (.int t.1))) t.2 :=
  fg_Mof (own := RX2) (nm := "isName") (L := [(0, .ref a0)]) (plainFor_of_name pn_X2) rfl rfl rfl (Nat.le_of_ble_eq_true rfl) (fun Ω _ _ X hT => wX2_isName X hF hT)
theorem hd_X2_hasWord : yX2_hasWord.cls ≠ "java/lang/invoke/MethodHandle" ∧ yX2_hasWord.cls ≠ "java/lang/invoke/VarHandle" ∧ (parseMethodDescriptor yX2_hasWord.desc).map (fun d => d.parameters.length) = some 1 := ⟨by decide +kernel, by decide +kernel, by decide +kernel⟩
set_option maxHeartbeats 4000000 in
theorem wX2_hasWord {Ω : fg_O} {a0 : Nat} {r1 : Option Nat} {G : fg_H} {t : Int32 × fg_H} (X : fg_X Ω RX2 "hasWord" cX2_hasWord 3 (some .boolean) 6) (hF : fX2_hasWord a0 r1 G = some t) (hT : fg_T Ω (.returned (some (.int t.1))) t.2) : fg_W Ω G 0 [(0, .ref a0), (1, va_rf r1)] [] := by
  unfold fX2_hasWord at hF
  refine fg_aload_n X (r := (some a0)) dX2_hasWord_0 rfl 0 rfl ?_
  refine fg_aload_n X (r := r1) dX2_hasWord_1 rfl 1 rfl ?_
  replace hF := fg_gd_some hF
  obtain ⟨eg_1, hF⟩ := hF
  obtain ⟨fs_2, eo_3⟩ := fg_rc_get eg_1
  replace hF := fg_oc_some hF
  obtain ⟨xz2, Gz1, e_4, hF⟩ := hF
  refine fg_callV X (st := []) (mX2_isWord Ω.2.2.2.2.1 Ω.1 e_4) q622 q624 qs2 q94 q625 hd_X2_isWord (by decide) rfl eo_3 (by decide) rfl rfl (Nat.le_of_ble_eq_true rfl) dX2_hasWord_2 ?_
  refine fg_istore_n X (L' := [(2, .int xz2), (0, .ref a0), (1, va_rf r1)]) dX2_hasWord_5 rfl (by decide) (by cases r1 <;> rfl) ?_
  refine fg_iload_n X dX2_hasWord_6 rfl 0 rfl ?_
  refine fg_if_eq X (tgt := 20) dX2_hasWord_7 (by decide) (fun hc => ?_) (fun hc => ?_)
  · rw [if_pos hc] at hF
    refine fg_iload_n X dX2_hasWord_20 rfl 0 rfl ?_
    replace hF := fg_gd_some hF
    obtain ⟨eg_5, hF⟩ := hF
    cases hF
    exact fg_zret X (fg_b_or eg_5) dX2_hasWord_21 (hT)
  · rw [if_neg hc] at hF
    refine fg_aload_n X (r := (some a0)) dX2_hasWord_10 rfl 1 rfl ?_
    refine fg_dup X dX2_hasWord_11 rfl ?_
    replace hF := fg_ob_some hF
    obtain ⟨xz3, e_6, hF⟩ := hF
    refine fg_geti X ff_X2_at q197 e_6 dX2_hasWord_12 ?_
    refine fg_iconst X (v := (1 : Int32)) dX2_hasWord_15 (by decide) ?_
    refine fg_iadd X dX2_hasWord_16 ?_
    replace hF := fg_ob_some hF
    obtain ⟨Gz4, e_7, hF⟩ := hF
    refine fg_putv X (ty := .int) (v := .int (xz3 + (1 : Int32))) ff_X2_at q197 rfl (Or.inl rfl) rfl rfl rfl e_7 dX2_hasWord_17 ?_
    refine fg_iload_n X dX2_hasWord_20 rfl 0 rfl ?_
    replace hF := fg_gd_some hF
    obtain ⟨eg_8, hF⟩ := hF
    cases hF
    exact fg_zret X (fg_b_or eg_8) dX2_hasWord_21 (hT)
theorem mX2_hasWord (l : Launch) (D : fg_D) {a0 : Nat} {r1 : Option Nat} {G : fg_H} {t : Int32 × fg_H} (hF : fX2_hasWord a0 r1 G = some t) : fg_M l D yX2_hasWord cX2_hasWord 3 (some .boolean) 6 [.ref a0, va_rf r1] G (.returned (some (.int t.1))) t.2 :=
  fg_Mof (own := RX2) (nm := "hasWord") (L := [(0, .ref a0), (1, va_rf r1)]) (plainFor_of_name pn_X2) rfl rfl (by cases r1 <;> rfl) (by cases r1 <;> exact Nat.le_of_ble_eq_true rfl) (fun Ω _ _ X hT => wX2_hasWord X hF hT)

theorem pn_X8 : plainName RX8 = true := by decide +kernel
theorem ff_X8_tape : fg_fck [8] 2 "FogNetsModel" "tape" "[I" true = true := by decide +kernel
theorem ff_X8_ridge : fg_fck [8] 10 "FogNetsModel" "ridge" "[I" true = true := by decide +kernel
theorem ff_X8_thirst : fg_fck [8] 11 "FogNetsModel" "thirst" "[I" true = true := by decide +kernel
theorem ff_X8_tankAt : fg_fck [8] 12 "FogNetsModel" "tankAt" "[I" true = true := by decide +kernel
theorem ff_X8_names : fg_fck [8] 13 "FogNetsModel" "names" "[J" true = true := by decide +kernel
theorem ff_X8_villageOf : fg_fck [8] 14 "FogNetsModel" "villageOf" "[I" true = true := by decide +kernel
theorem ff_X8_placeAt : fg_fck [8] 15 "FogNetsModel" "placeAt" "[I" true = true := by decide +kernel
theorem ff_X8_mesh : fg_fck [8] 16 "FogNetsModel" "mesh" "[I" true = true := by decide +kernel
theorem ff_X8_kind : fg_fck [8] 17 "FogNetsModel" "kind" "[I" true = true := by decide +kernel
theorem ff_X8_lineFrom : fg_fck [8] 18 "FogNetsModel" "lineFrom" "[I" true = true := by decide +kernel
theorem ff_X8_lineTo : fg_fck [8] 19 "FogNetsModel" "lineTo" "[I" true = true := by decide +kernel
theorem ff_X8_codes : fg_fck [8] 20 "FogNetsModel" "codes" "[I" true = true := by decide +kernel
theorem ff_X8_opened : fg_fck [8] 24 "FogNetsModel" "opened" "[I" true = true := by decide +kernel
theorem ff_X8_compared : fg_fck [8] 25 "FogNetsModel" "compared" "[Z" true = true := by decide +kernel
theorem ff_X8_kept : fg_fck [8] 26 "FogNetsModel" "kept" "[I" true = true := by decide +kernel
theorem ff_X8_keptBy : fg_fck [8] 27 "FogNetsModel" "keptBy" "[I" true = true := by decide +kernel
theorem ff_X8_ahead : fg_fck [8] 28 "FogNetsModel" "ahead" "[I" true = true := by decide +kernel
theorem ff_X8_against : fg_fck [8] 29 "FogNetsModel" "against" "[I" true = true := by decide +kernel
theorem ff_X8_sum : fg_fck [8] 30 "FogNetsModel" "sum" "[I" true = true := by decide +kernel
theorem ff_X8_sumBy : fg_fck [8] 31 "FogNetsModel" "sumBy" "[I" true = true := by decide +kernel
theorem ff_X8_term : fg_fck [8] 32 "FogNetsModel" "term" "[I" true = true := by decide +kernel
theorem ff_X8_termBy : fg_fck [8] 33 "FogNetsModel" "termBy" "[I" true = true := by decide +kernel
theorem ff_X8_byNot : fg_fck [8] 34 "FogNetsModel" "byNot" "[I" true = true := by decide +kernel
theorem ff_X8_valueOf : fg_fck [8] 35 "FogNetsModel" "valueOf" "[I" true = true := by decide +kernel
theorem ff_X8_s : fg_fck [8] 37 "FogNetsModel" "s" "[I" true = true := by decide +kernel
theorem ff_X8_aside : fg_fck [8] 38 "FogNetsModel" "aside" "[I" true = true := by decide +kernel
theorem ff_X8_marked : fg_fck [8] 39 "FogNetsModel" "marked" "[I" true = true := by decide +kernel
theorem ff_X8_takes : fg_fck [8] 40 "FogNetsModel" "takes" "[I" true = true := by decide +kernel
theorem ff_X8_been : fg_fck [8] 41 "FogNetsModel" "been" "[I" true = true := by decide +kernel
theorem ff_X8_worthOf : fg_fck [8] 44 "FogNetsModel" "worthOf" "[I" true = true := by decide +kernel
theorem ff_X8_isLaid : fg_fck [8] 46 "FogNetsModel" "isLaid" "[Z" true = true := by decide +kernel
theorem ff_X8_thrown : fg_fck [8] 0 "FogNetsModel" "thrown" "I" false = true := by decide +kernel
theorem ff_X8_taped : fg_fck [8] 1 "FogNetsModel" "taped" "I" false = true := by decide +kernel
theorem ff_X8_wrong : fg_fck [8] 9 "FogNetsModel" "wrong" "I" false = true := by decide +kernel
theorem ff_X8_isTold : fg_fck [8] 22 "FogNetsModel" "isTold" "I" false = true := by decide +kernel
theorem ff_X8_code : fg_fck [8] 21 "FogNetsModel" "code" "I" false = true := by decide +kernel
theorem ff_X8_size : fg_fck [8] 3 "FogNetsModel" "size" "I" false = true := by decide +kernel
theorem ff_X8_place : fg_fck [8] 4 "FogNetsModel" "place" "I" false = true := by decide +kernel
theorem ff_X8_token : fg_fck [8] 6 "FogNetsModel" "token" "I" false = true := by decide +kernel
theorem ff_X8_begin : fg_fck [8] 5 "FogNetsModel" "begin" "I" false = true := by decide +kernel
theorem ff_X8_word : fg_fck [8] 7 "FogNetsModel" "word" "J" false = true := by decide +kernel
theorem ff_X8_told : fg_fck [8] 8 "FogNetsModel" "told" "I" false = true := by decide +kernel
theorem ff_X8_given : fg_fck [8] 36 "FogNetsModel" "given" "I" false = true := by decide +kernel
theorem ff_X8_isFog : fg_fck [8] 23 "FogNetsModel" "isFog" "Z" false = true := by decide +kernel
theorem ff_X8_isRest : fg_fck [8] 43 "FogNetsModel" "isRest" "Z" false = true := by decide +kernel
theorem ff_X8_playedRounds : fg_fck [8] 42 "FogNetsModel" "playedRounds" "I" false = true := by decide +kernel
theorem ff_X8_g : fg_fck [8] 45 "FogNetsModel" "g" "J" false = true := by decide +kernel
def nw_X8 : List Value := [.int 0, .int 0, .null, .int 0, .int 0, .int 0, .int 0, .long 0, .int 0, .int 0, .null, .null, .null, .null, .null, .null, .null, .null, .null, .null, .null, .int 0, .int 0, .int 0, .null, .null, .null, .null, .null, .null, .null, .null, .null, .null, .null, .null, .int 0, .null, .null, .null, .null, .null, .int 0, .int 0, .null, .long 0, .null]
theorem nwk_X8 : ∀ j, j < 47 → defaultValue (tyX8 j) = vp_V nw_X8 j := fun j hj => match j, hj with
  | 0, _ => rfl
  | 1, _ => rfl
  | 2, _ => rfl
  | 3, _ => rfl
  | 4, _ => rfl
  | 5, _ => rfl
  | 6, _ => rfl
  | 7, _ => rfl
  | 8, _ => rfl
  | 9, _ => rfl
  | 10, _ => rfl
  | 11, _ => rfl
  | 12, _ => rfl
  | 13, _ => rfl
  | 14, _ => rfl
  | 15, _ => rfl
  | 16, _ => rfl
  | 17, _ => rfl
  | 18, _ => rfl
  | 19, _ => rfl
  | 20, _ => rfl
  | 21, _ => rfl
  | 22, _ => rfl
  | 23, _ => rfl
  | 24, _ => rfl
  | 25, _ => rfl
  | 26, _ => rfl
  | 27, _ => rfl
  | 28, _ => rfl
  | 29, _ => rfl
  | 30, _ => rfl
  | 31, _ => rfl
  | 32, _ => rfl
  | 33, _ => rfl
  | 34, _ => rfl
  | 35, _ => rfl
  | 36, _ => rfl
  | 37, _ => rfl
  | 38, _ => rfl
  | 39, _ => rfl
  | 40, _ => rfl
  | 41, _ => rfl
  | 42, _ => rfl
  | 43, _ => rfl
  | 44, _ => rfl
  | 45, _ => rfl
  | 46, _ => rfl
  | n + 47, h => absurd h (by omega)
/-! FogNetsModel.plain(I)V -/
noncomputable def fX8_plain_89b (a0 : Nat) (i1 : Int32) (i2 : Int32) (G : fg_H) : Option ((Nat × Int32 × Int32 × fg_H) ⊕ (Unit × fg_H)) :=
  if (2 : Int32) ≤ i2 then (fg_rt (some ((), G)))
  else (fg_ob (fg_gr G a0 [8] 18) fun r23 =>
  fg_ob r23 fun a24 =>
  fg_ob (fg_si G a24 0 (((2 : Int32) * i1) + i2) ((1000 : Int32) * i1)) fun G25 =>
  fg_ob (fg_gr G25 a0 [8] 19) fun r26 =>
  fg_ob r26 fun a27 =>
  fg_ob (fg_si G25 a27 0 (((2 : Int32) * i1) + i2) ((1000 : Int32) * i1)) fun G28 =>
  some (.inl (a0, i1, (i2 + (1 : Int32)), G28)))
noncomputable def fX8_plain_89 (a0 : Nat) (i1 : Int32) (i2 : Int32) (G : fg_H) : Option (Unit × fg_H) :=
  fg_lp (fun y : Nat × Int32 × Int32 × fg_H => fX8_plain_89b y.1 y.2.1 y.2.2.1 y.2.2.2) (a0, i1, i2, G)
noncomputable def fX8_plain (a0 : Nat) (i1 : Int32) (G : fg_H) : Option (Unit × fg_H) :=
  fg_ob (fg_gr G a0 [8] 10) fun r1 =>
  fg_ob r1 fun a2 =>
  fg_ob (fg_si G a2 0 (((7 : Int32) * i1) + (0 : Int32)) (6 : Int32)) fun G3 =>
  fg_ob (fg_gr G3 a0 [8] 10) fun r4 =>
  fg_ob r4 fun a5 =>
  fg_ob (fg_si G3 a5 0 (((7 : Int32) * i1) + (1 : Int32)) (4 : Int32)) fun G6 =>
  fg_ob (fg_gr G6 a0 [8] 10) fun r7 =>
  fg_ob r7 fun a8 =>
  fg_ob (fg_si G6 a8 0 (((7 : Int32) * i1) + (2 : Int32)) (6 : Int32)) fun G9 =>
  fg_ob (fg_gr G9 a0 [8] 10) fun r10 =>
  fg_ob r10 fun a11 =>
  fg_ob (fg_si G9 a11 0 (((7 : Int32) * i1) + (3 : Int32)) (0 : Int32)) fun G12 =>
  fg_ob (fg_gr G12 a0 [8] 10) fun r13 =>
  fg_ob r13 fun a14 =>
  fg_ob (fg_si G12 a14 0 (((7 : Int32) * i1) + (4 : Int32)) (0 : Int32)) fun G15 =>
  fg_ob (fg_gr G15 a0 [8] 10) fun r16 =>
  fg_ob r16 fun a17 =>
  fg_ob (fg_si G15 a17 0 (((7 : Int32) * i1) + (5 : Int32)) (0 : Int32)) fun G18 =>
  fg_ob (fg_gr G18 a0 [8] 10) fun r19 =>
  fg_ob r19 fun a20 =>
  fg_ob (fg_si G18 a20 0 (((7 : Int32) * i1) + (6 : Int32)) (0 : Int32)) fun G21 =>
  fX8_plain_89 a0 i1 (0 : Int32) G21
/-! FogNetsModel.<init>()V -/
noncomputable def fX8_init (a0 : Nat) (G : fg_H) : Option (Unit × fg_H) :=
  fg_oc (fg_na G 0 (1000 : Int32)) fun a1 G2 =>
  fg_ob (fg_pv G2 a0 [8] 2 (.ref a1)) fun G3 =>
  fg_oc (fg_na G3 0 (42 : Int32)) fun a4 G5 =>
  fg_ob (fg_pv G5 a0 [8] 10 (.ref a4)) fun G6 =>
  fg_oc (fg_na G6 0 (36 : Int32)) fun a7 G8 =>
  fg_ob (fg_pv G8 a0 [8] 11 (.ref a7)) fun G9 =>
  fg_oc (fg_na G9 0 (36 : Int32)) fun a10 G11 =>
  fg_ob (fg_pv G11 a0 [8] 12 (.ref a10)) fun G12 =>
  fg_oc (fg_na G12 1 (6 : Int32)) fun a13 G14 =>
  fg_ob (fg_pv G14 a0 [8] 13 (.ref a13)) fun G15 =>
  fg_oc (fg_na G15 0 (78 : Int32)) fun a16 G17 =>
  fg_ob (fg_pv G17 a0 [8] 14 (.ref a16)) fun G18 =>
  fg_oc (fg_na G18 0 (78 : Int32)) fun a19 G20 =>
  fg_ob (fg_pv G20 a0 [8] 15 (.ref a19)) fun G21 =>
  fg_oc (fg_na G21 0 (78 : Int32)) fun a22 G23 =>
  fg_ob (fg_pv G23 a0 [8] 16 (.ref a22)) fun G24 =>
  fg_oc (fg_na G24 0 (78 : Int32)) fun a25 G26 =>
  fg_ob (fg_pv G26 a0 [8] 17 (.ref a25)) fun G27 =>
  fg_oc (fg_na G27 0 (12 : Int32)) fun a28 G29 =>
  fg_ob (fg_pv G29 a0 [8] 18 (.ref a28)) fun G30 =>
  fg_oc (fg_na G30 0 (12 : Int32)) fun a31 G32 =>
  fg_ob (fg_pv G32 a0 [8] 19 (.ref a31)) fun G33 =>
  fg_oc (fg_na G33 0 (6000 : Int32)) fun a34 G35 =>
  fg_ob (fg_pv G35 a0 [8] 20 (.ref a34)) fun G36 =>
  fg_oc (fg_na G36 0 (7 : Int32)) fun a37 G38 =>
  fg_ob (fg_pv G38 a0 [8] 24 (.ref a37)) fun G39 =>
  fg_oc (fg_na G39 2 (7 : Int32)) fun a40 G41 =>
  fg_ob (fg_pv G41 a0 [8] 25 (.ref a40)) fun G42 =>
  fg_oc (fg_na G42 0 (7 : Int32)) fun a43 G44 =>
  fg_ob (fg_pv G44 a0 [8] 26 (.ref a43)) fun G45 =>
  fg_oc (fg_na G45 0 (7 : Int32)) fun a46 G47 =>
  fg_ob (fg_pv G47 a0 [8] 27 (.ref a46)) fun G48 =>
  fg_oc (fg_na G48 0 (7 : Int32)) fun a49 G50 =>
  fg_ob (fg_pv G50 a0 [8] 28 (.ref a49)) fun G51 =>
  fg_oc (fg_na G51 0 (7 : Int32)) fun a52 G53 =>
  fg_ob (fg_pv G53 a0 [8] 29 (.ref a52)) fun G54 =>
  fg_oc (fg_na G54 0 (7 : Int32)) fun a55 G56 =>
  fg_ob (fg_pv G56 a0 [8] 30 (.ref a55)) fun G57 =>
  fg_oc (fg_na G57 0 (7 : Int32)) fun a58 G59 =>
  fg_ob (fg_pv G59 a0 [8] 31 (.ref a58)) fun G60 =>
  fg_oc (fg_na G60 0 (7 : Int32)) fun a61 G62 =>
  fg_ob (fg_pv G62 a0 [8] 32 (.ref a61)) fun G63 =>
  fg_oc (fg_na G63 0 (7 : Int32)) fun a64 G65 =>
  fg_ob (fg_pv G65 a0 [8] 33 (.ref a64)) fun G66 =>
  fg_oc (fg_na G66 0 (7 : Int32)) fun a67 G68 =>
  fg_ob (fg_pv G68 a0 [8] 34 (.ref a67)) fun G69 =>
  fg_oc (fg_na G69 0 (20 : Int32)) fun a70 G71 =>
  fg_ob (fg_pv G71 a0 [8] 35 (.ref a70)) fun G72 =>
  fg_oc (fg_na G72 0 (80 : Int32)) fun a73 G74 =>
  fg_ob (fg_pv G74 a0 [8] 37 (.ref a73)) fun G75 =>
  fg_oc (fg_na G75 0 (80 : Int32)) fun a76 G77 =>
  fg_ob (fg_pv G77 a0 [8] 38 (.ref a76)) fun G78 =>
  fg_oc (fg_na G78 0 (320 : Int32)) fun a79 G80 =>
  fg_ob (fg_pv G80 a0 [8] 39 (.ref a79)) fun G81 =>
  fg_oc (fg_na G81 0 (13 : Int32)) fun a82 G83 =>
  fg_ob (fg_pv G83 a0 [8] 40 (.ref a82)) fun G84 =>
  fg_oc (fg_na G84 0 (1212 : Int32)) fun a85 G86 =>
  fg_ob (fg_pv G86 a0 [8] 41 (.ref a85)) fun G87 =>
  fg_oc (fg_na G87 0 (64 : Int32)) fun a88 G89 =>
  fg_ob (fg_pv G89 a0 [8] 44 (.ref a88)) fun G90 =>
  fg_oc (fg_na G90 2 (4 : Int32)) fun a91 G92 =>
  fg_ob (fg_pv G92 a0 [8] 46 (.ref a91)) fun G93 =>
  fg_gd (fg_rc G93 a0 8) <|
  fg_oc (fX8_plain a0 (0 : Int32) G93) fun _ G94 =>
  some ((), G94)
/-! FogNetsModel.thrown()I -/
noncomputable def fX8_thrown (a0 : Nat) (G : fg_H) : Option (Int32 × fg_H) :=
  fg_ob (fg_gi G a0 [8] 0) fun x1 =>
  some (x1, G)
/-! FogNetsModel.feed(JJJ)I -/
noncomputable def fX8_feed_93 (a0 : Nat) (l1 : Int64) (l3 : Int64) (l5 : Int64) (i7 : Int32) (i10 : Int32) (G : fg_H) : Option ((Nat × Int64 × Int64 × Int64 × Int32 × fg_H) ⊕ (Int32 × fg_H)) :=
  fg_ob (fg_gr G a0 [8] 2) fun r6 =>
  fg_ob (fg_gi G a0 [8] 1) fun x7 =>
  fg_ob r6 fun a8 =>
  fg_ob (fg_si G a8 0 x7 i10) fun G9 =>
  fg_ob (fg_gi G9 a0 [8] 1) fun x10 =>
  fg_ob (fg_pv G9 a0 [8] 1 (.int (x10 + (1 : Int32)))) fun G11 =>
  some (.inl (a0, l1, l3, l5, (i7 + (1 : Int32)), G11))
noncomputable def fX8_feed_39 (a0 : Nat) (l1 : Int64) (l3 : Int64) (l5 : Int64) (i7 : Int32) (s0 : Int64) (G : fg_H) : Option ((Nat × Int64 × Int64 × Int64 × Int32 × fg_H) ⊕ (Int32 × fg_H)) :=
  fg_ob (some ((((s0).toUInt64 >>> ((((56 : Int32) - ((8 : Int32) * (i7 &&& (7 : Int32))))).toInt64.toUInt64 &&& Int64.toUInt64 63)).toInt64 &&& (255 : Int64))).toInt32) fun v4 =>
  fg_ob (fg_gi G a0 [8] 1) fun x5 =>
  if (1000 : Int32) ≤ x5 then (some (.inl (a0, l1, l3, l5, (i7 + (1 : Int32)), G)))
  else (if v4 = (10 : Int32) then (fX8_feed_93 a0 l1 l3 l5 i7 v4 G)
  else (if v4 < (32 : Int32) then (some (.inl (a0, l1, l3, l5, (i7 + (1 : Int32)), G)))
  else (if (126 : Int32) < v4 then (some (.inl (a0, l1, l3, l5, (i7 + (1 : Int32)), G)))
  else (fX8_feed_93 a0 l1 l3 l5 i7 v4 G))))
noncomputable def fX8_feed_8b (a0 : Nat) (l1 : Int64) (l3 : Int64) (l5 : Int64) (i7 : Int32) (G : fg_H) : Option ((Nat × Int64 × Int64 × Int64 × Int32 × fg_H) ⊕ (Int32 × fg_H)) :=
  if (24 : Int32) ≤ i7 then (fg_rt (fg_ob (fg_gi G a0 [8] 1) fun x3 =>
  some (x3, G)))
  else (if (8 : Int32) ≤ i7 then (if (16 : Int32) ≤ i7 then (fX8_feed_39 a0 l1 l3 l5 i7 l5 G)
  else (fX8_feed_39 a0 l1 l3 l5 i7 l3 G))
  else (fX8_feed_39 a0 l1 l3 l5 i7 l1 G))
noncomputable def fX8_feed_8 (a0 : Nat) (l1 : Int64) (l3 : Int64) (l5 : Int64) (i7 : Int32) (G : fg_H) : Option (Int32 × fg_H) :=
  fg_lp (fun y : Nat × Int64 × Int64 × Int64 × Int32 × fg_H => fX8_feed_8b y.1 y.2.1 y.2.2.1 y.2.2.2.1 y.2.2.2.2.1 y.2.2.2.2.2) (a0, l1, l3, l5, i7, G)
noncomputable def fX8_feed (a0 : Nat) (l1 : Int64) (l3 : Int64) (l5 : Int64) (G : fg_H) : Option (Int32 × fg_H) :=
  fg_ob (fg_pv G a0 [8] 0 (.int (0 : Int32))) fun G1 =>
  fX8_feed_8 a0 l1 l3 l5 (0 : Int32) G1
/-! FogNetsModel.moves([IIII)V -/
noncomputable def fX8_moves_3b (r0 : Option Nat) (i1 : Int32) (i2 : Int32) (i3 : Int32) (i4 : Int32) (G : fg_H) : Option ((Option Nat × Int32 × Int32 × Int32 × Int32 × fg_H) ⊕ (Unit × fg_H)) :=
  if i1 ≤ i4 then (fg_rt (some ((), G)))
  else (fg_ob r0 fun a2 =>
  fg_ob (fg_ai G a2 0 ((i1 * i2) + i4)) fun x3 =>
  fg_ob (fg_si G a2 0 ((i1 * i3) + i4) x3) fun G4 =>
  some (.inl ((some a2), i1, i2, i3, (i4 + (1 : Int32)), G4)))
noncomputable def fX8_moves_3 (r0 : Option Nat) (i1 : Int32) (i2 : Int32) (i3 : Int32) (i4 : Int32) (G : fg_H) : Option (Unit × fg_H) :=
  fg_lp (fun y : Option Nat × Int32 × Int32 × Int32 × Int32 × fg_H => fX8_moves_3b y.1 y.2.1 y.2.2.1 y.2.2.2.1 y.2.2.2.2.1 y.2.2.2.2.2) (r0, i1, i2, i3, i4, G)
noncomputable def fX8_moves (r0 : Option Nat) (i1 : Int32) (i2 : Int32) (i3 : Int32) (G : fg_H) : Option (Unit × fg_H) :=
  fX8_moves_3 r0 i1 i2 i3 (0 : Int32) G
/-! FogNetsModel.lays(II)V -/
noncomputable def fX8_lays_91b (a0 : Nat) (i1 : Int32) (i2 : Int32) (i3 : Int32) (G : fg_H) : Option ((Nat × Int32 × Int32 × Int32 × fg_H) ⊕ (Unit × fg_H)) :=
  if (2 : Int32) ≤ i3 then (fg_rt (some ((), G)))
  else (fg_ob (fg_gr G a0 [8] 18) fun r18 =>
  fg_ob (fg_gr G a0 [8] 18) fun r19 =>
  fg_ob r19 fun a20 =>
  fg_ob (fg_ai G a20 0 (((2 : Int32) * i1) + i3)) fun x21 =>
  fg_ob r18 fun a22 =>
  fg_ob (fg_si G a22 0 (((2 : Int32) * i2) + i3) (x21 + ((1000 : Int32) * (i2 - i1)))) fun G23 =>
  fg_ob (fg_gr G23 a0 [8] 19) fun r24 =>
  fg_ob (fg_gr G23 a0 [8] 19) fun r25 =>
  fg_ob r25 fun a26 =>
  fg_ob (fg_ai G23 a26 0 (((2 : Int32) * i1) + i3)) fun x27 =>
  fg_ob r24 fun a28 =>
  fg_ob (fg_si G23 a28 0 (((2 : Int32) * i2) + i3) (x27 + ((1000 : Int32) * (i2 - i1)))) fun G29 =>
  some (.inl (a0, i1, i2, (i3 + (1 : Int32)), G29)))
noncomputable def fX8_lays_91 (a0 : Nat) (i1 : Int32) (i2 : Int32) (i3 : Int32) (G : fg_H) : Option (Unit × fg_H) :=
  fg_lp (fun y : Nat × Int32 × Int32 × Int32 × fg_H => fX8_lays_91b y.1 y.2.1 y.2.2.1 y.2.2.2.1 y.2.2.2.2) (a0, i1, i2, i3, G)
noncomputable def fX8_lays (a0 : Nat) (i1 : Int32) (i2 : Int32) (G : fg_H) : Option (Unit × fg_H) :=
  fg_ob (fg_gr G a0 [8] 10) fun r1 =>
  fg_oc (fX8_moves r1 (7 : Int32) i1 i2 G) fun _ G2 =>
  fg_ob (fg_gr G2 a0 [8] 11) fun r3 =>
  fg_oc (fX8_moves r3 (6 : Int32) i1 i2 G2) fun _ G4 =>
  fg_ob (fg_gr G4 a0 [8] 12) fun r5 =>
  fg_oc (fX8_moves r5 (6 : Int32) i1 i2 G4) fun _ G6 =>
  fg_ob (fg_gr G6 a0 [8] 14) fun r7 =>
  fg_oc (fX8_moves r7 (13 : Int32) i1 i2 G6) fun _ G8 =>
  fg_ob (fg_gr G8 a0 [8] 15) fun r9 =>
  fg_oc (fX8_moves r9 (13 : Int32) i1 i2 G8) fun _ G10 =>
  fg_ob (fg_gr G10 a0 [8] 16) fun r11 =>
  fg_oc (fX8_moves r11 (13 : Int32) i1 i2 G10) fun _ G12 =>
  fg_ob (fg_gr G12 a0 [8] 17) fun r13 =>
  fg_oc (fX8_moves r13 (13 : Int32) i1 i2 G12) fun _ G14 =>
  fg_ob (fg_gr G14 a0 [8] 20) fun r15 =>
  fg_oc (fX8_moves r15 (1000 : Int32) i1 i2 G14) fun _ G16 =>
  fX8_lays_91 a0 i1 i2 (0 : Int32) G16
/-! FogNetsModel.fails(I)Z -/
noncomputable def fX8_fails (a0 : Nat) (i1 : Int32) (G : fg_H) : Option (Int32 × fg_H) :=
  fg_ob (fg_gi G a0 [8] 5) fun x1 =>
  fg_ob (fg_pv G a0 [8] 9 (.int (i1 + ((16 : Int32) * x1)))) fun G2 =>
  some ((0 : Int32), G2)
/-! FogNetsModel.isWord(J)Z -/
noncomputable def fX8_isWord (a0 : Nat) (l1 : Int64) (G : fg_H) : Option (Int32 × fg_H) :=
  fg_ob (fg_gi G a0 [8] 6) fun x1 =>
  if x1 = (1 : Int32) then (fg_ob (fg_gl G a0 [8] 7) fun y2 =>
  if (lg_cmp y2 l1) = 0 then (some ((1 : Int32), G))
  else (some ((0 : Int32), G)))
  else (some ((0 : Int32), G))
/-! FogNetsModel.signAt(I)I -/
noncomputable def fX8_signAt (a0 : Nat) (i1 : Int32) (G : fg_H) : Option (Int32 × fg_H) :=
  fg_ob (fg_gi G a0 [8] 3) fun x1 =>
  if x1 ≤ i1 then (some ((0 : Int32), G))
  else (fg_ob (fg_gr G a0 [8] 2) fun r2 =>
  fg_ob r2 fun a3 =>
  fg_ob (fg_ai G a3 0 i1) fun x4 =>
  some (x4, G))
/-! FogNetsModel.nextToken()V -/
noncomputable def fX8_nextToken_345 (i1 : Int32) (s0 : Nat) (G : fg_H) : Option (Unit × fg_H) :=
  if i1 = (45 : Int32) then (fg_ob (fg_pv G s0 [8] 6 (.int (3 : Int32))) fun G16 =>
  some ((), G16))
  else (if i1 < (59 : Int32) then (fg_ob (fg_pv G s0 [8] 6 (.int (4 : Int32))) fun G17 =>
  some ((), G17))
  else (if (61 : Int32) < i1 then (fg_ob (fg_pv G s0 [8] 6 (.int (4 : Int32))) fun G18 =>
  some ((), G18))
  else (fg_ob (fg_pv G s0 [8] 6 (.int (3 : Int32))) fun G19 =>
  some ((), G19))))
noncomputable def fX8_nextToken_322 (a0 : Nat) (i1 : Int32) (G : fg_H) : Option (Unit × fg_H) :=
  fg_ob (fg_gi G a0 [8] 4) fun x14 =>
  fg_ob (fg_pv G a0 [8] 4 (.int (x14 + (1 : Int32)))) fun G15 =>
  if i1 < (40 : Int32) then (fX8_nextToken_345 i1 a0 G15)
  else (if i1 ≤ (43 : Int32) then (fg_ob (fg_pv G15 a0 [8] 6 (.int (3 : Int32))) fun G20 =>
  some ((), G20))
  else (fX8_nextToken_345 i1 a0 G15))
noncomputable def fX8_nextToken_299 (a0 : Nat) (G : fg_H) : Option (Unit × fg_H) :=
  fg_ob (fg_gi G a0 [8] 4) fun x25 =>
  fg_ob (fg_gi G a0 [8] 5) fun x26 =>
  if (x25 - x26) ≤ (4 : Int32) then (fg_ob (fg_pv G a0 [8] 6 (.int (2 : Int32))) fun G27 =>
  some ((), G27))
  else (fg_ob (fg_pv G a0 [8] 6 (.int (4 : Int32))) fun G28 =>
  some ((), G28))
noncomputable def fX8_nextToken_286 (a0 : Nat) (G : fg_H) : Option ((Nat × fg_H) ⊕ (Unit × fg_H)) :=
  fg_ob (fg_gi G a0 [8] 4) fun x35 =>
  fg_ob (fg_pv G a0 [8] 4 (.int (x35 + (1 : Int32)))) fun G36 =>
  some (.inl (a0, G36))
noncomputable def fX8_nextToken_224b (a0 : Nat) (G : fg_H) : Option ((Nat × fg_H) ⊕ (Unit × fg_H)) :=
  fg_ob (fg_gi G a0 [8] 4) fun x21 =>
  fg_gd (fg_rc G a0 8) <|
  fg_oc (fX8_signAt a0 x21 G) fun x23 G22 =>
  if x23 < (48 : Int32) then (fg_rt (fX8_nextToken_299 a0 G22))
  else (fg_ob (fg_gi G22 a0 [8] 4) fun x29 =>
  fg_gd (fg_rc G22 a0 8) <|
  fg_oc (fX8_signAt a0 x29 G22) fun x31 G30 =>
  if (57 : Int32) < x31 then (fg_rt (fX8_nextToken_299 a0 G30))
  else (fg_ob (fg_gi G30 a0 [8] 4) fun x33 =>
  fg_ob (fg_gi G30 a0 [8] 5) fun x34 =>
  if (4 : Int32) ≤ (x33 - x34) then (fX8_nextToken_286 a0 G30)
  else (fg_ob (fg_gi G30 a0 [8] 8) fun x37 =>
  fg_ob (fg_gi G30 a0 [8] 4) fun x38 =>
  fg_gd (fg_rc G30 a0 8) <|
  fg_oc (fX8_signAt a0 x38 G30) fun x40 G39 =>
  fg_ob (fg_pv G39 a0 [8] 8 (.int (((x37 * (10 : Int32)) + x40) - (48 : Int32)))) fun G41 =>
  fX8_nextToken_286 a0 G41)))
noncomputable def fX8_nextToken_224 (a0 : Nat) (G : fg_H) : Option (Unit × fg_H) :=
  fg_lp (fun y : Nat × fg_H => fX8_nextToken_224b y.1 y.2) (a0, G)
noncomputable def fX8_nextToken_212 (a0 : Nat) (i1 : Int32) (G : fg_H) : Option (Unit × fg_H) :=
  if i1 < (48 : Int32) then (fX8_nextToken_322 a0 i1 G)
  else (if (57 : Int32) < i1 then (fX8_nextToken_322 a0 i1 G)
  else (fX8_nextToken_224 a0 G))
noncomputable def fX8_nextToken_188 (a0 : Nat) (G : fg_H) : Option (Unit × fg_H) :=
  fg_ob (fg_gi G a0 [8] 4) fun x46 =>
  fg_ob (fg_gi G a0 [8] 5) fun x47 =>
  if (x46 - x47) ≤ (8 : Int32) then (fg_ob (fg_pv G a0 [8] 6 (.int (1 : Int32))) fun G48 =>
  some ((), G48))
  else (fg_ob (fg_pv G a0 [8] 6 (.int (4 : Int32))) fun G49 =>
  some ((), G49))
noncomputable def fX8_nextToken_175 (a0 : Nat) (G : fg_H) : Option ((Nat × fg_H) ⊕ (Unit × fg_H)) :=
  fg_ob (fg_gi G a0 [8] 4) fun x56 =>
  fg_ob (fg_pv G a0 [8] 4 (.int (x56 + (1 : Int32)))) fun G57 =>
  some (.inl (a0, G57))
noncomputable def fX8_nextToken_109b (a0 : Nat) (G : fg_H) : Option ((Nat × fg_H) ⊕ (Unit × fg_H)) :=
  fg_ob (fg_gi G a0 [8] 4) fun x42 =>
  fg_gd (fg_rc G a0 8) <|
  fg_oc (fX8_signAt a0 x42 G) fun x44 G43 =>
  if x44 < (97 : Int32) then (fg_rt (fX8_nextToken_188 a0 G43))
  else (fg_ob (fg_gi G43 a0 [8] 4) fun x50 =>
  fg_gd (fg_rc G43 a0 8) <|
  fg_oc (fX8_signAt a0 x50 G43) fun x52 G51 =>
  if (122 : Int32) < x52 then (fg_rt (fX8_nextToken_188 a0 G51))
  else (fg_ob (fg_gi G51 a0 [8] 4) fun x54 =>
  fg_ob (fg_gi G51 a0 [8] 5) fun x55 =>
  if (8 : Int32) ≤ (x54 - x55) then (fX8_nextToken_175 a0 G51)
  else (fg_ob (fg_gl G51 a0 [8] 7) fun y58 =>
  fg_ob (fg_gi G51 a0 [8] 4) fun x59 =>
  fg_gd (fg_rc G51 a0 8) <|
  fg_oc (fX8_signAt a0 x59 G51) fun x61 G60 =>
  fg_ob (fg_pv G60 a0 [8] 7 (.long (((y58 * (27 : Int64)) + (x61).toInt64) - (96 : Int64)))) fun G62 =>
  fX8_nextToken_175 a0 G62)))
noncomputable def fX8_nextToken_109 (a0 : Nat) (G : fg_H) : Option (Unit × fg_H) :=
  fg_lp (fun y : Nat × fg_H => fX8_nextToken_109b y.1 y.2) (a0, G)
noncomputable def fX8_nextToken_52 (a0 : Nat) (G : fg_H) : Option (Unit × fg_H) :=
  fg_ob (fg_gi G a0 [8] 4) fun x4 =>
  fg_ob (fg_pv G a0 [8] 5 (.int x4)) fun G5 =>
  fg_ob (fg_pv G5 a0 [8] 7 (.long (0 : Int64))) fun G6 =>
  fg_ob (fg_pv G6 a0 [8] 8 (.int (0 : Int32))) fun G7 =>
  fg_ob (fg_gi G7 a0 [8] 4) fun x8 =>
  fg_ob (fg_gi G7 a0 [8] 3) fun x9 =>
  if x8 = x9 then (fg_ob (fg_pv G7 a0 [8] 6 (.int (0 : Int32))) fun G63 =>
  some ((), G63))
  else (fg_ob (fg_gr G7 a0 [8] 2) fun r10 =>
  fg_ob (fg_gi G7 a0 [8] 4) fun x11 =>
  fg_ob r10 fun a12 =>
  fg_ob (fg_ai G7 a12 0 x11) fun x13 =>
  if x13 < (97 : Int32) then (fX8_nextToken_212 a0 x13 G7)
  else (if (122 : Int32) < x13 then (fX8_nextToken_212 a0 x13 G7)
  else (fX8_nextToken_109 a0 G7)))
noncomputable def fX8_nextToken_39 (a0 : Nat) (G : fg_H) : Option ((Nat × fg_H) ⊕ (Unit × fg_H)) :=
  fg_ob (fg_gi G a0 [8] 4) fun x68 =>
  fg_ob (fg_pv G a0 [8] 4 (.int (x68 + (1 : Int32)))) fun G69 =>
  some (.inl (a0, G69))
noncomputable def fX8_nextToken_0b (a0 : Nat) (G : fg_H) : Option ((Nat × fg_H) ⊕ (Unit × fg_H)) :=
  fg_ob (fg_gi G a0 [8] 4) fun x1 =>
  fg_ob (fg_gi G a0 [8] 3) fun x2 =>
  if x2 ≤ x1 then (fg_rt (fX8_nextToken_52 a0 G))
  else (fg_ob (fg_gr G a0 [8] 2) fun r64 =>
  fg_ob (fg_gi G a0 [8] 4) fun x65 =>
  fg_ob r64 fun a66 =>
  fg_ob (fg_ai G a66 0 x65) fun x67 =>
  if x67 = (32 : Int32) then (fX8_nextToken_39 a0 G)
  else (fg_ob (fg_gr G a0 [8] 2) fun r70 =>
  fg_ob (fg_gi G a0 [8] 4) fun x71 =>
  fg_ob r70 fun a72 =>
  fg_ob (fg_ai G a72 0 x71) fun x73 =>
  if x73 = (10 : Int32) then (fX8_nextToken_39 a0 G)
  else (fg_rt (fX8_nextToken_52 a0 G))))
noncomputable def fX8_nextToken_0 (a0 : Nat) (G : fg_H) : Option (Unit × fg_H) :=
  fg_lp (fun y : Nat × fg_H => fX8_nextToken_0b y.1 y.2) (a0, G)
noncomputable def fX8_nextToken (a0 : Nat) (G : fg_H) : Option (Unit × fg_H) :=
  fX8_nextToken_0 a0 G
/-! FogNetsModel.isSign(I)Z -/
noncomputable def fX8_isSign (a0 : Nat) (i1 : Int32) (G : fg_H) : Option (Int32 × fg_H) :=
  fg_ob (fg_gi G a0 [8] 6) fun x1 =>
  if x1 = (3 : Int32) then (fg_ob (fg_gr G a0 [8] 2) fun r2 =>
  fg_ob (fg_gi G a0 [8] 5) fun x3 =>
  fg_ob r2 fun a4 =>
  fg_ob (fg_ai G a4 0 x3) fun x5 =>
  if x5 = i1 then (some ((1 : Int32), G))
  else (some ((0 : Int32), G)))
  else (some ((0 : Int32), G))
/-! FogNetsModel.ends()Z -/
noncomputable def fX8_ends (a0 : Nat) (G : fg_H) : Option (Int32 × fg_H) :=
  fg_gd (fg_rc G a0 8) <|
  fg_oc (fX8_isSign a0 (59 : Int32) G) fun x2 G1 =>
  if x2 = 0 then (fg_gd (fg_rc G1 a0 8) <|
  fg_oc (fX8_fails a0 (1 : Int32) G1) fun x5 G4 =>
  fg_gd (fg_b x5) (some (x5, G4)))
  else (fg_gd (fg_rc G1 a0 8) <|
  fg_oc (fX8_nextToken a0 G1) fun _ G3 =>
  some ((1 : Int32), G3))
/-! FogNetsModel.isTwice(I)Z -/
noncomputable def fX8_isTwice (a0 : Nat) (i1 : Int32) (G : fg_H) : Option (Int32 × fg_H) :=
  fg_ob (fg_gi G a0 [8] 22) fun x1 =>
  if ((x1 >>> (i1 &&& 31)) &&& (1 : Int32)) = (1 : Int32) then (some ((1 : Int32), G))
  else (fg_ob (fg_gi G a0 [8] 22) fun x2 =>
  fg_ob (fg_pv G a0 [8] 22 (.int (x2 ||| ((1 : Int32) <<< (i1 &&& 31))))) fun G3 =>
  some ((0 : Int32), G3))
/-! FogNetsModel.within(III)Z -/
noncomputable def fX8_within (i0 : Int32) (i1 : Int32) (i2 : Int32) (G : fg_H) : Option (Int32 × fg_H) :=
  if i0 < i1 then (some ((0 : Int32), G))
  else (if i2 < i0 then (some ((0 : Int32), G))
  else (some ((1 : Int32), G)))
/-! FogNetsModel.needsNumber(II)Z -/
noncomputable def fX8_needsNumber (a0 : Nat) (i1 : Int32) (i2 : Int32) (G : fg_H) : Option (Int32 × fg_H) :=
  fg_ob (fg_gi G a0 [8] 6) fun x1 =>
  if x1 = (2 : Int32) then (fg_ob (fg_gi G a0 [8] 8) fun x2 =>
  fg_oc (fX8_within x2 i1 i2 G) fun x4 G3 =>
  if x4 = 0 then (fg_gd (fg_rc G3 a0 8) <|
  fg_oc (fX8_fails a0 (4 : Int32) G3) fun x9 G8 =>
  fg_gd (fg_b x9) (some (x9, G8)))
  else (fg_ob (fg_gi G3 a0 [8] 8) fun x5 =>
  fg_ob (fg_pv G3 a0 [8] 36 (.int x5)) fun G6 =>
  fg_gd (fg_rc G6 a0 8) <|
  fg_oc (fX8_nextToken a0 G6) fun _ G7 =>
  some ((1 : Int32), G7)))
  else (fg_gd (fg_rc G a0 8) <|
  fg_oc (fX8_fails a0 (1 : Int32) G) fun x11 G10 =>
  fg_gd (fg_b x11) (some (x11, G10)))
/-! FogNetsModel.readsField()Z -/
noncomputable def fX8_readsField_18 (a0 : Nat) (G : fg_H) : Option (Int32 × fg_H) :=
  fg_gd (fg_rc G a0 8) <|
  fg_oc (fX8_fails a0 (3 : Int32) G) fun x4 G3 =>
  fg_gd (fg_b x4) (some (x4, G3))
noncomputable def fX8_readsField (a0 : Nat) (G : fg_H) : Option (Int32 × fg_H) :=
  fg_gd (fg_rc G a0 8) <|
  fg_oc (fX8_isTwice a0 (0 : Int32) G) fun x2 G1 =>
  if x2 = 0 then (fg_ob (fg_gr G1 a0 [8] 10) fun r5 =>
  fg_ob r5 fun a6 =>
  fg_ob (fg_ai G1 a6 0 (13 : Int32)) fun x7 =>
  if x7 ≤ 0 then (fg_gd (fg_rc G1 a0 8) <|
  fg_oc (fX8_nextToken a0 G1) fun _ G8 =>
  fg_gd (fg_rc G8 a0 8) <|
  fg_oc (fX8_needsNumber a0 (1 : Int32) (8 : Int32) G8) fun x10 G9 =>
  if x10 = 0 then (some ((0 : Int32), G9))
  else (fg_ob (fg_gr G9 a0 [8] 10) fun r11 =>
  fg_ob (fg_gi G9 a0 [8] 36) fun x12 =>
  fg_ob r11 fun a13 =>
  fg_ob (fg_si G9 a13 0 (7 : Int32) x12) fun G14 =>
  fg_gd (fg_rc G14 a0 8) <|
  fg_oc (fX8_needsNumber a0 (1 : Int32) (8 : Int32) G14) fun x16 G15 =>
  if x16 = 0 then (some ((0 : Int32), G15))
  else (fg_ob (fg_gr G15 a0 [8] 10) fun r17 =>
  fg_ob (fg_gi G15 a0 [8] 36) fun x18 =>
  fg_ob r17 fun a19 =>
  fg_ob (fg_si G15 a19 0 (8 : Int32) x18) fun G20 =>
  fg_gd (fg_rc G20 a0 8) <|
  fg_oc (fX8_ends a0 G20) fun x22 G21 =>
  fg_gd (fg_b x22) (some (x22, G21)))))
  else (fX8_readsField_18 a0 G1))
  else (fX8_readsField_18 a0 G1)
/-! FogNetsModel.fact()I -/
noncomputable def fX8_fact (a0 : Nat) (G : fg_H) : Option (Int32 × fg_H) :=
  fg_ob (fg_gi G a0 [8] 6) fun x1 =>
  if x1 = (1 : Int32) then (fg_ob (fg_gl G a0 [8] 7) fun y2 =>
  if (lg_cmp y2 (168984 : Int64)) = 0 then (some ((1 : Int32), G))
  else (fg_ob (fg_gl G a0 [8] 7) fun y3 =>
  if (lg_cmp y3 (7622660 : Int64)) = 0 then (some ((2 : Int32), G))
  else (fg_ob (fg_gi G a0 [8] 23) fun x4 =>
  if x4 = 0 then (some ((0 : Int32), G))
  else (fg_ob (fg_gl G a0 [8] 7) fun y5 =>
  if (lg_cmp y5 (243140 : Int64)) = 0 then (some ((3 : Int32), G))
  else (fg_ob (fg_gl G a0 [8] 7) fun y6 =>
  if (lg_cmp y6 (16819 : Int64)) = 0 then (some ((4 : Int32), G))
  else (some ((0 : Int32), G)))))))
  else (some ((0 : Int32), G))
/-! FogNetsModel.puts(I)V -/
noncomputable def fX8_puts (a0 : Nat) (i1 : Int32) (G : fg_H) : Option (Unit × fg_H) :=
  fg_ob (fg_gr G a0 [8] 20) fun r1 =>
  fg_ob (fg_gi G a0 [8] 21) fun x2 =>
  fg_ob r1 fun a3 =>
  fg_ob (fg_si G a3 0 x2 i1) fun G4 =>
  fg_ob (fg_gi G4 a0 [8] 21) fun x5 =>
  fg_ob (fg_pv G4 a0 [8] 21 (.int (x5 + (1 : Int32)))) fun G6 =>
  some ((), G6)
/-! FogNetsModel.reads()Z -/
noncomputable def fX8_reads_424 (a0 : Nat) (i1 : Int32) (i2 : Int32) (G : fg_H) : Option ((Nat × Int32 × Int32 × fg_H) ⊕ (Int32 × fg_H)) :=
  fg_gd (fg_rc G a0 8) <|
  fg_oc (fX8_nextToken a0 G) fun _ G11 =>
  some (.inl (a0, i1, i2, G11))
noncomputable def fX8_reads_237 (a0 : Nat) (i1 : Int32) (s0 : Nat) (s1 : Int32) (G : fg_H) : Option ((Nat × Int32 × Int32 × fg_H) ⊕ (Int32 × fg_H)) :=
  fg_gd (fg_rc G s0 8) <|
  fg_oc (fX8_puts s0 s1 G) fun _ G10 =>
  fX8_reads_424 a0 i1 (1 : Int32) G10
noncomputable def fX8_reads_206 (a0 : Nat) (i1 : Int32) (G : fg_H) : Option ((Nat × Int32 × Int32 × fg_H) ⊕ (Int32 × fg_H)) :=
  fg_gd (fg_rc G a0 8) <|
  fg_oc (fX8_isSign a0 (43 : Int32) G) fun x7 G6 =>
  if x7 = 0 then (fg_gd (fg_rc G6 a0 8) <|
  fg_oc (fX8_isSign a0 (45 : Int32) G6) fun x9 G8 =>
  if x9 = 0 then (fX8_reads_237 a0 i1 a0 (22 : Int32) G8)
  else (fX8_reads_237 a0 i1 a0 (21 : Int32) G8))
  else (fX8_reads_237 a0 i1 a0 (20 : Int32) G6)
noncomputable def fX8_reads_342 (a0 : Nat) (i1 : Int32) (s0 : Nat) (s1 : Int32) (G : fg_H) : Option ((Nat × Int32 × Int32 × fg_H) ⊕ (Int32 × fg_H)) :=
  fg_gd (fg_rc G s0 8) <|
  fg_oc (fX8_puts s0 s1 G) fun _ G25 =>
  fg_ob (fg_gr G25 a0 [8] 25) fun r26 =>
  fg_ob r26 fun a27 =>
  fg_ob (fg_si G25 a27 2 i1 (vp_nar .boolean (0 : Int32))) fun G28 =>
  fX8_reads_424 a0 i1 (1 : Int32) G28
noncomputable def fX8_reads_324 (a0 : Nat) (i1 : Int32) (G : fg_H) : Option ((Nat × Int32 × Int32 × fg_H) ⊕ (Int32 × fg_H)) :=
  fg_gd (fg_rc G a0 8) <|
  fg_oc (fX8_isWord a0 (1111 : Int64) G) fun x24 G23 =>
  if x24 = 0 then (fX8_reads_342 a0 i1 a0 (27 : Int32) G23)
  else (fX8_reads_342 a0 i1 a0 (26 : Int32) G23)
noncomputable def fX8_reads_418 (a0 : Nat) (G : fg_H) : Option (Int32 × fg_H) :=
  fg_gd (fg_rc G a0 8) <|
  fg_oc (fX8_fails a0 (1 : Int32) G) fun x35 G34 =>
  fg_gd (fg_b x35) (some (x35, G34))
noncomputable def fX8_reads_399 (a0 : Nat) (i1 : Int32) (G : fg_H) : Option (Int32 × fg_H) :=
  if i1 = 0 then (fg_gd (fg_rc G a0 8) <|
  fg_oc (fX8_isSign a0 (59 : Int32) G) fun x37 G36 =>
  if x37 = 0 then (fX8_reads_418 a0 G36)
  else (fg_gd (fg_rc G36 a0 8) <|
  fg_oc (fX8_nextToken a0 G36) fun _ G38 =>
  some ((1 : Int32), G38)))
  else (fX8_reads_418 a0 G)
noncomputable def fX8_reads_379b (a0 : Nat) (i1 : Int32) (i2 : Int32) (G : fg_H) : Option ((Nat × Int32 × Int32 × fg_H) ⊕ ((Nat × Int32 × Int32 × fg_H) ⊕ (Int32 × fg_H))) :=
  if i1 ≤ 0 then (fg_rt (fX8_reads_424 a0 i1 i2 G))
  else (fg_ob (fg_gr G a0 [8] 24) fun r42 =>
  fg_ob r42 fun a43 =>
  fg_ob (fg_ai G a43 0 i1) fun x44 =>
  if x44 = (1 : Int32) then (some (.inl (a0, (i1 + (-1 : Int32)), i2, G)))
  else (fg_rt (fX8_reads_424 a0 i1 i2 G)))
noncomputable def fX8_reads_379 (a0 : Nat) (i1 : Int32) (i2 : Int32) (G : fg_H) : Option ((Nat × Int32 × Int32 × fg_H) ⊕ (Int32 × fg_H)) :=
  fg_lp (fun y : Nat × Int32 × Int32 × fg_H => fX8_reads_379b y.1 y.2.1 y.2.2.1 y.2.2.2) (a0, i1, i2, G)
noncomputable def fX8_reads_304 (a0 : Nat) (i1 : Int32) (i2 : Int32) (G : fg_H) : Option ((Nat × Int32 × Int32 × fg_H) ⊕ (Int32 × fg_H)) :=
  fg_gd (fg_rc G a0 8) <|
  fg_oc (fX8_isWord a0 (1111 : Int64) G) fun x22 G21 =>
  if x22 = 0 then (fg_gd (fg_rc G21 a0 8) <|
  fg_oc (fX8_isWord a0 (423 : Int64) G21) fun x30 G29 =>
  if x30 = 0 then (fg_gd (fg_rc G29 a0 8) <|
  fg_oc (fX8_isSign a0 (41 : Int32) G29) fun x32 G31 =>
  if x32 = 0 then (fg_rt (fX8_reads_399 a0 i1 G31))
  else (if i1 ≤ 0 then (fg_rt (fX8_reads_399 a0 i1 G31))
  else (fg_gd (fg_rc G31 a0 8) <|
  fg_oc (fX8_puts a0 (29 : Int32) G31) fun _ G40 =>
  fX8_reads_379 a0 (i1 + (-1 : Int32)) i2 G40)))
  else (fX8_reads_324 a0 i1 G29))
  else (fX8_reads_324 a0 i1 G21)
noncomputable def fX8_reads_289 (a0 : Nat) (i1 : Int32) (s0 : Nat) (s1 : Int32) (G : fg_H) : Option ((Nat × Int32 × Int32 × fg_H) ⊕ (Int32 × fg_H)) :=
  fg_gd (fg_rc G s0 8) <|
  fg_oc (fX8_puts s0 s1 G) fun _ G48 =>
  fg_ob (fg_gr G48 a0 [8] 25) fun r49 =>
  fg_ob r49 fun a50 =>
  fg_ob (fg_si G48 a50 2 i1 (vp_nar .boolean (1 : Int32))) fun G51 =>
  fX8_reads_424 a0 i1 (1 : Int32) G51
noncomputable def fX8_reads_263 (a0 : Nat) (i1 : Int32) (i2 : Int32) (G : fg_H) : Option ((Nat × Int32 × Int32 × fg_H) ⊕ (Int32 × fg_H)) :=
  fg_ob (fg_gr G a0 [8] 25) fun r18 =>
  fg_ob r18 fun a19 =>
  fg_ob (fg_ai G a19 2 i1) fun x20 =>
  if x20 = 0 then (fg_gd (fg_rc G a0 8) <|
  fg_oc (fX8_isSign a0 (60 : Int32) G) fun x47 G46 =>
  if x47 = 0 then (fX8_reads_289 a0 i1 a0 (25 : Int32) G46)
  else (fX8_reads_289 a0 i1 a0 (24 : Int32) G46))
  else (fX8_reads_304 a0 i1 i2 G)
noncomputable def fX8_reads_172 (a0 : Nat) (i1 : Int32) (i2 : Int32) (G : fg_H) : Option ((Nat × Int32 × Int32 × fg_H) ⊕ (Int32 × fg_H)) :=
  fg_gd (fg_rc G a0 8) <|
  fg_oc (fX8_nextToken a0 G) fun _ G67 =>
  some (.inl (a0, i1, i2, G67))
noncomputable def fX8_reads_120 (a0 : Nat) (i1 : Int32) (i2 : Int32) (s0 : Option Nat) (s1 : Int32) (s2 : Int32) (G : fg_H) : Option ((Nat × Int32 × Int32 × fg_H) ⊕ (Int32 × fg_H)) :=
  fg_ob s0 fun a62 =>
  fg_ob (fg_si G a62 0 s1 s2) fun G63 =>
  fg_ob (fg_gr G63 a0 [8] 25) fun r64 =>
  fg_ob r64 fun a65 =>
  fg_ob (fg_si G63 a65 2 i1 (vp_nar .boolean (0 : Int32))) fun G66 =>
  fX8_reads_172 a0 i1 i2 G66
noncomputable def fX8_reads_99 (a0 : Nat) (i1 : Int32) (i2 : Int32) (i4 : Int32) (s0 : Nat) (s1 : Int32) (G : fg_H) : Option ((Nat × Int32 × Int32 × fg_H) ⊕ (Int32 × fg_H)) :=
  fg_gd (fg_rc G s0 8) <|
  fg_oc (fX8_puts s0 s1 G) fun _ G60 =>
  fg_ob (fg_gr G60 a0 [8] 24) fun r61 =>
  if i4 = 0 then (fX8_reads_120 a0 (i1 + (1 : Int32)) i2 r61 (i1 + (1 : Int32)) (2 : Int32) G60)
  else (fX8_reads_120 a0 (i1 + (1 : Int32)) i2 r61 (i1 + (1 : Int32)) (1 : Int32) G60)
noncomputable def fX8_reads_86 (a0 : Nat) (i1 : Int32) (i2 : Int32) (i4 : Int32) (G : fg_H) : Option ((Nat × Int32 × Int32 × fg_H) ⊕ (Int32 × fg_H)) :=
  if i4 = 0 then (fX8_reads_99 a0 i1 i2 i4 a0 (28 : Int32) G)
  else (fX8_reads_99 a0 i1 i2 i4 a0 (30 : Int32) G)
noncomputable def fX8_reads_152b (a0 : Nat) (i1 : Int32) (i2 : Int32) (G : fg_H) : Option ((Nat × Int32 × Int32 × fg_H) ⊕ ((Nat × Int32 × Int32 × fg_H) ⊕ (Int32 × fg_H))) :=
  if i1 ≤ 0 then (fg_rt (fX8_reads_172 a0 i1 i2 G))
  else (fg_ob (fg_gr G a0 [8] 24) fun r71 =>
  fg_ob r71 fun a72 =>
  fg_ob (fg_ai G a72 0 i1) fun x73 =>
  if x73 = (1 : Int32) then (some (.inl (a0, (i1 + (-1 : Int32)), i2, G)))
  else (fg_rt (fX8_reads_172 a0 i1 i2 G)))
noncomputable def fX8_reads_152 (a0 : Nat) (i1 : Int32) (i2 : Int32) (G : fg_H) : Option ((Nat × Int32 × Int32 × fg_H) ⊕ (Int32 × fg_H)) :=
  fg_lp (fun y : Nat × Int32 × Int32 × fg_H => fX8_reads_152b y.1 y.2.1 y.2.2.1 y.2.2.2) (a0, i1, i2, G)
noncomputable def fX8_reads_147 (a0 : Nat) (i1 : Int32) (s0 : Nat) (s1 : Int32) (G : fg_H) : Option ((Nat × Int32 × Int32 × fg_H) ⊕ (Int32 × fg_H)) :=
  fg_gd (fg_rc G s0 8) <|
  fg_oc (fX8_puts s0 s1 G) fun _ G69 =>
  fX8_reads_152 a0 i1 (0 : Int32) G69
noncomputable def fX8_reads_65 (a0 : Nat) (i1 : Int32) (i2 : Int32) (i3 : Int32) (i4 : Int32) (i5 : Int32) (G : fg_H) : Option ((Nat × Int32 × Int32 × fg_H) ⊕ (Int32 × fg_H)) :=
  if i1 = (5 : Int32) then (fg_rt (fg_gd (fg_rc G a0 8) <|
  fg_oc (fX8_fails a0 (5 : Int32) G) fun x77 G76 =>
  fg_gd (fg_b x77) (some (x77, G76))))
  else (if i4 = 0 then (if i5 = 0 then (if i3 ≤ 0 then (fg_ob (fg_gi G a0 [8] 8) fun x68 =>
  fX8_reads_147 a0 i1 a0 ((100 : Int32) + x68) G)
  else (fX8_reads_147 a0 i1 a0 i3 G))
  else (fX8_reads_86 a0 i1 i2 i4 G))
  else (fX8_reads_86 a0 i1 i2 i4 G))
noncomputable def fX8_reads_11b (a0 : Nat) (i1 : Int32) (i2 : Int32) (G : fg_H) : Option ((Nat × Int32 × Int32 × fg_H) ⊕ (Int32 × fg_H)) :=
  if i2 = 0 then (fg_gd (fg_rc G a0 8) <|
  fg_oc (fX8_isSign a0 (43 : Int32) G) fun x5 G4 =>
  if x5 = 0 then (fg_gd (fg_rc G4 a0 8) <|
  fg_oc (fX8_isSign a0 (45 : Int32) G4) fun x13 G12 =>
  if x13 = 0 then (fg_gd (fg_rc G12 a0 8) <|
  fg_oc (fX8_isSign a0 (42 : Int32) G12) fun x15 G14 =>
  if x15 = 0 then (fg_gd (fg_rc G14 a0 8) <|
  fg_oc (fX8_isSign a0 (60 : Int32) G14) fun x17 G16 =>
  if x17 = 0 then (fg_gd (fg_rc G16 a0 8) <|
  fg_oc (fX8_isSign a0 (61 : Int32) G16) fun x53 G52 =>
  if x53 = 0 then (fX8_reads_304 a0 i1 i2 G52)
  else (fX8_reads_263 a0 i1 i2 G52))
  else (fX8_reads_263 a0 i1 i2 G16))
  else (fX8_reads_206 a0 i1 G14))
  else (fX8_reads_206 a0 i1 G12))
  else (fX8_reads_206 a0 i1 G4))
  else (fg_gd (fg_rc G a0 8) <|
  fg_oc (fX8_fact a0 G) fun x55 G54 =>
  fg_gd (fg_rc G54 a0 8) <|
  fg_oc (fX8_isWord a0 (10631 : Int64) G54) fun x57 G56 =>
  fg_gd (fg_rc G56 a0 8) <|
  fg_oc (fX8_isSign a0 (40 : Int32) G56) fun x59 G58 =>
  if x55 = 0 then (if x57 = 0 then (if x59 = 0 then (fg_ob (fg_gi G58 a0 [8] 6) fun x78 =>
  if x78 = (2 : Int32) then (fX8_reads_65 a0 i1 i2 x55 x57 x59 G58)
  else (fg_rt (fg_gd (fg_rc G58 a0 8) <|
  fg_oc (fX8_fails a0 (1 : Int32) G58) fun x81 G80 =>
  fg_gd (fg_b x81) (some (x81, G80)))))
  else (fX8_reads_65 a0 i1 i2 x55 x57 x59 G58))
  else (fX8_reads_65 a0 i1 i2 x55 x57 x59 G58))
  else (fX8_reads_65 a0 i1 i2 x55 x57 x59 G58))
noncomputable def fX8_reads_11 (a0 : Nat) (i1 : Int32) (i2 : Int32) (G : fg_H) : Option (Int32 × fg_H) :=
  fg_lp (fun y : Nat × Int32 × Int32 × fg_H => fX8_reads_11b y.1 y.2.1 y.2.2.1 y.2.2.2) (a0, i1, i2, G)
noncomputable def fX8_reads (a0 : Nat) (G : fg_H) : Option (Int32 × fg_H) :=
  fg_ob (fg_gr G a0 [8] 25) fun r1 =>
  fg_ob r1 fun a2 =>
  fg_ob (fg_si G a2 2 (0 : Int32) (vp_nar .boolean (0 : Int32))) fun G3 =>
  fX8_reads_11 a0 (0 : Int32) (1 : Int32) G3
/-! FogNetsModel.readsLaw(I)Z -/
noncomputable def fX8_readsLaw_36 (a0 : Nat) (i1 : Int32) (s0 : Nat) (s1 : Int32) (G : fg_H) : Option (Int32 × fg_H) :=
  fg_gd (fg_b s1) <|
  fg_ob (fg_pv G s0 [8] 23 (.int s1)) fun G7 =>
  fg_gd (fg_rc G7 a0 8) <|
  fg_oc (fX8_nextToken a0 G7) fun _ G8 =>
  fg_ob (fg_gr G8 a0 [8] 18) fun r9 =>
  fg_ob (fg_gi G8 a0 [8] 21) fun x10 =>
  fg_ob r9 fun a11 =>
  fg_ob (fg_si G8 a11 0 ((2 : Int32) + i1) x10) fun G12 =>
  fg_gd (fg_rc G12 a0 8) <|
  fg_oc (fX8_reads a0 G12) fun x14 G13 =>
  if x14 = 0 then (some ((0 : Int32), G13))
  else (fg_ob (fg_gr G13 a0 [8] 19) fun r15 =>
  fg_ob (fg_gi G13 a0 [8] 21) fun x16 =>
  fg_ob r15 fun a17 =>
  fg_ob (fg_si G13 a17 0 ((2 : Int32) + i1) x16) fun G18 =>
  some ((1 : Int32), G18))
noncomputable def fX8_readsLaw (a0 : Nat) (i1 : Int32) (G : fg_H) : Option (Int32 × fg_H) :=
  fg_ob (fg_gr G a0 [8] 19) fun r1 =>
  fg_ob r1 fun a2 =>
  fg_ob (fg_ai G a2 0 ((2 : Int32) + i1)) fun x3 =>
  fg_ob (fg_gr G a0 [8] 18) fun r4 =>
  fg_ob r4 fun a5 =>
  fg_ob (fg_ai G a5 0 ((2 : Int32) + i1)) fun x6 =>
  if x3 ≤ x6 then (if i1 = (1 : Int32) then (fX8_readsLaw_36 a0 i1 a0 (1 : Int32) G)
  else (fX8_readsLaw_36 a0 i1 a0 (0 : Int32) G))
  else (fg_gd (fg_rc G a0 8) <|
  fg_oc (fX8_fails a0 (3 : Int32) G) fun x20 G19 =>
  fg_gd (fg_b x20) (some (x20, G19)))
/-! FogNetsModel.isKept()Z -/
noncomputable def fX8_isKept (a0 : Nat) (G : fg_H) : Option (Int32 × fg_H) :=
  fg_ob (fg_gi G a0 [8] 6) fun x1 =>
  if x1 = (1 : Int32) then (fg_ob (fg_gl G a0 [8] 7) fun y2 =>
  if (lg_cmp y2 (3369766 : Int64)) = 0 then (some ((1 : Int32), G))
  else (fg_ob (fg_gl G a0 [8] 7) fun y3 =>
  if (lg_cmp y3 (4562587 : Int64)) = 0 then (some ((1 : Int32), G))
  else (fg_ob (fg_gl G a0 [8] 7) fun y4 =>
  if (lg_cmp y4 (3074 : Int64)) = 0 then (some ((1 : Int32), G))
  else (fg_ob (fg_gl G a0 [8] 7) fun y5 =>
  if (lg_cmp y5 (11055682 : Int64)) = 0 then (some ((1 : Int32), G))
  else (fg_ob (fg_gl G a0 [8] 7) fun y6 =>
  if (lg_cmp y6 (459652 : Int64)) = 0 then (some ((1 : Int32), G))
  else (fg_ob (fg_gl G a0 [8] 7) fun y7 =>
  if (lg_cmp y7 (4786 : Int64)) = 0 then (some ((1 : Int32), G))
  else (fg_ob (fg_gl G a0 [8] 7) fun y8 =>
  if (lg_cmp y8 (8659005332 : Int64)) = 0 then (some ((1 : Int32), G))
  else (fg_ob (fg_gl G a0 [8] 7) fun y9 =>
  if (lg_cmp y9 (291420470 : Int64)) = 0 then (some ((1 : Int32), G))
  else (fg_ob (fg_gl G a0 [8] 7) fun y10 =>
  if (lg_cmp y10 (394778 : Int64)) = 0 then (some ((1 : Int32), G))
  else (fg_ob (fg_gl G a0 [8] 7) fun y11 =>
  if (lg_cmp y11 (10361 : Int64)) = 0 then (some ((1 : Int32), G))
  else (fg_ob (fg_gl G a0 [8] 7) fun y12 =>
  if (lg_cmp y12 (47 : Int64)) = 0 then (some ((1 : Int32), G))
  else (fg_ob (fg_gl G a0 [8] 7) fun y13 =>
  if (lg_cmp y13 (260045 : Int64)) = 0 then (some ((1 : Int32), G))
  else (fg_ob (fg_gl G a0 [8] 7) fun y14 =>
  if (lg_cmp y14 (8740238 : Int64)) = 0 then (some ((1 : Int32), G))
  else (fg_ob (fg_gl G a0 [8] 7) fun y15 =>
  if (lg_cmp y15 (277246561 : Int64)) = 0 then (some ((1 : Int32), G))
  else (fg_ob (fg_gl G a0 [8] 7) fun y16 =>
  if (lg_cmp y16 (1253278 : Int64)) = 0 then (some ((1 : Int32), G))
  else (fg_ob (fg_gl G a0 [8] 7) fun y17 =>
  if (lg_cmp y17 (405095 : Int64)) = 0 then (some ((1 : Int32), G))
  else (fg_ob (fg_gl G a0 [8] 7) fun y18 =>
  if (lg_cmp y18 (10419413 : Int64)) = 0 then (some ((1 : Int32), G))
  else (fg_ob (fg_gl G a0 [8] 7) fun y19 =>
  if (lg_cmp y19 (164222 : Int64)) = 0 then (some ((1 : Int32), G))
  else (fg_ob (fg_gl G a0 [8] 7) fun y20 =>
  if (lg_cmp y20 (10631 : Int64)) = 0 then (some ((1 : Int32), G))
  else (fg_ob (fg_gl G a0 [8] 7) fun y21 =>
  if (lg_cmp y21 (1111 : Int64)) = 0 then (some ((1 : Int32), G))
  else (fg_ob (fg_gl G a0 [8] 7) fun y22 =>
  if (lg_cmp y22 (423 : Int64)) = 0 then (some ((1 : Int32), G))
  else (some ((0 : Int32), G)))))))))))))))))))))))
  else (some ((1 : Int32), G))
/-! FogNetsModel.kindAt()I -/
noncomputable def fX8_kindAt (a0 : Nat) (G : fg_H) : Option (Int32 × fg_H) :=
  fg_gd (fg_rc G a0 8) <|
  fg_oc (fX8_isWord a0 (8740238 : Int64) G) fun x2 G1 =>
  if x2 = 0 then (fg_gd (fg_rc G1 a0 8) <|
  fg_oc (fX8_isWord a0 (277246561 : Int64) G1) fun x4 G3 =>
  if x4 = 0 then (fg_gd (fg_rc G3 a0 8) <|
  fg_oc (fX8_isWord a0 (1253278 : Int64) G3) fun x6 G5 =>
  if x6 = 0 then (fg_gd (fg_rc G5 a0 8) <|
  fg_oc (fX8_isWord a0 (405095 : Int64) G5) fun x8 G7 =>
  if x8 = 0 then (fg_gd (fg_rc G7 a0 8) <|
  fg_oc (fX8_isWord a0 (10419413 : Int64) G7) fun x10 G9 =>
  if x10 = 0 then (fg_gd (fg_rc G9 a0 8) <|
  fg_oc (fX8_isWord a0 (164222 : Int64) G9) fun x12 G11 =>
  if x12 = 0 then (some ((-1 : Int32), G11))
  else (some ((5 : Int32), G11)))
  else (some ((4 : Int32), G9)))
  else (some ((3 : Int32), G7)))
  else (some ((2 : Int32), G5)))
  else (some ((1 : Int32), G3)))
  else (some ((0 : Int32), G1))
/-! FogNetsModel.needsWord(J)Z -/
noncomputable def fX8_needsWord (a0 : Nat) (l1 : Int64) (G : fg_H) : Option (Int32 × fg_H) :=
  fg_gd (fg_rc G a0 8) <|
  fg_oc (fX8_isWord a0 l1 G) fun x2 G1 =>
  if x2 = 0 then (fg_gd (fg_rc G1 a0 8) <|
  fg_oc (fX8_fails a0 (1 : Int32) G1) fun x5 G4 =>
  fg_gd (fg_b x5) (some (x5, G4)))
  else (fg_gd (fg_rc G1 a0 8) <|
  fg_oc (fX8_nextToken a0 G1) fun _ G3 =>
  some ((1 : Int32), G3))
/-! FogNetsModel.villageNamed()I -/
noncomputable def fX8_villageNamed_2b (a0 : Nat) (i1 : Int32) (G : fg_H) : Option ((Nat × Int32 × fg_H) ⊕ (Int32 × fg_H)) :=
  fg_ob (fg_gr G a0 [8] 10) fun r1 =>
  fg_ob r1 fun a2 =>
  fg_ob (fg_ai G a2 0 (12 : Int32)) fun x3 =>
  if x3 ≤ i1 then (fg_rt (some ((-1 : Int32), G)))
  else (fg_ob (fg_gr G a0 [8] 13) fun r5 =>
  fg_ob r5 fun a6 =>
  fg_ob (fg_al G a6 i1) fun y7 =>
  fg_ob (fg_gl G a0 [8] 7) fun y8 =>
  if (lg_cmp y7 y8) = 0 then (fg_rt (some (i1, G)))
  else (some (.inl (a0, (i1 + (1 : Int32)), G))))
noncomputable def fX8_villageNamed_2 (a0 : Nat) (i1 : Int32) (G : fg_H) : Option (Int32 × fg_H) :=
  fg_lp (fun y : Nat × Int32 × fg_H => fX8_villageNamed_2b y.1 y.2.1 y.2.2) (a0, i1, G)
noncomputable def fX8_villageNamed (a0 : Nat) (G : fg_H) : Option (Int32 × fg_H) :=
  fX8_villageNamed_2 a0 (0 : Int32) G
/-! FogNetsModel.readsNet()Z -/
noncomputable def fX8_readsNet_185 (a0 : Nat) (i1 : Int32) (G : fg_H) : Option (Int32 × fg_H) :=
  fg_ob (fg_gr G a0 [8] 10) fun r32 =>
  fg_ob r32 fun a33 =>
  fg_ob (fg_ai G a33 0 (8 : Int32)) fun x34 =>
  fg_gd (fg_rc G a0 8) <|
  fg_oc (fX8_needsNumber a0 (0 : Int32) (x34 - (1 : Int32)) G) fun x36 G35 =>
  if x36 = 0 then (some ((0 : Int32), G35))
  else (fg_ob (fg_gr G35 a0 [8] 15) fun r37 =>
  fg_ob r37 fun a38 =>
  fg_ob (fg_ai G35 a38 0 i1) fun x39 =>
  fg_ob (fg_gi G35 a0 [8] 36) fun x40 =>
  fg_ob (fg_si G35 a38 0 i1 (x39 + ((8 : Int32) * x40))) fun G41 =>
  fg_gd (fg_rc G41 a0 8) <|
  fg_oc (fX8_needsWord a0 (260045 : Int64) G41) fun x43 G42 =>
  if x43 = 0 then (some ((0 : Int32), G42))
  else (fg_gd (fg_rc G42 a0 8) <|
  fg_oc (fX8_needsNumber a0 (0 : Int32) (10 : Int32) G42) fun x45 G44 =>
  if x45 = 0 then (some ((0 : Int32), G44))
  else (fg_ob (fg_gr G44 a0 [8] 16) fun r46 =>
  fg_ob (fg_gi G44 a0 [8] 36) fun x47 =>
  fg_ob r46 fun a48 =>
  fg_ob (fg_si G44 a48 0 i1 x47) fun G49 =>
  fg_ob (fg_gr G49 a0 [8] 17) fun r50 =>
  fg_gd (fg_rc G49 a0 8) <|
  fg_oc (fX8_kindAt a0 G49) fun x52 G51 =>
  fg_ob r50 fun a53 =>
  fg_ob (fg_si G51 a53 0 i1 x52) fun G54 =>
  fg_ob (fg_gr G54 a0 [8] 17) fun r55 =>
  fg_ob r55 fun a56 =>
  fg_ob (fg_ai G54 a56 0 i1) fun x57 =>
  if 0 ≤ x57 then (fg_gd (fg_rc G54 a0 8) <|
  fg_oc (fX8_nextToken a0 G54) fun _ G58 =>
  fg_ob (fg_gr G58 a0 [8] 10) fun r59 =>
  fg_ob r59 fun a60 =>
  fg_ob (fg_ai G58 a60 0 (13 : Int32)) fun x61 =>
  fg_ob (fg_si G58 a60 0 (13 : Int32) (x61 + (1 : Int32))) fun G62 =>
  fg_gd (fg_rc G62 a0 8) <|
  fg_oc (fX8_ends a0 G62) fun x64 G63 =>
  fg_gd (fg_b x64) (some (x64, G63)))
  else (fg_gd (fg_rc G54 a0 8) <|
  fg_oc (fX8_fails a0 (1 : Int32) G54) fun x66 G65 =>
  fg_gd (fg_b x66) (some (x66, G65))))))
noncomputable def fX8_readsNet_145b (a0 : Nat) (i1 : Int32) (i2 : Int32) (G : fg_H) : Option ((Nat × Int32 × Int32 × fg_H) ⊕ (Int32 × fg_H)) :=
  if i1 ≤ i2 then (fg_rt (fX8_readsNet_185 a0 i1 G))
  else (fg_ob (fg_gr G a0 [8] 15) fun r74 =>
  fg_ob r74 fun a75 =>
  fg_ob (fg_ai G a75 0 i2) fun x76 =>
  fg_ob (fg_gi G a0 [8] 8) fun x77 =>
  fg_ob (fg_gr G a0 [8] 15) fun r78 =>
  fg_ob r78 fun a79 =>
  fg_ob (fg_ai G a79 0 i1) fun x80 =>
  if x76 = (((8 : Int32) * x77) + x80) then (fg_rt (fg_gd (fg_rc G a0 8) <|
  fg_oc (fX8_fails a0 (3 : Int32) G) fun x83 G82 =>
  fg_gd (fg_b x83) (some (x83, G82))))
  else (some (.inl (a0, i1, (i2 + (1 : Int32)), G))))
noncomputable def fX8_readsNet_145 (a0 : Nat) (i1 : Int32) (i2 : Int32) (G : fg_H) : Option (Int32 × fg_H) :=
  fg_lp (fun y : Nat × Int32 × Int32 × fg_H => fX8_readsNet_145b y.1 y.2.1 y.2.2.1 y.2.2.2) (a0, i1, i2, G)
noncomputable def fX8_readsNet (a0 : Nat) (G : fg_H) : Option (Int32 × fg_H) :=
  fg_ob (fg_gr G a0 [8] 10) fun r1 =>
  fg_ob r1 fun a2 =>
  fg_ob (fg_ai G a2 0 (13 : Int32)) fun x3 =>
  fg_ob (some ((13 : Int32) + x3)) fun v4 =>
  fg_ob (fg_gr G a0 [8] 10) fun r5 =>
  fg_ob r5 fun a6 =>
  fg_ob (fg_ai G a6 0 (13 : Int32)) fun x7 =>
  if x7 = (12 : Int32) then (fg_gd (fg_rc G a0 8) <|
  fg_oc (fX8_fails a0 (5 : Int32) G) fun x89 G88 =>
  fg_gd (fg_b x89) (some (x89, G88)))
  else (fg_gd (fg_rc G a0 8) <|
  fg_oc (fX8_nextToken a0 G) fun _ G8 =>
  fg_gd (fg_rc G8 a0 8) <|
  fg_oc (fX8_isKept a0 G8) fun x10 G9 =>
  if x10 = 0 then (fg_ob (fg_gr G9 a0 [8] 14) fun r11 =>
  fg_gd (fg_rc G9 a0 8) <|
  fg_oc (fX8_villageNamed a0 G9) fun x13 G12 =>
  fg_ob r11 fun a14 =>
  fg_ob (fg_si G12 a14 0 v4 x13) fun G15 =>
  fg_ob (fg_gr G15 a0 [8] 14) fun r16 =>
  fg_ob r16 fun a17 =>
  fg_ob (fg_ai G15 a17 0 v4) fun x18 =>
  if 0 ≤ x18 then (fg_gd (fg_rc G15 a0 8) <|
  fg_oc (fX8_nextToken a0 G15) fun _ G19 =>
  fg_gd (fg_rc G19 a0 8) <|
  fg_oc (fX8_needsWord a0 (47 : Int64) G19) fun x21 G20 =>
  if x21 = 0 then (some ((0 : Int32), G20))
  else (fg_ob (fg_gr G20 a0 [8] 10) fun r22 =>
  fg_ob r22 fun a23 =>
  fg_ob (fg_ai G20 a23 0 (7 : Int32)) fun x24 =>
  fg_gd (fg_rc G20 a0 8) <|
  fg_oc (fX8_needsNumber a0 (0 : Int32) (x24 - (1 : Int32)) G20) fun x26 G25 =>
  if x26 = 0 then (some ((0 : Int32), G25))
  else (fg_ob (fg_gr G25 a0 [8] 15) fun r27 =>
  fg_ob (fg_gi G25 a0 [8] 36) fun x28 =>
  fg_ob r27 fun a29 =>
  fg_ob (fg_si G25 a29 0 v4 x28) fun G30 =>
  fg_ob (fg_gi G30 a0 [8] 6) fun x31 =>
  if x31 = (2 : Int32) then (fg_ob (fg_gi G30 a0 [8] 8) fun x67 =>
  fg_ob (fg_gr G30 a0 [8] 10) fun r68 =>
  fg_ob r68 fun a69 =>
  fg_ob (fg_ai G30 a69 0 (8 : Int32)) fun x70 =>
  fg_oc (fX8_within x67 (0 : Int32) (x70 - (1 : Int32)) G30) fun x72 G71 =>
  if x72 = 0 then (fX8_readsNet_185 a0 v4 G71)
  else (fX8_readsNet_145 a0 v4 (13 : Int32) G71))
  else (fX8_readsNet_185 a0 v4 G30))))
  else (fg_gd (fg_rc G15 a0 8) <|
  fg_oc (fX8_fails a0 (2 : Int32) G15) fun x85 G84 =>
  fg_gd (fg_b x85) (some (x85, G84))))
  else (fg_gd (fg_rc G9 a0 8) <|
  fg_oc (fX8_fails a0 (1 : Int32) G9) fun x87 G86 =>
  fg_gd (fg_b x87) (some (x87, G86))))
/-! FogNetsModel.readsOne(III)Z -/
noncomputable def fX8_readsOne (a0 : Nat) (i1 : Int32) (i2 : Int32) (i3 : Int32) (G : fg_H) : Option (Int32 × fg_H) :=
  fg_gd (fg_rc G a0 8) <|
  fg_oc (fX8_isTwice a0 i1 G) fun x2 G1 =>
  if x2 = 0 then (fg_gd (fg_rc G1 a0 8) <|
  fg_oc (fX8_nextToken a0 G1) fun _ G3 =>
  fg_gd (fg_rc G3 a0 8) <|
  fg_oc (fX8_needsNumber a0 i2 i3 G3) fun x5 G4 =>
  if x5 = 0 then (some ((0 : Int32), G4))
  else (fg_ob (fg_gr G4 a0 [8] 10) fun r6 =>
  fg_ob (fg_gi G4 a0 [8] 36) fun x7 =>
  fg_ob r6 fun a8 =>
  fg_ob (fg_si G4 a8 0 ((7 : Int32) + i1) x7) fun G9 =>
  fg_gd (fg_rc G9 a0 8) <|
  fg_oc (fX8_ends a0 G9) fun x11 G10 =>
  fg_gd (fg_b x11) (some (x11, G10))))
  else (fg_gd (fg_rc G1 a0 8) <|
  fg_oc (fX8_fails a0 (3 : Int32) G1) fun x13 G12 =>
  fg_gd (fg_b x13) (some (x13, G12)))
/-! FogNetsModel.readsVillage()Z -/
noncomputable def fX8_readsVillage (a0 : Nat) (G : fg_H) : Option (Int32 × fg_H) :=
  fg_ob (fg_gr G a0 [8] 10) fun r1 =>
  fg_ob r1 fun a2 =>
  fg_ob (fg_ai G a2 0 (12 : Int32)) fun x3 =>
  if x3 = (6 : Int32) then (fg_gd (fg_rc G a0 8) <|
  fg_oc (fX8_fails a0 (5 : Int32) G) fun x41 G40 =>
  fg_gd (fg_b x41) (some (x41, G40)))
  else (fg_gd (fg_rc G a0 8) <|
  fg_oc (fX8_nextToken a0 G) fun _ G4 =>
  fg_gd (fg_rc G4 a0 8) <|
  fg_oc (fX8_isKept a0 G4) fun x6 G5 =>
  if x6 = 0 then (fg_gd (fg_rc G5 a0 8) <|
  fg_oc (fX8_villageNamed a0 G5) fun x8 G7 =>
  if x8 < 0 then (fg_ob (fg_gr G7 a0 [8] 13) fun r9 =>
  fg_ob (fg_gl G7 a0 [8] 7) fun y10 =>
  fg_ob r9 fun a11 =>
  fg_ob (fg_sl G7 a11 x3 y10) fun G12 =>
  fg_gd (fg_rc G12 a0 8) <|
  fg_oc (fX8_nextToken a0 G12) fun _ G13 =>
  fg_gd (fg_rc G13 a0 8) <|
  fg_oc (fX8_needsWord a0 (291420470 : Int64) G13) fun x15 G14 =>
  if x15 = 0 then (some ((0 : Int32), G14))
  else (fg_gd (fg_rc G14 a0 8) <|
  fg_oc (fX8_needsNumber a0 (0 : Int32) (999 : Int32) G14) fun x17 G16 =>
  if x17 = 0 then (some ((0 : Int32), G16))
  else (fg_ob (fg_gr G16 a0 [8] 11) fun r18 =>
  fg_ob (fg_gi G16 a0 [8] 36) fun x19 =>
  fg_ob r18 fun a20 =>
  fg_ob (fg_si G16 a20 0 ((6 : Int32) + x3) x19) fun G21 =>
  fg_gd (fg_rc G21 a0 8) <|
  fg_oc (fX8_needsWord a0 (394778 : Int64) G21) fun x23 G22 =>
  if x23 = 0 then (some ((0 : Int32), G22))
  else (fg_gd (fg_rc G22 a0 8) <|
  fg_oc (fX8_needsNumber a0 (0 : Int32) (9999 : Int32) G22) fun x25 G24 =>
  if x25 = 0 then (some ((0 : Int32), G24))
  else (fg_ob (fg_gr G24 a0 [8] 12) fun r26 =>
  fg_ob (fg_gi G24 a0 [8] 36) fun x27 =>
  fg_ob r26 fun a28 =>
  fg_ob (fg_si G24 a28 0 ((6 : Int32) + x3) x27) fun G29 =>
  fg_ob (fg_gr G29 a0 [8] 10) fun r30 =>
  fg_ob r30 fun a31 =>
  fg_ob (fg_ai G29 a31 0 (12 : Int32)) fun x32 =>
  fg_ob (fg_si G29 a31 0 (12 : Int32) (x32 + (1 : Int32))) fun G33 =>
  fg_gd (fg_rc G33 a0 8) <|
  fg_oc (fX8_ends a0 G33) fun x35 G34 =>
  fg_gd (fg_b x35) (some (x35, G34)))))))
  else (fg_gd (fg_rc G7 a0 8) <|
  fg_oc (fX8_fails a0 (3 : Int32) G7) fun x37 G36 =>
  fg_gd (fg_b x37) (some (x37, G36))))
  else (fg_gd (fg_rc G5 a0 8) <|
  fg_oc (fX8_fails a0 (1 : Int32) G5) fun x39 G38 =>
  fg_gd (fg_b x39) (some (x39, G38))))
/-! FogNetsModel.readsAll()Z -/
noncomputable def fX8_readsAll_201 (a0 : Nat) (s0 : Int32) (G : fg_H) : Option ((Nat × fg_H) ⊕ (Int32 × fg_H)) :=
  if s0 = 0 then (fg_rt (some ((0 : Int32), G)))
  else (some (.inl (a0, G)))
noncomputable def fX8_readsAll_39b (a0 : Nat) (G : fg_H) : Option ((Nat × fg_H) ⊕ (Int32 × fg_H)) :=
  fg_ob (fg_gi G a0 [8] 6) fun x9 =>
  if x9 = 0 then (fg_rt (some ((1 : Int32), G)))
  else (fg_gd (fg_rc G a0 8) <|
  fg_oc (fX8_isWord a0 (3369766 : Int64) G) fun x12 G11 =>
  if x12 = 0 then (fg_gd (fg_rc G11 a0 8) <|
  fg_oc (fX8_isWord a0 (4562587 : Int64) G11) fun x14 G13 =>
  if x14 = 0 then (fg_gd (fg_rc G13 a0 8) <|
  fg_oc (fX8_isWord a0 (3074 : Int64) G13) fun x16 G15 =>
  if x16 = 0 then (fg_gd (fg_rc G15 a0 8) <|
  fg_oc (fX8_isWord a0 (11055682 : Int64) G15) fun x18 G17 =>
  if x18 = 0 then (fg_gd (fg_rc G17 a0 8) <|
  fg_oc (fX8_isWord a0 (459652 : Int64) G17) fun x20 G19 =>
  if x20 = 0 then (fg_gd (fg_rc G19 a0 8) <|
  fg_oc (fX8_isWord a0 (4786 : Int64) G19) fun x22 G21 =>
  if x22 = 0 then (fg_gd (fg_rc G21 a0 8) <|
  fg_oc (fX8_isWord a0 (8659005332 : Int64) G21) fun x24 G23 =>
  if x24 = 0 then (fg_gd (fg_rc G23 a0 8) <|
  fg_oc (fX8_isWord a0 (10361 : Int64) G23) fun x26 G25 =>
  if x26 = 0 then (fg_gd (fg_rc G25 a0 8) <|
  fg_oc (fX8_fails a0 (1 : Int32) G25) fun x28 G27 =>
  fX8_readsAll_201 a0 x28 G27)
  else (fg_gd (fg_rc G25 a0 8) <|
  fg_oc (fX8_readsNet a0 G25) fun x31 G30 =>
  fX8_readsAll_201 a0 x31 G30))
  else (fg_gd (fg_rc G23 a0 8) <|
  fg_oc (fX8_readsVillage a0 G23) fun x33 G32 =>
  fX8_readsAll_201 a0 x33 G32))
  else (fg_gd (fg_rc G21 a0 8) <|
  fg_oc (fX8_readsLaw a0 (1 : Int32) G21) fun x35 G34 =>
  fX8_readsAll_201 a0 x35 G34))
  else (fg_gd (fg_rc G19 a0 8) <|
  fg_oc (fX8_readsLaw a0 (0 : Int32) G19) fun x37 G36 =>
  fX8_readsAll_201 a0 x37 G36))
  else (fg_gd (fg_rc G17 a0 8) <|
  fg_oc (fX8_readsOne a0 (4 : Int32) (0 : Int32) (10 : Int32) G17) fun x39 G38 =>
  fX8_readsAll_201 a0 x39 G38))
  else (fg_gd (fg_rc G15 a0 8) <|
  fg_oc (fX8_readsOne a0 (3 : Int32) (0 : Int32) (99 : Int32) G15) fun x41 G40 =>
  fX8_readsAll_201 a0 x41 G40))
  else (fg_gd (fg_rc G13 a0 8) <|
  fg_oc (fX8_readsOne a0 (2 : Int32) (1 : Int32) (12 : Int32) G13) fun x43 G42 =>
  fX8_readsAll_201 a0 x43 G42))
  else (fg_gd (fg_rc G11 a0 8) <|
  fg_oc (fX8_readsField a0 G11) fun x45 G44 =>
  fX8_readsAll_201 a0 x45 G44))
noncomputable def fX8_readsAll_39 (a0 : Nat) (G : fg_H) : Option (Int32 × fg_H) :=
  fg_lp (fun y : Nat × fg_H => fX8_readsAll_39b y.1 y.2) (a0, G)
noncomputable def fX8_readsAll (a0 : Nat) (G : fg_H) : Option (Int32 × fg_H) :=
  fg_gd (fg_rc G a0 8) <|
  fg_oc (fX8_plain a0 (1 : Int32) G) fun _ G1 =>
  fg_ob (fg_pv G1 a0 [8] 22 (.int (0 : Int32))) fun G2 =>
  fg_ob (fg_pv G2 a0 [8] 21 (.int (1000 : Int32))) fun G3 =>
  fg_ob (fg_gi G3 a0 [8] 1) fun x4 =>
  fg_ob (fg_pv G3 a0 [8] 3 (.int x4)) fun G5 =>
  fg_ob (fg_pv G5 a0 [8] 1 (.int (0 : Int32))) fun G6 =>
  fg_ob (fg_pv G6 a0 [8] 4 (.int (0 : Int32))) fun G7 =>
  fg_gd (fg_rc G7 a0 8) <|
  fg_oc (fX8_nextToken a0 G7) fun _ G8 =>
  fX8_readsAll_39 a0 G8
/-! FogNetsModel.ridge()I -/
noncomputable def fX8_ridge_76b (a0 : Nat) (i1 : Int32) (G : fg_H) : Option ((Nat × Int32 × fg_H) ⊕ (Int32 × fg_H)) :=
  fg_ob (fg_gr G a0 [8] 10) fun r10 =>
  fg_ob r10 fun a11 =>
  fg_ob (fg_ai G a11 0 (6 : Int32)) fun x12 =>
  if x12 ≤ i1 then (fg_rt (some ((0 : Int32), G)))
  else (fg_ob (fg_gr G a0 [8] 37) fun r14 =>
  fg_ob (fg_gr G a0 [8] 15) fun r15 =>
  fg_ob r15 fun a16 =>
  fg_ob (fg_ai G a16 0 i1) fun x17 =>
  fg_ob r14 fun a18 =>
  fg_ob (fg_si G a18 0 ((12 : Int32) + i1) x17) fun G19 =>
  some (.inl (a0, (i1 + (1 : Int32)), G19)))
noncomputable def fX8_ridge_76 (a0 : Nat) (i1 : Int32) (G : fg_H) : Option (Int32 × fg_H) :=
  fg_lp (fun y : Nat × Int32 × fg_H => fX8_ridge_76b y.1 y.2.1 y.2.2) (a0, i1, G)
noncomputable def fX8_ridge_46b (a0 : Nat) (i1 : Int32) (G : fg_H) : Option ((Nat × Int32 × fg_H) ⊕ (Int32 × fg_H)) :=
  fg_ob (fg_gr G a0 [8] 10) fun r6 =>
  fg_ob r6 fun a7 =>
  fg_ob (fg_ai G a7 0 (5 : Int32)) fun x8 =>
  if x8 ≤ i1 then (fg_rt (fX8_ridge_76 a0 (0 : Int32) G))
  else (fg_ob (fg_gr G a0 [8] 37) fun r20 =>
  fg_ob (fg_gr G a0 [8] 12) fun r21 =>
  fg_ob r21 fun a22 =>
  fg_ob (fg_ai G a22 0 i1) fun x23 =>
  fg_ob r20 fun a24 =>
  fg_ob (fg_si G a24 0 i1 x23) fun G25 =>
  some (.inl (a0, (i1 + (1 : Int32)), G25)))
noncomputable def fX8_ridge_46 (a0 : Nat) (i1 : Int32) (G : fg_H) : Option (Int32 × fg_H) :=
  fg_lp (fun y : Nat × Int32 × fg_H => fX8_ridge_46b y.1 y.2.1 y.2.2) (a0, i1, G)
noncomputable def fX8_ridge_25b (a0 : Nat) (i1 : Int32) (G : fg_H) : Option ((Nat × Int32 × fg_H) ⊕ (Int32 × fg_H)) :=
  if (80 : Int32) ≤ i1 then (fg_rt (fX8_ridge_46 a0 (0 : Int32) G))
  else (fg_ob (fg_gr G a0 [8] 37) fun r26 =>
  fg_ob r26 fun a27 =>
  fg_ob (fg_si G a27 0 i1 (0 : Int32)) fun G28 =>
  some (.inl (a0, (i1 + (1 : Int32)), G28)))
noncomputable def fX8_ridge_25 (a0 : Nat) (i1 : Int32) (G : fg_H) : Option (Int32 × fg_H) :=
  fg_lp (fun y : Nat × Int32 × fg_H => fX8_ridge_25b y.1 y.2.1 y.2.2) (a0, i1, G)
noncomputable def fX8_ridge (a0 : Nat) (G : fg_H) : Option (Int32 × fg_H) :=
  fg_ob (fg_pv G a0 [8] 0 (.int (0 : Int32))) fun G1 =>
  fg_gd (fg_rc G1 a0 8) <|
  fg_oc (fX8_readsAll a0 G1) fun x3 G2 =>
  if x3 = 0 then (fg_ob (fg_gi G2 a0 [8] 9) fun x29 =>
  some (x29, G2))
  else (fg_gd (fg_rc G2 a0 8) <|
  fg_oc (fX8_lays a0 (1 : Int32) (0 : Int32) G2) fun _ G4 =>
  fX8_ridge_25 a0 (0 : Int32) G4)
/-! FogNetsModel.isNet(I)Z -/
noncomputable def fX8_isNet (a0 : Nat) (i1 : Int32) (G : fg_H) : Option (Int32 × fg_H) :=
  if i1 < 0 then (some ((0 : Int32), G))
  else (fg_ob (fg_gr G a0 [8] 10) fun r1 =>
  fg_ob r1 fun a2 =>
  fg_ob (fg_ai G a2 0 (6 : Int32)) fun x3 =>
  if x3 ≤ i1 then (some ((0 : Int32), G))
  else (some ((1 : Int32), G)))
/-! FogNetsModel.net(II)I -/
noncomputable def fX8_net (a0 : Nat) (i1 : Int32) (i2 : Int32) (G : fg_H) : Option (Int32 × fg_H) :=
  fg_ob (fg_pv G a0 [8] 0 (.int (0 : Int32))) fun G1 =>
  fg_gd (fg_rc G1 a0 8) <|
  fg_oc (fX8_isNet a0 i1 G1) fun x3 G2 =>
  if x3 = 0 then (some ((-1 : Int32), G2))
  else (fg_oc (fX8_within i2 (0 : Int32) (5 : Int32) G2) fun x5 G4 =>
  if x5 = 0 then (some ((-1 : Int32), G4))
  else (if (3 : Int32) ≤ i2 then (if i2 = (3 : Int32) then (fg_ob (fg_gr G4 a0 [8] 17) fun r12 =>
  fg_ob r12 fun a13 =>
  fg_ob (fg_ai G4 a13 0 i1) fun x14 =>
  some (x14, G4))
  else (if i2 = (4 : Int32) then (fg_ob (fg_gr G4 a0 [8] 37) fun r9 =>
  fg_ob r9 fun a10 =>
  fg_ob (fg_ai G4 a10 0 ((25 : Int32) + i1)) fun x11 =>
  some (x11, G4))
  else (fg_ob (fg_gr G4 a0 [8] 37) fun r6 =>
  fg_ob r6 fun a7 =>
  fg_ob (fg_ai G4 a7 0 ((38 : Int32) + i1)) fun x8 =>
  some (x8, G4))))
  else (if i2 = 0 then (fg_ob (fg_gr G4 a0 [8] 14) fun r21 =>
  fg_ob r21 fun a22 =>
  fg_ob (fg_ai G4 a22 0 i1) fun x23 =>
  some (x23, G4))
  else (if i2 = (1 : Int32) then (fg_ob (fg_gr G4 a0 [8] 37) fun r18 =>
  fg_ob r18 fun a19 =>
  fg_ob (fg_ai G4 a19 0 ((12 : Int32) + i1)) fun x20 =>
  some (x20, G4))
  else (fg_ob (fg_gr G4 a0 [8] 16) fun r15 =>
  fg_ob r15 fun a16 =>
  fg_ob (fg_ai G4 a16 0 i1) fun x17 =>
  some (x17, G4))))))
/-! FogNetsModel.isVillage(I)Z -/
noncomputable def fX8_isVillage (a0 : Nat) (i1 : Int32) (G : fg_H) : Option (Int32 × fg_H) :=
  if i1 < 0 then (some ((0 : Int32), G))
  else (fg_ob (fg_gr G a0 [8] 10) fun r1 =>
  fg_ob r1 fun a2 =>
  fg_ob (fg_ai G a2 0 (5 : Int32)) fun x3 =>
  if x3 ≤ i1 then (some ((0 : Int32), G))
  else (some ((1 : Int32), G)))
/-! FogNetsModel.netsOf(I)I -/
noncomputable def fX8_netsOf_4b (a0 : Nat) (i1 : Int32) (i2 : Int32) (i3 : Int32) (G : fg_H) : Option ((Nat × Int32 × Int32 × Int32 × fg_H) ⊕ (Int32 × fg_H)) :=
  fg_ob (fg_gr G a0 [8] 10) fun r1 =>
  fg_ob r1 fun a2 =>
  fg_ob (fg_ai G a2 0 (6 : Int32)) fun x3 =>
  if x3 ≤ i3 then (fg_rt (some (i2, G)))
  else (fg_ob (fg_gr G a0 [8] 14) fun r5 =>
  fg_ob r5 fun a6 =>
  fg_ob (fg_ai G a6 0 i3) fun x7 =>
  if x7 = i1 then (fg_ob (some (i2 ||| ((1 : Int32) <<< (i3 &&& 31)))) fun v9 =>
  some (.inl (a0, i1, v9, (i3 + (1 : Int32)), G)))
  else (fg_ob (some (i2 ||| (0 : Int32))) fun v8 =>
  some (.inl (a0, i1, v8, (i3 + (1 : Int32)), G))))
noncomputable def fX8_netsOf_4 (a0 : Nat) (i1 : Int32) (i2 : Int32) (i3 : Int32) (G : fg_H) : Option (Int32 × fg_H) :=
  fg_lp (fun y : Nat × Int32 × Int32 × Int32 × fg_H => fX8_netsOf_4b y.1 y.2.1 y.2.2.1 y.2.2.2.1 y.2.2.2.2) (a0, i1, i2, i3, G)
noncomputable def fX8_netsOf (a0 : Nat) (i1 : Int32) (G : fg_H) : Option (Int32 × fg_H) :=
  fX8_netsOf_4 a0 i1 (0 : Int32) (0 : Int32) G
/-! FogNetsModel.village(II)I -/
noncomputable def fX8_village (a0 : Nat) (i1 : Int32) (i2 : Int32) (G : fg_H) : Option (Int32 × fg_H) :=
  fg_ob (fg_pv G a0 [8] 0 (.int (0 : Int32))) fun G1 =>
  fg_gd (fg_rc G1 a0 8) <|
  fg_oc (fX8_isVillage a0 i1 G1) fun x3 G2 =>
  if x3 = 0 then (some ((-1 : Int32), G2))
  else (fg_oc (fX8_within i2 (0 : Int32) (3 : Int32) G2) fun x5 G4 =>
  if x5 = 0 then (some ((-1 : Int32), G4))
  else (if i2 = 0 then (fg_ob (fg_gr G4 a0 [8] 11) fun r14 =>
  fg_ob r14 fun a15 =>
  fg_ob (fg_ai G4 a15 0 i1) fun x16 =>
  some (x16, G4))
  else (if i2 = (1 : Int32) then (fg_ob (fg_gr G4 a0 [8] 37) fun r11 =>
  fg_ob r11 fun a12 =>
  fg_ob (fg_ai G4 a12 0 i1) fun x13 =>
  some (x13, G4))
  else (if i2 = (2 : Int32) then (fg_ob (fg_gr G4 a0 [8] 37) fun r8 =>
  fg_ob r8 fun a9 =>
  fg_ob (fg_ai G4 a9 0 ((6 : Int32) + i1)) fun x10 =>
  some (x10, G4))
  else (fg_gd (fg_rc G4 a0 8) <|
  fg_oc (fX8_netsOf a0 i1 G4) fun x7 G6 =>
  some (x7, G6))))))
/-! FogNetsModel.isHour(I)Z -/
noncomputable def fX8_isHour (a0 : Nat) (i1 : Int32) (G : fg_H) : Option (Int32 × fg_H) :=
  if i1 < 0 then (some ((0 : Int32), G))
  else (fg_ob (fg_gr G a0 [8] 10) fun r1 =>
  fg_ob r1 fun a2 =>
  fg_ob (fg_ai G a2 0 (2 : Int32)) fun x3 =>
  if x3 ≤ i1 then (some ((0 : Int32), G))
  else (some ((1 : Int32), G)))
/-! FogNetsModel.opens(I)V -/
noncomputable def fX8_opens (a0 : Nat) (i1 : Int32) (G : fg_H) : Option (Unit × fg_H) :=
  fg_ob (fg_gr G a0 [8] 27) fun r1 =>
  fg_ob r1 fun a2 =>
  fg_ob (fg_si G a2 0 i1 (0 : Int32)) fun G3 =>
  fg_ob (fg_gr G3 a0 [8] 29) fun r4 =>
  fg_ob r4 fun a5 =>
  fg_ob (fg_si G3 a5 0 i1 (0 : Int32)) fun G6 =>
  fg_ob (fg_gr G6 a0 [8] 30) fun r7 =>
  fg_ob r7 fun a8 =>
  fg_ob (fg_si G6 a8 0 i1 (0 : Int32)) fun G9 =>
  fg_ob (fg_gr G9 a0 [8] 31) fun r10 =>
  fg_ob r10 fun a11 =>
  fg_ob (fg_si G9 a11 0 i1 (20 : Int32)) fun G12 =>
  fg_ob (fg_gr G12 a0 [8] 33) fun r13 =>
  fg_ob r13 fun a14 =>
  fg_ob (fg_si G12 a14 0 i1 (0 : Int32)) fun G15 =>
  some ((), G15)
/-! FogNetsModel.sums(I)V -/
noncomputable def fX8_sums_45 (a0 : Nat) (i1 : Int32) (s0 : Option Nat) (s1 : Int32) (s2 : Int32) (G : fg_H) : Option (Unit × fg_H) :=
  fg_ob s0 fun a11 =>
  fg_ob (fg_si G a11 0 s1 s2) fun G12 =>
  fg_ob (fg_gr G12 a0 [8] 33) fun r13 =>
  fg_ob r13 fun a14 =>
  fg_ob (fg_si G12 a14 0 i1 (0 : Int32)) fun G15 =>
  some ((), G15)
noncomputable def fX8_sums (a0 : Nat) (i1 : Int32) (G : fg_H) : Option (Unit × fg_H) :=
  fg_ob (fg_gr G a0 [8] 30) fun r1 =>
  fg_ob (fg_gr G a0 [8] 31) fun r2 =>
  fg_ob r2 fun a3 =>
  fg_ob (fg_ai G a3 0 i1) fun x4 =>
  if x4 = (21 : Int32) then (fg_ob (fg_gr G a0 [8] 30) fun r16 =>
  fg_ob r16 fun a17 =>
  fg_ob (fg_ai G a17 0 i1) fun x18 =>
  fg_ob (fg_gr G a0 [8] 32) fun r19 =>
  fg_ob r19 fun a20 =>
  fg_ob (fg_ai G a20 0 i1) fun x21 =>
  fX8_sums_45 a0 i1 r1 i1 (x18 - x21) G)
  else (fg_ob (fg_gr G a0 [8] 30) fun r5 =>
  fg_ob r5 fun a6 =>
  fg_ob (fg_ai G a6 0 i1) fun x7 =>
  fg_ob (fg_gr G a0 [8] 32) fun r8 =>
  fg_ob r8 fun a9 =>
  fg_ob (fg_ai G a9 0 i1) fun x10 =>
  fX8_sums_45 a0 i1 r1 i1 (x7 + x10) G)
/-! FogNetsModel.tests(I)V -/
noncomputable def fX8_tests_136 (a0 : Nat) (i1 : Int32) (i2 : Int32) (G : fg_H) : Option (Unit × fg_H) :=
  fg_ob (fg_gr G a0 [8] 26) fun r17 =>
  fg_ob r17 fun a18 =>
  fg_ob (fg_si G a18 0 i1 i2) fun G19 =>
  fg_ob (fg_gr G19 a0 [8] 29) fun r20 =>
  fg_ob r20 fun a21 =>
  fg_ob (fg_si G19 a21 0 i1 (0 : Int32)) fun G22 =>
  fg_ob (fg_gr G22 a0 [8] 30) fun r23 =>
  fg_ob r23 fun a24 =>
  fg_ob (fg_si G22 a24 0 i1 (0 : Int32)) fun G25 =>
  fg_ob (fg_gr G25 a0 [8] 31) fun r26 =>
  fg_ob r26 fun a27 =>
  fg_ob (fg_si G25 a27 0 i1 (20 : Int32)) fun G28 =>
  some ((), G28)
noncomputable def fX8_tests_135 (a0 : Nat) (i1 : Int32) (s0 : Int32) (G : fg_H) : Option (Unit × fg_H) :=
  fX8_tests_136 a0 i1 s0 G
noncomputable def fX8_tests_130 (a0 : Nat) (i1 : Int32) (G : fg_H) : Option (Unit × fg_H) :=
  fX8_tests_135 a0 i1 (1 : Int32) G
noncomputable def fX8_tests_106 (a0 : Nat) (i1 : Int32) (i2 : Int32) (G : fg_H) : Option (Unit × fg_H) :=
  fg_ob (fg_gr G a0 [8] 27) fun r14 =>
  fg_ob r14 fun a15 =>
  fg_ob (fg_ai G a15 0 i1) fun x16 =>
  if x16 = (27 : Int32) then (fg_ob (fg_gr G a0 [8] 26) fun r29 =>
  fg_ob r29 fun a30 =>
  fg_ob (fg_ai G a30 0 i1) fun x31 =>
  if x31 = 0 then (if i2 = 0 then (fX8_tests_135 a0 i1 (0 : Int32) G)
  else (fX8_tests_130 a0 i1 G))
  else (fX8_tests_130 a0 i1 G))
  else (fX8_tests_136 a0 i1 i2 G)
noncomputable def fX8_tests_105 (a0 : Nat) (i1 : Int32) (s0 : Int32) (G : fg_H) : Option (Unit × fg_H) :=
  fX8_tests_106 a0 i1 s0 G
noncomputable def fX8_tests_104 (a0 : Nat) (i1 : Int32) (G : fg_H) : Option (Unit × fg_H) :=
  fX8_tests_105 a0 i1 (0 : Int32) G
noncomputable def fX8_tests_76 (a0 : Nat) (i1 : Int32) (i2 : Int32) (G : fg_H) : Option (Unit × fg_H) :=
  fg_ob (fg_gr G a0 [8] 27) fun r11 =>
  fg_ob r11 fun a12 =>
  fg_ob (fg_ai G a12 0 i1) fun x13 =>
  if x13 = (26 : Int32) then (fg_ob (fg_gr G a0 [8] 26) fun r32 =>
  fg_ob r32 fun a33 =>
  fg_ob (fg_ai G a33 0 i1) fun x34 =>
  if x34 = 0 then (fX8_tests_104 a0 i1 G)
  else (if i2 = 0 then (fX8_tests_104 a0 i1 G)
  else (fX8_tests_105 a0 i1 (1 : Int32) G)))
  else (fX8_tests_106 a0 i1 i2 G)
noncomputable def fX8_tests_75 (a0 : Nat) (i1 : Int32) (s0 : Int32) (G : fg_H) : Option (Unit × fg_H) :=
  fX8_tests_76 a0 i1 s0 G
noncomputable def fX8_tests_44 (a0 : Nat) (i1 : Int32) (i2 : Int32) (G : fg_H) : Option (Unit × fg_H) :=
  fg_ob (fg_gr G a0 [8] 29) fun r8 =>
  fg_ob r8 fun a9 =>
  fg_ob (fg_ai G a9 0 i1) fun x10 =>
  if x10 = (25 : Int32) then (fg_ob (fg_gr G a0 [8] 28) fun r35 =>
  fg_ob r35 fun a36 =>
  fg_ob (fg_ai G a36 0 i1) fun x37 =>
  fg_ob (fg_gr G a0 [8] 30) fun r38 =>
  fg_ob r38 fun a39 =>
  fg_ob (fg_ai G a39 0 i1) fun x40 =>
  if x37 = x40 then (fX8_tests_75 a0 i1 (1 : Int32) G)
  else (fX8_tests_75 a0 i1 (0 : Int32) G))
  else (fX8_tests_76 a0 i1 i2 G)
noncomputable def fX8_tests_43 (a0 : Nat) (i1 : Int32) (s0 : Int32) (G : fg_H) : Option (Unit × fg_H) :=
  fX8_tests_44 a0 i1 s0 G
noncomputable def fX8_tests (a0 : Nat) (i1 : Int32) (G : fg_H) : Option (Unit × fg_H) :=
  fg_gd (fg_rc G a0 8) <|
  fg_oc (fX8_sums a0 i1 G) fun _ G1 =>
  fg_ob (fg_gr G1 a0 [8] 30) fun r2 =>
  fg_ob r2 fun a3 =>
  fg_ob (fg_ai G1 a3 0 i1) fun x4 =>
  fg_ob (fg_gr G1 a0 [8] 29) fun r5 =>
  fg_ob r5 fun a6 =>
  fg_ob (fg_ai G1 a6 0 i1) fun x7 =>
  if x7 = (24 : Int32) then (fg_ob (fg_gr G1 a0 [8] 28) fun r41 =>
  fg_ob r41 fun a42 =>
  fg_ob (fg_ai G1 a42 0 i1) fun x43 =>
  fg_ob (fg_gr G1 a0 [8] 30) fun r44 =>
  fg_ob r44 fun a45 =>
  fg_ob (fg_ai G1 a45 0 i1) fun x46 =>
  if x46 ≤ x43 then (fX8_tests_43 a0 i1 (0 : Int32) G1)
  else (fX8_tests_43 a0 i1 (1 : Int32) G1))
  else (fX8_tests_44 a0 i1 x4 G1)
/-! FogNetsModel.worked(I)I -/
noncomputable def fX8_worked_66 (a0 : Nat) (i1 : Int32) (i2 : Int32) (i3 : Int32) (s0 : Option Nat) (s1 : Int32) (s2 : Int32) (G : fg_H) : Option ((Nat × Int32 × Int32 × Int32 × fg_H) ⊕ (Int32 × fg_H)) :=
  fg_ob s0 fun a17 =>
  fg_ob (fg_si G a17 0 s1 s2) fun G18 =>
  fg_gd (fg_rc G18 a0 8) <|
  fg_oc (fX8_opens a0 i2 G18) fun _ G19 =>
  some (.inl (a0, i1, i2, (i3 + (1 : Int32)), G19))
noncomputable def fX8_worked_46 (a0 : Nat) (i1 : Int32) (i2 : Int32) (i3 : Int32) (i4 : Int32) (G : fg_H) : Option ((Nat × Int32 × Int32 × Int32 × fg_H) ⊕ (Int32 × fg_H)) :=
  fg_ob (fg_gr G a0 [8] 34) fun r16 =>
  if i4 = (30 : Int32) then (fX8_worked_66 a0 i1 (i2 + (1 : Int32)) i3 r16 (i2 + (1 : Int32)) (1 : Int32) G)
  else (fX8_worked_66 a0 i1 (i2 + (1 : Int32)) i3 r16 (i2 + (1 : Int32)) (0 : Int32) G)
noncomputable def fX8_worked_89 (a0 : Nat) (i1 : Int32) (i2 : Int32) (i3 : Int32) (i4 : Int32) (G : fg_H) : Option ((Nat × Int32 × Int32 × Int32 × fg_H) ⊕ (Int32 × fg_H)) :=
  fg_gd (fg_rc G a0 8) <|
  fg_oc (fX8_sums a0 i2 G) fun _ G20 =>
  fg_ob (fg_gr G20 a0 [8] 31) fun r21 =>
  fg_ob r21 fun a22 =>
  fg_ob (fg_si G20 a22 0 i2 i4) fun G23 =>
  some (.inl (a0, i1, i2, (i3 + (1 : Int32)), G23))
noncomputable def fX8_worked_137 (a0 : Nat) (i1 : Int32) (i2 : Int32) (i3 : Int32) (i4 : Int32) (G : fg_H) : Option ((Nat × Int32 × Int32 × Int32 × fg_H) ⊕ (Int32 × fg_H)) :=
  fg_gd (fg_rc G a0 8) <|
  fg_oc (fX8_sums a0 i2 G) fun _ G24 =>
  fg_ob (fg_gr G24 a0 [8] 28) fun r25 =>
  fg_ob (fg_gr G24 a0 [8] 30) fun r26 =>
  fg_ob r26 fun a27 =>
  fg_ob (fg_ai G24 a27 0 i2) fun x28 =>
  fg_ob r25 fun a29 =>
  fg_ob (fg_si G24 a29 0 i2 x28) fun G30 =>
  fg_ob (fg_gr G30 a0 [8] 29) fun r31 =>
  fg_ob r31 fun a32 =>
  fg_ob (fg_si G30 a32 0 i2 i4) fun G33 =>
  fg_ob (fg_gr G33 a0 [8] 30) fun r34 =>
  fg_ob r34 fun a35 =>
  fg_ob (fg_si G33 a35 0 i2 (0 : Int32)) fun G36 =>
  fg_ob (fg_gr G36 a0 [8] 31) fun r37 =>
  fg_ob r37 fun a38 =>
  fg_ob (fg_si G36 a38 0 i2 (20 : Int32)) fun G39 =>
  some (.inl (a0, i1, i2, (i3 + (1 : Int32)), G39))
noncomputable def fX8_worked_194 (a0 : Nat) (i1 : Int32) (i2 : Int32) (i3 : Int32) (i4 : Int32) (G : fg_H) : Option ((Nat × Int32 × Int32 × Int32 × fg_H) ⊕ (Int32 × fg_H)) :=
  fg_gd (fg_rc G a0 8) <|
  fg_oc (fX8_tests a0 i2 G) fun _ G40 =>
  fg_ob (fg_gr G40 a0 [8] 27) fun r41 =>
  fg_ob r41 fun a42 =>
  fg_ob (fg_si G40 a42 0 i2 i4) fun G43 =>
  some (.inl (a0, i1, i2, (i3 + (1 : Int32)), G43))
noncomputable def fX8_worked_300 (a0 : Nat) (i1 : Int32) (i2 : Int32) (i3 : Int32) (i5 : Int32) (G : fg_H) : Option ((Nat × Int32 × Int32 × Int32 × fg_H) ⊕ (Int32 × fg_H)) :=
  fg_ob (fg_gr G a0 [8] 32) fun r45 =>
  fg_ob (fg_gr G a0 [8] 33) fun r46 =>
  fg_ob r46 fun a47 =>
  fg_ob (fg_ai G a47 0 i2) fun x48 =>
  if x48 = 0 then (fg_ob r45 fun a54 =>
  fg_ob (fg_si G a54 0 i2 i5) fun G55 =>
  some (.inl (a0, i1, i2, (i3 + (1 : Int32)), G55)))
  else (fg_ob (fg_gr G a0 [8] 32) fun r49 =>
  fg_ob r49 fun a50 =>
  fg_ob (fg_ai G a50 0 i2) fun x51 =>
  fg_ob r45 fun a52 =>
  fg_ob (fg_si G a52 0 i2 (x51 * i5)) fun G53 =>
  some (.inl (a0, i1, i2, (i3 + (1 : Int32)), G53)))
noncomputable def fX8_worked_268b (a0 : Nat) (i1 : Int32) (i2 : Int32) (i3 : Int32) (i5 : Int32) (G : fg_H) : Option ((Nat × Int32 × Int32 × Int32 × Int32 × fg_H) ⊕ ((Nat × Int32 × Int32 × Int32 × fg_H) ⊕ (Int32 × fg_H))) :=
  if i2 ≤ 0 then (fg_rt (fX8_worked_300 a0 i1 i2 i3 i5 G))
  else (fg_ob (fg_gr G a0 [8] 34) fun r56 =>
  fg_ob r56 fun a57 =>
  fg_ob (fg_ai G a57 0 i2) fun x58 =>
  if x58 = (1 : Int32) then (if i5 = 0 then (some (.inl (a0, i1, (i2 + (-1 : Int32)), i3, (1 : Int32), G)))
  else (some (.inl (a0, i1, (i2 + (-1 : Int32)), i3, (0 : Int32), G))))
  else (fg_rt (fX8_worked_300 a0 i1 i2 i3 i5 G)))
noncomputable def fX8_worked_268 (a0 : Nat) (i1 : Int32) (i2 : Int32) (i3 : Int32) (i5 : Int32) (G : fg_H) : Option ((Nat × Int32 × Int32 × Int32 × fg_H) ⊕ (Int32 × fg_H)) :=
  fg_lp (fun y : Nat × Int32 × Int32 × Int32 × Int32 × fg_H => fX8_worked_268b y.1 y.2.1 y.2.2.1 y.2.2.2.1 y.2.2.2.2.1 y.2.2.2.2.2) (a0, i1, i2, i3, i5, G)
noncomputable def fX8_worked_243 (a0 : Nat) (i1 : Int32) (i2 : Int32) (i3 : Int32) (i4 : Int32) (s0 : Int32) (G : fg_H) : Option ((Nat × Int32 × Int32 × Int32 × fg_H) ⊕ (Int32 × fg_H)) :=
  if i4 = (29 : Int32) then (fg_gd (fg_rc G a0 8) <|
  fg_oc (fX8_tests a0 i2 G) fun _ G60 =>
  fg_ob (fg_gr G60 a0 [8] 26) fun r61 =>
  fg_ob r61 fun a62 =>
  fg_ob (fg_ai G60 a62 0 i2) fun x63 =>
  fX8_worked_268 a0 i1 (i2 + (-1 : Int32)) i3 x63 G60)
  else (fX8_worked_268 a0 i1 i2 i3 s0 G)
noncomputable def fX8_worked_14b (a0 : Nat) (i1 : Int32) (i2 : Int32) (i3 : Int32) (G : fg_H) : Option ((Nat × Int32 × Int32 × Int32 × fg_H) ⊕ (Int32 × fg_H)) :=
  fg_ob (fg_gr G a0 [8] 19) fun r5 =>
  fg_ob r5 fun a6 =>
  fg_ob (fg_ai G a6 0 i1) fun x7 =>
  if x7 ≤ i3 then (fg_rt (fg_gd (fg_rc G a0 8) <|
  fg_oc (fX8_tests a0 (0 : Int32) G) fun _ G9 =>
  fg_ob (fg_gr G9 a0 [8] 26) fun r10 =>
  fg_ob r10 fun a11 =>
  fg_ob (fg_ai G9 a11 0 (0 : Int32)) fun x12 =>
  some (x12, G9)))
  else (fg_ob (fg_gr G a0 [8] 20) fun r13 =>
  fg_ob r13 fun a14 =>
  fg_ob (fg_ai G a14 0 i3) fun x15 =>
  if x15 = (28 : Int32) then (fX8_worked_46 a0 i1 i2 i3 x15 G)
  else (if x15 = (30 : Int32) then (fX8_worked_46 a0 i1 i2 i3 x15 G)
  else (if x15 = (20 : Int32) then (fX8_worked_89 a0 i1 i2 i3 x15 G)
  else (if x15 = (21 : Int32) then (fX8_worked_89 a0 i1 i2 i3 x15 G)
  else (if x15 = (22 : Int32) then (fg_ob (fg_gr G a0 [8] 33) fun r67 =>
  fg_ob r67 fun a68 =>
  fg_ob (fg_si G a68 0 i2 x15) fun G69 =>
  some (.inl (a0, i1, i2, (i3 + (1 : Int32)), G69)))
  else (if x15 = (24 : Int32) then (fX8_worked_137 a0 i1 i2 i3 x15 G)
  else (if x15 = (25 : Int32) then (fX8_worked_137 a0 i1 i2 i3 x15 G)
  else (if x15 = (26 : Int32) then (fX8_worked_194 a0 i1 i2 i3 x15 G)
  else (if x15 = (27 : Int32) then (fX8_worked_194 a0 i1 i2 i3 x15 G)
  else (if x15 < (100 : Int32) then (if (20 : Int32) ≤ x15 then (fX8_worked_243 a0 i1 i2 i3 x15 (0 : Int32) G)
  else (fg_ob (fg_gr G a0 [8] 35) fun r64 =>
  fg_ob r64 fun a65 =>
  fg_ob (fg_ai G a65 0 x15) fun x66 =>
  fX8_worked_243 a0 i1 i2 i3 x15 x66 G))
  else (fX8_worked_243 a0 i1 i2 i3 x15 (x15 - (100 : Int32)) G)))))))))))
noncomputable def fX8_worked_14 (a0 : Nat) (i1 : Int32) (i2 : Int32) (i3 : Int32) (G : fg_H) : Option (Int32 × fg_H) :=
  fg_lp (fun y : Nat × Int32 × Int32 × Int32 × fg_H => fX8_worked_14b y.1 y.2.1 y.2.2.1 y.2.2.2.1 y.2.2.2.2) (a0, i1, i2, i3, G)
noncomputable def fX8_worked (a0 : Nat) (i1 : Int32) (G : fg_H) : Option (Int32 × fg_H) :=
  fg_gd (fg_rc G a0 8) <|
  fg_oc (fX8_opens a0 (0 : Int32) G) fun _ G1 =>
  fg_ob (fg_gr G1 a0 [8] 18) fun r2 =>
  fg_ob r2 fun a3 =>
  fg_ob (fg_ai G1 a3 0 i1) fun x4 =>
  fX8_worked_14 a0 i1 (0 : Int32) x4 G1
/-! FogNetsModel.windAt(II)I -/
noncomputable def fX8_windAt (a0 : Nat) (i1 : Int32) (i2 : Int32) (G : fg_H) : Option (Int32 × fg_H) :=
  fg_ob (fg_gr G a0 [8] 19) fun r1 =>
  fg_ob r1 fun a2 =>
  fg_ob (fg_ai G a2 0 (0 : Int32)) fun x3 =>
  fg_ob (fg_gr G a0 [8] 18) fun r4 =>
  fg_ob r4 fun a5 =>
  fg_ob (fg_ai G a5 0 (0 : Int32)) fun x6 =>
  if x3 = x6 then (some ((0 : Int32), G))
  else (fg_ob (fg_gr G a0 [8] 35) fun r7 =>
  fg_ob r7 fun a8 =>
  fg_ob (fg_si G a8 0 (1 : Int32) i1) fun G9 =>
  fg_ob (fg_gr G9 a0 [8] 35) fun r10 =>
  fg_ob r10 fun a11 =>
  fg_ob (fg_si G9 a11 0 (2 : Int32) i2) fun G12 =>
  fg_gd (fg_rc G12 a0 8) <|
  fg_oc (fX8_worked a0 (0 : Int32) G12) fun x14 G13 =>
  some ((x14 &&& (3 : Int32)), G13))
/-! FogNetsModel.wind(I)I -/
noncomputable def fX8_wind (a0 : Nat) (i1 : Int32) (G : fg_H) : Option (Int32 × fg_H) :=
  fg_ob (fg_pv G a0 [8] 0 (.int (0 : Int32))) fun G1 =>
  fg_gd (fg_rc G1 a0 8) <|
  fg_oc (fX8_isHour a0 i1 G1) fun x3 G2 =>
  if x3 = 0 then (some ((-1 : Int32), G2))
  else (fg_ob (fg_gr G2 a0 [8] 37) fun r4 =>
  fg_ob r4 fun a5 =>
  fg_ob (fg_ai G2 a5 0 (50 : Int32)) fun x6 =>
  fg_gd (fg_rc G2 a0 8) <|
  fg_oc (fX8_windAt a0 i1 x6 G2) fun x8 G7 =>
  some (x8, G7))
/-! FogNetsModel.all()I -/
noncomputable def fX8_all (a0 : Nat) (G : fg_H) : Option (Int32 × fg_H) :=
  fg_ob (fg_gr G a0 [8] 10) fun r1 =>
  fg_ob r1 fun a2 =>
  fg_ob (fg_ai G a2 0 (6 : Int32)) fun x3 =>
  some ((((1 : Int32) <<< (x3 &&& 31)) - (1 : Int32)), G)
/-! java/lang/Math.min(II)I -/
noncomputable def fJ7_min (i0 : Int32) (i1 : Int32) (G : fg_H) : Option (Int32 × fg_H) :=
  if i1 < i0 then (some (i1, G))
  else (some (i0, G))
/-! FogNetsModel.bankOf(IIII)I -/
noncomputable def fX8_bankOf (a0 : Nat) (i1 : Int32) (i2 : Int32) (i3 : Int32) (i4 : Int32) (G : fg_H) : Option (Int32 × fg_H) :=
  fg_ob (fg_gr G a0 [8] 19) fun r1 =>
  fg_ob r1 fun a2 =>
  fg_ob (fg_ai G a2 0 (1 : Int32)) fun x3 =>
  fg_ob (fg_gr G a0 [8] 18) fun r4 =>
  fg_ob r4 fun a5 =>
  fg_ob (fg_ai G a5 0 (1 : Int32)) fun x6 =>
  if x3 = x6 then (some ((20 : Int32), G))
  else (fg_ob (fg_gr G a0 [8] 35) fun r7 =>
  fg_ob r7 fun a8 =>
  fg_ob (fg_si G a8 0 (1 : Int32) i1) fun G9 =>
  fg_ob (fg_gr G9 a0 [8] 35) fun r10 =>
  fg_ob r10 fun a11 =>
  fg_ob (fg_si G9 a11 0 (2 : Int32) i2) fun G12 =>
  fg_ob (fg_gr G12 a0 [8] 35) fun r13 =>
  fg_ob r13 fun a14 =>
  fg_ob (fg_si G12 a14 0 (3 : Int32) i3) fun G15 =>
  fg_ob (fg_gr G15 a0 [8] 35) fun r16 =>
  fg_ob r16 fun a17 =>
  fg_ob (fg_si G15 a17 0 (4 : Int32) i4) fun G18 =>
  fg_gd (fg_rc G18 a0 8) <|
  fg_oc (fX8_worked a0 (1 : Int32) G18) fun x20 G19 =>
  if 0 ≤ x20 then (fg_oc (fJ7_min (999 : Int32) x20 G19) fun x22 G21 =>
  some (x22, G21))
  else (some ((0 : Int32), G19)))
/-! FogNetsModel.lines(I)I -/
noncomputable def fX8_lines (a0 : Nat) (i1 : Int32) (G : fg_H) : Option (Int32 × fg_H) :=
  if (2 : Int32) ≤ i1 then (fg_ob (fg_gr G a0 [8] 10) fun r1 =>
  fg_ob r1 fun a2 =>
  fg_ob (fg_ai G a2 0 (0 : Int32)) fun x3 =>
  some (x3, G))
  else (fg_ob (fg_gr G a0 [8] 10) fun r4 =>
  fg_ob r4 fun a5 =>
  fg_ob (fg_ai G a5 0 (1 : Int32)) fun x6 =>
  some (x6, G))
/-! FogNetsModel.netAt(II)I -/
noncomputable def fX8_netAt_2b (a0 : Nat) (i1 : Int32) (i2 : Int32) (i3 : Int32) (G : fg_H) : Option ((Nat × Int32 × Int32 × Int32 × fg_H) ⊕ (Int32 × fg_H)) :=
  if (13 : Int32) ≤ i3 then (fg_rt (some ((-1 : Int32), G)))
  else (if ((i2 >>> (i3 &&& 31)) &&& (1 : Int32)) = (1 : Int32) then (fg_ob (fg_gr G a0 [8] 37) fun r2 =>
  fg_ob r2 fun a3 =>
  fg_ob (fg_ai G a3 0 ((12 : Int32) + i3)) fun x4 =>
  if x4 = i1 then (fg_rt (some (i3, G)))
  else (some (.inl (a0, i1, i2, (i3 + (1 : Int32)), G))))
  else (some (.inl (a0, i1, i2, (i3 + (1 : Int32)), G))))
noncomputable def fX8_netAt_2 (a0 : Nat) (i1 : Int32) (i2 : Int32) (i3 : Int32) (G : fg_H) : Option (Int32 × fg_H) :=
  fg_lp (fun y : Nat × Int32 × Int32 × Int32 × fg_H => fX8_netAt_2b y.1 y.2.1 y.2.2.1 y.2.2.2.1 y.2.2.2.2) (a0, i1, i2, i3, G)
noncomputable def fX8_netAt (a0 : Nat) (i1 : Int32) (i2 : Int32) (G : fg_H) : Option (Int32 × fg_H) :=
  fX8_netAt_2 a0 i1 i2 (0 : Int32) G
/-! FogNetsModel.taken(III)I -/
noncomputable def fX8_taken_61 (a0 : Nat) (i1 : Int32) (i4 : Int32) (i5 : Int32) (G : fg_H) : Option (Int32 × fg_H) :=
  if i4 = (3 : Int32) then (fg_ob (fg_gr G a0 [8] 37) fun r8 =>
  fg_ob r8 fun a9 =>
  fg_ob (fg_ai G a9 0 ((25 : Int32) + i1)) fun x10 =>
  if x10 = 0 then (some ((i5 / (2 : Int32)), G))
  else (some (i5, G)))
  else (some (i5, G))
noncomputable def fX8_taken_47 (a0 : Nat) (i1 : Int32) (i2 : Int32) (i4 : Int32) (i5 : Int32) (G : fg_H) : Option (Int32 × fg_H) :=
  if i4 = (5 : Int32) then (if (10 : Int32) ≤ i2 then (fX8_taken_61 a0 i1 i4 i5 G)
  else (some ((0 : Int32), G)))
  else (fX8_taken_61 a0 i1 i4 i5 G)
noncomputable def fX8_taken (a0 : Nat) (i1 : Int32) (i2 : Int32) (i3 : Int32) (G : fg_H) : Option (Int32 × fg_H) :=
  fg_ob (fg_gr G a0 [8] 17) fun r1 =>
  fg_ob r1 fun a2 =>
  fg_ob (fg_ai G a2 0 i1) fun x3 =>
  fg_ob (fg_gr G a0 [8] 16) fun r4 =>
  fg_ob r4 fun a5 =>
  fg_ob (fg_ai G a5 0 i1) fun x6 =>
  fg_ob (some ((i2 * x6) / (10 : Int32))) fun v7 =>
  if x3 = (1 : Int32) then (fg_oc (fJ7_min (4 : Int32) v7 G) fun x12 G11 =>
  some (x12, G11))
  else (if x3 = (2 : Int32) then (if (i3 - i3 / (2 : Int32) * (2 : Int32)) = (1 : Int32) then (some ((0 : Int32), G))
  else (fX8_taken_47 a0 i1 i2 x3 v7 G))
  else (fX8_taken_47 a0 i1 i2 x3 v7 G))
/-! FogNetsModel.passes(IIIII)I -/
noncomputable def fX8_passes_92 (a0 : Nat) (i1 : Int32) (i2 : Int32) (i4 : Int32) (i5 : Int32) (i6 : Int32) (i7 : Int32) (i8 : Int32) (s0 : Nat) (s1 : Int32) (G : fg_H) : Option ((Nat × Int32 × Int32 × Int32 × Int32 × Int32 × Int32 × Int32 × fg_H) ⊕ (Int32 × fg_H)) :=
  fg_gd (fg_rc G s0 8) <|
  fg_oc (fX8_netAt s0 s1 i1 G) fun x8 G7 =>
  if 0 ≤ x8 then (fg_gd (fg_rc G7 a0 8) <|
  fg_oc (fX8_taken a0 x8 i6 i2 G7) fun x10 G9 =>
  fg_ob (fg_gr G9 a0 [8] 40) fun r11 =>
  fg_ob r11 fun a12 =>
  fg_ob (fg_ai G9 a12 0 x8) fun x13 =>
  fg_ob (fg_si G9 a12 0 x8 (x13 + x10)) fun G14 =>
  fg_ob (some (i6 - x10)) fun v15 =>
  some (.inl (a0, i1, i2, i4, i5, v15, i7, (i8 + (1 : Int32)), G14)))
  else (some (.inl (a0, i1, i2, i4, i5, i6, i7, (i8 + (1 : Int32)), G7)))
noncomputable def fX8_passes_64 (a0 : Nat) (i1 : Int32) (i2 : Int32) (i4 : Int32) (i5 : Int32) (i6 : Int32) (i7 : Int32) (i8 : Int32) (s0 : Int32) (G : fg_H) : Option ((Nat × Int32 × Int32 × Int32 × Int32 × Int32 × Int32 × Int32 × fg_H) ⊕ (Int32 × fg_H)) :=
  if (2 : Int32) ≤ i5 then (fX8_passes_92 a0 i1 i2 i4 i5 i6 i7 i8 a0 (((8 : Int32) * s0) + i4) G)
  else (fX8_passes_92 a0 i1 i2 i4 i5 i6 i7 i8 a0 (((8 : Int32) * i4) + s0) G)
noncomputable def fX8_passes_38b (a0 : Nat) (i1 : Int32) (i2 : Int32) (i4 : Int32) (i5 : Int32) (i6 : Int32) (i7 : Int32) (i8 : Int32) (G : fg_H) : Option ((Nat × Int32 × Int32 × Int32 × Int32 × Int32 × Int32 × Int32 × fg_H) ⊕ (Int32 × fg_H)) :=
  if i7 ≤ i8 then (fg_rt (some (i6, G)))
  else (if (i5 - i5 / (2 : Int32) * (2 : Int32)) = 0 then (fX8_passes_64 a0 i1 i2 i4 i5 i6 i7 i8 i8 G)
  else (fX8_passes_64 a0 i1 i2 i4 i5 i6 i7 i8 ((i7 - (1 : Int32)) - i8) G))
noncomputable def fX8_passes_38 (a0 : Nat) (i1 : Int32) (i2 : Int32) (i4 : Int32) (i5 : Int32) (i6 : Int32) (i7 : Int32) (i8 : Int32) (G : fg_H) : Option (Int32 × fg_H) :=
  fg_lp (fun y : Nat × Int32 × Int32 × Int32 × Int32 × Int32 × Int32 × Int32 × fg_H => fX8_passes_38b y.1 y.2.1 y.2.2.1 y.2.2.2.1 y.2.2.2.2.1 y.2.2.2.2.2.1 y.2.2.2.2.2.2.1 y.2.2.2.2.2.2.2.1 y.2.2.2.2.2.2.2.2) (a0, i1, i2, i4, i5, i6, i7, i8, G)
noncomputable def fX8_passes (a0 : Nat) (i1 : Int32) (i2 : Int32) (i3 : Int32) (i4 : Int32) (i5 : Int32) (G : fg_H) : Option (Int32 × fg_H) :=
  fg_gd (fg_rc G a0 8) <|
  fg_oc (fX8_bankOf a0 i2 i3 i4 i5 G) fun x2 G1 =>
  if (2 : Int32) ≤ i5 then (fg_ob (fg_gr G1 a0 [8] 10) fun r3 =>
  fg_ob r3 fun a4 =>
  fg_ob (fg_ai G1 a4 0 (1 : Int32)) fun x5 =>
  fX8_passes_38 a0 i1 i2 i4 i5 x2 x5 (0 : Int32) G1)
  else (fg_ob (fg_gr G1 a0 [8] 10) fun r16 =>
  fg_ob r16 fun a17 =>
  fg_ob (fg_ai G1 a17 0 (0 : Int32)) fun x18 =>
  fX8_passes_38 a0 i1 i2 i4 i5 x2 x18 (0 : Int32) G1)
/-! FogNetsModel.bank(III)I -/
noncomputable def fX8_bank (a0 : Nat) (i1 : Int32) (i2 : Int32) (i3 : Int32) (G : fg_H) : Option (Int32 × fg_H) :=
  fg_ob (fg_pv G a0 [8] 0 (.int (0 : Int32))) fun G1 =>
  fg_gd (fg_rc G1 a0 8) <|
  fg_oc (fX8_isHour a0 i1 G1) fun x3 G2 =>
  if x3 = 0 then (some ((-1 : Int32), G2))
  else (fg_oc (fX8_within i3 (0 : Int32) (1 : Int32) G2) fun x5 G4 =>
  if x5 = 0 then (some ((-1 : Int32), G4))
  else (fg_ob (fg_gr G4 a0 [8] 37) fun r6 =>
  fg_ob r6 fun a7 =>
  fg_ob (fg_ai G4 a7 0 (50 : Int32)) fun x8 =>
  fg_gd (fg_rc G4 a0 8) <|
  fg_oc (fX8_windAt a0 i1 x8 G4) fun x10 G9 =>
  if i2 < 0 then (some ((-1 : Int32), G9))
  else (fg_gd (fg_rc G9 a0 8) <|
  fg_oc (fX8_lines a0 x10 G9) fun x12 G11 =>
  if i2 < x12 then (if i3 = 0 then (fg_ob (fg_gr G11 a0 [8] 37) fun r20 =>
  fg_ob r20 fun a21 =>
  fg_ob (fg_ai G11 a21 0 (50 : Int32)) fun x22 =>
  fg_gd (fg_rc G11 a0 8) <|
  fg_oc (fX8_bankOf a0 i1 x22 i2 x10 G11) fun x24 G23 =>
  some (x24, G23))
  else (fg_gd (fg_rc G11 a0 8) <|
  fg_oc (fX8_all a0 G11) fun x14 G13 =>
  fg_ob (fg_gr G13 a0 [8] 37) fun r15 =>
  fg_ob r15 fun a16 =>
  fg_ob (fg_ai G13 a16 0 (50 : Int32)) fun x17 =>
  fg_gd (fg_rc G13 a0 8) <|
  fg_oc (fX8_passes a0 x14 i1 x17 i2 x10 G13) fun x19 G18 =>
  some (x19, G18)))
  else (some ((-1 : Int32), G11)))))
/-! FogNetsModel.yielded(II)I -/
noncomputable def fX8_yielded_58 (a0 : Nat) (i1 : Int32) (i2 : Int32) (i3 : Int32) (i4 : Int32) (s0 : Int32) (G : fg_H) : Option ((Nat × Int32 × Int32 × Int32 × Int32 × fg_H) ⊕ (Int32 × fg_H)) :=
  if s0 = 0 then (fg_ob (some (i3 + (0 : Int32))) fun v5 =>
  some (.inl (a0, i1, i2, v5, (i4 + (1 : Int32)), G)))
  else (fg_ob (fg_gr G a0 [8] 40) fun r6 =>
  fg_ob r6 fun a7 =>
  fg_ob (fg_ai G a7 0 i4) fun x8 =>
  fg_ob (some (i3 + x8)) fun v9 =>
  some (.inl (a0, i1, i2, v9, (i4 + (1 : Int32)), G)))
noncomputable def fX8_yielded_57 (a0 : Nat) (i1 : Int32) (i2 : Int32) (i3 : Int32) (i4 : Int32) (G : fg_H) : Option ((Nat × Int32 × Int32 × Int32 × Int32 × fg_H) ⊕ (Int32 × fg_H)) :=
  fX8_yielded_58 a0 i1 i2 i3 i4 (0 : Int32) G
noncomputable def fX8_yielded_53 (a0 : Nat) (i1 : Int32) (i2 : Int32) (i3 : Int32) (i4 : Int32) (G : fg_H) : Option ((Nat × Int32 × Int32 × Int32 × Int32 × fg_H) ⊕ (Int32 × fg_H)) :=
  fX8_yielded_58 a0 i1 i2 i3 i4 (1 : Int32) G
noncomputable def fX8_yielded_38 (a0 : Nat) (i1 : Int32) (i2 : Int32) (i3 : Int32) (i4 : Int32) (G : fg_H) : Option ((Nat × Int32 × Int32 × Int32 × Int32 × fg_H) ⊕ (Int32 × fg_H)) :=
  if i2 < 0 then (fX8_yielded_53 a0 i1 i2 i3 i4 G)
  else (fg_ob (fg_gr G a0 [8] 14) fun r10 =>
  fg_ob r10 fun a11 =>
  fg_ob (fg_ai G a11 0 i4) fun x12 =>
  if x12 = i2 then (fX8_yielded_57 a0 i1 i2 i3 i4 G)
  else (fX8_yielded_53 a0 i1 i2 i3 i4 G))
noncomputable def fX8_yielded_5b (a0 : Nat) (i1 : Int32) (i2 : Int32) (i3 : Int32) (i4 : Int32) (G : fg_H) : Option ((Nat × Int32 × Int32 × Int32 × Int32 × fg_H) ⊕ (Int32 × fg_H)) :=
  if (13 : Int32) ≤ i4 then (fg_rt (some (i3, G)))
  else (fg_ob (fg_gr G a0 [8] 17) fun r2 =>
  fg_ob r2 fun a3 =>
  fg_ob (fg_ai G a3 0 i4) fun x4 =>
  if x4 = (4 : Int32) then (fX8_yielded_57 a0 i1 i2 i3 i4 G)
  else (if i1 < 0 then (fX8_yielded_38 a0 i1 i2 i3 i4 G)
  else (fg_ob (fg_gr G a0 [8] 14) fun r13 =>
  fg_ob r13 fun a14 =>
  fg_ob (fg_ai G a14 0 i4) fun x15 =>
  if x15 = i1 then (fX8_yielded_38 a0 i1 i2 i3 i4 G)
  else (fX8_yielded_57 a0 i1 i2 i3 i4 G))))
noncomputable def fX8_yielded_5 (a0 : Nat) (i1 : Int32) (i2 : Int32) (i3 : Int32) (i4 : Int32) (G : fg_H) : Option (Int32 × fg_H) :=
  fg_lp (fun y : Nat × Int32 × Int32 × Int32 × Int32 × fg_H => fX8_yielded_5b y.1 y.2.1 y.2.2.1 y.2.2.2.1 y.2.2.2.2.1 y.2.2.2.2.2) (a0, i1, i2, i3, i4, G)
noncomputable def fX8_yielded (a0 : Nat) (i1 : Int32) (i2 : Int32) (G : fg_H) : Option (Int32 × fg_H) :=
  fX8_yielded_5 a0 i1 i2 (0 : Int32) (0 : Int32) G
/-! FogNetsModel.ends0()V -/
noncomputable def fX8_ends0_31b (a0 : Nat) (i1 : Int32) (G : fg_H) : Option ((Nat × Int32 × fg_H) ⊕ (Unit × fg_H)) :=
  fg_ob (fg_gr G a0 [8] 10) fun r2 =>
  fg_ob r2 fun a3 =>
  fg_ob (fg_ai G a3 0 (5 : Int32)) fun x4 =>
  if x4 ≤ i1 then (fg_rt (fg_ob (fg_gr G a0 [8] 37) fun r6 =>
  fg_ob r6 fun a7 =>
  fg_ob (fg_ai G a7 0 (50 : Int32)) fun x8 =>
  fg_ob (fg_si G a7 0 (50 : Int32) (x8 + (1 : Int32))) fun G9 =>
  some ((), G9)))
  else (fg_ob (fg_gr G a0 [8] 37) fun r10 =>
  fg_ob r10 fun a11 =>
  fg_ob (fg_ai G a11 0 i1) fun x12 =>
  fg_gd (fg_rc G a0 8) <|
  fg_oc (fX8_yielded a0 i1 (-1 : Int32) G) fun x14 G13 =>
  fg_ob (fg_gr G13 a0 [8] 10) fun r15 =>
  fg_ob r15 fun a16 =>
  fg_ob (fg_ai G13 a16 0 (3 : Int32)) fun x17 =>
  fg_ob (fg_si G13 a11 0 i1 (x12 + (x14 + x17))) fun G18 =>
  fg_ob (fg_gr G18 a0 [8] 37) fun r19 =>
  fg_ob r19 fun a20 =>
  fg_ob (fg_ai G18 a20 0 i1) fun x21 =>
  fg_ob (fg_gr G18 a0 [8] 11) fun r22 =>
  fg_ob r22 fun a23 =>
  fg_ob (fg_ai G18 a23 0 i1) fun x24 =>
  fg_oc (fJ7_min x21 x24 G18) fun x26 G25 =>
  fg_ob (fg_gr G25 a0 [8] 37) fun r27 =>
  fg_ob r27 fun a28 =>
  fg_ob (fg_ai G25 a28 0 i1) fun x29 =>
  fg_ob (fg_si G25 a28 0 i1 (x29 - x26)) fun G30 =>
  fg_ob (fg_gr G30 a0 [8] 37) fun r31 =>
  fg_ob r31 fun a32 =>
  fg_ob (fg_ai G30 a32 0 ((6 : Int32) + i1)) fun x33 =>
  fg_ob (fg_gr G30 a0 [8] 11) fun r34 =>
  fg_ob r34 fun a35 =>
  fg_ob (fg_ai G30 a35 0 i1) fun x36 =>
  fg_ob (fg_si G30 a32 0 ((6 : Int32) + i1) (x33 + (x36 - x26))) fun G37 =>
  some (.inl (a0, (i1 + (1 : Int32)), G37)))
noncomputable def fX8_ends0_31 (a0 : Nat) (i1 : Int32) (G : fg_H) : Option (Unit × fg_H) :=
  fg_lp (fun y : Nat × Int32 × fg_H => fX8_ends0_31b y.1 y.2.1 y.2.2) (a0, i1, G)
noncomputable def fX8_ends0_2b (a0 : Nat) (i1 : Int32) (G : fg_H) : Option ((Nat × Int32 × fg_H) ⊕ (Unit × fg_H)) :=
  if (12 : Int32) ≤ i1 then (fg_rt (fX8_ends0_31 a0 (0 : Int32) G))
  else (fg_ob (fg_gr G a0 [8] 37) fun r38 =>
  fg_ob (fg_gr G a0 [8] 40) fun r39 =>
  fg_ob r39 fun a40 =>
  fg_ob (fg_ai G a40 0 i1) fun x41 =>
  fg_ob r38 fun a42 =>
  fg_ob (fg_si G a42 0 ((38 : Int32) + i1) x41) fun G43 =>
  some (.inl (a0, (i1 + (1 : Int32)), G43)))
noncomputable def fX8_ends0_2 (a0 : Nat) (i1 : Int32) (G : fg_H) : Option (Unit × fg_H) :=
  fg_lp (fun y : Nat × Int32 × fg_H => fX8_ends0_2b y.1 y.2.1 y.2.2) (a0, i1, G)
noncomputable def fX8_ends0 (a0 : Nat) (G : fg_H) : Option (Unit × fg_H) :=
  fX8_ends0_2 a0 (0 : Int32) G
/-! FogNetsModel.blows(IIII)V -/
noncomputable def fX8_blows_3b (a0 : Nat) (i1 : Int32) (i2 : Int32) (i3 : Int32) (i4 : Int32) (i5 : Int32) (G : fg_H) : Option ((Nat × Int32 × Int32 × Int32 × Int32 × Int32 × fg_H) ⊕ (Unit × fg_H)) :=
  fg_gd (fg_rc G a0 8) <|
  fg_oc (fX8_lines a0 i4 G) fun x2 G1 =>
  if x2 ≤ i5 then (fg_rt (some ((), G1)))
  else (fg_gd (fg_rc G1 a0 8) <|
  fg_oc (fX8_passes a0 i1 i2 i3 i5 i4 G1) fun x5 G4 =>
  some (.inl (a0, i1, i2, i3, i4, (i5 + (1 : Int32)), G4)))
noncomputable def fX8_blows_3 (a0 : Nat) (i1 : Int32) (i2 : Int32) (i3 : Int32) (i4 : Int32) (i5 : Int32) (G : fg_H) : Option (Unit × fg_H) :=
  fg_lp (fun y : Nat × Int32 × Int32 × Int32 × Int32 × Int32 × fg_H => fX8_blows_3b y.1 y.2.1 y.2.2.1 y.2.2.2.1 y.2.2.2.2.1 y.2.2.2.2.2.1 y.2.2.2.2.2.2) (a0, i1, i2, i3, i4, i5, G)
noncomputable def fX8_blows (a0 : Nat) (i1 : Int32) (i2 : Int32) (i3 : Int32) (i4 : Int32) (G : fg_H) : Option (Unit × fg_H) :=
  fX8_blows_3 a0 i1 i2 i3 i4 (0 : Int32) G
/-! FogNetsModel.clears()V -/
noncomputable def fX8_clears_2b (a0 : Nat) (i1 : Int32) (G : fg_H) : Option ((Nat × Int32 × fg_H) ⊕ (Unit × fg_H)) :=
  if (13 : Int32) ≤ i1 then (fg_rt (some ((), G)))
  else (fg_ob (fg_gr G a0 [8] 40) fun r2 =>
  fg_ob r2 fun a3 =>
  fg_ob (fg_si G a3 0 i1 (0 : Int32)) fun G4 =>
  some (.inl (a0, (i1 + (1 : Int32)), G4)))
noncomputable def fX8_clears_2 (a0 : Nat) (i1 : Int32) (G : fg_H) : Option (Unit × fg_H) :=
  fg_lp (fun y : Nat × Int32 × fg_H => fX8_clears_2b y.1 y.2.1 y.2.2) (a0, i1, G)
noncomputable def fX8_clears (a0 : Nat) (G : fg_H) : Option (Unit × fg_H) :=
  fX8_clears_2 a0 (0 : Int32) G
/-! FogNetsModel.goes(I)V -/
noncomputable def fX8_goes_6b (a0 : Nat) (i1 : Int32) (i2 : Int32) (G : fg_H) : Option ((Nat × Int32 × Int32 × fg_H) ⊕ (Unit × fg_H)) :=
  fg_ob (fg_gr G a0 [8] 10) fun r2 =>
  fg_ob r2 fun a3 =>
  fg_ob (fg_ai G a3 0 (2 : Int32)) fun x4 =>
  if x4 ≤ i2 then (fg_rt (some ((), G)))
  else (fg_ob (fg_gr G a0 [8] 37) fun r6 =>
  fg_ob r6 fun a7 =>
  fg_ob (fg_ai G a7 0 (50 : Int32)) fun x8 =>
  fg_ob (fg_gr G a0 [8] 37) fun r9 =>
  fg_ob r9 fun a10 =>
  fg_ob (fg_ai G a10 0 (50 : Int32)) fun x11 =>
  fg_gd (fg_rc G a0 8) <|
  fg_oc (fX8_windAt a0 i2 x11 G) fun x13 G12 =>
  fg_gd (fg_rc G12 a0 8) <|
  fg_oc (fX8_blows a0 i1 i2 x8 x13 G12) fun _ G14 =>
  some (.inl (a0, i1, (i2 + (1 : Int32)), G14)))
noncomputable def fX8_goes_6 (a0 : Nat) (i1 : Int32) (i2 : Int32) (G : fg_H) : Option (Unit × fg_H) :=
  fg_lp (fun y : Nat × Int32 × Int32 × fg_H => fX8_goes_6b y.1 y.2.1 y.2.2.1 y.2.2.2) (a0, i1, i2, G)
noncomputable def fX8_goes (a0 : Nat) (i1 : Int32) (G : fg_H) : Option (Unit × fg_H) :=
  fg_gd (fg_rc G a0 8) <|
  fg_oc (fX8_clears a0 G) fun _ G1 =>
  fX8_goes_6 a0 i1 (0 : Int32) G1
/-! FogNetsModel.night()V -/
noncomputable def fX8_night (a0 : Nat) (G : fg_H) : Option (Unit × fg_H) :=
  fg_gd (fg_rc G a0 8) <|
  fg_oc (fX8_all a0 G) fun x2 G1 =>
  fg_gd (fg_rc G1 a0 8) <|
  fg_oc (fX8_goes a0 x2 G1) fun _ G3 =>
  fg_gd (fg_rc G3 a0 8) <|
  fg_oc (fX8_ends0 a0 G3) fun _ G4 =>
  some ((), G4)
/-! FogNetsModel.nights(I)I -/
noncomputable def fX8_nights_19b (a0 : Nat) (i1 : Int32) (i2 : Int32) (G : fg_H) : Option ((Nat × Int32 × Int32 × fg_H) ⊕ (Int32 × fg_H)) :=
  if i1 ≤ i2 then (fg_rt (fg_ob (fg_gr G a0 [8] 37) fun r5 =>
  fg_ob r5 fun a6 =>
  fg_ob (fg_ai G a6 0 (50 : Int32)) fun x7 =>
  some (x7, G)))
  else (fg_gd (fg_rc G a0 8) <|
  fg_oc (fX8_night a0 G) fun _ G8 =>
  some (.inl (a0, i1, (i2 + (1 : Int32)), G8)))
noncomputable def fX8_nights_19 (a0 : Nat) (i1 : Int32) (i2 : Int32) (G : fg_H) : Option (Int32 × fg_H) :=
  fg_lp (fun y : Nat × Int32 × Int32 × fg_H => fX8_nights_19b y.1 y.2.1 y.2.2.1 y.2.2.2) (a0, i1, i2, G)
noncomputable def fX8_nights (a0 : Nat) (i1 : Int32) (G : fg_H) : Option (Int32 × fg_H) :=
  fg_ob (fg_pv G a0 [8] 0 (.int (0 : Int32))) fun G1 =>
  fg_oc (fX8_within i1 (1 : Int32) (100 : Int32) G1) fun x3 G2 =>
  if x3 = 0 then (some ((-1 : Int32), G2))
  else (fX8_nights_19 a0 i1 (0 : Int32) G2)
/-! FogNetsModel.mend(IZ)Z -/
noncomputable def fX8_mend_41 (a0 : Nat) (i1 : Int32) (i2 : Int32) (s0 : Int32) (G : fg_H) : Option (Int32 × fg_H) :=
  if s0 = i2 then (some ((0 : Int32), G))
  else (fg_ob (fg_gr G a0 [8] 37) fun r10 =>
  if i2 = 0 then (fg_ob r10 fun a11 =>
  fg_ob (fg_si G a11 0 ((25 : Int32) + i1) (0 : Int32)) fun G12 =>
  some ((1 : Int32), G12))
  else (fg_ob r10 fun a13 =>
  fg_ob (fg_si G a13 0 ((25 : Int32) + i1) (1 : Int32)) fun G14 =>
  some ((1 : Int32), G14)))
noncomputable def fX8_mend (a0 : Nat) (i1 : Int32) (i2 : Int32) (G : fg_H) : Option (Int32 × fg_H) :=
  fg_ob (fg_pv G a0 [8] 0 (.int (0 : Int32))) fun G1 =>
  fg_gd (fg_rc G1 a0 8) <|
  fg_oc (fX8_isNet a0 i1 G1) fun x3 G2 =>
  if x3 = 0 then (some ((0 : Int32), G2))
  else (fg_ob (fg_gr G2 a0 [8] 17) fun r4 =>
  fg_ob r4 fun a5 =>
  fg_ob (fg_ai G2 a5 0 i1) fun x6 =>
  if x6 = (3 : Int32) then (fg_ob (fg_gr G2 a0 [8] 37) fun r7 =>
  fg_ob r7 fun a8 =>
  fg_ob (fg_ai G2 a8 0 ((25 : Int32) + i1)) fun x9 =>
  if x9 = (1 : Int32) then (fX8_mend_41 a0 i1 i2 (1 : Int32) G2)
  else (fX8_mend_41 a0 i1 i2 (0 : Int32) G2))
  else (some ((0 : Int32), G2)))
/-! FogNetsModel.isPlace(I)Z -/
noncomputable def fX8_isPlace (a0 : Nat) (i1 : Int32) (G : fg_H) : Option (Int32 × fg_H) :=
  if i1 < 0 then (some ((0 : Int32), G))
  else (fg_ob (fg_gr G a0 [8] 10) fun r1 =>
  fg_ob r1 fun a2 =>
  fg_ob (fg_ai G a2 0 (0 : Int32)) fun x3 =>
  if x3 ≤ (i1 - i1 / (8 : Int32) * (8 : Int32)) then (some ((0 : Int32), G))
  else (fg_ob (fg_gr G a0 [8] 10) fun r4 =>
  fg_ob r4 fun a5 =>
  fg_ob (fg_ai G a5 0 (1 : Int32)) fun x6 =>
  if x6 ≤ (i1 / (8 : Int32)) then (some ((0 : Int32), G))
  else (some ((1 : Int32), G))))
/-! FogNetsModel.move(II)Z -/
noncomputable def fX8_move (a0 : Nat) (i1 : Int32) (i2 : Int32) (G : fg_H) : Option (Int32 × fg_H) :=
  fg_ob (fg_pv G a0 [8] 0 (.int (0 : Int32))) fun G1 =>
  fg_gd (fg_rc G1 a0 8) <|
  fg_oc (fX8_isNet a0 i1 G1) fun x3 G2 =>
  if x3 = 0 then (some ((0 : Int32), G2))
  else (fg_gd (fg_rc G2 a0 8) <|
  fg_oc (fX8_isPlace a0 i2 G2) fun x5 G4 =>
  if x5 = 0 then (some ((0 : Int32), G4))
  else (fg_gd (fg_rc G4 a0 8) <|
  fg_oc (fX8_all a0 G4) fun x7 G6 =>
  fg_gd (fg_rc G6 a0 8) <|
  fg_oc (fX8_netAt a0 i2 x7 G6) fun x9 G8 =>
  if x9 < 0 then (fg_ob (fg_gr G8 a0 [8] 37) fun r10 =>
  fg_ob r10 fun a11 =>
  fg_ob (fg_si G8 a11 0 ((12 : Int32) + i1) i2) fun G12 =>
  some ((1 : Int32), G12))
  else (some ((0 : Int32), G8))))
/-! FogNetsModel.yields(I)I -/
noncomputable def fX8_yields_22 (a0 : Nat) (i1 : Int32) (s0 : Nat) (s1 : Int32) (G : fg_H) : Option (Int32 × fg_H) :=
  fg_ob (fg_pv G s0 [8] 0 (.int s1)) fun G6 =>
  fg_ob (fg_gi G6 a0 [8] 0) fun x7 =>
  if x7 = (1 : Int32) then (some ((0 : Int32), G6))
  else (fg_gd (fg_rc G6 a0 8) <|
  fg_oc (fX8_all a0 G6) fun x9 G8 =>
  fg_gd (fg_rc G8 a0 8) <|
  fg_oc (fX8_goes a0 x9 G8) fun _ G10 =>
  fg_gd (fg_rc G10 a0 8) <|
  fg_oc (fX8_yielded a0 i1 (-1 : Int32) G10) fun x12 G11 =>
  some (x12, G11))
noncomputable def fX8_yields (a0 : Nat) (i1 : Int32) (G : fg_H) : Option (Int32 × fg_H) :=
  fg_ob (fg_gr G a0 [8] 10) fun r1 =>
  fg_ob r1 fun a2 =>
  fg_ob (fg_ai G a2 0 (5 : Int32)) fun x3 =>
  fg_oc (fX8_within i1 (-1 : Int32) (x3 - (1 : Int32)) G) fun x5 G4 =>
  if x5 = 0 then (fX8_yields_22 a0 i1 a0 (1 : Int32) G4)
  else (fX8_yields_22 a0 i1 a0 (0 : Int32) G4)
/-! FogNetsModel.asked(II)I -/
noncomputable def fX8_asked (a0 : Nat) (i1 : Int32) (i2 : Int32) (G : fg_H) : Option (Int32 × fg_H) :=
  if i2 = 0 then (fg_gd (fg_rc G a0 8) <|
  fg_oc (fX8_yielded a0 (-1 : Int32) (-1 : Int32) G) fun x6 G5 =>
  some (x6, G5))
  else (if i2 = (1 : Int32) then (fg_gd (fg_rc G a0 8) <|
  fg_oc (fX8_yielded a0 i1 (-1 : Int32) G) fun x4 G3 =>
  some (x4, G3))
  else (fg_gd (fg_rc G a0 8) <|
  fg_oc (fX8_yielded a0 (-1 : Int32) i1 G) fun x2 G1 =>
  some ((-x2), G1)))
/-! FogNetsModel.place(IIIII)I -/
noncomputable def fX8_place_172 (a0 : Nat) (i1 : Int32) (i4 : Int32) (i5 : Int32) (i8 : Int32) (i9 : Int32) (G : fg_H) : Option ((Nat × Int32 × Int32 × Int32 × Int32 × Int32 × Int32 × fg_H) ⊕ (Int32 × fg_H)) :=
  some (.inl (a0, i1, i4, i5, i8, i9, (i8 + (1 : Int32)), G))
noncomputable def fX8_place_95b (a0 : Nat) (i1 : Int32) (i4 : Int32) (i5 : Int32) (i6 : Int32) (i7 : Int32) (i8 : Int32) (G : fg_H) : Option ((Nat × Int32 × Int32 × Int32 × Int32 × Int32 × Int32 × fg_H) ⊕ (Int32 × fg_H)) :=
  if (64 : Int32) ≤ i8 then (fg_rt (if i6 < 0 then (some (i6, G))
  else (if i5 = 0 then (some (i6, G))
  else (if i4 = (2 : Int32) then (some ((-i7), G))
  else (some (i7, G))))))
  else (fg_gd (fg_rc G a0 8) <|
  fg_oc (fX8_isPlace a0 i8 G) fun x26 G25 =>
  if x26 = 0 then (some (.inl (a0, i1, i4, i5, i6, i7, (i8 + (1 : Int32)), G25)))
  else (fg_gd (fg_rc G25 a0 8) <|
  fg_oc (fX8_all a0 G25) fun x28 G27 =>
  fg_gd (fg_rc G27 a0 8) <|
  fg_oc (fX8_netAt a0 i8 x28 G27) fun x30 G29 =>
  if x30 < 0 then (fg_ob (fg_gr G29 a0 [8] 37) fun r31 =>
  fg_ob r31 fun a32 =>
  fg_ob (fg_si G29 a32 0 (24 : Int32) i8) fun G33 =>
  fg_gd (fg_rc G33 a0 8) <|
  fg_oc (fX8_all a0 G33) fun x35 G34 =>
  fg_gd (fg_rc G34 a0 8) <|
  fg_oc (fX8_goes a0 (x35 ||| (4096 : Int32)) G34) fun _ G36 =>
  fg_gd (fg_rc G36 a0 8) <|
  fg_oc (fX8_asked a0 i1 i4 G36) fun x38 G37 =>
  if i6 < 0 then (fX8_place_172 a0 i1 i4 i5 i8 x38 G37)
  else (if i7 < x38 then (fX8_place_172 a0 i1 i4 i5 i8 x38 G37)
  else (some (.inl (a0, i1, i4, i5, i6, i7, (i8 + (1 : Int32)), G37)))))
  else (some (.inl (a0, i1, i4, i5, i6, i7, (i8 + (1 : Int32)), G29)))))
noncomputable def fX8_place_95 (a0 : Nat) (i1 : Int32) (i4 : Int32) (i5 : Int32) (i6 : Int32) (i7 : Int32) (i8 : Int32) (G : fg_H) : Option (Int32 × fg_H) :=
  fg_lp (fun y : Nat × Int32 × Int32 × Int32 × Int32 × Int32 × Int32 × fg_H => fX8_place_95b y.1 y.2.1 y.2.2.1 y.2.2.2.1 y.2.2.2.2.1 y.2.2.2.2.2.1 y.2.2.2.2.2.2.1 y.2.2.2.2.2.2.2) (a0, i1, i4, i5, i6, i7, i8, G)
noncomputable def fX8_place (a0 : Nat) (i1 : Int32) (i2 : Int32) (i3 : Int32) (i4 : Int32) (i5 : Int32) (G : fg_H) : Option (Int32 × fg_H) :=
  fg_ob (fg_pv G a0 [8] 0 (.int (0 : Int32))) fun G1 =>
  fg_gd (fg_rc G1 a0 8) <|
  fg_oc (fX8_isVillage a0 i1 G1) fun x3 G2 =>
  if x3 = 0 then (some ((-1 : Int32), G2))
  else (fg_oc (fX8_within i2 (0 : Int32) (10 : Int32) G2) fun x5 G4 =>
  if x5 = 0 then (some ((-1 : Int32), G4))
  else (fg_oc (fX8_within i3 (0 : Int32) (5 : Int32) G4) fun x7 G6 =>
  if x7 = 0 then (some ((-1 : Int32), G6))
  else (fg_oc (fX8_within i4 (0 : Int32) (2 : Int32) G6) fun x9 G8 =>
  if x9 = 0 then (some ((-1 : Int32), G8))
  else (fg_oc (fX8_within i5 (0 : Int32) (1 : Int32) G8) fun x11 G10 =>
  if x11 = 0 then (some ((-1 : Int32), G10))
  else (fg_ob (fg_gr G10 a0 [8] 14) fun r12 =>
  fg_ob r12 fun a13 =>
  fg_ob (fg_si G10 a13 0 (12 : Int32) i1) fun G14 =>
  fg_ob (fg_gr G14 a0 [8] 16) fun r15 =>
  fg_ob r15 fun a16 =>
  fg_ob (fg_si G14 a16 0 (12 : Int32) i2) fun G17 =>
  fg_ob (fg_gr G17 a0 [8] 17) fun r18 =>
  fg_ob r18 fun a19 =>
  fg_ob (fg_si G17 a19 0 (12 : Int32) i3) fun G20 =>
  fg_ob (fg_gr G20 a0 [8] 37) fun r21 =>
  fg_ob r21 fun a22 =>
  fg_ob (fg_si G20 a22 0 (37 : Int32) (0 : Int32)) fun G23 =>
  fX8_place_95 a0 i1 i4 i5 (-1 : Int32) (0 : Int32) (0 : Int32) G23)))))
/-! FogNetsModel.betterAt(I)I -/
noncomputable def fX8_betterAt_36b (a0 : Nat) (i1 : Int32) (i2 : Int32) (i3 : Int32) (i4 : Int32) (i5 : Int32) (G : fg_H) : Option ((Nat × Int32 × Int32 × Int32 × Int32 × Int32 × fg_H) ⊕ (Int32 × fg_H)) :=
  if (64 : Int32) ≤ i5 then (fg_rt (fg_ob (fg_gr G a0 [8] 37) fun r13 =>
  fg_ob r13 fun a14 =>
  fg_ob (fg_si G a14 0 ((12 : Int32) + i1) i2) fun G15 =>
  some (i3, G15)))
  else (fg_ob (fg_gr G a0 [8] 37) fun r16 =>
  fg_ob r16 fun a17 =>
  fg_ob (fg_si G a17 0 ((12 : Int32) + i1) i2) fun G18 =>
  fg_gd (fg_rc G18 a0 8) <|
  fg_oc (fX8_isPlace a0 i5 G18) fun x20 G19 =>
  if x20 = 0 then (some (.inl (a0, i1, i2, i3, i4, (i5 + (1 : Int32)), G19)))
  else (fg_gd (fg_rc G19 a0 8) <|
  fg_oc (fX8_all a0 G19) fun x22 G21 =>
  fg_gd (fg_rc G21 a0 8) <|
  fg_oc (fX8_netAt a0 i5 x22 G21) fun x24 G23 =>
  if x24 < 0 then (fg_ob (fg_gr G23 a0 [8] 37) fun r25 =>
  fg_ob r25 fun a26 =>
  fg_ob (fg_si G23 a26 0 ((12 : Int32) + i1) i5) fun G27 =>
  fg_gd (fg_rc G27 a0 8) <|
  fg_oc (fX8_all a0 G27) fun x29 G28 =>
  fg_gd (fg_rc G28 a0 8) <|
  fg_oc (fX8_goes a0 x29 G28) fun _ G30 =>
  fg_ob (fg_gr G30 a0 [8] 14) fun r31 =>
  fg_ob r31 fun a32 =>
  fg_ob (fg_ai G30 a32 0 i1) fun x33 =>
  fg_gd (fg_rc G30 a0 8) <|
  fg_oc (fX8_yielded a0 x33 (-1 : Int32) G30) fun x35 G34 =>
  if i4 < x35 then (some (.inl (a0, i1, i2, i5, x35, (i5 + (1 : Int32)), G34)))
  else (some (.inl (a0, i1, i2, i3, i4, (i5 + (1 : Int32)), G34))))
  else (some (.inl (a0, i1, i2, i3, i4, (i5 + (1 : Int32)), G23)))))
noncomputable def fX8_betterAt_36 (a0 : Nat) (i1 : Int32) (i2 : Int32) (i3 : Int32) (i4 : Int32) (i5 : Int32) (G : fg_H) : Option (Int32 × fg_H) :=
  fg_lp (fun y : Nat × Int32 × Int32 × Int32 × Int32 × Int32 × fg_H => fX8_betterAt_36b y.1 y.2.1 y.2.2.1 y.2.2.2.1 y.2.2.2.2.1 y.2.2.2.2.2.1 y.2.2.2.2.2.2) (a0, i1, i2, i3, i4, i5, G)
noncomputable def fX8_betterAt (a0 : Nat) (i1 : Int32) (G : fg_H) : Option (Int32 × fg_H) :=
  fg_ob (fg_gr G a0 [8] 37) fun r1 =>
  fg_ob r1 fun a2 =>
  fg_ob (fg_ai G a2 0 ((12 : Int32) + i1)) fun x3 =>
  fg_gd (fg_rc G a0 8) <|
  fg_oc (fX8_all a0 G) fun x5 G4 =>
  fg_gd (fg_rc G4 a0 8) <|
  fg_oc (fX8_goes a0 x5 G4) fun _ G6 =>
  fg_ob (fg_gr G6 a0 [8] 14) fun r7 =>
  fg_ob r7 fun a8 =>
  fg_ob (fg_ai G6 a8 0 i1) fun x9 =>
  fg_gd (fg_rc G6 a0 8) <|
  fg_oc (fX8_yielded a0 x9 (-1 : Int32) G6) fun x11 G10 =>
  fX8_betterAt_36 a0 i1 x3 x3 x11 (0 : Int32) G10
/-! FogNetsModel.restless()I -/
noncomputable def fX8_restless_9b (a0 : Nat) (i1 : Int32) (i2 : Int32) (G : fg_H) : Option ((Nat × Int32 × Int32 × fg_H) ⊕ (Int32 × fg_H)) :=
  fg_ob (fg_gr G a0 [8] 10) fun r2 =>
  fg_ob r2 fun a3 =>
  fg_ob (fg_ai G a3 0 (6 : Int32)) fun x4 =>
  if x4 ≤ i2 then (fg_rt (some (i1, G)))
  else (fg_gd (fg_rc G a0 8) <|
  fg_oc (fX8_betterAt a0 i2 G) fun x7 G6 =>
  fg_ob (fg_gr G6 a0 [8] 37) fun r8 =>
  fg_ob r8 fun a9 =>
  fg_ob (fg_ai G6 a9 0 ((12 : Int32) + i2)) fun x10 =>
  if x7 = x10 then (fg_ob (some (i1 ||| (0 : Int32))) fun v11 =>
  some (.inl (a0, v11, (i2 + (1 : Int32)), G6)))
  else (fg_ob (some (i1 ||| ((1 : Int32) <<< (i2 &&& 31)))) fun v12 =>
  some (.inl (a0, v12, (i2 + (1 : Int32)), G6))))
noncomputable def fX8_restless_9 (a0 : Nat) (i1 : Int32) (i2 : Int32) (G : fg_H) : Option (Int32 × fg_H) :=
  fg_lp (fun y : Nat × Int32 × Int32 × fg_H => fX8_restless_9b y.1 y.2.1 y.2.2.1 y.2.2.2) (a0, i1, i2, G)
noncomputable def fX8_restless (a0 : Nat) (G : fg_H) : Option (Int32 × fg_H) :=
  fg_ob (fg_pv G a0 [8] 0 (.int (0 : Int32))) fun G1 =>
  fX8_restless_9 a0 (0 : Int32) (0 : Int32) G1
/-! FogNetsModel.copies([II[II)V -/
noncomputable def fX8_copies_3b (r0 : Option Nat) (i1 : Int32) (r2 : Option Nat) (i3 : Int32) (i4 : Int32) (G : fg_H) : Option ((Option Nat × Int32 × Option Nat × Int32 × Int32 × fg_H) ⊕ (Unit × fg_H)) :=
  if (80 : Int32) ≤ i4 then (fg_rt (some ((), G)))
  else (fg_ob r0 fun a2 =>
  fg_ob (fg_ai G a2 0 (i1 + i4)) fun x3 =>
  fg_ob r2 fun a4 =>
  fg_ob (fg_si G a4 0 (i3 + i4) x3) fun G5 =>
  some (.inl ((some a2), i1, (some a4), i3, (i4 + (1 : Int32)), G5)))
noncomputable def fX8_copies_3 (r0 : Option Nat) (i1 : Int32) (r2 : Option Nat) (i3 : Int32) (i4 : Int32) (G : fg_H) : Option (Unit × fg_H) :=
  fg_lp (fun y : Option Nat × Int32 × Option Nat × Int32 × Int32 × fg_H => fX8_copies_3b y.1 y.2.1 y.2.2.1 y.2.2.2.1 y.2.2.2.2.1 y.2.2.2.2.2) (r0, i1, r2, i3, i4, G)
noncomputable def fX8_copies (r0 : Option Nat) (i1 : Int32) (r2 : Option Nat) (i3 : Int32) (G : fg_H) : Option (Unit × fg_H) :=
  fX8_copies_3 r0 i1 r2 i3 (0 : Int32) G
/-! FogNetsModel.isAs(I)Z -/
noncomputable def fX8_isAs_2b (a0 : Nat) (i1 : Int32) (i2 : Int32) (G : fg_H) : Option ((Nat × Int32 × Int32 × fg_H) ⊕ (Int32 × fg_H)) :=
  fg_ob (fg_gr G a0 [8] 10) fun r1 =>
  fg_ob r1 fun a2 =>
  fg_ob (fg_ai G a2 0 (6 : Int32)) fun x3 =>
  if x3 ≤ i2 then (fg_rt (some ((1 : Int32), G)))
  else (fg_ob (fg_gr G a0 [8] 41) fun r5 =>
  fg_ob r5 fun a6 =>
  fg_ob (fg_ai G a6 0 (((12 : Int32) * i1) + i2)) fun x7 =>
  fg_ob (fg_gr G a0 [8] 37) fun r8 =>
  fg_ob r8 fun a9 =>
  fg_ob (fg_ai G a9 0 ((12 : Int32) + i2)) fun x10 =>
  if x7 = x10 then (some (.inl (a0, i1, (i2 + (1 : Int32)), G)))
  else (fg_rt (some ((0 : Int32), G))))
noncomputable def fX8_isAs_2 (a0 : Nat) (i1 : Int32) (i2 : Int32) (G : fg_H) : Option (Int32 × fg_H) :=
  fg_lp (fun y : Nat × Int32 × Int32 × fg_H => fX8_isAs_2b y.1 y.2.1 y.2.2.1 y.2.2.2) (a0, i1, i2, G)
noncomputable def fX8_isAs (a0 : Nat) (i1 : Int32) (G : fg_H) : Option (Int32 × fg_H) :=
  fX8_isAs_2 a0 i1 (0 : Int32) G
/-! FogNetsModel.plays()V -/
noncomputable def fX8_plays_173b (a0 : Nat) (i1 : Int32) (i3 : Int32) (G : fg_H) : Option ((Nat × Int32 × Int32 × fg_H) ⊕ ((Nat × Int32 × fg_H) ⊕ (Unit × fg_H))) :=
  if (12 : Int32) ≤ i3 then (fg_rt (some (.inl (a0, i1, G))))
  else (fg_ob (fg_gr G a0 [8] 41) fun r18 =>
  fg_ob (fg_gi G a0 [8] 42) fun x19 =>
  fg_ob (fg_gr G a0 [8] 37) fun r20 =>
  fg_ob r20 fun a21 =>
  fg_ob (fg_ai G a21 0 ((12 : Int32) + i3)) fun x22 =>
  fg_ob r18 fun a23 =>
  fg_ob (fg_si G a23 0 (((12 : Int32) * x19) + i3) x22) fun G24 =>
  some (.inl (a0, i1, (i3 + (1 : Int32)), G24)))
noncomputable def fX8_plays_173 (a0 : Nat) (i1 : Int32) (i3 : Int32) (G : fg_H) : Option ((Nat × Int32 × fg_H) ⊕ (Unit × fg_H)) :=
  fg_lp (fun y : Nat × Int32 × Int32 × fg_H => fX8_plays_173b y.1 y.2.1 y.2.2.1 y.2.2.2) (a0, i1, i3, G)
noncomputable def fX8_plays_147b (a0 : Nat) (i1 : Int32) (i3 : Int32) (G : fg_H) : Option ((Nat × Int32 × Int32 × fg_H) ⊕ ((Nat × Int32 × fg_H) ⊕ (Unit × fg_H))) :=
  fg_ob (fg_gi G a0 [8] 42) fun x15 =>
  if x15 ≤ i3 then (fg_rt (fX8_plays_173 a0 i1 (0 : Int32) G))
  else (if i1 = 0 then (fg_gd (fg_rc G a0 8) <|
  fg_oc (fX8_isAs a0 i3 G) fun x27 G26 =>
  some (.inl (a0, x27, (i3 + (1 : Int32)), G26)))
  else (fg_rt (fX8_plays_173 a0 i1 (0 : Int32) G)))
noncomputable def fX8_plays_147 (a0 : Nat) (i1 : Int32) (i3 : Int32) (G : fg_H) : Option ((Nat × Int32 × fg_H) ⊕ (Unit × fg_H)) :=
  fg_lp (fun y : Nat × Int32 × Int32 × fg_H => fX8_plays_147b y.1 y.2.1 y.2.2.1 y.2.2.2) (a0, i1, i3, G)
noncomputable def fX8_plays_137 (a0 : Nat) (s0 : Nat) (s1 : Int32) (G : fg_H) : Option ((Nat × Int32 × fg_H) ⊕ (Unit × fg_H)) :=
  fg_gd (fg_b s1) <|
  fg_ob (fg_pv G s0 [8] 43 (.int s1)) fun G13 =>
  fg_ob (fg_gi G13 a0 [8] 43) fun x14 =>
  fX8_plays_147 a0 x14 (0 : Int32) G13
noncomputable def fX8_plays_109 (a0 : Nat) (i3 : Int32) (i4 : Int32) (s0 : Int32) (G : fg_H) : Option ((Nat × Int32 × Int32 × fg_H) ⊕ ((Nat × Int32 × fg_H) ⊕ (Unit × fg_H))) :=
  fg_ob (fg_gr G a0 [8] 37) fun r30 =>
  fg_ob r30 fun a31 =>
  fg_ob (fg_si G a31 0 ((12 : Int32) + i3) i4) fun G32 =>
  some (.inl (a0, s0, (i3 + (1 : Int32)), G32))
noncomputable def fX8_plays_104 (a0 : Nat) (i3 : Int32) (i4 : Int32) (G : fg_H) : Option ((Nat × Int32 × Int32 × fg_H) ⊕ ((Nat × Int32 × fg_H) ⊕ (Unit × fg_H))) :=
  fX8_plays_109 a0 i3 i4 (1 : Int32) G
noncomputable def fX8_plays_68b (a0 : Nat) (i2 : Int32) (i3 : Int32) (G : fg_H) : Option ((Nat × Int32 × Int32 × fg_H) ⊕ ((Nat × Int32 × fg_H) ⊕ (Unit × fg_H))) :=
  fg_ob (fg_gr G a0 [8] 10) fun r9 =>
  fg_ob r9 fun a10 =>
  fg_ob (fg_ai G a10 0 (6 : Int32)) fun x11 =>
  if x11 ≤ i3 then (fg_rt (if i2 = 0 then (fX8_plays_137 a0 a0 (1 : Int32) G)
  else (fX8_plays_137 a0 a0 (0 : Int32) G)))
  else (fg_gd (fg_rc G a0 8) <|
  fg_oc (fX8_betterAt a0 i3 G) fun x29 G28 =>
  if i2 = 0 then (fg_ob (fg_gr G28 a0 [8] 37) fun r33 =>
  fg_ob r33 fun a34 =>
  fg_ob (fg_ai G28 a34 0 ((12 : Int32) + i3)) fun x35 =>
  if x29 = x35 then (fX8_plays_109 a0 i3 x29 (0 : Int32) G28)
  else (fX8_plays_104 a0 i3 x29 G28))
  else (fX8_plays_104 a0 i3 x29 G28))
noncomputable def fX8_plays_68 (a0 : Nat) (i2 : Int32) (i3 : Int32) (G : fg_H) : Option ((Nat × Int32 × fg_H) ⊕ (Unit × fg_H)) :=
  fg_lp (fun y : Nat × Int32 × Int32 × fg_H => fX8_plays_68b y.1 y.2.1 y.2.2.1 y.2.2.2) (a0, i2, i3, G)
noncomputable def fX8_plays_41b (a0 : Nat) (i1 : Int32) (G : fg_H) : Option ((Nat × Int32 × fg_H) ⊕ (Unit × fg_H)) :=
  if i1 = 0 then (fg_ob (fg_gi G a0 [8] 42) fun x5 =>
  if (100 : Int32) ≤ x5 then (fg_rt (some ((), G)))
  else (fg_ob (fg_gi G a0 [8] 42) fun x7 =>
  fg_ob (fg_pv G a0 [8] 42 (.int (x7 + (1 : Int32)))) fun G8 =>
  fX8_plays_68 a0 (0 : Int32) (0 : Int32) G8))
  else (fg_rt (some ((), G)))
noncomputable def fX8_plays_41 (a0 : Nat) (i1 : Int32) (G : fg_H) : Option (Unit × fg_H) :=
  fg_lp (fun y : Nat × Int32 × fg_H => fX8_plays_41b y.1 y.2.1 y.2.2) (a0, i1, G)
noncomputable def fX8_plays_14b (a0 : Nat) (i1 : Int32) (i2 : Int32) (G : fg_H) : Option ((Nat × Int32 × Int32 × fg_H) ⊕ (Unit × fg_H)) :=
  if (12 : Int32) ≤ i2 then (fg_rt (fX8_plays_41 a0 i1 G))
  else (fg_ob (fg_gr G a0 [8] 41) fun r36 =>
  fg_ob (fg_gr G a0 [8] 37) fun r37 =>
  fg_ob r37 fun a38 =>
  fg_ob (fg_ai G a38 0 ((12 : Int32) + i2)) fun x39 =>
  fg_ob r36 fun a40 =>
  fg_ob (fg_si G a40 0 i2 x39) fun G41 =>
  some (.inl (a0, i1, (i2 + (1 : Int32)), G41)))
noncomputable def fX8_plays_14 (a0 : Nat) (i1 : Int32) (i2 : Int32) (G : fg_H) : Option (Unit × fg_H) :=
  fg_lp (fun y : Nat × Int32 × Int32 × fg_H => fX8_plays_14b y.1 y.2.1 y.2.2.1 y.2.2.2) (a0, i1, i2, G)
noncomputable def fX8_plays (a0 : Nat) (G : fg_H) : Option (Unit × fg_H) :=
  fg_ob (fg_pv G a0 [8] 43 (.int (0 : Int32))) fun G1 =>
  fg_ob (fg_pv G1 a0 [8] 42 (.int (0 : Int32))) fun G2 =>
  fX8_plays_14 a0 (0 : Int32) (0 : Int32) G2
/-! FogNetsModel.played(I)I -/
noncomputable def fX8_played_83 (a0 : Nat) (s0 : Int32) (G : fg_H) : Option (Int32 × fg_H) :=
  fg_ob (fg_gr G a0 [8] 38) fun r14 =>
  fg_ob (fg_gr G a0 [8] 37) fun r15 =>
  fg_oc (fX8_copies r14 (0 : Int32) r15 (0 : Int32) G) fun _ G16 =>
  some (s0, G16)
noncomputable def fX8_played (a0 : Nat) (i1 : Int32) (G : fg_H) : Option (Int32 × fg_H) :=
  fg_ob (fg_pv G a0 [8] 0 (.int (0 : Int32))) fun G1 =>
  fg_ob (fg_gr G1 a0 [8] 10) fun r2 =>
  fg_ob r2 fun a3 =>
  fg_ob (fg_ai G1 a3 0 (6 : Int32)) fun x4 =>
  fg_oc (fX8_within i1 (0 : Int32) ((1 : Int32) + x4) G1) fun x6 G5 =>
  if x6 = 0 then (some ((-1 : Int32), G5))
  else (fg_ob (fg_gr G5 a0 [8] 37) fun r7 =>
  fg_ob (fg_gr G5 a0 [8] 38) fun r8 =>
  fg_oc (fX8_copies r7 (0 : Int32) r8 (0 : Int32) G5) fun _ G9 =>
  fg_gd (fg_rc G9 a0 8) <|
  fg_oc (fX8_plays a0 G9) fun _ G10 =>
  if i1 = 0 then (fg_ob (fg_gi G10 a0 [8] 42) fun x18 =>
  fX8_played_83 a0 x18 G10)
  else (if i1 = (1 : Int32) then (fg_ob (fg_gi G10 a0 [8] 43) fun x17 =>
  if x17 = 0 then (fX8_played_83 a0 (0 : Int32) G10)
  else (fX8_played_83 a0 (1 : Int32) G10))
  else (fg_ob (fg_gr G10 a0 [8] 37) fun r11 =>
  fg_ob r11 fun a12 =>
  fg_ob (fg_ai G10 a12 0 (((12 : Int32) + i1) - (2 : Int32))) fun x13 =>
  fX8_played_83 a0 x13 G10)))
/-! FogNetsModel.hole(I)I -/
noncomputable def fX8_hole_14 (a0 : Nat) (i1 : Int32) (s0 : Nat) (s1 : Int32) (G : fg_H) : Option (Int32 × fg_H) :=
  fg_ob (fg_pv G s0 [8] 0 (.int s1)) fun G3 =>
  fg_ob (fg_gi G3 a0 [8] 0) fun x4 =>
  if x4 = (1 : Int32) then (some ((0 : Int32), G3))
  else (fg_gd (fg_rc G3 a0 8) <|
  fg_oc (fX8_all a0 G3) fun x6 G5 =>
  fg_gd (fg_rc G5 a0 8) <|
  fg_oc (fX8_goes a0 x6 G5) fun _ G7 =>
  fg_ob (fg_gr G7 a0 [8] 14) fun r8 =>
  fg_ob r8 fun a9 =>
  fg_ob (fg_ai G7 a9 0 i1) fun x10 =>
  fg_gd (fg_rc G7 a0 8) <|
  fg_oc (fX8_yielded a0 (-1 : Int32) x10 G7) fun x12 G11 =>
  fg_gd (fg_rc G11 a0 8) <|
  fg_oc (fX8_all a0 G11) fun x14 G13 =>
  fg_gd (fg_rc G13 a0 8) <|
  fg_oc (fX8_goes a0 (x14 &&& (((1 : Int32) <<< (i1 &&& 31)) ^^^ (-1 : Int32))) G13) fun _ G15 =>
  fg_ob (fg_gr G15 a0 [8] 14) fun r16 =>
  fg_ob r16 fun a17 =>
  fg_ob (fg_ai G15 a17 0 i1) fun x18 =>
  fg_gd (fg_rc G15 a0 8) <|
  fg_oc (fX8_yielded a0 (-1 : Int32) x18 G15) fun x20 G19 =>
  some ((x20 - x12), G19))
noncomputable def fX8_hole (a0 : Nat) (i1 : Int32) (G : fg_H) : Option (Int32 × fg_H) :=
  fg_gd (fg_rc G a0 8) <|
  fg_oc (fX8_isNet a0 i1 G) fun x2 G1 =>
  if x2 = 0 then (fX8_hole_14 a0 i1 a0 (1 : Int32) G1)
  else (fX8_hole_14 a0 i1 a0 (0 : Int32) G1)
/-! FogNetsModel.first()I -/
noncomputable def fX8_first_97 (a0 : Nat) (i3 : Int32) (i4 : Int32) (G : fg_H) : Option ((Nat × Int32 × Int32 × Int32 × fg_H) ⊕ (Int32 × fg_H)) :=
  some (.inl (a0, i3, i4, (i3 + (1 : Int32)), G))
noncomputable def fX8_first_11b (a0 : Nat) (i1 : Int32) (i2 : Int32) (i3 : Int32) (G : fg_H) : Option ((Nat × Int32 × Int32 × Int32 × fg_H) ⊕ (Int32 × fg_H)) :=
  fg_ob (fg_gr G a0 [8] 10) fun r2 =>
  fg_ob r2 fun a3 =>
  fg_ob (fg_ai G a3 0 (6 : Int32)) fun x4 =>
  if x4 ≤ i3 then (fg_rt (some (i1, G)))
  else (fg_ob (fg_gr G a0 [8] 17) fun r6 =>
  fg_ob r6 fun a7 =>
  fg_ob (fg_ai G a7 0 i3) fun x8 =>
  if x8 = (3 : Int32) then (fg_ob (fg_gr G a0 [8] 37) fun r9 =>
  fg_ob r9 fun a10 =>
  fg_ob (fg_ai G a10 0 ((25 : Int32) + i3)) fun x11 =>
  if x11 = (1 : Int32) then (some (.inl (a0, i1, i2, (i3 + (1 : Int32)), G)))
  else (fg_ob (fg_gr G a0 [8] 37) fun r12 =>
  fg_ob r12 fun a13 =>
  fg_ob (fg_si G a13 0 ((25 : Int32) + i3) (1 : Int32)) fun G14 =>
  fg_gd (fg_rc G14 a0 8) <|
  fg_oc (fX8_all a0 G14) fun x16 G15 =>
  fg_gd (fg_rc G15 a0 8) <|
  fg_oc (fX8_goes a0 x16 G15) fun _ G17 =>
  fg_ob (fg_gr G17 a0 [8] 37) fun r18 =>
  fg_ob r18 fun a19 =>
  fg_ob (fg_si G17 a19 0 ((25 : Int32) + i3) (0 : Int32)) fun G20 =>
  fg_gd (fg_rc G20 a0 8) <|
  fg_oc (fX8_yielded a0 (-1 : Int32) (-1 : Int32) G20) fun x22 G21 =>
  if i1 < 0 then (fX8_first_97 a0 i3 x22 G21)
  else (if i2 < x22 then (fX8_first_97 a0 i3 x22 G21)
  else (some (.inl (a0, i1, i2, (i3 + (1 : Int32)), G21))))))
  else (some (.inl (a0, i1, i2, (i3 + (1 : Int32)), G))))
noncomputable def fX8_first_11 (a0 : Nat) (i1 : Int32) (i2 : Int32) (i3 : Int32) (G : fg_H) : Option (Int32 × fg_H) :=
  fg_lp (fun y : Nat × Int32 × Int32 × Int32 × fg_H => fX8_first_11b y.1 y.2.1 y.2.2.1 y.2.2.2.1 y.2.2.2.2) (a0, i1, i2, i3, G)
noncomputable def fX8_first (a0 : Nat) (G : fg_H) : Option (Int32 × fg_H) :=
  fg_ob (fg_pv G a0 [8] 0 (.int (0 : Int32))) fun G1 =>
  fX8_first_11 a0 (-1 : Int32) (0 : Int32) (0 : Int32) G1
/-! FogNetsModel.bits(I)I -/
noncomputable def fX8_bits_4b (i0 : Int32) (i1 : Int32) (i2 : Int32) (G : fg_H) : Option ((Int32 × Int32 × Int32 × fg_H) ⊕ (Int32 × fg_H)) :=
  if (6 : Int32) ≤ i2 then (fg_rt (some (i1, G)))
  else (fg_ob (some (i1 + ((i0 >>> (i2 &&& 31)) &&& (1 : Int32)))) fun v2 =>
  some (.inl (i0, v2, (i2 + (1 : Int32)), G)))
noncomputable def fX8_bits_4 (i0 : Int32) (i1 : Int32) (i2 : Int32) (G : fg_H) : Option (Int32 × fg_H) :=
  fg_lp (fun y : Int32 × Int32 × Int32 × fg_H => fX8_bits_4b y.1 y.2.1 y.2.2.1 y.2.2.2) (i0, i1, i2, G)
noncomputable def fX8_bits (i0 : Int32) (G : fg_H) : Option (Int32 × fg_H) :=
  fX8_bits_4 i0 (0 : Int32) (0 : Int32) G
/-! FogNetsModel.gcd(II)I -/
noncomputable def fX8_gcd_13b (i2 : Int32) (i3 : Int32) (G : fg_H) : Option ((Int32 × Int32 × fg_H) ⊕ (Int32 × fg_H)) :=
  if i3 = 0 then (fg_rt (some (i2, G)))
  else (fg_gd (!(i3 == 0)) <|
  fg_ob (some (i2 - i2 / i3 * i3)) fun v2 =>
  some (.inl (i3, v2, G)))
noncomputable def fX8_gcd_13 (i2 : Int32) (i3 : Int32) (G : fg_H) : Option (Int32 × fg_H) :=
  fg_lp (fun y : Int32 × Int32 × fg_H => fX8_gcd_13b y.1 y.2.1 y.2.2) (i2, i3, G)
noncomputable def fX8_gcd (i0 : Int32) (i1 : Int32) (G : fg_H) : Option (Int32 × fg_H) :=
  if 0 ≤ i0 then (fX8_gcd_13 i0 i1 G)
  else (fg_ob (some (-i0)) fun v3 =>
  fX8_gcd_13 v3 i1 G)
/-! FogNetsModel.orders(I)I -/
noncomputable def fX8_orders_4b (i0 : Int32) (i1 : Int32) (i2 : Int32) (G : fg_H) : Option ((Int32 × Int32 × Int32 × fg_H) ⊕ (Int32 × fg_H)) :=
  if i0 < i2 then (fg_rt (some (i1, G)))
  else (fg_ob (some (i1 * i2)) fun v2 =>
  some (.inl (i0, v2, (i2 + (1 : Int32)), G)))
noncomputable def fX8_orders_4 (i0 : Int32) (i1 : Int32) (i2 : Int32) (G : fg_H) : Option (Int32 × fg_H) :=
  fg_lp (fun y : Int32 × Int32 × Int32 × fg_H => fX8_orders_4b y.1 y.2.1 y.2.2.1 y.2.2.2) (i0, i1, i2, G)
noncomputable def fX8_orders (i0 : Int32) (G : fg_H) : Option (Int32 × fg_H) :=
  fX8_orders_4 i0 (1 : Int32) (2 : Int32) G
/-! FogNetsModel.share(II)I -/
noncomputable def fX8_share_207 (i4 : Int32) (i5 : Int32) (s0 : Int32) (G : fg_H) : Option (Int32 × fg_H) :=
  fg_oc (fX8_gcd i4 i5 G) fun x14 G13 =>
  fg_gd (!(x14 == 0)) <|
  some ((s0 / x14), G13)
noncomputable def fX8_share_117b (a0 : Nat) (i1 : Int32) (i2 : Int32) (i3 : Int32) (i4 : Int32) (i5 : Int32) (G : fg_H) : Option ((Nat × Int32 × Int32 × Int32 × Int32 × Int32 × fg_H) ⊕ (Int32 × fg_H)) :=
  if ((1 : Int32) <<< (i3 &&& 31)) ≤ i5 then (fg_rt (fg_oc (fX8_orders i3 G) fun x12 G11 =>
  if i2 = 0 then (fX8_share_207 i4 x12 i4 G11)
  else (fX8_share_207 i4 x12 x12 G11)))
  else (if ((i5 >>> (i1 &&& 31)) &&& (1 : Int32)) = (1 : Int32) then (some (.inl (a0, i1, i2, i3, i4, (i5 + (1 : Int32)), G)))
  else (fg_ob (fg_gr G a0 [8] 44) fun r15 =>
  fg_ob r15 fun a16 =>
  fg_ob (fg_ai G a16 0 (i5 ||| ((1 : Int32) <<< (i1 &&& 31)))) fun x17 =>
  fg_ob (fg_gr G a0 [8] 44) fun r18 =>
  fg_ob r18 fun a19 =>
  fg_ob (fg_ai G a19 0 i5) fun x20 =>
  fg_oc (fX8_bits i5 G) fun x22 G21 =>
  fg_oc (fX8_orders x22 G21) fun x24 G23 =>
  fg_oc (fX8_bits i5 G23) fun x26 G25 =>
  fg_oc (fX8_orders ((i3 - (1 : Int32)) - x26) G25) fun x28 G27 =>
  fg_ob (some (i4 + (((x17 - x20) * x24) * x28))) fun v29 =>
  some (.inl (a0, i1, i2, i3, v29, (i5 + (1 : Int32)), G27))))
noncomputable def fX8_share_117 (a0 : Nat) (i1 : Int32) (i2 : Int32) (i3 : Int32) (i4 : Int32) (i5 : Int32) (G : fg_H) : Option (Int32 × fg_H) :=
  fg_lp (fun y : Nat × Int32 × Int32 × Int32 × Int32 × Int32 × fg_H => fX8_share_117b y.1 y.2.1 y.2.2.1 y.2.2.2.1 y.2.2.2.2.1 y.2.2.2.2.2.1 y.2.2.2.2.2.2) (a0, i1, i2, i3, i4, i5, G)
noncomputable def fX8_share_48b (a0 : Nat) (i1 : Int32) (i2 : Int32) (i3 : Int32) (i4 : Int32) (i5 : Int32) (i6 : Int32) (G : fg_H) : Option ((Nat × Int32 × Int32 × Int32 × Int32 × Int32 × Int32 × fg_H) ⊕ ((Nat × Int32 × Int32 × Int32 × Int32 × fg_H) ⊕ (Int32 × fg_H))) :=
  if i3 ≤ i6 then (fg_rt (fg_gd (fg_rc G a0 8) <|
  fg_oc (fX8_goes a0 i5 G) fun _ G31 =>
  fg_ob (fg_gr G31 a0 [8] 44) fun r32 =>
  fg_gd (fg_rc G31 a0 8) <|
  fg_oc (fX8_yielded a0 (-1 : Int32) (-1 : Int32) G31) fun x34 G33 =>
  fg_ob r32 fun a35 =>
  fg_ob (fg_si G33 a35 0 i4 x34) fun G36 =>
  some (.inl (a0, i1, i2, i3, (i4 + (1 : Int32)), G36))))
  else (if ((i4 >>> (i6 &&& 31)) &&& (1 : Int32)) = (1 : Int32) then (fg_gd (fg_rc G a0 8) <|
  fg_oc (fX8_netsOf a0 i6 G) fun x39 G38 =>
  fg_ob (some (i5 ||| x39)) fun v40 =>
  some (.inl (a0, i1, i2, i3, i4, v40, (i6 + (1 : Int32)), G38)))
  else (fg_ob (some (i5 ||| (0 : Int32))) fun v37 =>
  some (.inl (a0, i1, i2, i3, i4, v37, (i6 + (1 : Int32)), G))))
noncomputable def fX8_share_48 (a0 : Nat) (i1 : Int32) (i2 : Int32) (i3 : Int32) (i4 : Int32) (i5 : Int32) (i6 : Int32) (G : fg_H) : Option ((Nat × Int32 × Int32 × Int32 × Int32 × fg_H) ⊕ (Int32 × fg_H)) :=
  fg_lp (fun y : Nat × Int32 × Int32 × Int32 × Int32 × Int32 × Int32 × fg_H => fX8_share_48b y.1 y.2.1 y.2.2.1 y.2.2.2.1 y.2.2.2.2.1 y.2.2.2.2.2.1 y.2.2.2.2.2.2.1 y.2.2.2.2.2.2.2) (a0, i1, i2, i3, i4, i5, i6, G)
noncomputable def fX8_share_34b (a0 : Nat) (i1 : Int32) (i2 : Int32) (i3 : Int32) (i4 : Int32) (G : fg_H) : Option ((Nat × Int32 × Int32 × Int32 × Int32 × fg_H) ⊕ (Int32 × fg_H)) :=
  if ((1 : Int32) <<< (i3 &&& 31)) ≤ i4 then (fg_rt (fX8_share_117 a0 i1 i2 i3 (0 : Int32) (0 : Int32) G))
  else (fX8_share_48 a0 i1 i2 i3 i4 (0 : Int32) (0 : Int32) G)
noncomputable def fX8_share_34 (a0 : Nat) (i1 : Int32) (i2 : Int32) (i3 : Int32) (i4 : Int32) (G : fg_H) : Option (Int32 × fg_H) :=
  fg_lp (fun y : Nat × Int32 × Int32 × Int32 × Int32 × fg_H => fX8_share_34b y.1 y.2.1 y.2.2.1 y.2.2.2.1 y.2.2.2.2.1 y.2.2.2.2.2) (a0, i1, i2, i3, i4, G)
noncomputable def fX8_share (a0 : Nat) (i1 : Int32) (i2 : Int32) (G : fg_H) : Option (Int32 × fg_H) :=
  fg_ob (fg_pv G a0 [8] 0 (.int (0 : Int32))) fun G1 =>
  fg_gd (fg_rc G1 a0 8) <|
  fg_oc (fX8_isVillage a0 i1 G1) fun x3 G2 =>
  if x3 = 0 then (some ((-1 : Int32), G2))
  else (fg_oc (fX8_within i2 (0 : Int32) (1 : Int32) G2) fun x5 G4 =>
  if x5 = 0 then (some ((-1 : Int32), G4))
  else (fg_ob (fg_gr G4 a0 [8] 10) fun r6 =>
  fg_ob r6 fun a7 =>
  fg_ob (fg_ai G4 a7 0 (5 : Int32)) fun x8 =>
  fX8_share_34 a0 i1 i2 x8 (0 : Int32) G4))
/-! FogNetsModel.dry(I)I -/
noncomputable def fX8_dry_83 (a0 : Nat) (i2 : Int32) (G : fg_H) : Option (Int32 × fg_H) :=
  fg_ob (fg_gr G a0 [8] 38) fun r8 =>
  fg_ob (fg_gr G a0 [8] 37) fun r9 =>
  fg_oc (fX8_copies r8 (0 : Int32) r9 (0 : Int32) G) fun _ G10 =>
  some (i2, G10)
noncomputable def fX8_dry_32b (a0 : Nat) (i1 : Int32) (i2 : Int32) (i3 : Int32) (G : fg_H) : Option ((Nat × Int32 × Int32 × Int32 × fg_H) ⊕ (Int32 × fg_H)) :=
  if (100 : Int32) < i3 then (fg_rt (fX8_dry_83 a0 i2 G))
  else (if 0 ≤ i2 then (fg_rt (fX8_dry_83 a0 i2 G))
  else (fg_ob (fg_gr G a0 [8] 37) fun r12 =>
  fg_ob r12 fun a13 =>
  fg_ob (fg_ai G a13 0 ((6 : Int32) + i1)) fun x14 =>
  fg_gd (fg_rc G a0 8) <|
  fg_oc (fX8_night a0 G) fun _ G15 =>
  fg_ob (fg_gr G15 a0 [8] 37) fun r16 =>
  fg_ob r16 fun a17 =>
  fg_ob (fg_ai G15 a17 0 ((6 : Int32) + i1)) fun x18 =>
  if x18 ≤ x14 then (some (.inl (a0, i1, i2, (i3 + (1 : Int32)), G15)))
  else (some (.inl (a0, i1, i3, (i3 + (1 : Int32)), G15)))))
noncomputable def fX8_dry_32 (a0 : Nat) (i1 : Int32) (i2 : Int32) (i3 : Int32) (G : fg_H) : Option (Int32 × fg_H) :=
  fg_lp (fun y : Nat × Int32 × Int32 × Int32 × fg_H => fX8_dry_32b y.1 y.2.1 y.2.2.1 y.2.2.2.1 y.2.2.2.2) (a0, i1, i2, i3, G)
noncomputable def fX8_dry (a0 : Nat) (i1 : Int32) (G : fg_H) : Option (Int32 × fg_H) :=
  fg_ob (fg_pv G a0 [8] 0 (.int (0 : Int32))) fun G1 =>
  fg_gd (fg_rc G1 a0 8) <|
  fg_oc (fX8_isVillage a0 i1 G1) fun x3 G2 =>
  if x3 = 0 then (some ((-1 : Int32), G2))
  else (fg_ob (fg_gr G2 a0 [8] 37) fun r4 =>
  fg_ob (fg_gr G2 a0 [8] 38) fun r5 =>
  fg_oc (fX8_copies r4 (0 : Int32) r5 (0 : Int32) G2) fun _ G6 =>
  fX8_dry_32 a0 i1 (-1 : Int32) (1 : Int32) G6)
/-! FogNetsModel.stored(II)I -/
noncomputable def fX8_stored_40b (a0 : Nat) (i1 : Int32) (i2 : Int32) (i3 : Int32) (G : fg_H) : Option ((Nat × Int32 × Int32 × Int32 × fg_H) ⊕ (Int32 × fg_H)) :=
  if i2 ≤ i3 then (fg_rt (fg_ob (fg_gr G a0 [8] 37) fun r10 =>
  fg_ob r10 fun a11 =>
  fg_ob (fg_ai G a11 0 i1) fun x12 =>
  fg_ob (fg_gr G a0 [8] 38) fun r13 =>
  fg_ob (fg_gr G a0 [8] 37) fun r14 =>
  fg_oc (fX8_copies r13 (0 : Int32) r14 (0 : Int32) G) fun _ G15 =>
  some (x12, G15)))
  else (fg_gd (fg_rc G a0 8) <|
  fg_oc (fX8_night a0 G) fun _ G16 =>
  some (.inl (a0, i1, i2, (i3 + (1 : Int32)), G16)))
noncomputable def fX8_stored_40 (a0 : Nat) (i1 : Int32) (i2 : Int32) (i3 : Int32) (G : fg_H) : Option (Int32 × fg_H) :=
  fg_lp (fun y : Nat × Int32 × Int32 × Int32 × fg_H => fX8_stored_40b y.1 y.2.1 y.2.2.1 y.2.2.2.1 y.2.2.2.2) (a0, i1, i2, i3, G)
noncomputable def fX8_stored (a0 : Nat) (i1 : Int32) (i2 : Int32) (G : fg_H) : Option (Int32 × fg_H) :=
  fg_ob (fg_pv G a0 [8] 0 (.int (0 : Int32))) fun G1 =>
  fg_gd (fg_rc G1 a0 8) <|
  fg_oc (fX8_isVillage a0 i1 G1) fun x3 G2 =>
  if x3 = 0 then (some ((-1 : Int32), G2))
  else (fg_oc (fX8_within i2 (0 : Int32) (100 : Int32) G2) fun x5 G4 =>
  if x5 = 0 then (some ((-1 : Int32), G4))
  else (fg_ob (fg_gr G4 a0 [8] 37) fun r6 =>
  fg_ob (fg_gr G4 a0 [8] 38) fun r7 =>
  fg_oc (fX8_copies r6 (0 : Int32) r7 (0 : Int32) G4) fun _ G8 =>
  fX8_stored_40 a0 i1 i2 (0 : Int32) G8))
/-! FogNetsModel.jar(II)I -/
noncomputable def fX8_jar (a0 : Nat) (i1 : Int32) (i2 : Int32) (G : fg_H) : Option (Int32 × fg_H) :=
  fg_ob (fg_pv G a0 [8] 0 (.int (0 : Int32))) fun G1 =>
  fg_gd (fg_rc G1 a0 8) <|
  fg_oc (fX8_isNet a0 i1 G1) fun x3 G2 =>
  if x3 = 0 then (some ((-1 : Int32), G2))
  else (fg_oc (fX8_within i2 (0 : Int32) (99999 : Int32) G2) fun x5 G4 =>
  if x5 = 0 then (some ((-1 : Int32), G4))
  else (fg_ob (fg_gr G4 a0 [8] 37) fun r6 =>
  fg_ob r6 fun a7 =>
  fg_ob (fg_ai G4 a7 0 (51 : Int32)) fun x8 =>
  if x8 = (8 : Int32) then (some ((-1 : Int32), G4))
  else (fg_ob (fg_gr G4 a0 [8] 37) fun r9 =>
  fg_ob (fg_gr G4 a0 [8] 37) fun r10 =>
  fg_ob r10 fun a11 =>
  fg_ob (fg_ai G4 a11 0 (51 : Int32)) fun x12 =>
  fg_ob r9 fun a13 =>
  fg_ob (fg_si G4 a13 0 ((52 : Int32) + ((2 : Int32) * x12)) i1) fun G14 =>
  fg_ob (fg_gr G14 a0 [8] 37) fun r15 =>
  fg_ob (fg_gr G14 a0 [8] 37) fun r16 =>
  fg_ob r16 fun a17 =>
  fg_ob (fg_ai G14 a17 0 (51 : Int32)) fun x18 =>
  fg_ob r15 fun a19 =>
  fg_ob (fg_si G14 a19 0 (((52 : Int32) + ((2 : Int32) * x18)) + (1 : Int32)) i2) fun G20 =>
  fg_ob (fg_gr G20 a0 [8] 37) fun r21 =>
  fg_ob r21 fun a22 =>
  fg_ob (fg_ai G20 a22 0 (51 : Int32)) fun x23 =>
  fg_ob (fg_si G20 a22 0 (51 : Int32) (x23 + (1 : Int32))) fun G24 =>
  fg_ob (fg_gr G24 a0 [8] 37) fun r25 =>
  fg_ob r25 fun a26 =>
  fg_ob (fg_ai G24 a26 0 (51 : Int32)) fun x27 =>
  some (x27, G24))))
/-! FogNetsModel.clear()Z -/
noncomputable def fX8_clear (a0 : Nat) (G : fg_H) : Option (Int32 × fg_H) :=
  fg_ob (fg_pv G a0 [8] 0 (.int (0 : Int32))) fun G1 =>
  fg_ob (fg_gr G1 a0 [8] 37) fun r2 =>
  fg_ob r2 fun a3 =>
  fg_ob (fg_si G1 a3 0 (51 : Int32) (0 : Int32)) fun G4 =>
  some ((1 : Int32), G4)
/-! FogNetsModel.blowing(I)I -/
noncomputable def fX8_blowing_98b (a0 : Nat) (i1 : Int32) (i2 : Int32) (i3 : Int32) (i4 : Int32) (i6 : Int32) (i7 : Int32) (G : fg_H) : Option ((Nat × Int32 × Int32 × Int32 × Int32 × Int32 × Int32 × fg_H) ⊕ ((Nat × Int32 × Int32 × Int32 × Int32 × fg_H) ⊕ (Int32 × fg_H))) :=
  fg_ob (fg_gr G a0 [8] 37) fun r11 =>
  fg_ob r11 fun a12 =>
  fg_ob (fg_ai G a12 0 (51 : Int32)) fun x13 =>
  if x13 ≤ i7 then (fg_rt (if i6 = 0 then (some (.inl (a0, i1, i2, i3, (i4 + (1 : Int32)), G)))
  else (if i3 = i1 then (fg_rt (some (i4, G)))
  else (some (.inl (a0, i1, i2, (i3 + (1 : Int32)), (i4 + (1 : Int32)), G))))))
  else (if i6 = 0 then (some (.inl (a0, i1, i2, i3, i4, (0 : Int32), (i7 + (1 : Int32)), G)))
  else (fg_ob (fg_gr G a0 [8] 40) fun r16 =>
  fg_ob (fg_gr G a0 [8] 37) fun r17 =>
  fg_ob r17 fun a18 =>
  fg_ob (fg_ai G a18 0 ((52 : Int32) + ((2 : Int32) * i7))) fun x19 =>
  fg_ob r16 fun a20 =>
  fg_ob (fg_ai G a20 0 x19) fun x21 =>
  fg_ob (fg_gr G a0 [8] 37) fun r22 =>
  fg_ob r22 fun a23 =>
  fg_ob (fg_ai G a23 0 (((52 : Int32) + ((2 : Int32) * i7)) + (1 : Int32))) fun x24 =>
  if x21 = x24 then (some (.inl (a0, i1, i2, i3, i4, (1 : Int32), (i7 + (1 : Int32)), G)))
  else (some (.inl (a0, i1, i2, i3, i4, (0 : Int32), (i7 + (1 : Int32)), G)))))
noncomputable def fX8_blowing_98 (a0 : Nat) (i1 : Int32) (i2 : Int32) (i3 : Int32) (i4 : Int32) (i6 : Int32) (i7 : Int32) (G : fg_H) : Option ((Nat × Int32 × Int32 × Int32 × Int32 × fg_H) ⊕ (Int32 × fg_H)) :=
  fg_lp (fun y : Nat × Int32 × Int32 × Int32 × Int32 × Int32 × Int32 × fg_H => fX8_blowing_98b y.1 y.2.1 y.2.2.1 y.2.2.2.1 y.2.2.2.2.1 y.2.2.2.2.2.1 y.2.2.2.2.2.2.1 y.2.2.2.2.2.2.2) (a0, i1, i2, i3, i4, i6, i7, G)
noncomputable def fX8_blowing_46b (a0 : Nat) (i1 : Int32) (i2 : Int32) (i3 : Int32) (i4 : Int32) (i5 : Int32) (i6 : Int32) (G : fg_H) : Option ((Nat × Int32 × Int32 × Int32 × Int32 × Int32 × Int32 × fg_H) ⊕ ((Nat × Int32 × Int32 × Int32 × Int32 × fg_H) ⊕ (Int32 × fg_H))) :=
  fg_ob (fg_gr G a0 [8] 10) fun r7 =>
  fg_ob r7 fun a8 =>
  fg_ob (fg_ai G a8 0 (2 : Int32)) fun x9 =>
  if x9 ≤ i6 then (fg_rt (fX8_blowing_98 a0 i1 i2 i3 i4 (1 : Int32) (0 : Int32) G))
  else (fg_gd (fg_rc G a0 8) <|
  fg_oc (fX8_all a0 G) fun x26 G25 =>
  fg_ob (fg_gr G25 a0 [8] 37) fun r27 =>
  fg_ob r27 fun a28 =>
  fg_ob (fg_ai G25 a28 0 (50 : Int32)) fun x29 =>
  fg_gd (fg_rc G25 a0 8) <|
  fg_oc (fX8_blows a0 x26 i6 (x29 - (1 : Int32)) (i5 - i5 / (4 : Int32) * (4 : Int32)) G25) fun _ G30 =>
  fg_ob (some (i5 / (4 : Int32))) fun v31 =>
  some (.inl (a0, i1, i2, i3, i4, v31, (i6 + (1 : Int32)), G30)))
noncomputable def fX8_blowing_46 (a0 : Nat) (i1 : Int32) (i2 : Int32) (i3 : Int32) (i4 : Int32) (i5 : Int32) (i6 : Int32) (G : fg_H) : Option ((Nat × Int32 × Int32 × Int32 × Int32 × fg_H) ⊕ (Int32 × fg_H)) :=
  fg_lp (fun y : Nat × Int32 × Int32 × Int32 × Int32 × Int32 × Int32 × fg_H => fX8_blowing_46b y.1 y.2.1 y.2.2.1 y.2.2.2.1 y.2.2.2.2.1 y.2.2.2.2.2.1 y.2.2.2.2.2.2.1 y.2.2.2.2.2.2.2) (a0, i1, i2, i3, i4, i5, i6, G)
noncomputable def fX8_blowing_29b (a0 : Nat) (i1 : Int32) (i2 : Int32) (i3 : Int32) (i4 : Int32) (G : fg_H) : Option ((Nat × Int32 × Int32 × Int32 × Int32 × fg_H) ⊕ (Int32 × fg_H)) :=
  if i2 ≤ i4 then (fg_rt (if 0 ≤ i1 then (some ((-1 : Int32), G))
  else (some (i3, G))))
  else (fg_gd (fg_rc G a0 8) <|
  fg_oc (fX8_clears a0 G) fun _ G6 =>
  fX8_blowing_46 a0 i1 i2 i3 i4 i4 (0 : Int32) G6)
noncomputable def fX8_blowing_29 (a0 : Nat) (i1 : Int32) (i2 : Int32) (i3 : Int32) (i4 : Int32) (G : fg_H) : Option (Int32 × fg_H) :=
  fg_lp (fun y : Nat × Int32 × Int32 × Int32 × Int32 × fg_H => fX8_blowing_29b y.1 y.2.1 y.2.2.1 y.2.2.2.1 y.2.2.2.2.1 y.2.2.2.2.2) (a0, i1, i2, i3, i4, G)
noncomputable def fX8_blowing_4b (a0 : Nat) (i1 : Int32) (i2 : Int32) (i3 : Int32) (G : fg_H) : Option ((Nat × Int32 × Int32 × Int32 × fg_H) ⊕ (Int32 × fg_H)) :=
  fg_ob (fg_gr G a0 [8] 10) fun r1 =>
  fg_ob r1 fun a2 =>
  fg_ob (fg_ai G a2 0 (2 : Int32)) fun x3 =>
  if x3 ≤ i3 then (fg_rt (fX8_blowing_29 a0 i1 i2 (0 : Int32) (0 : Int32) G))
  else (fg_ob (some (i2 * (4 : Int32))) fun v32 =>
  some (.inl (a0, i1, v32, (i3 + (1 : Int32)), G)))
noncomputable def fX8_blowing_4 (a0 : Nat) (i1 : Int32) (i2 : Int32) (i3 : Int32) (G : fg_H) : Option (Int32 × fg_H) :=
  fg_lp (fun y : Nat × Int32 × Int32 × Int32 × fg_H => fX8_blowing_4b y.1 y.2.1 y.2.2.1 y.2.2.2.1 y.2.2.2.2) (a0, i1, i2, i3, G)
noncomputable def fX8_blowing (a0 : Nat) (i1 : Int32) (G : fg_H) : Option (Int32 × fg_H) :=
  fX8_blowing_4 a0 i1 (1 : Int32) (0 : Int32) G
/-! FogNetsModel.winds()I -/
noncomputable def fX8_winds (a0 : Nat) (G : fg_H) : Option (Int32 × fg_H) :=
  fg_ob (fg_pv G a0 [8] 0 (.int (0 : Int32))) fun G1 =>
  fg_ob (fg_gr G1 a0 [8] 10) fun r2 =>
  fg_ob r2 fun a3 =>
  fg_ob (fg_ai G1 a3 0 (2 : Int32)) fun x4 =>
  if (6 : Int32) < x4 then (some ((-1 : Int32), G1))
  else (fg_ob (fg_gr G1 a0 [8] 37) fun r5 =>
  fg_ob r5 fun a6 =>
  fg_ob (fg_ai G1 a6 0 (50 : Int32)) fun x7 =>
  if x7 = 0 then (some ((-1 : Int32), G1))
  else (fg_gd (fg_rc G1 a0 8) <|
  fg_oc (fX8_blowing a0 (-1 : Int32) G1) fun x9 G8 =>
  some (x9, G8)))
/-! FogNetsModel.windsAt(I)I -/
noncomputable def fX8_windsAt (a0 : Nat) (i1 : Int32) (G : fg_H) : Option (Int32 × fg_H) :=
  fg_ob (fg_pv G a0 [8] 0 (.int (0 : Int32))) fun G1 =>
  fg_ob (fg_gr G1 a0 [8] 10) fun r2 =>
  fg_ob r2 fun a3 =>
  fg_ob (fg_ai G1 a3 0 (2 : Int32)) fun x4 =>
  if (6 : Int32) < x4 then (some ((-1 : Int32), G1))
  else (fg_ob (fg_gr G1 a0 [8] 37) fun r5 =>
  fg_ob r5 fun a6 =>
  fg_ob (fg_ai G1 a6 0 (50 : Int32)) fun x7 =>
  if x7 = 0 then (some ((-1 : Int32), G1))
  else (if 0 ≤ i1 then (fg_gd (fg_rc G1 a0 8) <|
  fg_oc (fX8_blowing a0 i1 G1) fun x9 G8 =>
  some (x9, G8))
  else (some ((-1 : Int32), G1))))
/-! FogNetsModel.draws(I)I -/
noncomputable def fX8_draws (a0 : Nat) (i1 : Int32) (G : fg_H) : Option (Int32 × fg_H) :=
  fg_ob (fg_gl G a0 [8] 45) fun y1 =>
  fg_ob (fg_pv G a0 [8] 45 (.long (((y1 * (1103515245 : Int64)) + (12345 : Int64)) - ((y1 * (1103515245 : Int64)) + (12345 : Int64)) / (2147483648 : Int64) * (2147483648 : Int64)))) fun G2 =>
  fg_ob (fg_gl G2 a0 [8] 45) fun y3 =>
  fg_gd (!((i1).toInt64 == 0)) <|
  some ((((y3 / (65536 : Int64)) - (y3 / (65536 : Int64)) / (i1).toInt64 * (i1).toInt64)).toInt32, G2)
/-! FogNetsModel.lots(IIII)I -/
noncomputable def fX8_lots_190b (a0 : Nat) (i2 : Int32) (i3 : Int32) (i4 : Int32) (i5 : Int32) (i6 : Int32) (i7 : Int32) (G : fg_H) : Option ((Nat × Int32 × Int32 × Int32 × Int32 × Int32 × Int32 × fg_H) ⊕ ((Nat × Int32 × Int32 × Int32 × Int32 × Int32 × fg_H) ⊕ (Int32 × fg_H))) :=
  fg_ob (fg_gr G a0 [8] 10) fun r16 =>
  fg_ob r16 fun a17 =>
  fg_ob (fg_ai G a17 0 (5 : Int32)) fun x18 =>
  if x18 ≤ i7 then (fg_rt (fg_ob (fg_gr G a0 [8] 38) fun r20 =>
  fg_ob (fg_gr G a0 [8] 37) fun r21 =>
  fg_oc (fX8_copies r20 (0 : Int32) r21 (0 : Int32) G) fun _ G22 =>
  some (.inl (a0, i2, i3, i4, i5, (i6 + (1 : Int32)), G22))))
  else (if i4 = 0 then (fg_ob (fg_gr G a0 [8] 37) fun r30 =>
  fg_ob r30 fun a31 =>
  fg_ob (fg_ai G a31 0 i7) fun x32 =>
  fg_ob (some (i5 + x32)) fun v33 =>
  some (.inl (a0, i2, i3, i4, v33, i6, (i7 + (1 : Int32)), G)))
  else (fg_ob (fg_gr G a0 [8] 37) fun r23 =>
  fg_ob r23 fun a24 =>
  fg_ob (fg_ai G a24 0 ((6 : Int32) + i7)) fun x25 =>
  fg_ob (fg_gr G a0 [8] 38) fun r26 =>
  fg_ob r26 fun a27 =>
  fg_ob (fg_ai G a27 0 ((6 : Int32) + i7)) fun x28 =>
  fg_ob (some (i5 + (x25 - x28))) fun v29 =>
  some (.inl (a0, i2, i3, i4, v29, i6, (i7 + (1 : Int32)), G))))
noncomputable def fX8_lots_190 (a0 : Nat) (i2 : Int32) (i3 : Int32) (i4 : Int32) (i5 : Int32) (i6 : Int32) (i7 : Int32) (G : fg_H) : Option ((Nat × Int32 × Int32 × Int32 × Int32 × Int32 × fg_H) ⊕ (Int32 × fg_H)) :=
  fg_lp (fun y : Nat × Int32 × Int32 × Int32 × Int32 × Int32 × Int32 × fg_H => fX8_lots_190b y.1 y.2.1 y.2.2.1 y.2.2.2.1 y.2.2.2.2.1 y.2.2.2.2.2.1 y.2.2.2.2.2.2.1 y.2.2.2.2.2.2.2) (a0, i2, i3, i4, i5, i6, i7, G)
noncomputable def fX8_lots_168 (a0 : Nat) (i2 : Int32) (i3 : Int32) (i4 : Int32) (i5 : Int32) (i6 : Int32) (i7 : Int32) (i8 : Int32) (s0 : Nat) (s1 : Int32) (s2 : Int32) (s3 : Int32) (s4 : Int32) (G : fg_H) : Option ((Nat × Int32 × Int32 × Int32 × Int32 × Int32 × Int32 × Int32 × fg_H) ⊕ ((Nat × Int32 × Int32 × Int32 × Int32 × Int32 × Int32 × fg_H) ⊕ ((Nat × Int32 × Int32 × Int32 × Int32 × Int32 × fg_H) ⊕ (Int32 × fg_H)))) :=
  fg_gd (fg_rc G s0 8) <|
  fg_oc (fX8_blows s0 s1 s2 s3 s4 G) fun _ G55 =>
  some (.inl (a0, i2, i3, i4, i5, i6, i7, (i8 + (1 : Int32)), G55))
noncomputable def fX8_lots_126 (a0 : Nat) (i2 : Int32) (i3 : Int32) (i4 : Int32) (i5 : Int32) (i6 : Int32) (i7 : Int32) (i8 : Int32) (s0 : Int32) (G : fg_H) : Option ((Nat × Int32 × Int32 × Int32 × Int32 × Int32 × Int32 × Int32 × fg_H) ⊕ ((Nat × Int32 × Int32 × Int32 × Int32 × Int32 × Int32 × fg_H) ⊕ ((Nat × Int32 × Int32 × Int32 × Int32 × Int32 × fg_H) ⊕ (Int32 × fg_H)))) :=
  fg_gd (fg_rc G a0 8) <|
  fg_oc (fX8_all a0 G) fun x46 G45 =>
  fg_ob (fg_gr G45 a0 [8] 37) fun r47 =>
  fg_ob r47 fun a48 =>
  fg_ob (fg_ai G45 a48 0 (50 : Int32)) fun x49 =>
  if s0 = 0 then (fg_ob (fg_gr G45 a0 [8] 37) fun r50 =>
  fg_ob r50 fun a51 =>
  fg_ob (fg_ai G45 a51 0 (50 : Int32)) fun x52 =>
  fg_gd (fg_rc G45 a0 8) <|
  fg_oc (fX8_windAt a0 i8 x52 G45) fun x54 G53 =>
  fX8_lots_168 a0 i2 i3 i4 i5 i6 i7 i8 a0 x46 i8 x49 x54 G53)
  else (fg_gd (fg_rc G45 a0 8) <|
  fg_oc (fX8_draws a0 (4 : Int32) G45) fun x57 G56 =>
  fX8_lots_168 a0 i2 i3 i4 i5 i6 i7 i8 a0 x46 i8 x49 x57 G56)
noncomputable def fX8_lots_95b (a0 : Nat) (i2 : Int32) (i3 : Int32) (i4 : Int32) (i5 : Int32) (i6 : Int32) (i7 : Int32) (i8 : Int32) (G : fg_H) : Option ((Nat × Int32 × Int32 × Int32 × Int32 × Int32 × Int32 × Int32 × fg_H) ⊕ ((Nat × Int32 × Int32 × Int32 × Int32 × Int32 × Int32 × fg_H) ⊕ ((Nat × Int32 × Int32 × Int32 × Int32 × Int32 × fg_H) ⊕ (Int32 × fg_H)))) :=
  fg_ob (fg_gr G a0 [8] 10) fun r35 =>
  fg_ob r35 fun a36 =>
  fg_ob (fg_ai G a36 0 (2 : Int32)) fun x37 =>
  if x37 ≤ i8 then (fg_rt (fg_gd (fg_rc G a0 8) <|
  fg_oc (fX8_ends0 a0 G) fun _ G39 =>
  some (.inl (a0, i2, i3, i4, i5, i6, (i7 + (1 : Int32)), G39))))
  else (fg_gd (fg_rc G a0 8) <|
  fg_oc (fX8_draws a0 (10 : Int32) G) fun x41 G40 =>
  fg_ob (fg_gr G40 a0 [8] 10) fun r42 =>
  fg_ob r42 fun a43 =>
  fg_ob (fg_ai G40 a43 0 (4 : Int32)) fun x44 =>
  if x44 ≤ x41 then (fX8_lots_126 a0 i2 i3 i4 i5 i6 i7 i8 (0 : Int32) G40)
  else (fX8_lots_126 a0 i2 i3 i4 i5 i6 i7 i8 (1 : Int32) G40))
noncomputable def fX8_lots_95 (a0 : Nat) (i2 : Int32) (i3 : Int32) (i4 : Int32) (i5 : Int32) (i6 : Int32) (i7 : Int32) (i8 : Int32) (G : fg_H) : Option ((Nat × Int32 × Int32 × Int32 × Int32 × Int32 × Int32 × fg_H) ⊕ ((Nat × Int32 × Int32 × Int32 × Int32 × Int32 × fg_H) ⊕ (Int32 × fg_H))) :=
  fg_lp (fun y : Nat × Int32 × Int32 × Int32 × Int32 × Int32 × Int32 × Int32 × fg_H => fX8_lots_95b y.1 y.2.1 y.2.2.1 y.2.2.2.1 y.2.2.2.2.1 y.2.2.2.2.2.1 y.2.2.2.2.2.2.1 y.2.2.2.2.2.2.2.1 y.2.2.2.2.2.2.2.2) (a0, i2, i3, i4, i5, i6, i7, i8, G)
noncomputable def fX8_lots_82b (a0 : Nat) (i2 : Int32) (i3 : Int32) (i4 : Int32) (i5 : Int32) (i6 : Int32) (i7 : Int32) (G : fg_H) : Option ((Nat × Int32 × Int32 × Int32 × Int32 × Int32 × Int32 × fg_H) ⊕ ((Nat × Int32 × Int32 × Int32 × Int32 × Int32 × fg_H) ⊕ (Int32 × fg_H))) :=
  if i3 ≤ i7 then (fg_rt (fX8_lots_190 a0 i2 i3 i4 i5 i6 (0 : Int32) G))
  else (fg_gd (fg_rc G a0 8) <|
  fg_oc (fX8_clears a0 G) fun _ G34 =>
  fX8_lots_95 a0 i2 i3 i4 i5 i6 i7 (0 : Int32) G34)
noncomputable def fX8_lots_82 (a0 : Nat) (i2 : Int32) (i3 : Int32) (i4 : Int32) (i5 : Int32) (i6 : Int32) (i7 : Int32) (G : fg_H) : Option ((Nat × Int32 × Int32 × Int32 × Int32 × Int32 × fg_H) ⊕ (Int32 × fg_H)) :=
  fg_lp (fun y : Nat × Int32 × Int32 × Int32 × Int32 × Int32 × Int32 × fg_H => fX8_lots_82b y.1 y.2.1 y.2.2.1 y.2.2.2.1 y.2.2.2.2.1 y.2.2.2.2.2.1 y.2.2.2.2.2.2.1 y.2.2.2.2.2.2.2) (a0, i2, i3, i4, i5, i6, i7, G)
noncomputable def fX8_lots_73b (a0 : Nat) (i2 : Int32) (i3 : Int32) (i4 : Int32) (i5 : Int32) (i6 : Int32) (G : fg_H) : Option ((Nat × Int32 × Int32 × Int32 × Int32 × Int32 × fg_H) ⊕ (Int32 × fg_H)) :=
  if i2 ≤ i6 then (fg_rt (some (i5, G)))
  else (fX8_lots_82 a0 i2 i3 i4 i5 i6 (0 : Int32) G)
noncomputable def fX8_lots_73 (a0 : Nat) (i2 : Int32) (i3 : Int32) (i4 : Int32) (i5 : Int32) (i6 : Int32) (G : fg_H) : Option (Int32 × fg_H) :=
  fg_lp (fun y : Nat × Int32 × Int32 × Int32 × Int32 × Int32 × fg_H => fX8_lots_73b y.1 y.2.1 y.2.2.1 y.2.2.2.1 y.2.2.2.2.1 y.2.2.2.2.2.1 y.2.2.2.2.2.2) (a0, i2, i3, i4, i5, i6, G)
noncomputable def fX8_lots (a0 : Nat) (i1 : Int32) (i2 : Int32) (i3 : Int32) (i4 : Int32) (G : fg_H) : Option (Int32 × fg_H) :=
  fg_ob (fg_pv G a0 [8] 0 (.int (0 : Int32))) fun G1 =>
  fg_oc (fX8_within i1 (0 : Int32) (9999 : Int32) G1) fun x3 G2 =>
  if x3 = 0 then (some ((-1 : Int32), G2))
  else (fg_oc (fX8_within i2 (1 : Int32) (20 : Int32) G2) fun x5 G4 =>
  if x5 = 0 then (some ((-1 : Int32), G4))
  else (fg_oc (fX8_within i3 (1 : Int32) (30 : Int32) G4) fun x7 G6 =>
  if x7 = 0 then (some ((-1 : Int32), G6))
  else (fg_oc (fX8_within i4 (0 : Int32) (1 : Int32) G6) fun x9 G8 =>
  if x9 = 0 then (some ((-1 : Int32), G8))
  else (fg_ob (fg_pv G8 a0 [8] 45 (.long (i1).toInt64)) fun G10 =>
  fg_ob (fg_gr G10 a0 [8] 37) fun r11 =>
  fg_ob (fg_gr G10 a0 [8] 38) fun r12 =>
  fg_oc (fX8_copies r11 (0 : Int32) r12 (0 : Int32) G10) fun _ G13 =>
  fX8_lots_73 a0 i2 i3 i4 (0 : Int32) (0 : Int32) G13))))
/-! FogNetsModel.mark(IZ)Z -/
noncomputable def fX8_mark_29 (a0 : Nat) (i1 : Int32) (i2 : Int32) (G : fg_H) : Option (Int32 × fg_H) :=
  fg_ob (fg_gr G a0 [8] 46) fun r4 =>
  fg_ob r4 fun a5 =>
  fg_ob (fg_si G a5 2 i1 (vp_nar .boolean (1 : Int32))) fun G6 =>
  if i2 = 0 then (fg_gd (fg_rc G6 a0 8) <|
  fg_oc (fX8_lays a0 (0 : Int32) ((2 : Int32) + i1) G6) fun _ G7 =>
  fg_ob (fg_gr G7 a0 [8] 37) fun r8 =>
  fg_ob (fg_gr G7 a0 [8] 39) fun r9 =>
  fg_oc (fX8_copies r8 (0 : Int32) r9 ((80 : Int32) * i1) G7) fun _ G10 =>
  some ((1 : Int32), G10))
  else (fg_gd (fg_rc G6 a0 8) <|
  fg_oc (fX8_lays a0 ((2 : Int32) + i1) (0 : Int32) G6) fun _ G11 =>
  fg_ob (fg_gr G11 a0 [8] 39) fun r12 =>
  fg_ob (fg_gr G11 a0 [8] 37) fun r13 =>
  fg_oc (fX8_copies r12 ((80 : Int32) * i1) r13 (0 : Int32) G11) fun _ G14 =>
  some ((1 : Int32), G14))
noncomputable def fX8_mark (a0 : Nat) (i1 : Int32) (i2 : Int32) (G : fg_H) : Option (Int32 × fg_H) :=
  fg_ob (fg_pv G a0 [8] 0 (.int (0 : Int32))) fun G1 =>
  fg_oc (fX8_within i1 (0 : Int32) (3 : Int32) G1) fun x3 G2 =>
  if x3 = 0 then (some ((0 : Int32), G2))
  else (if i2 = 0 then (fX8_mark_29 a0 i1 i2 G2)
  else (fg_ob (fg_gr G2 a0 [8] 46) fun r15 =>
  fg_ob r15 fun a16 =>
  fg_ob (fg_ai G2 a16 2 i1) fun x17 =>
  if x17 = 0 then (some ((0 : Int32), G2))
  else (fX8_mark_29 a0 i1 i2 G2)))
/-! FogNetsModel.count(I)I -/
noncomputable def fX8_count (a0 : Nat) (i1 : Int32) (G : fg_H) : Option (Int32 × fg_H) :=
  fg_ob (fg_pv G a0 [8] 0 (.int (0 : Int32))) fun G1 =>
  fg_oc (fX8_within i1 (0 : Int32) (8 : Int32) G1) fun x3 G2 =>
  if x3 = 0 then (some ((-1 : Int32), G2))
  else (if (4 : Int32) ≤ i1 then (if i1 = (4 : Int32) then (fg_ob (fg_gr G2 a0 [8] 37) fun r14 =>
  fg_ob r14 fun a15 =>
  fg_ob (fg_ai G2 a15 0 (50 : Int32)) fun x16 =>
  some (x16, G2))
  else (if i1 = (5 : Int32) then (fg_ob (fg_gr G2 a0 [8] 10) fun r11 =>
  fg_ob r11 fun a12 =>
  fg_ob (fg_ai G2 a12 0 (2 : Int32)) fun x13 =>
  some (x13, G2))
  else (if i1 = (6 : Int32) then (fg_ob (fg_gr G2 a0 [8] 37) fun r8 =>
  fg_ob r8 fun a9 =>
  fg_ob (fg_ai G2 a9 0 (51 : Int32)) fun x10 =>
  some (x10, G2))
  else (if i1 = (7 : Int32) then (fg_ob (fg_gr G2 a0 [8] 10) fun r5 =>
  fg_ob r5 fun a6 =>
  fg_ob (fg_ai G2 a6 0 (4 : Int32)) fun x7 =>
  some (x7, G2))
  else (fg_ob (fg_gi G2 a0 [8] 1) fun x4 =>
  some (x4, G2))))))
  else (if i1 = 0 then (fg_ob (fg_gr G2 a0 [8] 10) fun r26 =>
  fg_ob r26 fun a27 =>
  fg_ob (fg_ai G2 a27 0 (0 : Int32)) fun x28 =>
  some (x28, G2))
  else (if i1 = (1 : Int32) then (fg_ob (fg_gr G2 a0 [8] 10) fun r23 =>
  fg_ob r23 fun a24 =>
  fg_ob (fg_ai G2 a24 0 (1 : Int32)) fun x25 =>
  some (x25, G2))
  else (if i1 = (2 : Int32) then (fg_ob (fg_gr G2 a0 [8] 10) fun r20 =>
  fg_ob r20 fun a21 =>
  fg_ob (fg_ai G2 a21 0 (5 : Int32)) fun x22 =>
  some (x22, G2))
  else (fg_ob (fg_gr G2 a0 [8] 10) fun r17 =>
  fg_ob r17 fun a18 =>
  fg_ob (fg_ai G2 a18 0 (6 : Int32)) fun x19 =>
  some (x19, G2))))))

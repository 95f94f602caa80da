set_option maxRecDepth 100000
theorem pn_J0 : plainName RJ0 = true := by decide +kernel
theorem pn_J1 : plainName RJ1 = true := by decide +kernel
theorem pn_J2 : plainName RJ2 = true := by decide +kernel
theorem pn_X2 : plainName RX2 = true := by decide +kernel
theorem pn_X4 : plainName RX4 = true := by decide +kernel
theorem pn_X3 : plainName RX3 = true := by decide +kernel
theorem pn_J4 : plainName RJ4 = true := by decide +kernel
theorem pn_J3 : plainName RJ3 = true := by decide +kernel
theorem pn_X5 : plainName RX5 = true := by decide +kernel
theorem pn_X6 : plainName RX6 = true := by decide +kernel
theorem pn_X7 : plainName RX7 = true := by decide +kernel
theorem pn_X1 : plainName RX1 = true := by decide +kernel
theorem pn_X23 : plainName RX23 = true := by decide +kernel
theorem pn_X24 : plainName RX24 = true := by decide +kernel
theorem pn_X25 : plainName RX25 = true := by decide +kernel
theorem pn_X26 : plainName RX26 = true := by decide +kernel
theorem pn_X27 : plainName RX27 = true := by decide +kernel
theorem pn_X28 : plainName RX28 = true := by decide +kernel
theorem pn_X11 : plainName RX11 = true := by decide +kernel
theorem pn_X12 : plainName RX12 = true := by decide +kernel
theorem pn_X13 : plainName RX13 = true := by decide +kernel
theorem pn_X16 : plainName RX16 = true := by decide +kernel
theorem pn_X17 : plainName RX17 = true := by decide +kernel
theorem pn_X18 : plainName RX18 = true := by decide +kernel
theorem pn_X19 : plainName RX19 = true := by decide +kernel
theorem pn_X20 : plainName RX20 = true := by decide +kernel
theorem pn_X21 : plainName RX21 = true := by decide +kernel
theorem pn_X22 : plainName RX22 = true := by decide +kernel
theorem pn_X15 : plainName RX15 = true := by decide +kernel
theorem pn_X14 : plainName RX14 = true := by decide +kernel
theorem pn_J12 : plainName RJ12 = true := by decide +kernel
theorem pn_J13 : plainName RJ13 = true := by decide +kernel
theorem pn_X29 : plainName RX29 = true := by decide +kernel
theorem pn_X10 : plainName RX10 = true := by decide +kernel
theorem pn_J5 : plainName RJ5 = true := by decide +kernel
theorem pn_J6 : plainName RJ6 = true := by decide +kernel
theorem pn_X9 : plainName RX9 = true := by decide +kernel
theorem pn_J15 : plainName RJ15 = true := by decide +kernel
theorem pn_J14 : plainName RJ14 = true := by decide +kernel
theorem ff_X1_reader : fg_fck [1] 0 "FogNets" "reader" "LFogNets$Reader;" true = true := by decide +kernel
theorem ff_X1_ridge : fg_fck [1] 1 "FogNets" "ridge" "LFogNets$Ridge;" false = true := by decide +kernel
theorem ff_X1_hung : fg_fck [1] 2 "FogNets" "hung" "LFogNets$Hung;" true = true := by decide +kernel
theorem ff_X1_tanks : fg_fck [1] 3 "FogNets" "tanks" "LFogNets$Tanks;" true = true := by decide +kernel
theorem ff_X1_lastTook : fg_fck [1] 5 "FogNets" "lastTook" "[I" true = true := by decide +kernel
theorem ff_X1_jars : fg_fck [1] 6 "FogNets" "jars" "Ljava/util/ArrayList;" true = true := by decide +kernel
theorem ff_X1_sky : fg_fck [1] 7 "FogNets" "sky" "LFogNets$Sky;" true = true := by decide +kernel
theorem ff_X1_trial : fg_fck [1] 8 "FogNets" "trial" "LFogNets$Hung;" true = true := by decide +kernel
theorem ff_X1_later : fg_fck [1] 9 "FogNets" "later" "LFogNets$Tanks;" true = true := by decide +kernel
theorem ff_X1_worth : fg_fck [1] 10 "FogNets" "worth" "[I" true = true := by decide +kernel
theorem ff_X1_takenBy : fg_fck [1] 11 "FogNets" "takenBy" "[I" true = true := by decide +kernel
theorem ff_X1_marks : fg_fck [1] 13 "FogNets" "marks" "[LFogNets$Mark;" true = true := by decide +kernel
theorem ff_J2_elementData : fg_fck [30] 1 "java/util/ArrayList" "elementData" "[Ljava/lang/Object;" false = true := by decide +kernel
theorem ff_J1_modCount : fg_fck [30] 0 "java/util/AbstractList" "modCount" "I" false = true := by decide +kernel
theorem ff_X2_windFacts : fg_fck [2] 0 "FogNets$Reader" "windFacts" "[Ljava/lang/String;" true = true := by decide +kernel
theorem ff_X2_fogFacts : fg_fck [2] 1 "FogNets$Reader" "fogFacts" "[Ljava/lang/String;" true = true := by decide +kernel
theorem ff_X2_kinds : fg_fck [2] 2 "FogNets$Reader" "kinds" "[Ljava/lang/String;" true = true := by decide +kernel
theorem ff_X2_lines : fg_fck [2] 3 "FogNets$Reader" "lines" "[Ljava/lang/String;" true = true := by decide +kernel
theorem ff_X2_kept : fg_fck [2] 4 "FogNets$Reader" "kept" "[Ljava/lang/String;" true = true := by decide +kernel
theorem ff_X2_isTold : fg_fck [2] 5 "FogNets$Reader" "isTold" "[Z" true = true := by decide +kernel
theorem ff_X2_facts : fg_fck [2] 7 "FogNets$Reader" "facts" "[Ljava/lang/String;" false = true := by decide +kernel
theorem ff_X2_tape : fg_fck [2] 8 "FogNets$Reader" "tape" "[I" true = true := by decide +kernel
theorem ff_X2_sort : fg_fck [2] 10 "FogNets$Reader" "sort" "[I" true = true := by decide +kernel
theorem ff_X2_value : fg_fck [2] 11 "FogNets$Reader" "value" "[J" true = true := by decide +kernel
theorem ff_X2_place : fg_fck [2] 12 "FogNets$Reader" "place" "[I" true = true := by decide +kernel
theorem ff_X3_columns : fg_fck [3] 0 "FogNets$Ridge" "columns" "I" false = true := by decide +kernel
theorem ff_X3_rows : fg_fck [3] 1 "FogNets$Ridge" "rows" "I" false = true := by decide +kernel
theorem ff_X3_hours : fg_fck [3] 2 "FogNets$Ridge" "hours" "I" false = true := by decide +kernel
theorem ff_X3_names : fg_fck [3] 7 "FogNets$Ridge" "names" "Ljava/util/ArrayList;" true = true := by decide +kernel
theorem ff_X3_thirst : fg_fck [3] 8 "FogNets$Ridge" "thirst" "[I" true = true := by decide +kernel
theorem ff_X3_tank : fg_fck [3] 9 "FogNets$Ridge" "tank" "[I" true = true := by decide +kernel
theorem ff_X3_nets : fg_fck [3] 10 "FogNets$Ridge" "nets" "Ljava/util/ArrayList;" true = true := by decide +kernel
theorem ff_X3_at : fg_fck [3] 11 "FogNets$Ridge" "at" "[I" true = true := by decide +kernel
theorem ff_X3_facts : fg_fck [3] 12 "FogNets$Ridge" "facts" "LFogNets$Facts;" true = true := by decide +kernel
theorem ff_X4_of : fg_fck [4] 0 "FogNets$Facts" "of" "[I" true = true := by decide +kernel
theorem ff_X5_ridge : fg_fck [5] 0 "FogNets$Hung" "ridge" "LFogNets$Ridge;" false = true := by decide +kernel
theorem ff_X5_mended : fg_fck [5] 4 "FogNets$Hung" "mended" "I" false = true := by decide +kernel
theorem ff_X5_many : fg_fck [5] 5 "FogNets$Hung" "many" "I" false = true := by decide +kernel
theorem ff_X5_netAt : fg_fck [5] 1 "FogNets$Hung" "netAt" "[I" true = true := by decide +kernel
theorem ff_J2_size : fg_fck [30] 2 "java/util/ArrayList" "size" "I" false = true := by decide +kernel
theorem ff_X5_nets : fg_fck [5] 2 "FogNets$Hung" "nets" "[LFogNets$Net;" true = true := by decide +kernel
theorem ff_X5_at : fg_fck [5] 3 "FogNets$Hung" "at" "[I" true = true := by decide +kernel
theorem ff_X5_took : fg_fck [5] 6 "FogNets$Hung" "took" "[I" true = true := by decide +kernel
theorem ff_X6_tank : fg_fck [6] 0 "FogNets$Tanks" "tank" "[I" true = true := by decide +kernel
theorem ff_X6_lacks : fg_fck [6] 1 "FogNets$Tanks" "lacks" "[I" true = true := by decide +kernel
theorem ff_X7_way : fg_fck [7] 0 "FogNets$Sky" "way" "[I" true = true := by decide +kernel
theorem ff_X7_bank : fg_fck [7] 1 "FogNets$Sky" "bank" "[I" true = true := by decide +kernel
theorem ff_X2_taped : fg_fck [2] 9 "FogNets$Reader" "taped" "I" false = true := by decide +kernel
theorem ff_X23_village : fg_fck [23, 24, 25, 26, 27, 28] 0 "FogNets$Net" "village" "I" true = true := by decide +kernel
theorem ff_X23_mesh : fg_fck [23, 24, 25, 26, 27, 28] 1 "FogNets$Net" "mesh" "I" true = true := by decide +kernel
theorem ff_X1_night : fg_fck [1] 4 "FogNets" "night" "I" false = true := by decide +kernel
theorem ff_X3_wind : fg_fck [3] 5 "FogNets$Ridge" "wind" "LFogNets$Expression;" false = true := by decide +kernel
theorem ff_X11_which : fg_fck [11] 0 "FogNets$Fact" "which" "I" true = true := by decide +kernel
theorem ff_X12_n : fg_fck [12] 0 "FogNets$Plain" "n" "I" true = true := by decide +kernel
theorem ff_X13_e : fg_fck [13] 0 "FogNets$Not" "e" "LFogNets$Expression;" true = true := by decide +kernel
theorem ff_X14_first : fg_fck [14] 0 "FogNets$Chain" "first" "LFogNets$Expression;" true = true := by decide +kernel
theorem ff_X14_links : fg_fck [14] 1 "FogNets$Chain" "links" "Ljava/util/ArrayList;" true = true := by decide +kernel
theorem ff_X15_e : fg_fck [16, 17, 18, 19, 20, 21, 22] 0 "FogNets$Link" "e" "LFogNets$Expression;" true = true := by decide +kernel
theorem ff_X3_fog : fg_fck [3] 6 "FogNets$Ridge" "fog" "LFogNets$Expression;" false = true := by decide +kernel
theorem ff_X3_dew : fg_fck [3] 3 "FogNets$Ridge" "dew" "I" false = true := by decide +kernel
theorem ff_X1_g : fg_fck [1] 12 "FogNets" "g" "J" false = true := by decide +kernel
theorem ff_X3_turns : fg_fck [3] 4 "FogNets$Ridge" "turns" "I" false = true := by decide +kernel
theorem ff_X29_ridge : fg_fck [29] 0 "FogNets$Mark" "ridge" "LFogNets$Ridge;" true = true := by decide +kernel
theorem ff_X29_hung : fg_fck [29] 1 "FogNets$Mark" "hung" "LFogNets$Hung;" true = true := by decide +kernel
theorem ff_X29_tanks : fg_fck [29] 2 "FogNets$Mark" "tanks" "LFogNets$Tanks;" true = true := by decide +kernel
theorem ff_X29_night : fg_fck [29] 3 "FogNets$Mark" "night" "I" true = true := by decide +kernel
theorem ff_X29_took : fg_fck [29] 4 "FogNets$Mark" "took" "[I" true = true := by decide +kernel
theorem ff_X29_jars : fg_fck [29] 5 "FogNets$Mark" "jars" "Ljava/util/ArrayList;" true = true := by decide +kernel
theorem ff_X2_draft : fg_fck [2] 6 "FogNets$Reader" "draft" "LFogNets$Ridge;" false = true := by decide +kernel
theorem ff_X2_at : fg_fck [2] 13 "FogNets$Reader" "at" "I" false = true := by decide +kernel
theorem ff_X2_deep : fg_fck [2] 14 "FogNets$Reader" "deep" "I" false = true := by decide +kernel
theorem ff_X9_fault : fg_fck [9] 6 "FogNets$Wrong" "fault" "I" true = true := by decide +kernel
theorem ff_J15_value : fg_fck [31] 0 "java/lang/Long" "value" "J" true = true := by decide +kernel
def nw_J15 : List Value := [.long 0]
theorem nwk_J15 : ∀ j, j < 1 → defaultValue (tyJ15 j) = vp_V nw_J15 j := fun j hj => match j, hj with
  | 0, _ => rfl
  | n + 1, h => absurd h (by omega)
def nw_J17 : List Value := [.null, .null, .null, .null, .null, .int 0]
theorem nwk_J17 : ∀ j, j < 6 → defaultValue (tyJ17 j) = vp_V nw_J17 j := fun j hj => match j, hj with
  | 0, _ => rfl
  | 1, _ => rfl
  | 2, _ => rfl
  | 3, _ => rfl
  | 4, _ => rfl
  | 5, _ => rfl
  | n + 6, h => absurd h (by omega)
def nw_J2 : List Value := [.int 0, .null, .int 0]
theorem nwk_J2 : ∀ j, j < 3 → defaultValue (tyJ2 j) = vp_V nw_J2 j := fun j hj => match j, hj with
  | 0, _ => rfl
  | 1, _ => rfl
  | 2, _ => rfl
  | n + 3, h => absurd h (by omega)
def nw_X11 : List Value := [.int 0]
theorem nwk_X11 : ∀ j, j < 1 → defaultValue (tyX11 j) = vp_V nw_X11 j := fun j hj => match j, hj with
  | 0, _ => rfl
  | n + 1, h => absurd h (by omega)
def nw_X12 : List Value := [.int 0]
theorem nwk_X12 : ∀ j, j < 1 → defaultValue (tyX12 j) = vp_V nw_X12 j := fun j hj => match j, hj with
  | 0, _ => rfl
  | n + 1, h => absurd h (by omega)
def nw_X13 : List Value := [.null]
theorem nwk_X13 : ∀ j, j < 1 → defaultValue (tyX13 j) = vp_V nw_X13 j := fun j hj => match j, hj with
  | 0, _ => rfl
  | n + 1, h => absurd h (by omega)
def nw_X14 : List Value := [.null, .null]
theorem nwk_X14 : ∀ j, j < 2 → defaultValue (tyX14 j) = vp_V nw_X14 j := fun j hj => match j, hj with
  | 0, _ => rfl
  | 1, _ => rfl
  | n + 2, h => absurd h (by omega)
def nw_X16 : List Value := [.null]
theorem nwk_X16 : ∀ j, j < 1 → defaultValue (tyX16 j) = vp_V nw_X16 j := fun j hj => match j, hj with
  | 0, _ => rfl
  | n + 1, h => absurd h (by omega)
def nw_X17 : List Value := [.null]
theorem nwk_X17 : ∀ j, j < 1 → defaultValue (tyX17 j) = vp_V nw_X17 j := fun j hj => match j, hj with
  | 0, _ => rfl
  | n + 1, h => absurd h (by omega)
def nw_X18 : List Value := [.null]
theorem nwk_X18 : ∀ j, j < 1 → defaultValue (tyX18 j) = vp_V nw_X18 j := fun j hj => match j, hj with
  | 0, _ => rfl
  | n + 1, h => absurd h (by omega)
def nw_X19 : List Value := [.null]
theorem nwk_X19 : ∀ j, j < 1 → defaultValue (tyX19 j) = vp_V nw_X19 j := fun j hj => match j, hj with
  | 0, _ => rfl
  | n + 1, h => absurd h (by omega)
def nw_X2 : List Value := [.null, .null, .null, .null, .null, .null, .null, .null, .null, .int 0, .null, .null, .null, .int 0, .int 0]
theorem nwk_X2 : ∀ j, j < 15 → defaultValue (tyX2 j) = vp_V nw_X2 j := fun j hj => match j, hj with
  | 0, _ => rfl
  | 1, _ => rfl
  | 2, _ => rfl
  | 3, _ => rfl
  | 4, _ => rfl
  | 5, _ => rfl
  | 6, _ => rfl
  | 7, _ => rfl
  | 8, _ => rfl
  | 9, _ => rfl
  | 10, _ => rfl
  | 11, _ => rfl
  | 12, _ => rfl
  | 13, _ => rfl
  | 14, _ => rfl
  | n + 15, h => absurd h (by omega)
def nw_X20 : List Value := [.null]
theorem nwk_X20 : ∀ j, j < 1 → defaultValue (tyX20 j) = vp_V nw_X20 j := fun j hj => match j, hj with
  | 0, _ => rfl
  | n + 1, h => absurd h (by omega)
def nw_X21 : List Value := [.null]
theorem nwk_X21 : ∀ j, j < 1 → defaultValue (tyX21 j) = vp_V nw_X21 j := fun j hj => match j, hj with
  | 0, _ => rfl
  | n + 1, h => absurd h (by omega)
def nw_X22 : List Value := [.null]
theorem nwk_X22 : ∀ j, j < 1 → defaultValue (tyX22 j) = vp_V nw_X22 j := fun j hj => match j, hj with
  | 0, _ => rfl
  | n + 1, h => absurd h (by omega)
def nw_X23 : List Value := [.int 0, .int 0]
theorem nwk_X23 : ∀ j, j < 2 → defaultValue (tyX23 j) = vp_V nw_X23 j := fun j hj => match j, hj with
  | 0, _ => rfl
  | 1, _ => rfl
  | n + 2, h => absurd h (by omega)
def nw_X24 : List Value := [.int 0, .int 0]
theorem nwk_X24 : ∀ j, j < 2 → defaultValue (tyX24 j) = vp_V nw_X24 j := fun j hj => match j, hj with
  | 0, _ => rfl
  | 1, _ => rfl
  | n + 2, h => absurd h (by omega)
def nw_X25 : List Value := [.int 0, .int 0]
theorem nwk_X25 : ∀ j, j < 2 → defaultValue (tyX25 j) = vp_V nw_X25 j := fun j hj => match j, hj with
  | 0, _ => rfl
  | 1, _ => rfl
  | n + 2, h => absurd h (by omega)
def nw_X26 : List Value := [.int 0, .int 0]
theorem nwk_X26 : ∀ j, j < 2 → defaultValue (tyX26 j) = vp_V nw_X26 j := fun j hj => match j, hj with
  | 0, _ => rfl
  | 1, _ => rfl
  | n + 2, h => absurd h (by omega)
def nw_X27 : List Value := [.int 0, .int 0]
theorem nwk_X27 : ∀ j, j < 2 → defaultValue (tyX27 j) = vp_V nw_X27 j := fun j hj => match j, hj with
  | 0, _ => rfl
  | 1, _ => rfl
  | n + 2, h => absurd h (by omega)
def nw_X28 : List Value := [.int 0, .int 0]
theorem nwk_X28 : ∀ j, j < 2 → defaultValue (tyX28 j) = vp_V nw_X28 j := fun j hj => match j, hj with
  | 0, _ => rfl
  | 1, _ => rfl
  | n + 2, h => absurd h (by omega)
def nw_X29 : List Value := [.null, .null, .null, .int 0, .null, .null]
theorem nwk_X29 : ∀ j, j < 6 → defaultValue (tyX29 j) = vp_V nw_X29 j := fun j hj => match j, hj with
  | 0, _ => rfl
  | 1, _ => rfl
  | 2, _ => rfl
  | 3, _ => rfl
  | 4, _ => rfl
  | 5, _ => rfl
  | n + 6, h => absurd h (by omega)
def nw_X3 : List Value := [.int 0, .int 0, .int 0, .int 0, .int 0, .null, .null, .null, .null, .null, .null, .null, .null]
theorem nwk_X3 : ∀ j, j < 13 → defaultValue (tyX3 j) = vp_V nw_X3 j := fun j hj => match j, hj with
  | 0, _ => rfl
  | 1, _ => rfl
  | 2, _ => rfl
  | 3, _ => rfl
  | 4, _ => rfl
  | 5, _ => rfl
  | 6, _ => rfl
  | 7, _ => rfl
  | 8, _ => rfl
  | 9, _ => rfl
  | 10, _ => rfl
  | 11, _ => rfl
  | 12, _ => rfl
  | n + 13, h => absurd h (by omega)
def nw_X4 : List Value := [.null]
theorem nwk_X4 : ∀ j, j < 1 → defaultValue (tyX4 j) = vp_V nw_X4 j := fun j hj => match j, hj with
  | 0, _ => rfl
  | n + 1, h => absurd h (by omega)
def nw_X5 : List Value := [.null, .null, .null, .null, .int 0, .int 0, .null]
theorem nwk_X5 : ∀ j, j < 7 → defaultValue (tyX5 j) = vp_V nw_X5 j := fun j hj => match j, hj with
  | 0, _ => rfl
  | 1, _ => rfl
  | 2, _ => rfl
  | 3, _ => rfl
  | 4, _ => rfl
  | 5, _ => rfl
  | 6, _ => rfl
  | n + 7, h => absurd h (by omega)
def nw_X6 : List Value := [.null, .null]
theorem nwk_X6 : ∀ j, j < 2 → defaultValue (tyX6 j) = vp_V nw_X6 j := fun j hj => match j, hj with
  | 0, _ => rfl
  | 1, _ => rfl
  | n + 2, h => absurd h (by omega)
def nw_X7 : List Value := [.null, .null]
theorem nwk_X7 : ∀ j, j < 2 → defaultValue (tyX7 j) = vp_V nw_X7 j := fun j hj => match j, hj with
  | 0, _ => rfl
  | 1, _ => rfl
  | n + 2, h => absurd h (by omega)
def nw_X9 : List Value := [.null, .null, .null, .null, .null, .int 0, .int 0]
theorem nwk_X9 : ∀ j, j < 7 → defaultValue (tyX9 j) = vp_V nw_X9 j := fun j hj => match j, hj with
  | 0, _ => rfl
  | 1, _ => rfl
  | 2, _ => rfl
  | 3, _ => rfl
  | 4, _ => rfl
  | 5, _ => rfl
  | 6, _ => rfl
  | n + 7, h => absurd h (by omega)
/-- e.of(facts), as a row of the callers -/
def fg_RV (vo : Nat → Option Nat → fg_H → Option (Int32 × fg_H)) (n : Nat) : Prop := ∀ (Ω : fg_O) (own nm : String) (cc : ByteArray) (nL d : Nat) (ret : Option FieldType) (G G1 : fg_H) (pc a0 : Nat) (r1 : Option Nat) (index : Nat) (L : List (Nat × Value)) (st : List Value) (x : Int32), fg_X Ω own nm cc nL ret d → vo a0 r1 G = some (x, G1) → n + 1 ≤ d → Cond.methodLink own index ({ cls := "FogNets$Expression", name := "of", desc := "(LFogNets$Facts;)I" } : MethodName) ∈ lw_all → (st.map fun v => v.category).sum ≤ 8 → decode cc pc = .ok (.invokevirtual index, 3) → fg_W Ω G1 (pc + 3) L (.int x :: st) → fg_W Ω G pc L (va_rf r1 :: .ref a0 :: st)
theorem fg_RV.use {vo : Nat → Option Nat → fg_H → Option (Int32 × fg_H)} {n : Nat} (h : fg_RV vo n) {Ω : fg_O} {own nm : String} {cc : ByteArray} {nL d : Nat} {ret : Option FieldType} {G G1 : fg_H} {pc a0 : Nat} {r1 : Option Nat} {index : Nat} {L : List (Nat × Value)} {st : List Value} {x : Int32} (X : fg_X Ω own nm cc nL ret d) (e : vo a0 r1 G = some (x, G1)) (hdd : n + 1 ≤ d) (q : Cond.methodLink own index ({ cls := "FogNets$Expression", name := "of", desc := "(LFogNets$Facts;)I" } : MethodName) ∈ lw_all) (hW : (st.map fun v => v.category).sum ≤ 8) (hd : decode cc pc = .ok (.invokevirtual index, 3)) (kk : fg_W Ω G1 (pc + 3) L (.int x :: st)) : fg_W Ω G pc L (va_rf r1 :: .ref a0 :: st) := h _ _ _ _ _ _ _ _ _ _ _ _ _ _ _ _ X e hdd q hW hd kk
/-- part(), as a contract -/
def fg_RP (vp : Nat → fg_H → Option ((Option Nat ⊕ Nat) × fg_H)) (n : Nat) : Prop := ∀ (l : Launch) (D : fg_D) (a0 : Nat) (G : fg_H) (t : (Option Nat ⊕ Nat) × fg_H), vp a0 G = some t → fg_MX l D yX2_part cX2_part 4 (some (.object "FogNets$Expression")) n [.ref a0] G (fg_or t.1) t.2
theorem fg_RP.use {vp : Nat → fg_H → Option ((Option Nat ⊕ Nat) × fg_H)} {n : Nat} (h : fg_RP vp n) (l : Launch) (D : fg_D) {a0 : Nat} {G : fg_H} {t : (Option Nat ⊕ Nat) × fg_H} (e : vp a0 G = some t) : fg_MX l D yX2_part cX2_part 4 (some (.object "FogNets$Expression")) n [.ref a0] G (fg_or t.1) t.2 := h l D a0 G t e
/-! java/util/AbstractCollection.<init>()V -/
noncomputable def fJ0_init (a0 : Nat) (G : fg_H) : Option (Unit × fg_H) :=
  some ((), G)
/-! java/util/AbstractList.<init>()V -/
noncomputable def fJ1_init (a0 : Nat) (G : fg_H) : Option (Unit × fg_H) :=
  fg_oc (fJ0_init a0 G) fun _ Gz1 =>
  fg_ob (fg_pv Gz1 a0 [30] 0 (.int (0 : Int32))) fun Gz2 =>
  some ((), Gz2)
/-! java/util/ArrayList.<init>()V -/
noncomputable def fJ2_init_2 (a0 : Nat) (G : fg_H) : Option (Unit × fg_H) :=
  fg_oc (fJ1_init a0 G) fun _ Gz1 =>
  fg_ob (some (Gz1.1.2.1 1)) fun rz2 =>
  fg_ob (fg_pv Gz1 a0 [30] 1 (va_rf rz2)) fun Gz3 =>
  some ((), Gz3)
/-! FogNets$Reader.<init>()V -/
noncomputable def fX2_init (a0 : Nat) (G : fg_H) : Option (Unit × fg_H) :=
  fg_oc (fg_na G 7 (2 : Int32)) fun az1 Gz2 =>
  fg_ob (some (Gz2.1.2.2 0)) fun rz3 =>
  fg_ob (fg_sr Gz2 az1 7 (0 : Int32) (some rz3)) fun Gz4 =>
  fg_ob (some (Gz4.1.2.2 1)) fun rz5 =>
  fg_ob (fg_sr Gz4 az1 7 (1 : Int32) (some rz5)) fun Gz6 =>
  fg_ob (fg_pv Gz6 a0 [2] 0 (.ref az1)) fun Gz7 =>
  fg_oc (fg_na Gz7 7 (4 : Int32)) fun az8 Gz9 =>
  fg_ob (some (Gz9.1.2.2 0)) fun rz10 =>
  fg_ob (fg_sr Gz9 az8 7 (0 : Int32) (some rz10)) fun Gz11 =>
  fg_ob (some (Gz11.1.2.2 1)) fun rz12 =>
  fg_ob (fg_sr Gz11 az8 7 (1 : Int32) (some rz12)) fun Gz13 =>
  fg_ob (some (Gz13.1.2.2 2)) fun rz14 =>
  fg_ob (fg_sr Gz13 az8 7 (2 : Int32) (some rz14)) fun Gz15 =>
  fg_ob (some (Gz15.1.2.2 3)) fun rz16 =>
  fg_ob (fg_sr Gz15 az8 7 (3 : Int32) (some rz16)) fun Gz17 =>
  fg_ob (fg_pv Gz17 a0 [2] 1 (.ref az8)) fun Gz18 =>
  fg_oc (fg_na Gz18 7 (6 : Int32)) fun az19 Gz20 =>
  fg_ob (some (Gz20.1.2.2 4)) fun rz21 =>
  fg_ob (fg_sr Gz20 az19 7 (0 : Int32) (some rz21)) fun Gz22 =>
  fg_ob (some (Gz22.1.2.2 5)) fun rz23 =>
  fg_ob (fg_sr Gz22 az19 7 (1 : Int32) (some rz23)) fun Gz24 =>
  fg_ob (some (Gz24.1.2.2 6)) fun rz25 =>
  fg_ob (fg_sr Gz24 az19 7 (2 : Int32) (some rz25)) fun Gz26 =>
  fg_ob (some (Gz26.1.2.2 7)) fun rz27 =>
  fg_ob (fg_sr Gz26 az19 7 (3 : Int32) (some rz27)) fun Gz28 =>
  fg_ob (some (Gz28.1.2.2 8)) fun rz29 =>
  fg_ob (fg_sr Gz28 az19 7 (4 : Int32) (some rz29)) fun Gz30 =>
  fg_ob (some (Gz30.1.2.2 9)) fun rz31 =>
  fg_ob (fg_sr Gz30 az19 7 (5 : Int32) (some rz31)) fun Gz32 =>
  fg_ob (fg_pv Gz32 a0 [2] 2 (.ref az19)) fun Gz33 =>
  fg_oc (fg_na Gz33 7 (6 : Int32)) fun az34 Gz35 =>
  fg_ob (some (Gz35.1.2.2 10)) fun rz36 =>
  fg_ob (fg_sr Gz35 az34 7 (0 : Int32) (some rz36)) fun Gz37 =>
  fg_ob (some (Gz37.1.2.2 11)) fun rz38 =>
  fg_ob (fg_sr Gz37 az34 7 (1 : Int32) (some rz38)) fun Gz39 =>
  fg_ob (some (Gz39.1.2.2 12)) fun rz40 =>
  fg_ob (fg_sr Gz39 az34 7 (2 : Int32) (some rz40)) fun Gz41 =>
  fg_ob (some (Gz41.1.2.2 13)) fun rz42 =>
  fg_ob (fg_sr Gz41 az34 7 (3 : Int32) (some rz42)) fun Gz43 =>
  fg_ob (some (Gz43.1.2.2 14)) fun rz44 =>
  fg_ob (fg_sr Gz43 az34 7 (4 : Int32) (some rz44)) fun Gz45 =>
  fg_ob (some (Gz45.1.2.2 15)) fun rz46 =>
  fg_ob (fg_sr Gz45 az34 7 (5 : Int32) (some rz46)) fun Gz47 =>
  fg_ob (fg_pv Gz47 a0 [2] 3 (.ref az34)) fun Gz48 =>
  fg_oc (fg_na Gz48 7 (9 : Int32)) fun az49 Gz50 =>
  fg_ob (some (Gz50.1.2.2 16)) fun rz51 =>
  fg_ob (fg_sr Gz50 az49 7 (0 : Int32) (some rz51)) fun Gz52 =>
  fg_ob (some (Gz52.1.2.2 17)) fun rz53 =>
  fg_ob (fg_sr Gz52 az49 7 (1 : Int32) (some rz53)) fun Gz54 =>
  fg_ob (some (Gz54.1.2.2 18)) fun rz55 =>
  fg_ob (fg_sr Gz54 az49 7 (2 : Int32) (some rz55)) fun Gz56 =>
  fg_ob (some (Gz56.1.2.2 19)) fun rz57 =>
  fg_ob (fg_sr Gz56 az49 7 (3 : Int32) (some rz57)) fun Gz58 =>
  fg_ob (some (Gz58.1.2.2 20)) fun rz59 =>
  fg_ob (fg_sr Gz58 az49 7 (4 : Int32) (some rz59)) fun Gz60 =>
  fg_ob (some (Gz60.1.2.2 21)) fun rz61 =>
  fg_ob (fg_sr Gz60 az49 7 (5 : Int32) (some rz61)) fun Gz62 =>
  fg_ob (some (Gz62.1.2.2 22)) fun rz63 =>
  fg_ob (fg_sr Gz62 az49 7 (6 : Int32) (some rz63)) fun Gz64 =>
  fg_ob (some (Gz64.1.2.2 23)) fun rz65 =>
  fg_ob (fg_sr Gz64 az49 7 (7 : Int32) (some rz65)) fun Gz66 =>
  fg_ob (some (Gz66.1.2.2 24)) fun rz67 =>
  fg_ob (fg_sr Gz66 az49 7 (8 : Int32) (some rz67)) fun Gz68 =>
  fg_ob (fg_pv Gz68 a0 [2] 4 (.ref az49)) fun Gz69 =>
  fg_oc (fg_na Gz69 2 (6 : Int32)) fun az70 Gz71 =>
  fg_ob (fg_pv Gz71 a0 [2] 5 (.ref az70)) fun Gz72 =>
  fg_ob (fg_gr Gz72 a0 [2] 0) fun rz73 =>
  fg_ob (fg_pv Gz72 a0 [2] 7 (va_rf rz73)) fun Gz74 =>
  fg_oc (fg_na Gz74 0 (1000 : Int32)) fun az75 Gz76 =>
  fg_ob (fg_pv Gz76 a0 [2] 8 (.ref az75)) fun Gz77 =>
  fg_oc (fg_na Gz77 0 (1001 : Int32)) fun az78 Gz79 =>
  fg_ob (fg_pv Gz79 a0 [2] 10 (.ref az78)) fun Gz80 =>
  fg_oc (fg_na Gz80 1 (1001 : Int32)) fun az81 Gz82 =>
  fg_ob (fg_pv Gz82 a0 [2] 11 (.ref az81)) fun Gz83 =>
  fg_oc (fg_na Gz83 0 (1001 : Int32)) fun az84 Gz85 =>
  fg_ob (fg_pv Gz85 a0 [2] 12 (.ref az84)) fun Gz86 =>
  some ((), Gz86)
/-! java/util/ArrayList.<init>(I)V -/
noncomputable def fJ2_init (a0 : Nat) (i1 : Int32) (G : fg_H) : Option (Unit × fg_H) :=
  fg_oc (fJ1_init a0 G) fun _ Gz1 =>
  if i1 ≤ 0 then (if i1 = 0 then (fg_ob (some (Gz1.1.2.1 0)) fun rz2 =>
  fg_ob (fg_pv Gz1 a0 [30] 1 (va_rf rz2)) fun Gz3 =>
  some ((), Gz3))
  else (none))
  else (fg_oc (fg_na Gz1 4 i1) fun az4 Gz5 =>
  fg_ob (fg_pv Gz5 a0 [30] 1 (.ref az4)) fun Gz6 =>
  some ((), Gz6))
/-! FogNets$Facts.<init>()V -/
noncomputable def fX4_init (a0 : Nat) (G : fg_H) : Option (Unit × fg_H) :=
  fg_oc (fg_na G 0 (4 : Int32)) fun az1 Gz2 =>
  fg_ob (fg_pv Gz2 a0 [4] 0 (.ref az1)) fun Gz3 =>
  some ((), Gz3)
/-! FogNets$Ridge.<init>()V -/
noncomputable def fX3_init (a0 : Nat) (G : fg_H) : Option (Unit × fg_H) :=
  fg_ob (fg_pv G a0 [3] 0 (.int (6 : Int32))) fun Gz1 =>
  fg_ob (fg_pv Gz1 a0 [3] 1 (.int (4 : Int32))) fun Gz2 =>
  fg_ob (fg_pv Gz2 a0 [3] 2 (.int (6 : Int32))) fun Gz3 =>
  fg_oc (fg_new Gz3 30 3 nw_J2) fun az4 Gz5 =>
  fg_oc (fJ2_init az4 (2 : Int32) Gz5) fun _ Gz6 =>
  fg_ob (fg_pv Gz6 a0 [3] 7 (.ref az4)) fun Gz7 =>
  fg_oc (fg_na Gz7 0 (6 : Int32)) fun az8 Gz9 =>
  fg_ob (fg_pv Gz9 a0 [3] 8 (.ref az8)) fun Gz10 =>
  fg_oc (fg_na Gz10 0 (6 : Int32)) fun az11 Gz12 =>
  fg_ob (fg_pv Gz12 a0 [3] 9 (.ref az11)) fun Gz13 =>
  fg_oc (fg_new Gz13 30 3 nw_J2) fun az14 Gz15 =>
  fg_oc (fJ2_init az14 (2 : Int32) Gz15) fun _ Gz16 =>
  fg_ob (fg_pv Gz16 a0 [3] 10 (.ref az14)) fun Gz17 =>
  fg_oc (fg_na Gz17 0 (12 : Int32)) fun az18 Gz19 =>
  fg_ob (fg_pv Gz19 a0 [3] 11 (.ref az18)) fun Gz20 =>
  fg_oc (fg_new Gz20 4 1 nw_X4) fun az21 Gz22 =>
  fg_oc (fX4_init az21 Gz22) fun _ Gz23 =>
  fg_ob (fg_pv Gz23 a0 [3] 12 (.ref az21)) fun Gz24 =>
  some ((), Gz24)
/-! java/util/ArrayList.elementData(I)Ljava/lang/Object; -/
noncomputable def fJ2_elementData (a0 : Nat) (i1 : Int32) (G : fg_H) : Option (Option Nat × fg_H) :=
  fg_ob (fg_gr G a0 [30] 1) fun rz1 =>
  fg_ob rz1 fun az2 =>
  fg_ob (fg_ar G az2 4 i1) fun rz3 =>
  some (rz3, G)
/-! jdk/internal/util/Preconditions.checkIndex(IILjava/util/function/BiFunction;)I -/
noncomputable def fJ4_checkIndex_9 (i0 : Int32) (i1 : Int32) (r2 : Option Nat) (G : fg_H) : Option (Int32 × fg_H) :=
  none
noncomputable def fJ4_checkIndex (i0 : Int32) (i1 : Int32) (r2 : Option Nat) (G : fg_H) : Option (Int32 × fg_H) :=
  if i0 < 0 then (fJ4_checkIndex_9 i0 i1 r2 G)
  else (if i0 < i1 then (some (i0, G))
  else (fJ4_checkIndex_9 i0 i1 r2 G))
/-! java/util/Objects.checkIndex(II)I -/
noncomputable def fJ3_checkIndex (i0 : Int32) (i1 : Int32) (G : fg_H) : Option (Int32 × fg_H) :=
  fg_oc (fJ4_checkIndex i0 i1 none G) fun xz2 Gz1 =>
  some (xz2, Gz1)
/-! java/util/ArrayList.get(I)Ljava/lang/Object; -/
noncomputable def fJ2_get (a0 : Nat) (i1 : Int32) (G : fg_H) : Option (Option Nat × fg_H) :=
  fg_ob (fg_gi G a0 [30] 2) fun xz1 =>
  fg_oc (fJ3_checkIndex i1 xz1 G) fun xz3 Gz2 =>
  fg_gd (fg_rc Gz2 a0 30) <|
  fg_oc (fJ2_elementData a0 i1 Gz2) fun rz5 Gz4 =>
  some (rz5, Gz4)
/-! java/util/ArrayList.size()I -/
noncomputable def fJ2_size (a0 : Nat) (G : fg_H) : Option (Int32 × fg_H) :=
  fg_ob (fg_gi G a0 [30] 2) fun xz1 =>
  some (xz1, G)
/-! FogNets$Hung.hangs(LFogNets$Net;I)V -/
noncomputable def fX5_hangs (a0 : Nat) (r1 : Option Nat) (i2 : Int32) (G : fg_H) : Option (Unit × fg_H) :=
  fg_ob (fg_gr G a0 [5] 2) fun rz1 =>
  fg_ob (fg_gi G a0 [5] 5) fun xz2 =>
  fg_ob rz1 fun az3 =>
  fg_ob (fg_sr G az3 5 xz2 r1) fun Gz4 =>
  fg_ob (fg_gr Gz4 a0 [5] 3) fun rz5 =>
  fg_ob (fg_gi Gz4 a0 [5] 5) fun xz6 =>
  fg_ob rz5 fun az7 =>
  fg_ob (fg_si Gz4 az7 0 xz6 i2) fun Gz8 =>
  fg_ob (fg_gi Gz8 a0 [5] 5) fun xz9 =>
  fg_ob (fg_pv Gz8 a0 [5] 5 (.int (xz9 + (1 : Int32)))) fun Gz10 =>
  fg_ob (fg_gr Gz10 a0 [5] 1) fun rz11 =>
  fg_ob (fg_gi Gz10 a0 [5] 5) fun xz12 =>
  fg_ob rz11 fun az13 =>
  fg_ob (fg_si Gz10 az13 0 i2 xz12) fun Gz14 =>
  some ((), Gz14)
/-! FogNets$Hung.begins(LFogNets$Ridge;)V -/
noncomputable def fX5_begins_38b (a0 : Nat) (r1 : Option Nat) (i2 : Int32) (G : fg_H) : Option ((Nat × Option Nat × Int32 × fg_H) ⊕ (Unit × fg_H)) :=
  fg_ob r1 fun az5 =>
  fg_ob (fg_gr G az5 [3] 10) fun rz6 =>
  fg_ob rz6 fun az7 =>
  fg_gd (fg_rc G az7 30) <|
  fg_oc (fJ2_size az7 G) fun xz9 Gz8 =>
  if xz9 ≤ i2 then (fg_rt (some ((), Gz8)))
  else (fg_ob (fg_gr Gz8 az5 [3] 10) fun rz11 =>
  fg_ob rz11 fun az12 =>
  fg_gd (fg_rc Gz8 az12 30) <|
  fg_oc (fJ2_get az12 i2 Gz8) fun rz14 Gz13 =>
  fg_gd (fg_ck Gz13 rz14 [23, 24, 25, 26, 27, 28]) <|
  fg_ob (fg_gr Gz13 az5 [3] 11) fun rz15 =>
  fg_ob rz15 fun az16 =>
  fg_ob (fg_ai Gz13 az16 0 i2) fun xz17 =>
  fg_gd (fg_rc Gz13 a0 5) <|
  fg_oc (fX5_hangs a0 rz14 xz17 Gz13) fun _ Gz18 =>
  some (.inl (a0, (some az5), (i2 + (1 : Int32)), Gz18)))
noncomputable def fX5_begins_38 (a0 : Nat) (r1 : Option Nat) (i2 : Int32) (G : fg_H) : Option (Unit × fg_H) :=
  fg_lp (fun y : Nat × Option Nat × Int32 × fg_H => fX5_begins_38b y.1 y.2.1 y.2.2.1 y.2.2.2) (a0, r1, i2, G)
noncomputable def fX5_begins_17b (a0 : Nat) (r1 : Option Nat) (i2 : Int32) (G : fg_H) : Option ((Nat × Option Nat × Int32 × fg_H) ⊕ (Unit × fg_H)) :=
  if (64 : Int32) ≤ i2 then (fg_rt (fX5_begins_38 a0 r1 (0 : Int32) G))
  else (fg_ob (fg_gr G a0 [5] 1) fun rz19 =>
  fg_ob rz19 fun az20 =>
  fg_ob (fg_si G az20 0 i2 (0 : Int32)) fun Gz21 =>
  some (.inl (a0, r1, (i2 + (1 : Int32)), Gz21)))
noncomputable def fX5_begins_17 (a0 : Nat) (r1 : Option Nat) (i2 : Int32) (G : fg_H) : Option (Unit × fg_H) :=
  fg_lp (fun y : Nat × Option Nat × Int32 × fg_H => fX5_begins_17b y.1 y.2.1 y.2.2.1 y.2.2.2) (a0, r1, i2, G)
noncomputable def fX5_begins (a0 : Nat) (r1 : Option Nat) (G : fg_H) : Option (Unit × fg_H) :=
  fg_ob (fg_pv G a0 [5] 0 (va_rf r1)) fun Gz1 =>
  fg_ob (fg_pv Gz1 a0 [5] 4 (.int (0 : Int32))) fun Gz2 =>
  fg_ob (fg_pv Gz2 a0 [5] 5 (.int (0 : Int32))) fun Gz3 =>
  fX5_begins_17 a0 r1 (0 : Int32) Gz3
/-! FogNets$Hung.<init>()V -/
noncomputable def fX5_init (a0 : Nat) (G : fg_H) : Option (Unit × fg_H) :=
  fg_oc (fg_na G 0 (64 : Int32)) fun az1 Gz2 =>
  fg_ob (fg_pv Gz2 a0 [5] 1 (.ref az1)) fun Gz3 =>
  fg_oc (fg_na Gz3 5 (13 : Int32)) fun az4 Gz5 =>
  fg_ob (fg_pv Gz5 a0 [5] 2 (.ref az4)) fun Gz6 =>
  fg_oc (fg_na Gz6 0 (13 : Int32)) fun az7 Gz8 =>
  fg_ob (fg_pv Gz8 a0 [5] 3 (.ref az7)) fun Gz9 =>
  fg_oc (fg_na Gz9 0 (13 : Int32)) fun az10 Gz11 =>
  fg_ob (fg_pv Gz11 a0 [5] 6 (.ref az10)) fun Gz12 =>
  some ((), Gz12)
/-! FogNets$Tanks.<init>()V -/
noncomputable def fX6_init (a0 : Nat) (G : fg_H) : Option (Unit × fg_H) :=
  fg_oc (fg_na G 0 (6 : Int32)) fun az1 Gz2 =>
  fg_ob (fg_pv Gz2 a0 [6] 0 (.ref az1)) fun Gz3 =>
  fg_oc (fg_na Gz3 0 (6 : Int32)) fun az4 Gz5 =>
  fg_ob (fg_pv Gz5 a0 [6] 1 (.ref az4)) fun Gz6 =>
  some ((), Gz6)
/-! FogNets$Sky.<init>()V -/
noncomputable def fX7_init (a0 : Nat) (G : fg_H) : Option (Unit × fg_H) :=
  fg_oc (fg_na G 0 (12 : Int32)) fun az1 Gz2 =>
  fg_ob (fg_pv Gz2 a0 [7] 0 (.ref az1)) fun Gz3 =>
  fg_oc (fg_na Gz3 0 (96 : Int32)) fun az4 Gz5 =>
  fg_ob (fg_pv Gz5 a0 [7] 1 (.ref az4)) fun Gz6 =>
  some ((), Gz6)
/-! FogNets.<init>()V -/
noncomputable def fX1_init (a0 : Nat) (G : fg_H) : Option (Unit × fg_H) :=
  fg_oc (fg_new G 2 15 nw_X2) fun az1 Gz2 =>
  fg_oc (fX2_init az1 Gz2) fun _ Gz3 =>
  fg_ob (fg_pv Gz3 a0 [1] 0 (.ref az1)) fun Gz4 =>
  fg_oc (fg_new Gz4 3 13 nw_X3) fun az5 Gz6 =>
  fg_oc (fX3_init az5 Gz6) fun _ Gz7 =>
  fg_ob (fg_pv Gz7 a0 [1] 1 (.ref az5)) fun Gz8 =>
  fg_oc (fg_new Gz8 5 7 nw_X5) fun az9 Gz10 =>
  fg_oc (fX5_init az9 Gz10) fun _ Gz11 =>
  fg_ob (fg_pv Gz11 a0 [1] 2 (.ref az9)) fun Gz12 =>
  fg_oc (fg_new Gz12 6 2 nw_X6) fun az13 Gz14 =>
  fg_oc (fX6_init az13 Gz14) fun _ Gz15 =>
  fg_ob (fg_pv Gz15 a0 [1] 3 (.ref az13)) fun Gz16 =>
  fg_oc (fg_na Gz16 0 (12 : Int32)) fun az17 Gz18 =>
  fg_ob (fg_pv Gz18 a0 [1] 5 (.ref az17)) fun Gz19 =>
  fg_oc (fg_new Gz19 30 3 nw_J2) fun az20 Gz21 =>
  fg_oc (fJ2_init_2 az20 Gz21) fun _ Gz22 =>
  fg_ob (fg_pv Gz22 a0 [1] 6 (.ref az20)) fun Gz23 =>
  fg_oc (fg_new Gz23 7 2 nw_X7) fun az24 Gz25 =>
  fg_oc (fX7_init az24 Gz25) fun _ Gz26 =>
  fg_ob (fg_pv Gz26 a0 [1] 7 (.ref az24)) fun Gz27 =>
  fg_oc (fg_new Gz27 5 7 nw_X5) fun az28 Gz29 =>
  fg_oc (fX5_init az28 Gz29) fun _ Gz30 =>
  fg_ob (fg_pv Gz30 a0 [1] 8 (.ref az28)) fun Gz31 =>
  fg_oc (fg_new Gz31 6 2 nw_X6) fun az32 Gz33 =>
  fg_oc (fX6_init az32 Gz33) fun _ Gz34 =>
  fg_ob (fg_pv Gz34 a0 [1] 9 (.ref az32)) fun Gz35 =>
  fg_oc (fg_na Gz35 0 (64 : Int32)) fun az36 Gz37 =>
  fg_ob (fg_pv Gz37 a0 [1] 10 (.ref az36)) fun Gz38 =>
  fg_oc (fg_na Gz38 0 (288 : Int32)) fun az39 Gz40 =>
  fg_ob (fg_pv Gz40 a0 [1] 11 (.ref az39)) fun Gz41 =>
  fg_oc (fg_na Gz41 6 (4 : Int32)) fun az42 Gz43 =>
  fg_ob (fg_pv Gz43 a0 [1] 13 (.ref az42)) fun Gz44 =>
  fg_ob (fg_gr Gz44 a0 [1] 2) fun rz45 =>
  fg_ob (fg_gr Gz44 a0 [1] 1) fun rz46 =>
  fg_ob rz45 fun az47 =>
  fg_gd (fg_rc Gz44 az47 5) <|
  fg_oc (fX5_begins az47 rz46 Gz44) fun _ Gz48 =>
  some ((), Gz48)
/-! FogNets.within(III)Z -/
noncomputable def fX1_within (i0 : Int32) (i1 : Int32) (i2 : Int32) (G : fg_H) : Option (Int32 × fg_H) :=
  if i0 < i1 then (some ((0 : Int32), G))
  else (if i2 < i0 then (some ((0 : Int32), G))
  else (some ((1 : Int32), G)))
/-! FogNets$Reader.feed(J)V -/
noncomputable def fX2_feed_36 (a0 : Nat) (l1 : Int64) (i3 : Int32) (i4 : Int32) (G : fg_H) : Option ((Nat × Int64 × Int32 × fg_H) ⊕ (Unit × fg_H)) :=
  fg_ob (fg_gi G a0 [2] 9) fun xz3 =>
  if (1000 : Int32) ≤ xz3 then (some (.inl (a0, l1, (i3 + (-8 : Int32)), G)))
  else (fg_ob (fg_gr G a0 [2] 8) fun rz4 =>
  fg_ob (fg_gi G a0 [2] 9) fun xz5 =>
  fg_ob rz4 fun az6 =>
  fg_ob (fg_si G az6 0 xz5 i4) fun Gz7 =>
  fg_ob (fg_gi Gz7 a0 [2] 9) fun xz8 =>
  fg_ob (fg_pv Gz7 a0 [2] 9 (.int (xz8 + (1 : Int32)))) fun Gz9 =>
  some (.inl (a0, l1, (i3 + (-8 : Int32)), Gz9)))
noncomputable def fX2_feed_3b (a0 : Nat) (l1 : Int64) (i3 : Int32) (G : fg_H) : Option ((Nat × Int64 × Int32 × fg_H) ⊕ (Unit × fg_H)) :=
  if i3 < 0 then (fg_rt (some ((), G)))
  else (fg_ob (some ((((l1).toUInt64 >>> ((i3).toInt64.toUInt64 &&& Int64.toUInt64 63)).toInt64 &&& (255 : Int64))).toInt32) fun vz2 =>
  if vz2 = (10 : Int32) then (fX2_feed_36 a0 l1 i3 vz2 G)
  else (fg_oc (fX1_within vz2 (32 : Int32) (126 : Int32) G) fun xz11 Gz10 =>
  if xz11 = 0 then (some (.inl (a0, l1, (i3 + (-8 : Int32)), Gz10)))
  else (fX2_feed_36 a0 l1 i3 vz2 Gz10)))
noncomputable def fX2_feed_3 (a0 : Nat) (l1 : Int64) (i3 : Int32) (G : fg_H) : Option (Unit × fg_H) :=
  fg_lp (fun y : Nat × Int64 × Int32 × fg_H => fX2_feed_3b y.1 y.2.1 y.2.2.1 y.2.2.2) (a0, l1, i3, G)
noncomputable def fX2_feed (a0 : Nat) (l1 : Int64) (G : fg_H) : Option (Unit × fg_H) :=
  fX2_feed_3 a0 l1 (56 : Int32) G
/-! FogNets.feed(JJJ)I -/
noncomputable def fX1_feed (a0 : Nat) (l1 : Int64) (l3 : Int64) (l5 : Int64) (G : fg_H) : Option (Int32 × fg_H) :=
  fg_ob (fg_gr G a0 [1] 0) fun rz1 =>
  fg_ob rz1 fun az2 =>
  fg_gd (fg_rc G az2 2) <|
  fg_oc (fX2_feed az2 l1 G) fun _ Gz3 =>
  fg_ob (fg_gr Gz3 a0 [1] 0) fun rz4 =>
  fg_ob rz4 fun az5 =>
  fg_gd (fg_rc Gz3 az5 2) <|
  fg_oc (fX2_feed az5 l3 Gz3) fun _ Gz6 =>
  fg_ob (fg_gr Gz6 a0 [1] 0) fun rz7 =>
  fg_ob rz7 fun az8 =>
  fg_gd (fg_rc Gz6 az8 2) <|
  fg_oc (fX2_feed az8 l5 Gz6) fun _ Gz9 =>
  fg_ob (fg_gr Gz9 a0 [1] 0) fun rz10 =>
  fg_ob rz10 fun az11 =>
  fg_ob (fg_gi Gz9 az11 [2] 9) fun xz12 =>
  some (xz12, Gz9)
/-! FogNets$Net.<init>(II)V -/
noncomputable def fX23_init (a0 : Nat) (i1 : Int32) (i2 : Int32) (G : fg_H) : Option (Unit × fg_H) :=
  fg_ob (fg_pv G a0 [23, 24, 25, 26, 27, 28] 0 (.int i1)) fun Gz1 =>
  fg_ob (fg_pv Gz1 a0 [23, 24, 25, 26, 27, 28] 1 (.int i2)) fun Gz2 =>
  some ((), Gz2)
/-! FogNets$Shroud.<init>(II)V -/
noncomputable def fX24_init (a0 : Nat) (i1 : Int32) (i2 : Int32) (G : fg_H) : Option (Unit × fg_H) :=
  fg_oc (fX23_init a0 i1 i2 G) fun _ Gz1 =>
  some ((), Gz1)
/-! FogNets$Birds.<init>(II)V -/
noncomputable def fX25_init (a0 : Nat) (i1 : Int32) (i2 : Int32) (G : fg_H) : Option (Unit × fg_H) :=
  fg_oc (fX23_init a0 i1 i2 G) fun _ Gz1 =>
  some ((), Gz1)
/-! FogNets$Torn.<init>(II)V -/
noncomputable def fX26_init (a0 : Nat) (i1 : Int32) (i2 : Int32) (G : fg_H) : Option (Unit × fg_H) :=
  fg_oc (fX23_init a0 i1 i2 G) fun _ Gz1 =>
  some ((), Gz1)
/-! FogNets$Spite.<init>(II)V -/
noncomputable def fX27_init (a0 : Nat) (i1 : Int32) (i2 : Int32) (G : fg_H) : Option (Unit × fg_H) :=
  fg_oc (fX23_init a0 i1 i2 G) fun _ Gz1 =>
  some ((), Gz1)
/-! FogNets$High.<init>(II)V -/
noncomputable def fX28_init (a0 : Nat) (i1 : Int32) (i2 : Int32) (G : fg_H) : Option (Unit × fg_H) :=
  fg_oc (fX23_init a0 i1 i2 G) fun _ Gz1 =>
  some ((), Gz1)
/-! FogNets.net(III)LFogNets$Net; -/
noncomputable def fX1_net (i0 : Int32) (i1 : Int32) (i2 : Int32) (G : fg_H) : Option (Option Nat × fg_H) :=
  if i0 = (1 : Int32) then (fg_oc (fg_new G 24 2 nw_X24) fun az1 Gz2 =>
  fg_oc (fX24_init az1 i1 i2 Gz2) fun _ Gz3 =>
  some ((some az1), Gz3))
  else (if i0 = (2 : Int32) then (fg_oc (fg_new G 25 2 nw_X25) fun az4 Gz5 =>
  fg_oc (fX25_init az4 i1 i2 Gz5) fun _ Gz6 =>
  some ((some az4), Gz6))
  else (if i0 = (3 : Int32) then (fg_oc (fg_new G 26 2 nw_X26) fun az7 Gz8 =>
  fg_oc (fX26_init az7 i1 i2 Gz8) fun _ Gz9 =>
  some ((some az7), Gz9))
  else (if i0 = (4 : Int32) then (fg_oc (fg_new G 27 2 nw_X27) fun az10 Gz11 =>
  fg_oc (fX27_init az10 i1 i2 Gz11) fun _ Gz12 =>
  some ((some az10), Gz12))
  else (if i0 = (5 : Int32) then (fg_oc (fg_new G 28 2 nw_X28) fun az13 Gz14 =>
  fg_oc (fX28_init az13 i1 i2 Gz14) fun _ Gz15 =>
  some ((some az13), Gz15))
  else (fg_oc (fg_new G 23 2 nw_X23) fun az16 Gz17 =>
  fg_oc (fX23_init az16 i1 i2 Gz17) fun _ Gz18 =>
  some ((some az16), Gz18))))))
/-! FogNets.isNet(I)Z -/
noncomputable def fX1_isNet (a0 : Nat) (i1 : Int32) (G : fg_H) : Option (Int32 × fg_H) :=
  fg_ob (fg_gr G a0 [1] 2) fun rz1 =>
  fg_ob rz1 fun az2 =>
  fg_ob (fg_gi G az2 [5] 5) fun xz3 =>
  fg_oc (fX1_within i1 (0 : Int32) (xz3 - (1 : Int32)) G) fun xz5 Gz4 =>
  fg_gd (fg_b xz5) (some (xz5, Gz4))
/-! FogNets$Hung.isMended(I)Z -/
noncomputable def fX5_isMended (a0 : Nat) (i1 : Int32) (G : fg_H) : Option (Int32 × fg_H) :=
  fg_ob (fg_gi G a0 [5] 4) fun xz1 =>
  if ((xz1 >>> (i1 &&& 31)) &&& (1 : Int32)) = (1 : Int32) then (some ((1 : Int32), G))
  else (some ((0 : Int32), G))
/-! FogNets$Net.kind()I -/
noncomputable def fX23_kind (a0 : Nat) (G : fg_H) : Option (Int32 × fg_H) :=
  some ((0 : Int32), G)
/-! FogNets$Shroud.kind()I -/
noncomputable def fX24_kind (a0 : Nat) (G : fg_H) : Option (Int32 × fg_H) :=
  some ((1 : Int32), G)
/-! FogNets$Birds.kind()I -/
noncomputable def fX25_kind (a0 : Nat) (G : fg_H) : Option (Int32 × fg_H) :=
  some ((2 : Int32), G)
/-! FogNets$Torn.kind()I -/
noncomputable def fX26_kind (a0 : Nat) (G : fg_H) : Option (Int32 × fg_H) :=
  some ((3 : Int32), G)
/-! FogNets$Spite.kind()I -/
noncomputable def fX27_kind (a0 : Nat) (G : fg_H) : Option (Int32 × fg_H) :=
  some ((4 : Int32), G)
/-! FogNets$High.kind()I -/
noncomputable def fX28_kind (a0 : Nat) (G : fg_H) : Option (Int32 × fg_H) :=
  some ((5 : Int32), G)
noncomputable def vX23_kind (a0 : Nat)  (G : fg_H) : Option (Int32 × fg_H) :=
  if fg_rc G a0 23 = true then fX23_kind a0  G else
  if fg_rc G a0 24 = true then fX24_kind a0  G else
  if fg_rc G a0 25 = true then fX25_kind a0  G else
  if fg_rc G a0 26 = true then fX26_kind a0  G else
  if fg_rc G a0 27 = true then fX27_kind a0  G else
  if fg_rc G a0 28 = true then fX28_kind a0  G else
  none
/-! FogNets.net(II)I -/
noncomputable def fX1_net_2 (a0 : Nat) (i1 : Int32) (i2 : Int32) (G : fg_H) : Option (Int32 × fg_H) :=
  fg_gd (fg_rc G a0 1) <|
  fg_oc (fX1_isNet a0 i1 G) fun xz2 Gz1 =>
  if xz2 = 0 then (some ((-1 : Int32), Gz1))
  else (fg_ob (fg_gr Gz1 a0 [1] 2) fun rz3 =>
  fg_ob rz3 fun az4 =>
  fg_ob (fg_gr Gz1 az4 [5] 2) fun rz5 =>
  fg_ob rz5 fun az6 =>
  fg_ob (fg_ar Gz1 az6 5 i1) fun rz7 =>
  if i2 = (0 : Int32) then (fg_ob rz7 fun az8 =>
  fg_ob (fg_gi Gz1 az8 [23, 24, 25, 26, 27, 28] 0) fun xz9 =>
  some (xz9, Gz1))
  else (if i2 = (1 : Int32) then (fg_ob (fg_gr Gz1 a0 [1] 2) fun rz10 =>
  fg_ob rz10 fun az11 =>
  fg_ob (fg_gr Gz1 az11 [5] 3) fun rz12 =>
  fg_ob rz12 fun az13 =>
  fg_ob (fg_ai Gz1 az13 0 i1) fun xz14 =>
  some (xz14, Gz1))
  else (if i2 = (2 : Int32) then (fg_ob rz7 fun az15 =>
  fg_ob (fg_gi Gz1 az15 [23, 24, 25, 26, 27, 28] 1) fun xz16 =>
  some (xz16, Gz1))
  else (if i2 = (3 : Int32) then (fg_ob rz7 fun az17 =>
  fg_oc (vX23_kind az17 Gz1) fun xz19 Gz18 =>
  some (xz19, Gz18))
  else (if i2 = (4 : Int32) then (fg_ob (fg_gr Gz1 a0 [1] 2) fun rz20 =>
  fg_ob rz20 fun az21 =>
  fg_gd (fg_rc Gz1 az21 5) <|
  fg_oc (fX5_isMended az21 i1 Gz1) fun xz23 Gz22 =>
  if xz23 = 0 then (some ((0 : Int32), Gz22))
  else (some ((1 : Int32), Gz22)))
  else (if i2 = (5 : Int32) then (fg_ob (fg_gr Gz1 a0 [1] 5) fun rz24 =>
  fg_ob rz24 fun az25 =>
  fg_ob (fg_ai Gz1 az25 0 i1) fun xz26 =>
  some (xz26, Gz1))
  else (some ((-1 : Int32), Gz1))))))))
/-! FogNets.isVillage(I)Z -/
noncomputable def fX1_isVillage (a0 : Nat) (i1 : Int32) (G : fg_H) : Option (Int32 × fg_H) :=
  fg_ob (fg_gr G a0 [1] 1) fun rz1 =>
  fg_ob rz1 fun az2 =>
  fg_ob (fg_gr G az2 [3] 7) fun rz3 =>
  fg_ob rz3 fun az4 =>
  fg_gd (fg_rc G az4 30) <|
  fg_oc (fJ2_size az4 G) fun xz6 Gz5 =>
  fg_oc (fX1_within i1 (0 : Int32) (xz6 - (1 : Int32)) Gz5) fun xz8 Gz7 =>
  fg_gd (fg_b xz8) (some (xz8, Gz7))
/-! FogNets.village(II)I -/
noncomputable def fX1_village_15b (a0 : Nat) (i1 : Int32) (i2 : Int32) (i3 : Int32) (i4 : Int32) (G : fg_H) : Option ((Nat × Int32 × Int32 × Int32 × Int32 × fg_H) ⊕ (Int32 × fg_H)) :=
  fg_ob (fg_gr G a0 [1] 2) fun rz3 =>
  fg_ob rz3 fun az4 =>
  fg_ob (fg_gi G az4 [5] 5) fun xz5 =>
  if xz5 ≤ i4 then (fg_rt (if i2 = (0 : Int32) then (fg_ob (fg_gr G a0 [1] 1) fun rz7 =>
  fg_ob rz7 fun az8 =>
  fg_ob (fg_gr G az8 [3] 8) fun rz9 =>
  fg_ob rz9 fun az10 =>
  fg_ob (fg_ai G az10 0 i1) fun xz11 =>
  some (xz11, G))
  else (if i2 = (1 : Int32) then (fg_ob (fg_gr G a0 [1] 3) fun rz12 =>
  fg_ob rz12 fun az13 =>
  fg_ob (fg_gr G az13 [6] 0) fun rz14 =>
  fg_ob rz14 fun az15 =>
  fg_ob (fg_ai G az15 0 i1) fun xz16 =>
  some (xz16, G))
  else (if i2 = (2 : Int32) then (fg_ob (fg_gr G a0 [1] 3) fun rz17 =>
  fg_ob rz17 fun az18 =>
  fg_ob (fg_gr G az18 [6] 1) fun rz19 =>
  fg_ob rz19 fun az20 =>
  fg_ob (fg_ai G az20 0 i1) fun xz21 =>
  some (xz21, G))
  else (if i2 = (3 : Int32) then (some (i3, G))
  else (some ((-1 : Int32), G)))))))
  else (fg_ob (fg_gr G a0 [1] 2) fun rz22 =>
  fg_ob rz22 fun az23 =>
  fg_ob (fg_gr G az23 [5] 2) fun rz24 =>
  fg_ob rz24 fun az25 =>
  fg_ob (fg_ar G az25 5 i4) fun rz26 =>
  fg_ob rz26 fun az27 =>
  fg_ob (fg_gi G az27 [23, 24, 25, 26, 27, 28] 0) fun xz28 =>
  if xz28 = i1 then (fg_ob (some (i3 ||| ((1 : Int32) <<< (i4 &&& 31)))) fun vz29 =>
  some (.inl (a0, i1, i2, vz29, (i4 + (1 : Int32)), G)))
  else (some (.inl (a0, i1, i2, i3, (i4 + (1 : Int32)), G))))
noncomputable def fX1_village_15 (a0 : Nat) (i1 : Int32) (i2 : Int32) (i3 : Int32) (i4 : Int32) (G : fg_H) : Option (Int32 × fg_H) :=
  fg_lp (fun y : Nat × Int32 × Int32 × Int32 × Int32 × fg_H => fX1_village_15b y.1 y.2.1 y.2.2.1 y.2.2.2.1 y.2.2.2.2.1 y.2.2.2.2.2) (a0, i1, i2, i3, i4, G)
noncomputable def fX1_village (a0 : Nat) (i1 : Int32) (i2 : Int32) (G : fg_H) : Option (Int32 × fg_H) :=
  fg_gd (fg_rc G a0 1) <|
  fg_oc (fX1_isVillage a0 i1 G) fun xz2 Gz1 =>
  if xz2 = 0 then (some ((-1 : Int32), Gz1))
  else (fX1_village_15 a0 i1 i2 (0 : Int32) (0 : Int32) Gz1)
/-! FogNets.isHour(I)Z -/
noncomputable def fX1_isHour (a0 : Nat) (i1 : Int32) (G : fg_H) : Option (Int32 × fg_H) :=
  fg_ob (fg_gr G a0 [1] 1) fun rz1 =>
  fg_ob rz1 fun az2 =>
  fg_ob (fg_gi G az2 [3] 2) fun xz3 =>
  fg_oc (fX1_within i1 (0 : Int32) (xz3 - (1 : Int32)) G) fun xz5 Gz4 =>
  fg_gd (fg_b xz5) (some (xz5, Gz4))
/-! java/lang/Math.floorMod(II)I -/
noncomputable def fJ7_floorMod (i0 : Int32) (i1 : Int32) (G : fg_H) : Option (Int32 × fg_H) :=
  fg_gd (!(i1 == 0)) <|
  fg_ob (some (i0 - i0 / i1 * i1)) fun vz1 =>
  if 0 ≤ (i0 ^^^ i1) then (some (vz1, G))
  else (if vz1 = 0 then (some (vz1, G))
  else (some ((vz1 + i1), G)))
/-! FogNets$Fact.of(LFogNets$Facts;)I -/
noncomputable def fX11_of (a0 : Nat) (r1 : Option Nat) (G : fg_H) : Option (Int32 × fg_H) :=
  fg_ob r1 fun az1 =>
  fg_ob (fg_gr G az1 [4] 0) fun rz2 =>
  fg_ob (fg_gi G a0 [11] 0) fun xz3 =>
  fg_ob rz2 fun az4 =>
  fg_ob (fg_ai G az4 0 xz3) fun xz5 =>
  some (xz5, G)
/-! FogNets$Plain.of(LFogNets$Facts;)I -/
noncomputable def fX12_of (a0 : Nat) (r1 : Option Nat) (G : fg_H) : Option (Int32 × fg_H) :=
  fg_ob (fg_gi G a0 [12] 0) fun xz1 =>
  some (xz1, G)
/-! FogNets$Not.of(LFogNets$Facts;)I -/
noncomputable def fX13_of (vo : (Nat → Option Nat → fg_H → Option (Int32 × fg_H))) (a0 : Nat) (r1 : Option Nat) (G : fg_H) : Option (Int32 × fg_H) :=
  fg_ob (fg_gr G a0 [13] 0) fun rz1 =>
  fg_ob rz1 fun az2 =>
  fg_oc (vo az2 r1 G) fun xz4 Gz3 =>
  if xz4 = 0 then (some ((1 : Int32), Gz3))
  else (some ((0 : Int32), Gz3))
/-! FogNets$Times.with(II)I -/
noncomputable def fX16_with (a0 : Nat) (i1 : Int32) (i2 : Int32) (G : fg_H) : Option (Int32 × fg_H) :=
  some ((i1 * i2), G)
/-! FogNets$Plus.with(II)I -/
noncomputable def fX17_with (a0 : Nat) (i1 : Int32) (i2 : Int32) (G : fg_H) : Option (Int32 × fg_H) :=
  some ((i1 + i2), G)
/-! FogNets$Minus.with(II)I -/
noncomputable def fX18_with (a0 : Nat) (i1 : Int32) (i2 : Int32) (G : fg_H) : Option (Int32 × fg_H) :=
  some ((i1 - i2), G)
/-! FogNets$Less.with(II)I -/
noncomputable def fX19_with (a0 : Nat) (i1 : Int32) (i2 : Int32) (G : fg_H) : Option (Int32 × fg_H) :=
  if i2 ≤ i1 then (some ((0 : Int32), G))
  else (some ((1 : Int32), G))
/-! FogNets$Same.with(II)I -/
noncomputable def fX20_with (a0 : Nat) (i1 : Int32) (i2 : Int32) (G : fg_H) : Option (Int32 × fg_H) :=
  if i1 = i2 then (some ((1 : Int32), G))
  else (some ((0 : Int32), G))
/-! FogNets$And.with(II)I -/
noncomputable def fX21_with (a0 : Nat) (i1 : Int32) (i2 : Int32) (G : fg_H) : Option (Int32 × fg_H) :=
  if i1 = 0 then (some ((0 : Int32), G))
  else (if i2 = 0 then (some ((0 : Int32), G))
  else (some ((1 : Int32), G)))
/-! FogNets$Or.with(II)I -/
noncomputable def fX22_with (a0 : Nat) (i1 : Int32) (i2 : Int32) (G : fg_H) : Option (Int32 × fg_H) :=
  if i1 = 0 then (if i2 = 0 then (some ((0 : Int32), G))
  else (some ((1 : Int32), G)))
  else (some ((1 : Int32), G))
noncomputable def vX15_with (a0 : Nat) (i1 : Int32) (i2 : Int32) (G : fg_H) : Option (Int32 × fg_H) :=
  if fg_rc G a0 16 = true then fX16_with a0 i1 i2 G else
  if fg_rc G a0 17 = true then fX17_with a0 i1 i2 G else
  if fg_rc G a0 18 = true then fX18_with a0 i1 i2 G else
  if fg_rc G a0 19 = true then fX19_with a0 i1 i2 G else
  if fg_rc G a0 20 = true then fX20_with a0 i1 i2 G else
  if fg_rc G a0 21 = true then fX21_with a0 i1 i2 G else
  if fg_rc G a0 22 = true then fX22_with a0 i1 i2 G else
  none
/-! FogNets$Link.on(ILFogNets$Facts;)I -/
noncomputable def fX15_on (vo : (Nat → Option Nat → fg_H → Option (Int32 × fg_H))) (a0 : Nat) (i1 : Int32) (r2 : Option Nat) (G : fg_H) : Option (Int32 × fg_H) :=
  fg_ob (fg_gr G a0 [16, 17, 18, 19, 20, 21, 22] 0) fun rz1 =>
  fg_ob rz1 fun az2 =>
  fg_oc (vo az2 r2 G) fun xz4 Gz3 =>
  fg_oc (vX15_with a0 i1 xz4 Gz3) fun xz6 Gz5 =>
  some (xz6, Gz5)
noncomputable def vX15_on (vo : (Nat → Option Nat → fg_H → Option (Int32 × fg_H))) (a0 : Nat) (i1 : Int32) (r2 : Option Nat) (G : fg_H) : Option (Int32 × fg_H) :=
  if fg_rc G a0 16 = true then fX15_on vo a0 i1 r2 G else
  if fg_rc G a0 17 = true then fX15_on vo a0 i1 r2 G else
  if fg_rc G a0 18 = true then fX15_on vo a0 i1 r2 G else
  if fg_rc G a0 19 = true then fX15_on vo a0 i1 r2 G else
  if fg_rc G a0 20 = true then fX15_on vo a0 i1 r2 G else
  if fg_rc G a0 21 = true then fX15_on vo a0 i1 r2 G else
  if fg_rc G a0 22 = true then fX15_on vo a0 i1 r2 G else
  none
/-! FogNets$Chain.of(LFogNets$Facts;)I -/
noncomputable def fX14_of_11b (vo : (Nat → Option Nat → fg_H → Option (Int32 × fg_H))) (a0 : Nat) (r1 : Option Nat) (i2 : Int32) (i3 : Int32) (G : fg_H) : Option ((Nat × Option Nat × Int32 × Int32 × fg_H) ⊕ (Int32 × fg_H)) :=
  fg_ob (fg_gr G a0 [14] 1) fun rz5 =>
  fg_ob rz5 fun az6 =>
  fg_gd (fg_rc G az6 30) <|
  fg_oc (fJ2_size az6 G) fun xz8 Gz7 =>
  if xz8 ≤ i3 then (fg_rt (some (i2, Gz7)))
  else (fg_ob (fg_gr Gz7 a0 [14] 1) fun rz10 =>
  fg_ob rz10 fun az11 =>
  fg_gd (fg_rc Gz7 az11 30) <|
  fg_oc (fJ2_get az11 i3 Gz7) fun rz13 Gz12 =>
  fg_gd (fg_ck Gz12 rz13 [16, 17, 18, 19, 20, 21, 22]) <|
  fg_ob rz13 fun az14 =>
  fg_oc (vX15_on vo az14 i2 r1 Gz12) fun xz16 Gz15 =>
  some (.inl (a0, r1, xz16, (i3 + (1 : Int32)), Gz15)))
noncomputable def fX14_of_11 (vo : (Nat → Option Nat → fg_H → Option (Int32 × fg_H))) (a0 : Nat) (r1 : Option Nat) (i2 : Int32) (i3 : Int32) (G : fg_H) : Option (Int32 × fg_H) :=
  fg_lp (fun y : Nat × Option Nat × Int32 × Int32 × fg_H => fX14_of_11b vo y.1 y.2.1 y.2.2.1 y.2.2.2.1 y.2.2.2.2) (a0, r1, i2, i3, G)
noncomputable def fX14_of (vo : (Nat → Option Nat → fg_H → Option (Int32 × fg_H))) (a0 : Nat) (r1 : Option Nat) (G : fg_H) : Option (Int32 × fg_H) :=
  fg_ob (fg_gr G a0 [14] 0) fun rz1 =>
  fg_ob rz1 fun az2 =>
  fg_oc (vo az2 r1 G) fun xz4 Gz3 =>
  fX14_of_11 vo a0 r1 xz4 (0 : Int32) Gz3
noncomputable def vX10_of : Nat → Nat → Option Nat → fg_H → Option (Int32 × fg_H)
  | 0 => fun _ _ _ => none
  | n + 1 => fun a0 r1 G => if fg_rc G a0 11 = true then fX11_of a0 r1 G else
  if fg_rc G a0 12 = true then fX12_of a0 r1 G else
  if fg_rc G a0 13 = true then fX13_of (vX10_of n) a0 r1 G else
  if fg_rc G a0 14 = true then fX14_of (vX10_of n) a0 r1 G else
  none
/-! FogNets$Ridge.wind(II)I -/
noncomputable def fX3_wind (a0 : Nat) (i1 : Int32) (i2 : Int32) (G : fg_H) : Option (Int32 × fg_H) :=
  fg_ob (fg_gr G a0 [3] 5) fun rz1 =>
  fg_on rz1 (some ((0 : Int32), G))
  (fun az2 => fg_ob (fg_gr G a0 [3] 12) fun rz3 =>
  fg_ob rz3 fun az4 =>
  fg_ob (fg_gr G az4 [4] 0) fun rz5 =>
  fg_ob rz5 fun az6 =>
  fg_ob (fg_si G az6 0 (0 : Int32) i2) fun Gz7 =>
  fg_ob (fg_gr Gz7 a0 [3] 12) fun rz8 =>
  fg_ob rz8 fun az9 =>
  fg_ob (fg_gr Gz7 az9 [4] 0) fun rz10 =>
  fg_ob rz10 fun az11 =>
  fg_ob (fg_si Gz7 az11 0 (1 : Int32) i1) fun Gz12 =>
  fg_ob (fg_gr Gz12 a0 [3] 5) fun rz13 =>
  fg_ob (fg_gr Gz12 a0 [3] 12) fun rz14 =>
  fg_ob rz13 fun az15 =>
  fg_oc (vX10_of 40 az15 rz14 Gz12) fun xz17 Gz16 =>
  fg_oc (fJ7_floorMod xz17 (4 : Int32) Gz16) fun xz19 Gz18 =>
  some (xz19, Gz18))
/-! FogNets.wind(I)I -/
noncomputable def fX1_wind (a0 : Nat) (i1 : Int32) (G : fg_H) : Option (Int32 × fg_H) :=
  fg_gd (fg_rc G a0 1) <|
  fg_oc (fX1_isHour a0 i1 G) fun xz2 Gz1 =>
  if xz2 = 0 then (some ((-1 : Int32), Gz1))
  else (fg_ob (fg_gr Gz1 a0 [1] 1) fun rz3 =>
  fg_ob (fg_gi Gz1 a0 [1] 4) fun xz4 =>
  fg_ob rz3 fun az5 =>
  fg_gd (fg_rc Gz1 az5 3) <|
  fg_oc (fX3_wind az5 xz4 i1 Gz1) fun xz7 Gz6 =>
  some (xz7, Gz6))
/-! java/lang/Math.max(II)I -/
noncomputable def fJ7_max (i0 : Int32) (i1 : Int32) (G : fg_H) : Option (Int32 × fg_H) :=
  if i0 < i1 then (some (i1, G))
  else (some (i0, G))
/-! FogNets$Ridge.fog(IIII)I -/
noncomputable def fX3_fog (a0 : Nat) (i1 : Int32) (i2 : Int32) (i3 : Int32) (i4 : Int32) (G : fg_H) : Option (Int32 × fg_H) :=
  fg_ob (fg_gr G a0 [3] 6) fun rz1 =>
  fg_on rz1 (some ((20 : Int32), G))
  (fun az2 => fg_ob (fg_gr G a0 [3] 12) fun rz3 =>
  fg_ob rz3 fun az4 =>
  fg_ob (fg_gr G az4 [4] 0) fun rz5 =>
  fg_ob rz5 fun az6 =>
  fg_ob (fg_si G az6 0 (0 : Int32) i2) fun Gz7 =>
  fg_ob (fg_gr Gz7 a0 [3] 12) fun rz8 =>
  fg_ob rz8 fun az9 =>
  fg_ob (fg_gr Gz7 az9 [4] 0) fun rz10 =>
  fg_ob rz10 fun az11 =>
  fg_ob (fg_si Gz7 az11 0 (1 : Int32) i1) fun Gz12 =>
  fg_ob (fg_gr Gz12 a0 [3] 12) fun rz13 =>
  fg_ob rz13 fun az14 =>
  fg_ob (fg_gr Gz12 az14 [4] 0) fun rz15 =>
  fg_ob rz15 fun az16 =>
  fg_ob (fg_si Gz12 az16 0 (2 : Int32) i3) fun Gz17 =>
  fg_ob (fg_gr Gz17 a0 [3] 12) fun rz18 =>
  fg_ob rz18 fun az19 =>
  fg_ob (fg_gr Gz17 az19 [4] 0) fun rz20 =>
  fg_ob rz20 fun az21 =>
  fg_ob (fg_si Gz17 az21 0 (3 : Int32) i4) fun Gz22 =>
  fg_ob (fg_gr Gz22 a0 [3] 6) fun rz23 =>
  fg_ob (fg_gr Gz22 a0 [3] 12) fun rz24 =>
  fg_ob rz23 fun az25 =>
  fg_oc (vX10_of 40 az25 rz24 Gz22) fun xz27 Gz26 =>
  fg_oc (fJ7_min (999 : Int32) xz27 Gz26) fun xz29 Gz28 =>
  fg_oc (fJ7_max (0 : Int32) xz29 Gz28) fun xz31 Gz30 =>
  some (xz31, Gz30))
/-! FogNets$Ridge.lines(I)I -/
noncomputable def fX3_lines (a0 : Nat) (i1 : Int32) (G : fg_H) : Option (Int32 × fg_H) :=
  if (2 : Int32) ≤ i1 then (fg_ob (fg_gi G a0 [3] 0) fun xz1 =>
  some (xz1, G))
  else (fg_ob (fg_gi G a0 [3] 1) fun xz2 =>
  some (xz2, G))
/-! FogNets$Ridge.length(I)I -/
noncomputable def fX3_length (a0 : Nat) (i1 : Int32) (G : fg_H) : Option (Int32 × fg_H) :=
  if (2 : Int32) ≤ i1 then (fg_ob (fg_gi G a0 [3] 1) fun xz1 =>
  some (xz1, G))
  else (fg_ob (fg_gi G a0 [3] 0) fun xz2 =>
  some (xz2, G))
/-! FogNets$Ridge.place(III)I -/
noncomputable def fX3_place (a0 : Nat) (i1 : Int32) (i2 : Int32) (i3 : Int32) (G : fg_H) : Option (Int32 × fg_H) :=
  if i1 = (0 : Int32) then (some ((((8 : Int32) * i2) + i3), G))
  else (if i1 = (1 : Int32) then (fg_ob (fg_gi G a0 [3] 0) fun xz1 =>
  some ((((((8 : Int32) * i2) + xz1) - (1 : Int32)) - i3), G))
  else (if i1 = (2 : Int32) then (some ((((8 : Int32) * i3) + i2), G))
  else (fg_ob (fg_gi G a0 [3] 1) fun xz2 =>
  some ((((8 : Int32) * ((xz2 - (1 : Int32)) - i3)) + i2), G))))
/-! FogNets$Net.takes(IIZ)I -/
noncomputable def fX23_takes (a0 : Nat) (i1 : Int32) (i2 : Int32) (i3 : Int32) (G : fg_H) : Option (Int32 × fg_H) :=
  fg_ob (fg_gi G a0 [23, 24, 25, 26, 27, 28] 1) fun xz1 =>
  some (((i1 * xz1) / (10 : Int32)), G)
/-! FogNets$Shroud.takes(IIZ)I -/
noncomputable def fX24_takes (a0 : Nat) (i1 : Int32) (i2 : Int32) (i3 : Int32) (G : fg_H) : Option (Int32 × fg_H) :=
  fg_gd (fg_rc G a0 24) <|
  fg_oc (fX23_takes a0 i1 i2 i3 G) fun xz2 Gz1 =>
  fg_oc (fJ7_min (4 : Int32) xz2 Gz1) fun xz4 Gz3 =>
  some (xz4, Gz3)
/-! FogNets$Birds.takes(IIZ)I -/
noncomputable def fX25_takes (a0 : Nat) (i1 : Int32) (i2 : Int32) (i3 : Int32) (G : fg_H) : Option (Int32 × fg_H) :=
  if (i2 - i2 / (2 : Int32) * (2 : Int32)) = (1 : Int32) then (some ((0 : Int32), G))
  else (fg_gd (fg_rc G a0 25) <|
  fg_oc (fX23_takes a0 i1 i2 i3 G) fun xz2 Gz1 =>
  some (xz2, Gz1))
/-! FogNets$Torn.takes(IIZ)I -/
noncomputable def fX26_takes (a0 : Nat) (i1 : Int32) (i2 : Int32) (i3 : Int32) (G : fg_H) : Option (Int32 × fg_H) :=
  fg_gd (fg_rc G a0 26) <|
  fg_oc (fX23_takes a0 i1 i2 i3 G) fun xz2 Gz1 =>
  if i3 = 0 then (some ((xz2 / (2 : Int32)), Gz1))
  else (some ((xz2 / (1 : Int32)), Gz1))
/-! FogNets$High.takes(IIZ)I -/
noncomputable def fX28_takes (a0 : Nat) (i1 : Int32) (i2 : Int32) (i3 : Int32) (G : fg_H) : Option (Int32 × fg_H) :=
  if (10 : Int32) ≤ i1 then (fg_gd (fg_rc G a0 28) <|
  fg_oc (fX23_takes a0 i1 i2 i3 G) fun xz2 Gz1 =>
  some (xz2, Gz1))
  else (some ((0 : Int32), G))
noncomputable def vX23_takes (a0 : Nat) (i1 : Int32) (i2 : Int32) (i3 : Int32) (G : fg_H) : Option (Int32 × fg_H) :=
  if fg_rc G a0 23 = true then fX23_takes a0 i1 i2 i3 G else
  if fg_rc G a0 24 = true then fX24_takes a0 i1 i2 i3 G else
  if fg_rc G a0 25 = true then fX25_takes a0 i1 i2 i3 G else
  if fg_rc G a0 26 = true then fX26_takes a0 i1 i2 i3 G else
  if fg_rc G a0 27 = true then fX23_takes a0 i1 i2 i3 G else
  if fg_rc G a0 28 = true then fX28_takes a0 i1 i2 i3 G else
  none
/-! FogNets$Hung.blows(IIII)I -/
noncomputable def fX5_blows_6b (a0 : Nat) (i1 : Int32) (i2 : Int32) (i4 : Int32) (i5 : Int32) (i6 : Int32) (G : fg_H) : Option ((Nat × Int32 × Int32 × Int32 × Int32 × Int32 × fg_H) ⊕ (Int32 × fg_H)) :=
  fg_ob (fg_gr G a0 [5] 0) fun rz1 =>
  fg_ob rz1 fun az2 =>
  fg_gd (fg_rc G az2 3) <|
  fg_oc (fX3_length az2 i1 G) fun xz4 Gz3 =>
  if xz4 ≤ i6 then (fg_rt (some (i5, Gz3)))
  else (fg_ob (fg_gr Gz3 a0 [5] 1) fun rz6 =>
  fg_ob (fg_gr Gz3 a0 [5] 0) fun rz7 =>
  fg_ob rz7 fun az8 =>
  fg_gd (fg_rc Gz3 az8 3) <|
  fg_oc (fX3_place az8 i1 i2 i6 Gz3) fun xz10 Gz9 =>
  fg_ob rz6 fun az11 =>
  fg_ob (fg_ai Gz9 az11 0 xz10) fun xz12 =>
  fg_ob (some (xz12 - (1 : Int32))) fun vz13 =>
  if 0 ≤ vz13 then (fg_ob (fg_gr Gz9 a0 [5] 2) fun rz14 =>
  fg_ob rz14 fun az15 =>
  fg_ob (fg_ar Gz9 az15 5 vz13) fun rz16 =>
  fg_gd (fg_rc Gz9 a0 5) <|
  fg_oc (fX5_isMended a0 vz13 Gz9) fun xz18 Gz17 =>
  fg_ob rz16 fun az19 =>
  fg_oc (vX23_takes az19 i5 i4 xz18 Gz17) fun xz21 Gz20 =>
  fg_ob (fg_gr Gz20 a0 [5] 6) fun rz22 =>
  fg_ob rz22 fun az23 =>
  fg_ob (fg_ai Gz20 az23 0 vz13) fun xz24 =>
  fg_ob (fg_si Gz20 az23 0 vz13 (xz24 + xz21)) fun Gz25 =>
  fg_ob (some (i5 - xz21)) fun vz26 =>
  some (.inl (a0, i1, i2, i4, vz26, (i6 + (1 : Int32)), Gz25)))
  else (some (.inl (a0, i1, i2, i4, i5, (i6 + (1 : Int32)), Gz9))))
noncomputable def fX5_blows_6 (a0 : Nat) (i1 : Int32) (i2 : Int32) (i4 : Int32) (i5 : Int32) (i6 : Int32) (G : fg_H) : Option (Int32 × fg_H) :=
  fg_lp (fun y : Nat × Int32 × Int32 × Int32 × Int32 × Int32 × fg_H => fX5_blows_6b y.1 y.2.1 y.2.2.1 y.2.2.2.1 y.2.2.2.2.1 y.2.2.2.2.2.1 y.2.2.2.2.2.2) (a0, i1, i2, i4, i5, i6, G)
noncomputable def fX5_blows (a0 : Nat) (i1 : Int32) (i2 : Int32) (i3 : Int32) (i4 : Int32) (G : fg_H) : Option (Int32 × fg_H) :=
  fX5_blows_6 a0 i1 i2 i4 i3 (0 : Int32) G
/-! FogNets$Hung.copies(LFogNets$Hung;)LFogNets$Hung; -/
noncomputable def fX5_copies (a0 : Nat) (r1 : Option Nat) (G : fg_H) : Option (Option Nat × fg_H) :=
  fg_ob r1 fun az1 =>
  fg_ob (fg_gr G az1 [5] 0) fun rz2 =>
  fg_ob (fg_pv G a0 [5] 0 (va_rf rz2)) fun Gz3 =>
  fg_ob (fg_gi Gz3 az1 [5] 4) fun xz4 =>
  fg_ob (fg_pv Gz3 a0 [5] 4 (.int xz4)) fun Gz5 =>
  fg_ob (fg_gi Gz5 az1 [5] 5) fun xz6 =>
  fg_ob (fg_pv Gz5 a0 [5] 5 (.int xz6)) fun Gz7 =>
  fg_ob (fg_gr Gz7 az1 [5] 1) fun rz8 =>
  fg_ob (fg_gr Gz7 a0 [5] 1) fun rz9 =>
  fg_ob rz9 fun az10 =>
  fg_ob rz8 fun az11 =>
  fg_ob (fg_cpi Gz7 az11 (0 : Int32) az10 (0 : Int32) (64 : Int32)) fun Gz12 =>
  fg_ob (fg_gr Gz12 az1 [5] 2) fun rz13 =>
  fg_ob (fg_gr Gz12 a0 [5] 2) fun rz14 =>
  fg_ob (fg_gi Gz12 a0 [5] 5) fun xz15 =>
  fg_ob rz14 fun az16 =>
  fg_ob rz13 fun az17 =>
  fg_ob (fg_cpi Gz12 az17 (0 : Int32) az16 (0 : Int32) xz15) fun Gz18 =>
  fg_ob (fg_gr Gz18 az1 [5] 3) fun rz19 =>
  fg_ob (fg_gr Gz18 a0 [5] 3) fun rz20 =>
  fg_ob (fg_gi Gz18 a0 [5] 5) fun xz21 =>
  fg_ob rz20 fun az22 =>
  fg_ob rz19 fun az23 =>
  fg_ob (fg_cpi Gz18 az23 (0 : Int32) az22 (0 : Int32) xz21) fun Gz24 =>
  some ((some a0), Gz24)
/-! FogNets.bank(III)I -/
noncomputable def fX1_bank (a0 : Nat) (i1 : Int32) (i2 : Int32) (i3 : Int32) (G : fg_H) : Option (Int32 × fg_H) :=
  fg_gd (fg_rc G a0 1) <|
  fg_oc (fX1_isHour a0 i1 G) fun xz2 Gz1 =>
  if xz2 = 0 then (some ((-1 : Int32), Gz1))
  else (fg_oc (fX1_within i3 (0 : Int32) (1 : Int32) Gz1) fun xz4 Gz3 =>
  if xz4 = 0 then (some ((-1 : Int32), Gz3))
  else (fg_ob (fg_gr Gz3 a0 [1] 1) fun rz5 =>
  fg_ob (fg_gi Gz3 a0 [1] 4) fun xz6 =>
  fg_ob rz5 fun az7 =>
  fg_gd (fg_rc Gz3 az7 3) <|
  fg_oc (fX3_wind az7 xz6 i1 Gz3) fun xz9 Gz8 =>
  fg_ob (fg_gr Gz8 a0 [1] 1) fun rz10 =>
  fg_ob rz10 fun az11 =>
  fg_gd (fg_rc Gz8 az11 3) <|
  fg_oc (fX3_lines az11 xz9 Gz8) fun xz13 Gz12 =>
  fg_oc (fX1_within i2 (0 : Int32) (xz13 - (1 : Int32)) Gz12) fun xz15 Gz14 =>
  if xz15 = 0 then (some ((-1 : Int32), Gz14))
  else (fg_ob (fg_gr Gz14 a0 [1] 1) fun rz16 =>
  fg_ob (fg_gi Gz14 a0 [1] 4) fun xz17 =>
  fg_ob rz16 fun az18 =>
  fg_gd (fg_rc Gz14 az18 3) <|
  fg_oc (fX3_fog az18 xz17 i1 i2 xz9 Gz14) fun xz20 Gz19 =>
  if i3 = 0 then (some (xz20, Gz19))
  else (fg_ob (fg_gr Gz19 a0 [1] 8) fun rz21 =>
  fg_ob (fg_gr Gz19 a0 [1] 2) fun rz22 =>
  fg_ob rz21 fun az23 =>
  fg_gd (fg_rc Gz19 az23 5) <|
  fg_oc (fX5_copies az23 rz22 Gz19) fun rz25 Gz24 =>
  fg_ob rz25 fun az26 =>
  fg_gd (fg_rc Gz24 az26 5) <|
  fg_oc (fX5_blows az26 xz9 i2 xz20 i1 Gz24) fun xz28 Gz27 =>
  some (xz28, Gz27)))))
/-! FogNets$Hung.takes(LFogNets$Sky;)LFogNets$Hung; -/
noncomputable def fX5_takes_38b (a0 : Nat) (r1 : Option Nat) (i2 : Int32) (i3 : Int32) (G : fg_H) : Option ((Nat × Option Nat × Int32 × Int32 × fg_H) ⊕ ((Nat × Option Nat × Int32 × fg_H) ⊕ (Option Nat × fg_H))) :=
  fg_ob (fg_gr G a0 [5] 0) fun rz7 =>
  fg_ob r1 fun az8 =>
  fg_ob (fg_gr G az8 [7] 0) fun rz9 =>
  fg_ob rz9 fun az10 =>
  fg_ob (fg_ai G az10 0 i2) fun xz11 =>
  fg_ob rz7 fun az12 =>
  fg_gd (fg_rc G az12 3) <|
  fg_oc (fX3_lines az12 xz11 G) fun xz14 Gz13 =>
  if xz14 ≤ i3 then (fg_rt (some (.inl (a0, (some az8), (i2 + (1 : Int32)), Gz13))))
  else (fg_ob (fg_gr Gz13 az8 [7] 0) fun rz16 =>
  fg_ob rz16 fun az17 =>
  fg_ob (fg_ai Gz13 az17 0 i2) fun xz18 =>
  fg_ob (fg_gr Gz13 az8 [7] 1) fun rz19 =>
  fg_ob rz19 fun az20 =>
  fg_ob (fg_ai Gz13 az20 0 (((8 : Int32) * i2) + i3)) fun xz21 =>
  fg_gd (fg_rc Gz13 a0 5) <|
  fg_oc (fX5_blows a0 xz18 i3 xz21 i2 Gz13) fun xz23 Gz22 =>
  some (.inl (a0, (some az8), i2, (i3 + (1 : Int32)), Gz22)))
noncomputable def fX5_takes_38 (a0 : Nat) (r1 : Option Nat) (i2 : Int32) (i3 : Int32) (G : fg_H) : Option ((Nat × Option Nat × Int32 × fg_H) ⊕ (Option Nat × fg_H)) :=
  fg_lp (fun y : Nat × Option Nat × Int32 × Int32 × fg_H => fX5_takes_38b y.1 y.2.1 y.2.2.1 y.2.2.2.1 y.2.2.2.2) (a0, r1, i2, i3, G)
noncomputable def fX5_takes_25b (a0 : Nat) (r1 : Option Nat) (i2 : Int32) (G : fg_H) : Option ((Nat × Option Nat × Int32 × fg_H) ⊕ (Option Nat × fg_H)) :=
  fg_ob (fg_gr G a0 [5] 0) fun rz3 =>
  fg_ob rz3 fun az4 =>
  fg_ob (fg_gi G az4 [3] 2) fun xz5 =>
  if xz5 ≤ i2 then (fg_rt (some ((some a0), G)))
  else (fX5_takes_38 a0 r1 i2 (0 : Int32) G)
noncomputable def fX5_takes_25 (a0 : Nat) (r1 : Option Nat) (i2 : Int32) (G : fg_H) : Option (Option Nat × fg_H) :=
  fg_lp (fun y : Nat × Option Nat × Int32 × fg_H => fX5_takes_25b y.1 y.2.1 y.2.2.1 y.2.2.2) (a0, r1, i2, G)
noncomputable def fX5_takes_2b (a0 : Nat) (r1 : Option Nat) (i2 : Int32) (G : fg_H) : Option ((Nat × Option Nat × Int32 × fg_H) ⊕ (Option Nat × fg_H)) :=
  fg_ob (fg_gi G a0 [5] 5) fun xz1 =>
  if xz1 ≤ i2 then (fg_rt (fX5_takes_25 a0 r1 (0 : Int32) G))
  else (fg_ob (fg_gr G a0 [5] 6) fun rz24 =>
  fg_ob rz24 fun az25 =>
  fg_ob (fg_si G az25 0 i2 (0 : Int32)) fun Gz26 =>
  some (.inl (a0, r1, (i2 + (1 : Int32)), Gz26)))
noncomputable def fX5_takes_2 (a0 : Nat) (r1 : Option Nat) (i2 : Int32) (G : fg_H) : Option (Option Nat × fg_H) :=
  fg_lp (fun y : Nat × Option Nat × Int32 × fg_H => fX5_takes_2b y.1 y.2.1 y.2.2.1 y.2.2.2) (a0, r1, i2, G)
noncomputable def fX5_takes (a0 : Nat) (r1 : Option Nat) (G : fg_H) : Option (Option Nat × fg_H) :=
  fX5_takes_2 a0 r1 (0 : Int32) G
/-! FogNets$Net.loses()Z -/
noncomputable def fX23_loses (a0 : Nat) (G : fg_H) : Option (Int32 × fg_H) :=
  some ((0 : Int32), G)
/-! FogNets$Spite.loses()Z -/
noncomputable def fX27_loses (a0 : Nat) (G : fg_H) : Option (Int32 × fg_H) :=
  some ((1 : Int32), G)
noncomputable def vX23_loses (a0 : Nat)  (G : fg_H) : Option (Int32 × fg_H) :=
  if fg_rc G a0 23 = true then fX23_loses a0  G else
  if fg_rc G a0 24 = true then fX23_loses a0  G else
  if fg_rc G a0 25 = true then fX23_loses a0  G else
  if fg_rc G a0 26 = true then fX23_loses a0  G else
  if fg_rc G a0 27 = true then fX27_loses a0  G else
  if fg_rc G a0 28 = true then fX23_loses a0  G else
  none
/-! FogNets$Hung.yields(I)I -/
noncomputable def fX5_yields_42 (a0 : Nat) (i1 : Int32) (i2 : Int32) (i3 : Int32) (G : fg_H) : Option ((Nat × Int32 × Int32 × Int32 × fg_H) ⊕ (Int32 × fg_H)) :=
  fg_ob (fg_gr G a0 [5] 6) fun rz9 =>
  fg_ob rz9 fun az10 =>
  fg_ob (fg_ai G az10 0 i3) fun xz11 =>
  fg_ob (some (i2 + xz11)) fun vz12 =>
  some (.inl (a0, i1, vz12, (i3 + (1 : Int32)), G))
noncomputable def fX5_yields_4b (a0 : Nat) (i1 : Int32) (i2 : Int32) (i3 : Int32) (G : fg_H) : Option ((Nat × Int32 × Int32 × Int32 × fg_H) ⊕ (Int32 × fg_H)) :=
  fg_ob (fg_gi G a0 [5] 5) fun xz1 =>
  if xz1 ≤ i3 then (fg_rt (some (i2, G)))
  else (fg_ob (fg_gr G a0 [5] 2) fun rz3 =>
  fg_ob rz3 fun az4 =>
  fg_ob (fg_ar G az4 5 i3) fun rz5 =>
  fg_ob rz5 fun az6 =>
  fg_oc (vX23_loses az6 G) fun xz8 Gz7 =>
  if xz8 = 0 then (if i1 = (-1 : Int32) then (fX5_yields_42 a0 i1 i2 i3 Gz7)
  else (fg_ob (fg_gr Gz7 a0 [5] 2) fun rz13 =>
  fg_ob rz13 fun az14 =>
  fg_ob (fg_ar Gz7 az14 5 i3) fun rz15 =>
  fg_ob rz15 fun az16 =>
  fg_ob (fg_gi Gz7 az16 [23, 24, 25, 26, 27, 28] 0) fun xz17 =>
  if xz17 = i1 then (fX5_yields_42 a0 i1 i2 i3 Gz7)
  else (some (.inl (a0, i1, i2, (i3 + (1 : Int32)), Gz7)))))
  else (some (.inl (a0, i1, i2, (i3 + (1 : Int32)), Gz7))))
noncomputable def fX5_yields_4 (a0 : Nat) (i1 : Int32) (i2 : Int32) (i3 : Int32) (G : fg_H) : Option (Int32 × fg_H) :=
  fg_lp (fun y : Nat × Int32 × Int32 × Int32 × fg_H => fX5_yields_4b y.1 y.2.1 y.2.2.1 y.2.2.2.1 y.2.2.2.2) (a0, i1, i2, i3, G)
noncomputable def fX5_yields (a0 : Nat) (i1 : Int32) (G : fg_H) : Option (Int32 × fg_H) :=
  fX5_yields_4 a0 i1 (0 : Int32) (0 : Int32) G
/-! FogNets$Tanks.passes(LFogNets$Hung;)V -/
noncomputable def fX6_passes_2b (a0 : Nat) (r1 : Option Nat) (i2 : Int32) (G : fg_H) : Option ((Nat × Option Nat × Int32 × fg_H) ⊕ (Unit × fg_H)) :=
  fg_ob r1 fun az1 =>
  fg_ob (fg_gr G az1 [5] 0) fun rz2 =>
  fg_ob rz2 fun az3 =>
  fg_ob (fg_gr G az3 [3] 7) fun rz4 =>
  fg_ob rz4 fun az5 =>
  fg_gd (fg_rc G az5 30) <|
  fg_oc (fJ2_size az5 G) fun xz7 Gz6 =>
  if xz7 ≤ i2 then (fg_rt (some ((), Gz6)))
  else (fg_ob (fg_gr Gz6 a0 [6] 0) fun rz9 =>
  fg_ob rz9 fun az10 =>
  fg_ob (fg_ai Gz6 az10 0 i2) fun xz11 =>
  fg_gd (fg_rc Gz6 az1 5) <|
  fg_oc (fX5_yields az1 i2 Gz6) fun xz13 Gz12 =>
  fg_ob (fg_gr Gz12 az1 [5] 0) fun rz14 =>
  fg_ob rz14 fun az15 =>
  fg_ob (fg_gi Gz12 az15 [3] 3) fun xz16 =>
  fg_ob (fg_si Gz12 az10 0 i2 (xz11 + (xz13 + xz16))) fun Gz17 =>
  fg_ob (fg_gr Gz17 a0 [6] 0) fun rz18 =>
  fg_ob rz18 fun az19 =>
  fg_ob (fg_ai Gz17 az19 0 i2) fun xz20 =>
  fg_ob (fg_gr Gz17 az1 [5] 0) fun rz21 =>
  fg_ob rz21 fun az22 =>
  fg_ob (fg_gr Gz17 az22 [3] 8) fun rz23 =>
  fg_ob rz23 fun az24 =>
  fg_ob (fg_ai Gz17 az24 0 i2) fun xz25 =>
  fg_oc (fJ7_min xz20 xz25 Gz17) fun xz27 Gz26 =>
  fg_ob (fg_gr Gz26 a0 [6] 0) fun rz28 =>
  fg_ob rz28 fun az29 =>
  fg_ob (fg_ai Gz26 az29 0 i2) fun xz30 =>
  fg_ob (fg_si Gz26 az29 0 i2 (xz30 - xz27)) fun Gz31 =>
  fg_ob (fg_gr Gz31 a0 [6] 1) fun rz32 =>
  fg_ob rz32 fun az33 =>
  fg_ob (fg_ai Gz31 az33 0 i2) fun xz34 =>
  fg_ob (fg_gr Gz31 az1 [5] 0) fun rz35 =>
  fg_ob rz35 fun az36 =>
  fg_ob (fg_gr Gz31 az36 [3] 8) fun rz37 =>
  fg_ob rz37 fun az38 =>
  fg_ob (fg_ai Gz31 az38 0 i2) fun xz39 =>
  fg_ob (fg_si Gz31 az33 0 i2 (xz34 + (xz39 - xz27))) fun Gz40 =>
  some (.inl (a0, (some az1), (i2 + (1 : Int32)), Gz40)))
noncomputable def fX6_passes_2 (a0 : Nat) (r1 : Option Nat) (i2 : Int32) (G : fg_H) : Option (Unit × fg_H) :=
  fg_lp (fun y : Nat × Option Nat × Int32 × fg_H => fX6_passes_2b y.1 y.2.1 y.2.2.1 y.2.2.2) (a0, r1, i2, G)
noncomputable def fX6_passes (a0 : Nat) (r1 : Option Nat) (G : fg_H) : Option (Unit × fg_H) :=
  fX6_passes_2 a0 r1 (0 : Int32) G
/-! FogNets$Sky.turns(LFogNets$Ridge;III)V -/
noncomputable def fX7_turns_11b (a0 : Nat) (r1 : Option Nat) (i2 : Int32) (i3 : Int32) (i4 : Int32) (i5 : Int32) (G : fg_H) : Option ((Nat × Option Nat × Int32 × Int32 × Int32 × Int32 × fg_H) ⊕ (Unit × fg_H)) :=
  fg_ob r1 fun az4 =>
  fg_gd (fg_rc G az4 3) <|
  fg_oc (fX3_lines az4 i4 G) fun xz6 Gz5 =>
  if xz6 ≤ i5 then (fg_rt (some ((), Gz5)))
  else (fg_ob (fg_gr Gz5 a0 [7] 1) fun rz8 =>
  fg_gd (fg_rc Gz5 az4 3) <|
  fg_oc (fX3_fog az4 i2 i3 i5 i4 Gz5) fun xz10 Gz9 =>
  fg_ob rz8 fun az11 =>
  fg_ob (fg_si Gz9 az11 0 (((8 : Int32) * i3) + i5) xz10) fun Gz12 =>
  some (.inl (a0, (some az4), i2, i3, i4, (i5 + (1 : Int32)), Gz12)))
noncomputable def fX7_turns_11 (a0 : Nat) (r1 : Option Nat) (i2 : Int32) (i3 : Int32) (i4 : Int32) (i5 : Int32) (G : fg_H) : Option (Unit × fg_H) :=
  fg_lp (fun y : Nat × Option Nat × Int32 × Int32 × Int32 × Int32 × fg_H => fX7_turns_11b y.1 y.2.1 y.2.2.1 y.2.2.2.1 y.2.2.2.2.1 y.2.2.2.2.2.1 y.2.2.2.2.2.2) (a0, r1, i2, i3, i4, i5, G)
noncomputable def fX7_turns (a0 : Nat) (r1 : Option Nat) (i2 : Int32) (i3 : Int32) (i4 : Int32) (G : fg_H) : Option (Unit × fg_H) :=
  fg_ob (fg_gr G a0 [7] 0) fun rz1 =>
  fg_ob rz1 fun az2 =>
  fg_ob (fg_si G az2 0 i3 i4) fun Gz3 =>
  fX7_turns_11 a0 r1 i2 i3 i4 (0 : Int32) Gz3
/-! FogNets$Sky.finds(LFogNets$Ridge;I)LFogNets$Sky; -/
noncomputable def fX7_finds_2b (a0 : Nat) (r1 : Option Nat) (i2 : Int32) (i3 : Int32) (G : fg_H) : Option ((Nat × Option Nat × Int32 × Int32 × fg_H) ⊕ (Option Nat × fg_H)) :=
  fg_ob r1 fun az1 =>
  fg_ob (fg_gi G az1 [3] 2) fun xz2 =>
  if xz2 ≤ i3 then (fg_rt (some ((some a0), G)))
  else (fg_gd (fg_rc G az1 3) <|
  fg_oc (fX3_wind az1 i2 i3 G) fun xz5 Gz4 =>
  fg_gd (fg_rc Gz4 a0 7) <|
  fg_oc (fX7_turns a0 (some az1) i2 i3 xz5 Gz4) fun _ Gz6 =>
  some (.inl (a0, (some az1), i2, (i3 + (1 : Int32)), Gz6)))
noncomputable def fX7_finds_2 (a0 : Nat) (r1 : Option Nat) (i2 : Int32) (i3 : Int32) (G : fg_H) : Option (Option Nat × fg_H) :=
  fg_lp (fun y : Nat × Option Nat × Int32 × Int32 × fg_H => fX7_finds_2b y.1 y.2.1 y.2.2.1 y.2.2.2.1 y.2.2.2.2) (a0, r1, i2, i3, G)
noncomputable def fX7_finds (a0 : Nat) (r1 : Option Nat) (i2 : Int32) (G : fg_H) : Option (Option Nat × fg_H) :=
  fX7_finds_2 a0 r1 i2 (0 : Int32) G
/-! FogNets.nights(I)I -/
noncomputable def fX1_nights_14b (a0 : Nat) (i1 : Int32) (i2 : Int32) (G : fg_H) : Option ((Nat × Int32 × Int32 × fg_H) ⊕ (Int32 × fg_H)) :=
  if i1 ≤ i2 then (fg_rt (fg_ob (fg_gr G a0 [1] 2) fun rz4 =>
  fg_ob rz4 fun az5 =>
  fg_ob (fg_gr G az5 [5] 6) fun rz6 =>
  fg_ob (fg_gr G a0 [1] 5) fun rz7 =>
  fg_ob (fg_gr G a0 [1] 2) fun rz8 =>
  fg_ob rz8 fun az9 =>
  fg_ob (fg_gi G az9 [5] 5) fun xz10 =>
  fg_ob rz7 fun az11 =>
  fg_ob rz6 fun az12 =>
  fg_ob (fg_cpi G az12 (0 : Int32) az11 (0 : Int32) xz10) fun Gz13 =>
  fg_ob (fg_gi Gz13 a0 [1] 4) fun xz14 =>
  some (xz14, Gz13)))
  else (fg_ob (fg_gr G a0 [1] 2) fun rz15 =>
  fg_ob (fg_gr G a0 [1] 7) fun rz16 =>
  fg_ob (fg_gr G a0 [1] 1) fun rz17 =>
  fg_ob (fg_gi G a0 [1] 4) fun xz18 =>
  fg_ob rz16 fun az19 =>
  fg_gd (fg_rc G az19 7) <|
  fg_oc (fX7_finds az19 rz17 xz18 G) fun rz21 Gz20 =>
  fg_ob rz15 fun az22 =>
  fg_gd (fg_rc Gz20 az22 5) <|
  fg_oc (fX5_takes az22 rz21 Gz20) fun rz24 Gz23 =>
  fg_ob (fg_gr Gz23 a0 [1] 3) fun rz25 =>
  fg_ob (fg_gr Gz23 a0 [1] 2) fun rz26 =>
  fg_ob rz25 fun az27 =>
  fg_gd (fg_rc Gz23 az27 6) <|
  fg_oc (fX6_passes az27 rz26 Gz23) fun _ Gz28 =>
  fg_ob (fg_gi Gz28 a0 [1] 4) fun xz29 =>
  fg_ob (fg_pv Gz28 a0 [1] 4 (.int (xz29 + (1 : Int32)))) fun Gz30 =>
  some (.inl (a0, i1, (i2 + (1 : Int32)), Gz30)))
noncomputable def fX1_nights_14 (a0 : Nat) (i1 : Int32) (i2 : Int32) (G : fg_H) : Option (Int32 × fg_H) :=
  fg_lp (fun y : Nat × Int32 × Int32 × fg_H => fX1_nights_14b y.1 y.2.1 y.2.2.1 y.2.2.2) (a0, i1, i2, G)
noncomputable def fX1_nights (a0 : Nat) (i1 : Int32) (G : fg_H) : Option (Int32 × fg_H) :=
  fg_oc (fX1_within i1 (1 : Int32) (100 : Int32) G) fun xz2 Gz1 =>
  if xz2 = 0 then (some ((-1 : Int32), Gz1))
  else (fX1_nights_14 a0 i1 (0 : Int32) Gz1)
/-! FogNets$Net.tears()Z -/
noncomputable def fX23_tears (a0 : Nat) (G : fg_H) : Option (Int32 × fg_H) :=
  some ((0 : Int32), G)
/-! FogNets$Torn.tears()Z -/
noncomputable def fX26_tears (a0 : Nat) (G : fg_H) : Option (Int32 × fg_H) :=
  some ((1 : Int32), G)
noncomputable def vX23_tears (a0 : Nat)  (G : fg_H) : Option (Int32 × fg_H) :=
  if fg_rc G a0 23 = true then fX23_tears a0  G else
  if fg_rc G a0 24 = true then fX23_tears a0  G else
  if fg_rc G a0 25 = true then fX23_tears a0  G else
  if fg_rc G a0 26 = true then fX26_tears a0  G else
  if fg_rc G a0 27 = true then fX23_tears a0  G else
  if fg_rc G a0 28 = true then fX23_tears a0  G else
  none
/-! FogNets.mend(IZ)Z -/
noncomputable def fX1_mend (a0 : Nat) (i1 : Int32) (i2 : Int32) (G : fg_H) : Option (Int32 × fg_H) :=
  fg_gd (fg_rc G a0 1) <|
  fg_oc (fX1_isNet a0 i1 G) fun xz2 Gz1 =>
  if xz2 = 0 then (some ((0 : Int32), Gz1))
  else (fg_ob (fg_gr Gz1 a0 [1] 2) fun rz3 =>
  fg_ob rz3 fun az4 =>
  fg_ob (fg_gr Gz1 az4 [5] 2) fun rz5 =>
  fg_ob rz5 fun az6 =>
  fg_ob (fg_ar Gz1 az6 5 i1) fun rz7 =>
  fg_ob rz7 fun az8 =>
  fg_oc (vX23_tears az8 Gz1) fun xz10 Gz9 =>
  if xz10 = 0 then (some ((0 : Int32), Gz9))
  else (fg_ob (fg_gr Gz9 a0 [1] 2) fun rz11 =>
  fg_ob rz11 fun az12 =>
  fg_gd (fg_rc Gz9 az12 5) <|
  fg_oc (fX5_isMended az12 i1 Gz9) fun xz14 Gz13 =>
  if xz14 = i2 then (some ((0 : Int32), Gz13))
  else (fg_ob (fg_gr Gz13 a0 [1] 2) fun rz15 =>
  fg_ob rz15 fun az16 =>
  fg_ob (fg_gi Gz13 az16 [5] 4) fun xz17 =>
  fg_ob (fg_pv Gz13 az16 [5] 4 (.int (xz17 ^^^ ((1 : Int32) <<< (i1 &&& 31))))) fun Gz18 =>
  some ((1 : Int32), Gz18))))
/-! FogNets$Ridge.isPlace(I)Z -/
noncomputable def fX3_isPlace (a0 : Nat) (i1 : Int32) (G : fg_H) : Option (Int32 × fg_H) :=
  fg_oc (fX1_within i1 (0 : Int32) (63 : Int32) G) fun xz2 Gz1 =>
  if xz2 = 0 then (some ((0 : Int32), Gz1))
  else (fg_ob (fg_gi Gz1 a0 [3] 0) fun xz3 =>
  if xz3 ≤ (i1 - i1 / (8 : Int32) * (8 : Int32)) then (some ((0 : Int32), Gz1))
  else (fg_ob (fg_gi Gz1 a0 [3] 1) fun xz4 =>
  if xz4 ≤ (i1 / (8 : Int32)) then (some ((0 : Int32), Gz1))
  else (some ((1 : Int32), Gz1))))
/-! FogNets$Hung.isFree(I)Z -/
noncomputable def fX5_isFree (a0 : Nat) (i1 : Int32) (G : fg_H) : Option (Int32 × fg_H) :=
  fg_ob (fg_gr G a0 [5] 0) fun rz1 =>
  fg_ob rz1 fun az2 =>
  fg_gd (fg_rc G az2 3) <|
  fg_oc (fX3_isPlace az2 i1 G) fun xz4 Gz3 =>
  if xz4 = 0 then (some ((0 : Int32), Gz3))
  else (fg_ob (fg_gr Gz3 a0 [5] 1) fun rz5 =>
  fg_ob rz5 fun az6 =>
  fg_ob (fg_ai Gz3 az6 0 i1) fun xz7 =>
  if xz7 = 0 then (some ((1 : Int32), Gz3))
  else (some ((0 : Int32), Gz3)))
/-! FogNets$Hung.moves(II)V -/
noncomputable def fX5_moves (a0 : Nat) (i1 : Int32) (i2 : Int32) (G : fg_H) : Option (Unit × fg_H) :=
  fg_ob (fg_gr G a0 [5] 1) fun rz1 =>
  fg_ob (fg_gr G a0 [5] 3) fun rz2 =>
  fg_ob rz2 fun az3 =>
  fg_ob (fg_ai G az3 0 i1) fun xz4 =>
  fg_ob rz1 fun az5 =>
  fg_ob (fg_si G az5 0 xz4 (0 : Int32)) fun Gz6 =>
  fg_ob (fg_gr Gz6 a0 [5] 3) fun rz7 =>
  fg_ob rz7 fun az8 =>
  fg_ob (fg_si Gz6 az8 0 i1 i2) fun Gz9 =>
  fg_ob (fg_gr Gz9 a0 [5] 1) fun rz10 =>
  fg_ob rz10 fun az11 =>
  fg_ob (fg_si Gz9 az11 0 i2 (i1 + (1 : Int32))) fun Gz12 =>
  some ((), Gz12)
/-! FogNets.move(II)Z -/
noncomputable def fX1_move (a0 : Nat) (i1 : Int32) (i2 : Int32) (G : fg_H) : Option (Int32 × fg_H) :=
  fg_gd (fg_rc G a0 1) <|
  fg_oc (fX1_isNet a0 i1 G) fun xz2 Gz1 =>
  if xz2 = 0 then (some ((0 : Int32), Gz1))
  else (fg_ob (fg_gr Gz1 a0 [1] 2) fun rz3 =>
  fg_ob rz3 fun az4 =>
  fg_gd (fg_rc Gz1 az4 5) <|
  fg_oc (fX5_isFree az4 i2 Gz1) fun xz6 Gz5 =>
  if xz6 = 0 then (some ((0 : Int32), Gz5))
  else (fg_ob (fg_gr Gz5 a0 [1] 2) fun rz7 =>
  fg_ob rz7 fun az8 =>
  fg_gd (fg_rc Gz5 az8 5) <|
  fg_oc (fX5_moves az8 i1 i2 Gz5) fun _ Gz9 =>
  some ((1 : Int32), Gz9)))
/-! FogNets.tries()LFogNets$Hung; -/
noncomputable def fX1_tries (a0 : Nat) (G : fg_H) : Option (Option Nat × fg_H) :=
  fg_ob (fg_gr G a0 [1] 7) fun rz1 =>
  fg_ob (fg_gr G a0 [1] 1) fun rz2 =>
  fg_ob (fg_gi G a0 [1] 4) fun xz3 =>
  fg_ob rz1 fun az4 =>
  fg_gd (fg_rc G az4 7) <|
  fg_oc (fX7_finds az4 rz2 xz3 G) fun rz6 Gz5 =>
  fg_ob (fg_gr Gz5 a0 [1] 8) fun rz7 =>
  fg_ob (fg_gr Gz5 a0 [1] 2) fun rz8 =>
  fg_ob rz7 fun az9 =>
  fg_gd (fg_rc Gz5 az9 5) <|
  fg_oc (fX5_copies az9 rz8 Gz5) fun rz11 Gz10 =>
  some (rz11, Gz10)
/-! FogNets$Hung.takesLast()V -/
noncomputable def fX5_takesLast (a0 : Nat) (G : fg_H) : Option (Unit × fg_H) :=
  fg_ob (fg_gi G a0 [5] 5) fun xz1 =>
  fg_ob (fg_pv G a0 [5] 5 (.int (xz1 - (1 : Int32)))) fun Gz2 =>
  fg_ob (fg_gr Gz2 a0 [5] 1) fun rz3 =>
  fg_ob (fg_gr Gz2 a0 [5] 3) fun rz4 =>
  fg_ob (fg_gi Gz2 a0 [5] 5) fun xz5 =>
  fg_ob rz4 fun az6 =>
  fg_ob (fg_ai Gz2 az6 0 xz5) fun xz7 =>
  fg_ob rz3 fun az8 =>
  fg_ob (fg_si Gz2 az8 0 xz7 (0 : Int32)) fun Gz9 =>
  some ((), Gz9)
/-! FogNets.place(IIIII)I -/
noncomputable def fX1_place_207 (a0 : Nat) (i1 : Int32) (i4 : Int32) (i5 : Int32) (r6 : Option Nat) (i9 : Int32) (i10 : Int32) (G : fg_H) : Option ((Nat × Int32 × Int32 × Int32 × Option Nat × Int32 × Int32 × Int32 × fg_H) ⊕ (Int32 × fg_H)) :=
  some (.inl (a0, i1, i4, i5, r6, i9, i10, (i9 + (1 : Int32)), G))
noncomputable def fX1_place_166 (a0 : Nat) (i1 : Int32) (i4 : Int32) (i5 : Int32) (r6 : Option Nat) (i7 : Int32) (i8 : Int32) (i9 : Int32) (s0 : Int32) (G : fg_H) : Option ((Nat × Int32 × Int32 × Int32 × Option Nat × Int32 × Int32 × Int32 × fg_H) ⊕ (Int32 × fg_H)) :=
  fg_ob (fg_gr G a0 [1] 8) fun rz36 =>
  fg_ob rz36 fun az37 =>
  fg_gd (fg_rc G az37 5) <|
  fg_oc (fX5_takesLast az37 G) fun _ Gz38 =>
  if i7 = (-1 : Int32) then (fX1_place_207 a0 i1 i4 i5 r6 i9 s0 Gz38)
  else (if i4 = (2 : Int32) then (if s0 < i8 then (fX1_place_207 a0 i1 i4 i5 r6 i9 s0 Gz38)
  else (some (.inl (a0, i1, i4, i5, r6, i7, i8, (i9 + (1 : Int32)), Gz38))))
  else (if i8 < s0 then (fX1_place_207 a0 i1 i4 i5 r6 i9 s0 Gz38)
  else (some (.inl (a0, i1, i4, i5, r6, i7, i8, (i9 + (1 : Int32)), Gz38)))))
noncomputable def fX1_place_71b (a0 : Nat) (i1 : Int32) (i4 : Int32) (i5 : Int32) (r6 : Option Nat) (i7 : Int32) (i8 : Int32) (i9 : Int32) (G : fg_H) : Option ((Nat × Int32 × Int32 × Int32 × Option Nat × Int32 × Int32 × Int32 × fg_H) ⊕ (Int32 × fg_H)) :=
  if (64 : Int32) ≤ i9 then (fg_rt (if i7 = (-1 : Int32) then (some (i7, G))
  else (if i5 = 0 then (some (i7, G))
  else (some (i8, G)))))
  else (fg_ob (fg_gr G a0 [1] 8) fun rz16 =>
  fg_ob rz16 fun az17 =>
  fg_gd (fg_rc G az17 5) <|
  fg_oc (fX5_isFree az17 i9 G) fun xz19 Gz18 =>
  if xz19 = 0 then (some (.inl (a0, i1, i4, i5, r6, i7, i8, (i9 + (1 : Int32)), Gz18)))
  else (fg_ob (fg_gr Gz18 a0 [1] 8) fun rz20 =>
  fg_ob rz20 fun az21 =>
  fg_gd (fg_rc Gz18 az21 5) <|
  fg_oc (fX5_hangs az21 r6 i9 Gz18) fun _ Gz22 =>
  fg_ob (fg_gr Gz22 a0 [1] 8) fun rz23 =>
  fg_ob (fg_gr Gz22 a0 [1] 7) fun rz24 =>
  fg_ob rz23 fun az25 =>
  fg_gd (fg_rc Gz22 az25 5) <|
  fg_oc (fX5_takes az25 rz24 Gz22) fun rz27 Gz26 =>
  if i4 = 0 then (fg_ob (fg_gr Gz26 a0 [1] 8) fun rz43 =>
  fg_ob rz43 fun az44 =>
  fg_gd (fg_rc Gz26 az44 5) <|
  fg_oc (fX5_yields az44 (-1 : Int32) Gz26) fun xz46 Gz45 =>
  fX1_place_166 a0 i1 i4 i5 r6 i7 i8 i9 xz46 Gz45)
  else (if i4 = (1 : Int32) then (fg_ob (fg_gr Gz26 a0 [1] 8) fun rz39 =>
  fg_ob rz39 fun az40 =>
  fg_gd (fg_rc Gz26 az40 5) <|
  fg_oc (fX5_yields az40 i1 Gz26) fun xz42 Gz41 =>
  fX1_place_166 a0 i1 i4 i5 r6 i7 i8 i9 xz42 Gz41)
  else (fg_ob (fg_gr Gz26 a0 [1] 8) fun rz28 =>
  fg_ob rz28 fun az29 =>
  fg_gd (fg_rc Gz26 az29 5) <|
  fg_oc (fX5_yields az29 (-1 : Int32) Gz26) fun xz31 Gz30 =>
  fg_ob (fg_gr Gz30 a0 [1] 8) fun rz32 =>
  fg_ob rz32 fun az33 =>
  fg_gd (fg_rc Gz30 az33 5) <|
  fg_oc (fX5_yields az33 i1 Gz30) fun xz35 Gz34 =>
  fX1_place_166 a0 i1 i4 i5 r6 i7 i8 i9 (xz31 - xz35) Gz34))))
noncomputable def fX1_place_71 (a0 : Nat) (i1 : Int32) (i4 : Int32) (i5 : Int32) (r6 : Option Nat) (i7 : Int32) (i8 : Int32) (i9 : Int32) (G : fg_H) : Option (Int32 × fg_H) :=
  fg_lp (fun y : Nat × Int32 × Int32 × Int32 × Option Nat × Int32 × Int32 × Int32 × fg_H => fX1_place_71b y.1 y.2.1 y.2.2.1 y.2.2.2.1 y.2.2.2.2.1 y.2.2.2.2.2.1 y.2.2.2.2.2.2.1 y.2.2.2.2.2.2.2.1 y.2.2.2.2.2.2.2.2) (a0, i1, i4, i5, r6, i7, i8, i9, G)
noncomputable def fX1_place (a0 : Nat) (i1 : Int32) (i2 : Int32) (i3 : Int32) (i4 : Int32) (i5 : Int32) (G : fg_H) : Option (Int32 × fg_H) :=
  fg_gd (fg_rc G a0 1) <|
  fg_oc (fX1_isVillage a0 i1 G) fun xz2 Gz1 =>
  if xz2 = 0 then (some ((-1 : Int32), Gz1))
  else (fg_oc (fX1_within i2 (0 : Int32) (10 : Int32) Gz1) fun xz4 Gz3 =>
  if xz4 = 0 then (some ((-1 : Int32), Gz3))
  else (fg_oc (fX1_within i3 (0 : Int32) (5 : Int32) Gz3) fun xz6 Gz5 =>
  if xz6 = 0 then (some ((-1 : Int32), Gz5))
  else (fg_oc (fX1_within i4 (0 : Int32) (2 : Int32) Gz5) fun xz8 Gz7 =>
  if xz8 = 0 then (some ((-1 : Int32), Gz7))
  else (fg_oc (fX1_within i5 (0 : Int32) (1 : Int32) Gz7) fun xz10 Gz9 =>
  if xz10 = 0 then (some ((-1 : Int32), Gz9))
  else (fg_gd (fg_rc Gz9 a0 1) <|
  fg_oc (fX1_tries a0 Gz9) fun rz12 Gz11 =>
  fg_oc (fX1_net i3 i1 i2 Gz11) fun rz14 Gz13 =>
  fX1_place_71 a0 i1 i4 i5 rz14 (-1 : Int32) (0 : Int32) (0 : Int32) Gz13)))))
/-! FogNets.wishes(I)I -/
noncomputable def fX1_wishes_43b (a0 : Nat) (i1 : Int32) (i2 : Int32) (i3 : Int32) (i4 : Int32) (i5 : Int32) (G : fg_H) : Option ((Nat × Int32 × Int32 × Int32 × Int32 × Int32 × fg_H) ⊕ (Int32 × fg_H)) :=
  if (64 : Int32) ≤ i5 then (fg_rt (some (i3, G)))
  else (if i5 = i2 then (some (.inl (a0, i1, i2, i3, i4, (i5 + (1 : Int32)), G)))
  else (fg_ob (fg_gr G a0 [1] 8) fun rz22 =>
  fg_ob rz22 fun az23 =>
  fg_gd (fg_rc G az23 5) <|
  fg_oc (fX5_isFree az23 i5 G) fun xz25 Gz24 =>
  if xz25 = 0 then (some (.inl (a0, i1, i2, i3, i4, (i5 + (1 : Int32)), Gz24)))
  else (fg_ob (fg_gr Gz24 a0 [1] 8) fun rz26 =>
  fg_ob rz26 fun az27 =>
  fg_gd (fg_rc Gz24 az27 5) <|
  fg_oc (fX5_moves az27 i1 i5 Gz24) fun _ Gz28 =>
  fg_ob (fg_gr Gz28 a0 [1] 8) fun rz29 =>
  fg_ob (fg_gr Gz28 a0 [1] 7) fun rz30 =>
  fg_ob rz29 fun az31 =>
  fg_gd (fg_rc Gz28 az31 5) <|
  fg_oc (fX5_takes az31 rz30 Gz28) fun rz33 Gz32 =>
  fg_ob (fg_gr Gz32 a0 [1] 8) fun rz34 =>
  fg_ob rz34 fun az35 =>
  fg_ob (fg_gr Gz32 az35 [5] 2) fun rz36 =>
  fg_ob rz36 fun az37 =>
  fg_ob (fg_ar Gz32 az37 5 i1) fun rz38 =>
  fg_ob rz38 fun az39 =>
  fg_ob (fg_gi Gz32 az39 [23, 24, 25, 26, 27, 28] 0) fun xz40 =>
  fg_ob rz33 fun az41 =>
  fg_gd (fg_rc Gz32 az41 5) <|
  fg_oc (fX5_yields az41 xz40 Gz32) fun xz43 Gz42 =>
  fg_ob (fg_gr Gz42 a0 [1] 8) fun rz44 =>
  fg_ob rz44 fun az45 =>
  fg_gd (fg_rc Gz42 az45 5) <|
  fg_oc (fX5_moves az45 i1 i2 Gz42) fun _ Gz46 =>
  if i4 < xz43 then (some (.inl (a0, i1, i2, i5, xz43, (i5 + (1 : Int32)), Gz46)))
  else (some (.inl (a0, i1, i2, i3, i4, (i5 + (1 : Int32)), Gz46))))))
noncomputable def fX1_wishes_43 (a0 : Nat) (i1 : Int32) (i2 : Int32) (i3 : Int32) (i4 : Int32) (i5 : Int32) (G : fg_H) : Option (Int32 × fg_H) :=
  fg_lp (fun y : Nat × Int32 × Int32 × Int32 × Int32 × Int32 × fg_H => fX1_wishes_43b y.1 y.2.1 y.2.2.1 y.2.2.2.1 y.2.2.2.2.1 y.2.2.2.2.2.1 y.2.2.2.2.2.2) (a0, i1, i2, i3, i4, i5, G)
noncomputable def fX1_wishes (a0 : Nat) (i1 : Int32) (G : fg_H) : Option (Int32 × fg_H) :=
  fg_ob (fg_gr G a0 [1] 8) fun rz1 =>
  fg_ob rz1 fun az2 =>
  fg_ob (fg_gr G az2 [5] 3) fun rz3 =>
  fg_ob rz3 fun az4 =>
  fg_ob (fg_ai G az4 0 i1) fun xz5 =>
  fg_ob (fg_gr G a0 [1] 8) fun rz6 =>
  fg_ob (fg_gr G a0 [1] 7) fun rz7 =>
  fg_ob rz6 fun az8 =>
  fg_gd (fg_rc G az8 5) <|
  fg_oc (fX5_takes az8 rz7 G) fun rz10 Gz9 =>
  fg_ob (fg_gr Gz9 a0 [1] 8) fun rz11 =>
  fg_ob rz11 fun az12 =>
  fg_ob (fg_gr Gz9 az12 [5] 2) fun rz13 =>
  fg_ob rz13 fun az14 =>
  fg_ob (fg_ar Gz9 az14 5 i1) fun rz15 =>
  fg_ob rz15 fun az16 =>
  fg_ob (fg_gi Gz9 az16 [23, 24, 25, 26, 27, 28] 0) fun xz17 =>
  fg_ob rz10 fun az18 =>
  fg_gd (fg_rc Gz9 az18 5) <|
  fg_oc (fX5_yields az18 xz17 Gz9) fun xz20 Gz19 =>
  fX1_wishes_43 a0 i1 xz5 xz5 xz20 (0 : Int32) Gz19
/-! FogNets.restless()I -/
noncomputable def fX1_restless_9b (a0 : Nat) (i1 : Int32) (i2 : Int32) (G : fg_H) : Option ((Nat × Int32 × Int32 × fg_H) ⊕ (Int32 × fg_H)) :=
  fg_ob (fg_gr G a0 [1] 8) fun rz3 =>
  fg_ob rz3 fun az4 =>
  fg_ob (fg_gi G az4 [5] 5) fun xz5 =>
  if xz5 ≤ i2 then (fg_rt (some (i1, G)))
  else (fg_gd (fg_rc G a0 1) <|
  fg_oc (fX1_wishes a0 i2 G) fun xz8 Gz7 =>
  fg_ob (fg_gr Gz7 a0 [1] 8) fun rz9 =>
  fg_ob rz9 fun az10 =>
  fg_ob (fg_gr Gz7 az10 [5] 3) fun rz11 =>
  fg_ob rz11 fun az12 =>
  fg_ob (fg_ai Gz7 az12 0 i2) fun xz13 =>
  if xz8 = xz13 then (some (.inl (a0, i1, (i2 + (1 : Int32)), Gz7)))
  else (fg_ob (some (i1 ||| ((1 : Int32) <<< (i2 &&& 31)))) fun vz14 =>
  some (.inl (a0, vz14, (i2 + (1 : Int32)), Gz7))))
noncomputable def fX1_restless_9 (a0 : Nat) (i1 : Int32) (i2 : Int32) (G : fg_H) : Option (Int32 × fg_H) :=
  fg_lp (fun y : Nat × Int32 × Int32 × fg_H => fX1_restless_9b y.1 y.2.1 y.2.2.1 y.2.2.2) (a0, i1, i2, G)
noncomputable def fX1_restless (a0 : Nat) (G : fg_H) : Option (Int32 × fg_H) :=
  fg_gd (fg_rc G a0 1) <|
  fg_oc (fX1_tries a0 G) fun rz2 Gz1 =>
  fX1_restless_9 a0 (0 : Int32) (0 : Int32) Gz1
/-! java/lang/Math.abs(I)I -/
noncomputable def fJ7_abs (i0 : Int32) (G : fg_H) : Option (Int32 × fg_H) :=
  if 0 ≤ i0 then (some (i0, G))
  else (some ((-i0), G))
/-! FogNets.isThere(Ljava/util/ArrayList;)Z -/
noncomputable def fX1_isThere_67 (a0 : Nat) (a1 : Nat) (i2 : Int32) (i3 : Int32) (G : fg_H) : Option ((Nat × Option Nat × Int32 × fg_H) ⊕ (Int32 × fg_H)) :=
  if i3 = 0 then (some (.inl (a0, (some a1), (i2 + (1 : Int32)), G)))
  else (fg_rt (some ((1 : Int32), G)))
noncomputable def fX1_isThere_15b (a0 : Nat) (a1 : Nat) (i2 : Int32) (i3 : Int32) (i4 : Int32) (G : fg_H) : Option ((Nat × Nat × Int32 × Int32 × Int32 × fg_H) ⊕ ((Nat × Option Nat × Int32 × fg_H) ⊕ (Int32 × fg_H))) :=
  fg_ob (fg_gr G a0 [1] 8) fun rz5 =>
  fg_ob rz5 fun az6 =>
  fg_ob (fg_gi G az6 [5] 5) fun xz7 =>
  if xz7 ≤ i4 then (fg_rt (fX1_isThere_67 a0 a1 i2 i3 G))
  else (if i3 = 0 then (fg_rt (fX1_isThere_67 a0 a1 i2 i3 G))
  else (fg_gd (fg_rc G a1 30) <|
  fg_oc (fJ2_get a1 i2 G) fun rz12 Gz11 =>
  fg_gd (fg_cka Gz11 rz12 0) <|
  fg_ob rz12 fun az13 =>
  fg_ob (fg_ai Gz11 az13 0 i4) fun xz14 =>
  fg_ob (fg_gr Gz11 a0 [1] 8) fun rz15 =>
  fg_ob rz15 fun az16 =>
  fg_ob (fg_gr Gz11 az16 [5] 3) fun rz17 =>
  fg_ob rz17 fun az18 =>
  fg_ob (fg_ai Gz11 az18 0 i4) fun xz19 =>
  if xz14 = xz19 then (some (.inl (a0, a1, i2, (1 : Int32), (i4 + (1 : Int32)), Gz11)))
  else (some (.inl (a0, a1, i2, (0 : Int32), (i4 + (1 : Int32)), Gz11)))))
noncomputable def fX1_isThere_15 (a0 : Nat) (a1 : Nat) (i2 : Int32) (i3 : Int32) (i4 : Int32) (G : fg_H) : Option ((Nat × Option Nat × Int32 × fg_H) ⊕ (Int32 × fg_H)) :=
  fg_lp (fun y : Nat × Nat × Int32 × Int32 × Int32 × fg_H => fX1_isThere_15b y.1 y.2.1 y.2.2.1 y.2.2.2.1 y.2.2.2.2.1 y.2.2.2.2.2) (a0, a1, i2, i3, i4, G)
noncomputable def fX1_isThere_2b (a0 : Nat) (r1 : Option Nat) (i2 : Int32) (G : fg_H) : Option ((Nat × Option Nat × Int32 × fg_H) ⊕ (Int32 × fg_H)) :=
  fg_ob r1 fun az1 =>
  fg_gd (fg_rc G az1 30) <|
  fg_oc (fJ2_size az1 G) fun xz3 Gz2 =>
  if xz3 ≤ i2 then (fg_rt (some ((0 : Int32), Gz2)))
  else (fX1_isThere_15 a0 az1 i2 (1 : Int32) (0 : Int32) Gz2)
noncomputable def fX1_isThere_2 (a0 : Nat) (r1 : Option Nat) (i2 : Int32) (G : fg_H) : Option (Int32 × fg_H) :=
  fg_lp (fun y : Nat × Option Nat × Int32 × fg_H => fX1_isThere_2b y.1 y.2.1 y.2.2.1 y.2.2.2) (a0, r1, i2, G)
noncomputable def fX1_isThere (a0 : Nat) (r1 : Option Nat) (G : fg_H) : Option (Int32 × fg_H) :=
  fX1_isThere_2 a0 r1 (0 : Int32) G
/-! jdk/internal/util/ArraysSupport.newLength(III)I -/
noncomputable def fJ12_newLength_21 (i0 : Int32) (i1 : Int32) (G : fg_H) : Option (Int32 × fg_H) :=
  none
noncomputable def fJ12_newLength (i0 : Int32) (i1 : Int32) (i2 : Int32) (G : fg_H) : Option (Int32 × fg_H) :=
  fg_oc (fJ7_max i1 i2 G) fun xz2 Gz1 =>
  fg_ob (some (i0 + xz2)) fun vz3 =>
  if vz3 ≤ (0 : Int32) then (fJ12_newLength_21 i0 i1 Gz1)
  else (if (2147483639 : Int32) < vz3 then (fJ12_newLength_21 i0 i1 Gz1)
  else (some (vz3, Gz1)))
/-! java/util/Arrays.copyOf([Ljava/lang/Object;ILjava/lang/Class;)[Ljava/lang/Object; -/
noncomputable def fJ13_copyOf_2_24 (r0 : Option Nat) (i1 : Int32) (s0 : Nat) (G : fg_H) : Option (Option Nat × fg_H) :=
  fg_ob r0 fun az4 =>
  fg_ob (fg_ln G az4) fun xz5 =>
  fg_oc (fJ7_min xz5 i1 G) fun xz7 Gz6 =>
  fg_ob (fg_cpr Gz6 4 az4 (0 : Int32) s0 (0 : Int32) xz7) fun Gz8 =>
  some ((some s0), Gz8)
noncomputable def fJ13_copyOf_2 (r0 : Option Nat) (i1 : Int32) (r2 : Option Nat) (G : fg_H) : Option (Option Nat × fg_H) :=
  fg_ob (some (G.1.2.2 52)) fun az1 =>
  if r2 = (some az1) then (fg_oc (fg_na G 4 i1) fun az2 Gz3 =>
  fJ13_copyOf_2_24 r0 i1 az2 Gz3)
  else (none)
/-! java/util/Arrays.copyOf([Ljava/lang/Object;I)[Ljava/lang/Object; -/
noncomputable def fJ13_copyOf (r0 : Option Nat) (i1 : Int32) (G : fg_H) : Option (Option Nat × fg_H) :=
  fg_ob r0 fun az1 =>
  fg_gd (fg_cka G (some az1) 4) <|
  fg_ob (some (G.1.2.2 52)) fun az2 =>
  fg_oc (fJ13_copyOf_2 (some az1) i1 (some az2) G) fun rz4 Gz3 =>
  some (rz4, Gz3)
/-! java/util/ArrayList.grow(I)[Ljava/lang/Object; -/
noncomputable def fJ2_grow_2_20 (a0 : Nat) (i1 : Int32) (i2 : Int32) (G : fg_H) : Option (Option Nat × fg_H) :=
  fg_oc (fJ12_newLength i2 (i1 - i2) (i2 >>> ((1 : Int32) &&& 31)) G) fun xz5 Gz4 =>
  fg_ob (fg_gr Gz4 a0 [30] 1) fun rz6 =>
  fg_oc (fJ13_copyOf rz6 xz5 Gz4) fun rz8 Gz7 =>
  fg_ob (fg_pv Gz7 a0 [30] 1 (va_rf rz8)) fun Gz9 =>
  some (rz8, Gz9)
noncomputable def fJ2_grow_2 (a0 : Nat) (i1 : Int32) (G : fg_H) : Option (Option Nat × fg_H) :=
  fg_ob (fg_gr G a0 [30] 1) fun rz1 =>
  fg_ob rz1 fun az2 =>
  fg_ob (fg_ln G az2) fun xz3 =>
  if 0 < xz3 then (fJ2_grow_2_20 a0 i1 xz3 G)
  else (fg_ob (fg_gr G a0 [30] 1) fun rz10 =>
  fg_ob (some (G.1.2.1 1)) fun rz11 =>
  if rz10 = rz11 then (fg_oc (fJ7_max (10 : Int32) i1 G) fun xz13 Gz12 =>
  fg_oc (fg_na Gz12 4 xz13) fun az14 Gz15 =>
  fg_ob (fg_pv Gz15 a0 [30] 1 (.ref az14)) fun Gz16 =>
  some ((some az14), Gz16))
  else (fJ2_grow_2_20 a0 i1 xz3 G))
/-! java/util/ArrayList.grow()[Ljava/lang/Object; -/
noncomputable def fJ2_grow (a0 : Nat) (G : fg_H) : Option (Option Nat × fg_H) :=
  fg_ob (fg_gi G a0 [30] 2) fun xz1 =>
  fg_gd (fg_rc G a0 30) <|
  fg_oc (fJ2_grow_2 a0 (xz1 + (1 : Int32)) G) fun rz3 Gz2 =>
  some (rz3, Gz2)
/-! java/util/ArrayList.add(Ljava/lang/Object;[Ljava/lang/Object;I)V -/
noncomputable def fJ2_add_2_11 (a0 : Nat) (r1 : Option Nat) (r2 : Option Nat) (i3 : Int32) (G : fg_H) : Option (Unit × fg_H) :=
  fg_ob r2 fun az3 =>
  fg_ob (fg_sr G az3 4 i3 r1) fun Gz4 =>
  fg_ob (fg_pv Gz4 a0 [30] 2 (.int (i3 + (1 : Int32)))) fun Gz5 =>
  some ((), Gz5)
noncomputable def fJ2_add_2 (a0 : Nat) (r1 : Option Nat) (r2 : Option Nat) (i3 : Int32) (G : fg_H) : Option (Unit × fg_H) :=
  fg_ob r2 fun az1 =>
  fg_ob (fg_ln G az1) fun xz2 =>
  if i3 = xz2 then (fg_gd (fg_rc G a0 30) <|
  fg_oc (fJ2_grow a0 G) fun rz7 Gz6 =>
  fJ2_add_2_11 a0 r1 rz7 i3 Gz6)
  else (fJ2_add_2_11 a0 r1 (some az1) i3 G)
/-! java/util/ArrayList.add(Ljava/lang/Object;)Z -/
noncomputable def fJ2_add (a0 : Nat) (r1 : Option Nat) (G : fg_H) : Option (Int32 × fg_H) :=
  fg_ob (fg_gi G a0 [30] 0) fun xz1 =>
  fg_ob (fg_pv G a0 [30] 0 (.int (xz1 + (1 : Int32)))) fun Gz2 =>
  fg_ob (fg_gr Gz2 a0 [30] 1) fun rz3 =>
  fg_ob (fg_gi Gz2 a0 [30] 2) fun xz4 =>
  fg_gd (fg_rc Gz2 a0 30) <|
  fg_oc (fJ2_add_2 a0 r1 rz3 xz4 Gz2) fun _ Gz5 =>
  some ((1 : Int32), Gz5)
/-! FogNets.keeps(Ljava/util/ArrayList;)V -/
noncomputable def fX1_keeps (a0 : Nat) (r1 : Option Nat) (G : fg_H) : Option (Unit × fg_H) :=
  fg_ob (fg_gr G a0 [1] 8) fun rz1 =>
  fg_ob rz1 fun az2 =>
  fg_ob (fg_gi G az2 [5] 5) fun xz3 =>
  fg_oc (fg_na G 0 xz3) fun az4 Gz5 =>
  fg_ob (fg_gr Gz5 a0 [1] 8) fun rz6 =>
  fg_ob rz6 fun az7 =>
  fg_ob (fg_gr Gz5 az7 [5] 3) fun rz8 =>
  fg_ob (fg_gr Gz5 a0 [1] 8) fun rz9 =>
  fg_ob rz9 fun az10 =>
  fg_ob (fg_gi Gz5 az10 [5] 5) fun xz11 =>
  fg_ob rz8 fun az12 =>
  fg_ob (fg_cpi Gz5 az12 (0 : Int32) az4 (0 : Int32) xz11) fun Gz13 =>
  fg_ob r1 fun az14 =>
  fg_gd (fg_rc Gz13 az14 30) <|
  fg_oc (fJ2_add az14 (some az4) Gz13) fun xz16 Gz15 =>
  some ((), Gz15)
/-! FogNets.plays()I -/
noncomputable def fX1_plays_31b (a0 : Nat) (a1 : Nat) (i2 : Int32) (i3 : Int32) (i4 : Int32) (G : fg_H) : Option ((Nat × Nat × Int32 × Int32 × Int32 × fg_H) ⊕ ((Nat × Nat × Int32 × fg_H) ⊕ (Int32 × fg_H))) :=
  fg_ob (fg_gr G a0 [1] 8) fun rz8 =>
  fg_ob rz8 fun az9 =>
  fg_ob (fg_gi G az9 [5] 5) fun xz10 =>
  if xz10 ≤ i4 then (fg_rt (if i3 = 0 then (fg_rt (some (i2, G)))
  else (fg_gd (fg_rc G a0 1) <|
  fg_oc (fX1_isThere a0 (some a1) G) fun xz13 Gz12 =>
  if xz13 = 0 then (fg_gd (fg_rc Gz12 a0 1) <|
  fg_oc (fX1_keeps a0 (some a1) Gz12) fun _ Gz14 =>
  some (.inl (a0, a1, (i2 + (1 : Int32)), Gz14)))
  else (fg_rt (some ((-i2), Gz12))))))
  else (fg_gd (fg_rc G a0 1) <|
  fg_oc (fX1_wishes a0 i4 G) fun xz18 Gz17 =>
  fg_ob (fg_gr Gz17 a0 [1] 8) fun rz19 =>
  fg_ob rz19 fun az20 =>
  fg_ob (fg_gr Gz17 az20 [5] 3) fun rz21 =>
  fg_ob rz21 fun az22 =>
  fg_ob (fg_ai Gz17 az22 0 i4) fun xz23 =>
  if xz18 = xz23 then (some (.inl (a0, a1, i2, i3, (i4 + (1 : Int32)), Gz17)))
  else (fg_ob (fg_gr Gz17 a0 [1] 8) fun rz24 =>
  fg_ob rz24 fun az25 =>
  fg_gd (fg_rc Gz17 az25 5) <|
  fg_oc (fX5_moves az25 i4 xz18 Gz17) fun _ Gz26 =>
  some (.inl (a0, a1, i2, (1 : Int32), (i4 + (1 : Int32)), Gz26))))
noncomputable def fX1_plays_31 (a0 : Nat) (a1 : Nat) (i2 : Int32) (i3 : Int32) (i4 : Int32) (G : fg_H) : Option ((Nat × Nat × Int32 × fg_H) ⊕ (Int32 × fg_H)) :=
  fg_lp (fun y : Nat × Nat × Int32 × Int32 × Int32 × fg_H => fX1_plays_31b y.1 y.2.1 y.2.2.1 y.2.2.2.1 y.2.2.2.2.1 y.2.2.2.2.2) (a0, a1, i2, i3, i4, G)
noncomputable def fX1_plays_20b (a0 : Nat) (a1 : Nat) (i2 : Int32) (G : fg_H) : Option ((Nat × Nat × Int32 × fg_H) ⊕ (Int32 × fg_H)) :=
  if (100 : Int32) < i2 then (fg_rt (some ((-100 : Int32), G)))
  else (fX1_plays_31 a0 a1 i2 (0 : Int32) (0 : Int32) G)
noncomputable def fX1_plays_20 (a0 : Nat) (a1 : Nat) (i2 : Int32) (G : fg_H) : Option (Int32 × fg_H) :=
  fg_lp (fun y : Nat × Nat × Int32 × fg_H => fX1_plays_20b y.1 y.2.1 y.2.2.1 y.2.2.2) (a0, a1, i2, G)
noncomputable def fX1_plays (a0 : Nat) (G : fg_H) : Option (Int32 × fg_H) :=
  fg_gd (fg_rc G a0 1) <|
  fg_oc (fX1_tries a0 G) fun rz2 Gz1 =>
  fg_oc (fg_new Gz1 30 3 nw_J2) fun az3 Gz4 =>
  fg_oc (fJ2_init_2 az3 Gz4) fun _ Gz5 =>
  fg_gd (fg_rc Gz5 a0 1) <|
  fg_oc (fX1_keeps a0 (some az3) Gz5) fun _ Gz6 =>
  fX1_plays_20 a0 az3 (1 : Int32) Gz6
/-! FogNets.played(I)I -/
noncomputable def fX1_played (a0 : Nat) (i1 : Int32) (G : fg_H) : Option (Int32 × fg_H) :=
  fg_ob (fg_gr G a0 [1] 2) fun rz1 =>
  fg_ob rz1 fun az2 =>
  fg_ob (fg_gi G az2 [5] 5) fun xz3 =>
  fg_oc (fX1_within i1 (0 : Int32) ((1 : Int32) + xz3) G) fun xz5 Gz4 =>
  if xz5 = 0 then (some ((-1 : Int32), Gz4))
  else (fg_gd (fg_rc Gz4 a0 1) <|
  fg_oc (fX1_plays a0 Gz4) fun xz7 Gz6 =>
  if i1 = 0 then (fg_oc (fJ7_abs xz7 Gz6) fun xz14 Gz13 =>
  some (xz14, Gz13))
  else (if i1 = (1 : Int32) then (if xz7 ≤ 0 then (some ((0 : Int32), Gz6))
  else (some ((1 : Int32), Gz6)))
  else (fg_ob (fg_gr Gz6 a0 [1] 8) fun rz8 =>
  fg_ob rz8 fun az9 =>
  fg_ob (fg_gr Gz6 az9 [5] 3) fun rz10 =>
  fg_ob rz10 fun az11 =>
  fg_ob (fg_ai Gz6 az11 0 (i1 - (2 : Int32))) fun xz12 =>
  some (xz12, Gz6))))
/-! FogNets.first()I -/
noncomputable def fX1_first_112 (a0 : Nat) (i3 : Int32) (i4 : Int32) (G : fg_H) : Option ((Nat × Int32 × Int32 × Int32 × fg_H) ⊕ (Int32 × fg_H)) :=
  some (.inl (a0, i3, i4, (i3 + (1 : Int32)), G))
noncomputable def fX1_first_11b (a0 : Nat) (i1 : Int32) (i2 : Int32) (i3 : Int32) (G : fg_H) : Option ((Nat × Int32 × Int32 × Int32 × fg_H) ⊕ (Int32 × fg_H)) :=
  fg_ob (fg_gr G a0 [1] 8) fun rz3 =>
  fg_ob rz3 fun az4 =>
  fg_ob (fg_gi G az4 [5] 5) fun xz5 =>
  if xz5 ≤ i3 then (fg_rt (some (i1, G)))
  else (fg_ob (fg_gr G a0 [1] 8) fun rz7 =>
  fg_ob rz7 fun az8 =>
  fg_ob (fg_gr G az8 [5] 2) fun rz9 =>
  fg_ob rz9 fun az10 =>
  fg_ob (fg_ar G az10 5 i3) fun rz11 =>
  fg_ob rz11 fun az12 =>
  fg_oc (vX23_tears az12 G) fun xz14 Gz13 =>
  if xz14 = 0 then (some (.inl (a0, i1, i2, (i3 + (1 : Int32)), Gz13)))
  else (fg_ob (fg_gr Gz13 a0 [1] 8) fun rz15 =>
  fg_ob rz15 fun az16 =>
  fg_gd (fg_rc Gz13 az16 5) <|
  fg_oc (fX5_isMended az16 i3 Gz13) fun xz18 Gz17 =>
  if xz18 = 0 then (fg_ob (fg_gr Gz17 a0 [1] 8) fun rz19 =>
  fg_ob rz19 fun az20 =>
  fg_ob (fg_gi Gz17 az20 [5] 4) fun xz21 =>
  fg_ob (fg_pv Gz17 az20 [5] 4 (.int (xz21 ^^^ ((1 : Int32) <<< (i3 &&& 31))))) fun Gz22 =>
  fg_ob (fg_gr Gz22 a0 [1] 8) fun rz23 =>
  fg_ob (fg_gr Gz22 a0 [1] 7) fun rz24 =>
  fg_ob rz23 fun az25 =>
  fg_gd (fg_rc Gz22 az25 5) <|
  fg_oc (fX5_takes az25 rz24 Gz22) fun rz27 Gz26 =>
  fg_ob rz27 fun az28 =>
  fg_gd (fg_rc Gz26 az28 5) <|
  fg_oc (fX5_yields az28 (-1 : Int32) Gz26) fun xz30 Gz29 =>
  fg_ob (fg_gr Gz29 a0 [1] 8) fun rz31 =>
  fg_ob rz31 fun az32 =>
  fg_ob (fg_gi Gz29 az32 [5] 4) fun xz33 =>
  fg_ob (fg_pv Gz29 az32 [5] 4 (.int (xz33 ^^^ ((1 : Int32) <<< (i3 &&& 31))))) fun Gz34 =>
  if i1 = (-1 : Int32) then (fX1_first_112 a0 i3 xz30 Gz34)
  else (if i2 < xz30 then (fX1_first_112 a0 i3 xz30 Gz34)
  else (some (.inl (a0, i1, i2, (i3 + (1 : Int32)), Gz34)))))
  else (some (.inl (a0, i1, i2, (i3 + (1 : Int32)), Gz17)))))
noncomputable def fX1_first_11 (a0 : Nat) (i1 : Int32) (i2 : Int32) (i3 : Int32) (G : fg_H) : Option (Int32 × fg_H) :=
  fg_lp (fun y : Nat × Int32 × Int32 × Int32 × fg_H => fX1_first_11b y.1 y.2.1 y.2.2.1 y.2.2.2.1 y.2.2.2.2) (a0, i1, i2, i3, G)
noncomputable def fX1_first (a0 : Nat) (G : fg_H) : Option (Int32 × fg_H) :=
  fg_gd (fg_rc G a0 1) <|
  fg_oc (fX1_tries a0 G) fun rz2 Gz1 =>
  fX1_first_11 a0 (-1 : Int32) (0 : Int32) (0 : Int32) Gz1
/-! FogNets.bits(I)I -/
noncomputable def fX1_bits_4b (i1 : Int32) (i2 : Int32) (G : fg_H) : Option ((Int32 × Int32 × fg_H) ⊕ (Int32 × fg_H)) :=
  if i2 = 0 then (fg_rt (some (i1, G)))
  else (fg_ob (some (i2 &&& (i2 - (1 : Int32)))) fun vz2 =>
  some (.inl ((i1 + (1 : Int32)), vz2, G)))
noncomputable def fX1_bits_4 (i1 : Int32) (i2 : Int32) (G : fg_H) : Option (Int32 × fg_H) :=
  fg_lp (fun y : Int32 × Int32 × fg_H => fX1_bits_4b y.1 y.2.1 y.2.2) (i1, i2, G)
noncomputable def fX1_bits (i0 : Int32) (G : fg_H) : Option (Int32 × fg_H) :=
  fX1_bits_4 (0 : Int32) i0 G
/-! FogNets$Hung.shows(IZ)V -/
noncomputable def fX5_shows_2b (a0 : Nat) (i1 : Int32) (i2 : Int32) (i3 : Int32) (G : fg_H) : Option ((Nat × Int32 × Int32 × Int32 × fg_H) ⊕ (Unit × fg_H)) :=
  fg_ob (fg_gi G a0 [5] 5) fun xz1 =>
  if xz1 ≤ i3 then (fg_rt (some ((), G)))
  else (fg_ob (fg_gr G a0 [5] 2) fun rz3 =>
  fg_ob rz3 fun az4 =>
  fg_ob (fg_ar G az4 5 i3) fun rz5 =>
  fg_ob rz5 fun az6 =>
  fg_ob (fg_gi G az6 [23, 24, 25, 26, 27, 28] 0) fun xz7 =>
  if xz7 = i1 then (fg_ob (fg_gr G a0 [5] 1) fun rz8 =>
  fg_ob (fg_gr G a0 [5] 3) fun rz9 =>
  fg_ob rz9 fun az10 =>
  fg_ob (fg_ai G az10 0 i3) fun xz11 =>
  if i2 = 0 then (fg_ob rz8 fun az12 =>
  fg_ob (fg_si G az12 0 xz11 (0 : Int32)) fun Gz13 =>
  some (.inl (a0, i1, i2, (i3 + (1 : Int32)), Gz13)))
  else (fg_ob rz8 fun az14 =>
  fg_ob (fg_si G az14 0 xz11 (i3 + (1 : Int32))) fun Gz15 =>
  some (.inl (a0, i1, i2, (i3 + (1 : Int32)), Gz15))))
  else (some (.inl (a0, i1, i2, (i3 + (1 : Int32)), G))))
noncomputable def fX5_shows_2 (a0 : Nat) (i1 : Int32) (i2 : Int32) (i3 : Int32) (G : fg_H) : Option (Unit × fg_H) :=
  fg_lp (fun y : Nat × Int32 × Int32 × Int32 × fg_H => fX5_shows_2b y.1 y.2.1 y.2.2.1 y.2.2.2.1 y.2.2.2.2) (a0, i1, i2, i3, G)
noncomputable def fX5_shows (a0 : Nat) (i1 : Int32) (i2 : Int32) (G : fg_H) : Option (Unit × fg_H) :=
  fX5_shows_2 a0 i1 i2 (0 : Int32) G
/-! FogNets.findsWorth()V -/
noncomputable def fX1_findsWorth_58 (a0 : Nat) (i1 : Int32) (i2 : Int32) (s0 : Option Nat) (s1 : Int32) (s2 : Int32) (G : fg_H) : Option ((Nat × Int32 × Int32 × fg_H) ⊕ ((Nat × Int32 × fg_H) ⊕ (Unit × fg_H))) :=
  fg_ob s0 fun az29 =>
  fg_gd (fg_rc G az29 5) <|
  fg_oc (fX5_shows az29 s1 s2 G) fun _ Gz30 =>
  some (.inl (a0, i1, (i2 + (1 : Int32)), Gz30))
noncomputable def fX1_findsWorth_25b (a0 : Nat) (i1 : Int32) (i2 : Int32) (G : fg_H) : Option ((Nat × Int32 × Int32 × fg_H) ⊕ ((Nat × Int32 × fg_H) ⊕ (Unit × fg_H))) :=
  fg_ob (fg_gr G a0 [1] 1) fun rz10 =>
  fg_ob rz10 fun az11 =>
  fg_ob (fg_gr G az11 [3] 7) fun rz12 =>
  fg_ob rz12 fun az13 =>
  fg_gd (fg_rc G az13 30) <|
  fg_oc (fJ2_size az13 G) fun xz15 Gz14 =>
  if xz15 ≤ i2 then (fg_rt (fg_ob (fg_gr Gz14 a0 [1] 10) fun rz17 =>
  fg_ob (fg_gr Gz14 a0 [1] 8) fun rz18 =>
  fg_ob (fg_gr Gz14 a0 [1] 7) fun rz19 =>
  fg_ob rz18 fun az20 =>
  fg_gd (fg_rc Gz14 az20 5) <|
  fg_oc (fX5_takes az20 rz19 Gz14) fun rz22 Gz21 =>
  fg_ob rz22 fun az23 =>
  fg_gd (fg_rc Gz21 az23 5) <|
  fg_oc (fX5_yields az23 (-1 : Int32) Gz21) fun xz25 Gz24 =>
  fg_ob rz17 fun az26 =>
  fg_ob (fg_si Gz24 az26 0 i1 xz25) fun Gz27 =>
  some (.inl (a0, (i1 + (1 : Int32)), Gz27))))
  else (fg_ob (fg_gr Gz14 a0 [1] 8) fun rz28 =>
  if ((i1 >>> (i2 &&& 31)) &&& (1 : Int32)) = (1 : Int32) then (fX1_findsWorth_58 a0 i1 i2 rz28 i2 (1 : Int32) Gz14)
  else (fX1_findsWorth_58 a0 i1 i2 rz28 i2 (0 : Int32) Gz14))
noncomputable def fX1_findsWorth_25 (a0 : Nat) (i1 : Int32) (i2 : Int32) (G : fg_H) : Option ((Nat × Int32 × fg_H) ⊕ (Unit × fg_H)) :=
  fg_lp (fun y : Nat × Int32 × Int32 × fg_H => fX1_findsWorth_25b y.1 y.2.1 y.2.2.1 y.2.2.2) (a0, i1, i2, G)
noncomputable def fX1_findsWorth_7b (a0 : Nat) (i1 : Int32) (G : fg_H) : Option ((Nat × Int32 × fg_H) ⊕ (Unit × fg_H)) :=
  fg_ob (fg_gr G a0 [1] 1) fun rz3 =>
  fg_ob rz3 fun az4 =>
  fg_ob (fg_gr G az4 [3] 7) fun rz5 =>
  fg_ob rz5 fun az6 =>
  fg_gd (fg_rc G az6 30) <|
  fg_oc (fJ2_size az6 G) fun xz8 Gz7 =>
  if ((1 : Int32) <<< (xz8 &&& 31)) ≤ i1 then (fg_rt (some ((), Gz7)))
  else (fX1_findsWorth_25 a0 i1 (0 : Int32) Gz7)
noncomputable def fX1_findsWorth_7 (a0 : Nat) (i1 : Int32) (G : fg_H) : Option (Unit × fg_H) :=
  fg_lp (fun y : Nat × Int32 × fg_H => fX1_findsWorth_7b y.1 y.2.1 y.2.2) (a0, i1, G)
noncomputable def fX1_findsWorth (a0 : Nat) (G : fg_H) : Option (Unit × fg_H) :=
  fg_gd (fg_rc G a0 1) <|
  fg_oc (fX1_tries a0 G) fun rz2 Gz1 =>
  fX1_findsWorth_7 a0 (0 : Int32) Gz1
/-! FogNets.orders(I)I -/
noncomputable def fX1_orders_4b (i0 : Int32) (i1 : Int32) (i2 : Int32) (G : fg_H) : Option ((Int32 × Int32 × Int32 × fg_H) ⊕ (Int32 × fg_H)) :=
  if i0 < i2 then (fg_rt (some (i1, G)))
  else (fg_ob (some (i1 * i2)) fun vz2 =>
  some (.inl (i0, vz2, (i2 + (1 : Int32)), G)))
noncomputable def fX1_orders_4 (i0 : Int32) (i1 : Int32) (i2 : Int32) (G : fg_H) : Option (Int32 × fg_H) :=
  fg_lp (fun y : Int32 × Int32 × Int32 × fg_H => fX1_orders_4b y.1 y.2.1 y.2.2.1 y.2.2.2) (i0, i1, i2, G)
noncomputable def fX1_orders (i0 : Int32) (G : fg_H) : Option (Int32 × fg_H) :=
  fX1_orders_4 i0 (1 : Int32) (2 : Int32) G
/-! FogNets.share(II)I -/
noncomputable def fX1_share_122b (i2 : Int32) (i3 : Int32) (i4 : Int32) (i5 : Int32) (i6 : Int32) (G : fg_H) : Option ((Int32 × Int32 × Int32 × Int32 × Int32 × fg_H) ⊕ (Int32 × fg_H)) :=
  if i6 = 0 then (fg_rt (if i2 = 0 then (fg_gd (!(i5 == 0)) <|
  some ((i4 / i5), G))
  else (fg_oc (fX1_orders i3 G) fun xz19 Gz18 =>
  fg_gd (!(i5 == 0)) <|
  some ((xz19 / i5), Gz18))))
  else (fg_gd (!(i6 == 0)) <|
  fg_ob (some (i5 - i5 / i6 * i6)) fun vz20 =>
  some (.inl (i2, i3, i4, i6, vz20, G)))
noncomputable def fX1_share_122 (i2 : Int32) (i3 : Int32) (i4 : Int32) (i5 : Int32) (i6 : Int32) (G : fg_H) : Option (Int32 × fg_H) :=
  fg_lp (fun y : Int32 × Int32 × Int32 × Int32 × Int32 × fg_H => fX1_share_122b y.1 y.2.1 y.2.2.1 y.2.2.2.1 y.2.2.2.2.1 y.2.2.2.2.2) (i2, i3, i4, i5, i6, G)
noncomputable def fX1_share_40b (a0 : Nat) (i1 : Int32) (i2 : Int32) (i3 : Int32) (i4 : Int32) (i5 : Int32) (G : fg_H) : Option ((Nat × Int32 × Int32 × Int32 × Int32 × Int32 × fg_H) ⊕ (Int32 × fg_H)) :=
  if ((1 : Int32) <<< (i3 &&& 31)) ≤ i5 then (fg_rt (fg_oc (fJ7_abs i4 G) fun xz14 Gz13 =>
  fg_oc (fX1_orders i3 Gz13) fun xz16 Gz15 =>
  fX1_share_122 i2 i3 i4 xz14 xz16 Gz15))
  else (if ((i5 >>> (i1 &&& 31)) &&& (1 : Int32)) = 0 then (fg_oc (fX1_bits i5 G) fun xz22 Gz21 =>
  fg_oc (fX1_orders xz22 Gz21) fun xz24 Gz23 =>
  fg_oc (fX1_bits i5 Gz23) fun xz26 Gz25 =>
  fg_oc (fX1_orders ((i3 - xz26) - (1 : Int32)) Gz25) fun xz28 Gz27 =>
  fg_ob (fg_gr Gz27 a0 [1] 10) fun rz29 =>
  fg_ob rz29 fun az30 =>
  fg_ob (fg_ai Gz27 az30 0 (i5 ||| ((1 : Int32) <<< (i1 &&& 31)))) fun xz31 =>
  fg_ob (fg_gr Gz27 a0 [1] 10) fun rz32 =>
  fg_ob rz32 fun az33 =>
  fg_ob (fg_ai Gz27 az33 0 i5) fun xz34 =>
  fg_ob (some (i4 + ((xz24 * xz28) * (xz31 - xz34)))) fun vz35 =>
  some (.inl (a0, i1, i2, i3, vz35, (i5 + (1 : Int32)), Gz27)))
  else (some (.inl (a0, i1, i2, i3, i4, (i5 + (1 : Int32)), G))))
noncomputable def fX1_share_40 (a0 : Nat) (i1 : Int32) (i2 : Int32) (i3 : Int32) (i4 : Int32) (i5 : Int32) (G : fg_H) : Option (Int32 × fg_H) :=
  fg_lp (fun y : Nat × Int32 × Int32 × Int32 × Int32 × Int32 × fg_H => fX1_share_40b y.1 y.2.1 y.2.2.1 y.2.2.2.1 y.2.2.2.2.1 y.2.2.2.2.2.1 y.2.2.2.2.2.2) (a0, i1, i2, i3, i4, i5, G)
noncomputable def fX1_share (a0 : Nat) (i1 : Int32) (i2 : Int32) (G : fg_H) : Option (Int32 × fg_H) :=
  fg_gd (fg_rc G a0 1) <|
  fg_oc (fX1_isVillage a0 i1 G) fun xz2 Gz1 =>
  if xz2 = 0 then (some ((-1 : Int32), Gz1))
  else (fg_oc (fX1_within i2 (0 : Int32) (1 : Int32) Gz1) fun xz4 Gz3 =>
  if xz4 = 0 then (some ((-1 : Int32), Gz3))
  else (fg_gd (fg_rc Gz3 a0 1) <|
  fg_oc (fX1_findsWorth a0 Gz3) fun _ Gz5 =>
  fg_ob (fg_gr Gz5 a0 [1] 1) fun rz6 =>
  fg_ob rz6 fun az7 =>
  fg_ob (fg_gr Gz5 az7 [3] 7) fun rz8 =>
  fg_ob rz8 fun az9 =>
  fg_gd (fg_rc Gz5 az9 30) <|
  fg_oc (fJ2_size az9 Gz5) fun xz11 Gz10 =>
  fX1_share_40 a0 i1 i2 xz11 (0 : Int32) (0 : Int32) Gz10))
/-! FogNets.goesOn(I)V -/
noncomputable def fX1_goesOn (a0 : Nat) (i1 : Int32) (G : fg_H) : Option (Unit × fg_H) :=
  fg_ob (fg_gr G a0 [1] 8) fun rz1 =>
  fg_ob (fg_gr G a0 [1] 7) fun rz2 =>
  fg_ob (fg_gr G a0 [1] 1) fun rz3 =>
  fg_ob rz2 fun az4 =>
  fg_gd (fg_rc G az4 7) <|
  fg_oc (fX7_finds az4 rz3 i1 G) fun rz6 Gz5 =>
  fg_ob rz1 fun az7 =>
  fg_gd (fg_rc Gz5 az7 5) <|
  fg_oc (fX5_takes az7 rz6 Gz5) fun rz9 Gz8 =>
  fg_ob (fg_gr Gz8 a0 [1] 9) fun rz10 =>
  fg_ob (fg_gr Gz8 a0 [1] 8) fun rz11 =>
  fg_ob rz10 fun az12 =>
  fg_gd (fg_rc Gz8 az12 6) <|
  fg_oc (fX6_passes az12 rz11 Gz8) fun _ Gz13 =>
  some ((), Gz13)
/-! FogNets$Tanks.copies(LFogNets$Tanks;)V -/
noncomputable def fX6_copies (a0 : Nat) (r1 : Option Nat) (G : fg_H) : Option (Unit × fg_H) :=
  fg_ob r1 fun az1 =>
  fg_ob (fg_gr G az1 [6] 0) fun rz2 =>
  fg_ob (fg_gr G a0 [6] 0) fun rz3 =>
  fg_ob rz3 fun az4 =>
  fg_ob rz2 fun az5 =>
  fg_ob (fg_cpi G az5 (0 : Int32) az4 (0 : Int32) (6 : Int32)) fun Gz6 =>
  fg_ob (fg_gr Gz6 az1 [6] 1) fun rz7 =>
  fg_ob (fg_gr Gz6 a0 [6] 1) fun rz8 =>
  fg_ob rz8 fun az9 =>
  fg_ob rz7 fun az10 =>
  fg_ob (fg_cpi Gz6 az10 (0 : Int32) az9 (0 : Int32) (6 : Int32)) fun Gz11 =>
  some ((), Gz11)
/-! FogNets.dry(I)I -/
noncomputable def fX1_dry_35b (a0 : Nat) (i1 : Int32) (i2 : Int32) (G : fg_H) : Option ((Nat × Int32 × Int32 × fg_H) ⊕ (Int32 × fg_H)) :=
  if (100 : Int32) < i2 then (fg_rt (some ((-1 : Int32), G)))
  else (fg_ob (fg_gi G a0 [1] 4) fun xz13 =>
  fg_gd (fg_rc G a0 1) <|
  fg_oc (fX1_goesOn a0 ((xz13 + i2) - (1 : Int32)) G) fun _ Gz14 =>
  fg_ob (fg_gr Gz14 a0 [1] 9) fun rz15 =>
  fg_ob rz15 fun az16 =>
  fg_ob (fg_gr Gz14 az16 [6] 1) fun rz17 =>
  fg_ob rz17 fun az18 =>
  fg_ob (fg_ai Gz14 az18 0 i1) fun xz19 =>
  fg_ob (fg_gr Gz14 a0 [1] 3) fun rz20 =>
  fg_ob rz20 fun az21 =>
  fg_ob (fg_gr Gz14 az21 [6] 1) fun rz22 =>
  fg_ob rz22 fun az23 =>
  fg_ob (fg_ai Gz14 az23 0 i1) fun xz24 =>
  if xz19 ≤ xz24 then (some (.inl (a0, i1, (i2 + (1 : Int32)), Gz14)))
  else (fg_rt (some (i2, Gz14))))
noncomputable def fX1_dry_35 (a0 : Nat) (i1 : Int32) (i2 : Int32) (G : fg_H) : Option (Int32 × fg_H) :=
  fg_lp (fun y : Nat × Int32 × Int32 × fg_H => fX1_dry_35b y.1 y.2.1 y.2.2.1 y.2.2.2) (a0, i1, i2, G)
noncomputable def fX1_dry (a0 : Nat) (i1 : Int32) (G : fg_H) : Option (Int32 × fg_H) :=
  fg_gd (fg_rc G a0 1) <|
  fg_oc (fX1_isVillage a0 i1 G) fun xz2 Gz1 =>
  if xz2 = 0 then (some ((-1 : Int32), Gz1))
  else (fg_ob (fg_gr Gz1 a0 [1] 8) fun rz3 =>
  fg_ob (fg_gr Gz1 a0 [1] 2) fun rz4 =>
  fg_ob rz3 fun az5 =>
  fg_gd (fg_rc Gz1 az5 5) <|
  fg_oc (fX5_copies az5 rz4 Gz1) fun rz7 Gz6 =>
  fg_ob (fg_gr Gz6 a0 [1] 9) fun rz8 =>
  fg_ob (fg_gr Gz6 a0 [1] 3) fun rz9 =>
  fg_ob rz8 fun az10 =>
  fg_gd (fg_rc Gz6 az10 6) <|
  fg_oc (fX6_copies az10 rz9 Gz6) fun _ Gz11 =>
  fX1_dry_35 a0 i1 (1 : Int32) Gz11)
/-! FogNets.stored(II)I -/
noncomputable def fX1_stored_45b (a0 : Nat) (i1 : Int32) (i2 : Int32) (i3 : Int32) (G : fg_H) : Option ((Nat × Int32 × Int32 × Int32 × fg_H) ⊕ (Int32 × fg_H)) :=
  if i2 ≤ i3 then (fg_rt (fg_ob (fg_gr G a0 [1] 9) fun rz15 =>
  fg_ob rz15 fun az16 =>
  fg_ob (fg_gr G az16 [6] 0) fun rz17 =>
  fg_ob rz17 fun az18 =>
  fg_ob (fg_ai G az18 0 i1) fun xz19 =>
  some (xz19, G)))
  else (fg_ob (fg_gi G a0 [1] 4) fun xz20 =>
  fg_gd (fg_rc G a0 1) <|
  fg_oc (fX1_goesOn a0 (xz20 + i3) G) fun _ Gz21 =>
  some (.inl (a0, i1, i2, (i3 + (1 : Int32)), Gz21)))
noncomputable def fX1_stored_45 (a0 : Nat) (i1 : Int32) (i2 : Int32) (i3 : Int32) (G : fg_H) : Option (Int32 × fg_H) :=
  fg_lp (fun y : Nat × Int32 × Int32 × Int32 × fg_H => fX1_stored_45b y.1 y.2.1 y.2.2.1 y.2.2.2.1 y.2.2.2.2) (a0, i1, i2, i3, G)
noncomputable def fX1_stored (a0 : Nat) (i1 : Int32) (i2 : Int32) (G : fg_H) : Option (Int32 × fg_H) :=
  fg_gd (fg_rc G a0 1) <|
  fg_oc (fX1_isVillage a0 i1 G) fun xz2 Gz1 =>
  if xz2 = 0 then (some ((-1 : Int32), Gz1))
  else (fg_oc (fX1_within i2 (0 : Int32) (100 : Int32) Gz1) fun xz4 Gz3 =>
  if xz4 = 0 then (some ((-1 : Int32), Gz3))
  else (fg_ob (fg_gr Gz3 a0 [1] 8) fun rz5 =>
  fg_ob (fg_gr Gz3 a0 [1] 2) fun rz6 =>
  fg_ob rz5 fun az7 =>
  fg_gd (fg_rc Gz3 az7 5) <|
  fg_oc (fX5_copies az7 rz6 Gz3) fun rz9 Gz8 =>
  fg_ob (fg_gr Gz8 a0 [1] 9) fun rz10 =>
  fg_ob (fg_gr Gz8 a0 [1] 3) fun rz11 =>
  fg_ob rz10 fun az12 =>
  fg_gd (fg_rc Gz8 az12 6) <|
  fg_oc (fX6_copies az12 rz11 Gz8) fun _ Gz13 =>
  fX1_stored_45 a0 i1 i2 (0 : Int32) Gz13))
/-! FogNets.jar(II)I -/
noncomputable def fX1_jar (a0 : Nat) (i1 : Int32) (i2 : Int32) (G : fg_H) : Option (Int32 × fg_H) :=
  fg_gd (fg_rc G a0 1) <|
  fg_oc (fX1_isNet a0 i1 G) fun xz2 Gz1 =>
  if xz2 = 0 then (some ((-1 : Int32), Gz1))
  else (fg_oc (fX1_within i2 (0 : Int32) (99999 : Int32) Gz1) fun xz4 Gz3 =>
  if xz4 = 0 then (some ((-1 : Int32), Gz3))
  else (fg_ob (fg_gr Gz3 a0 [1] 6) fun rz5 =>
  fg_ob rz5 fun az6 =>
  fg_gd (fg_rc Gz3 az6 30) <|
  fg_oc (fJ2_size az6 Gz3) fun xz8 Gz7 =>
  if xz8 = (8 : Int32) then (some ((-1 : Int32), Gz7))
  else (fg_ob (fg_gr Gz7 a0 [1] 6) fun rz9 =>
  fg_oc (fg_na Gz7 0 (2 : Int32)) fun az10 Gz11 =>
  fg_ob (fg_si Gz11 az10 0 (0 : Int32) i1) fun Gz12 =>
  fg_ob (fg_si Gz12 az10 0 (1 : Int32) i2) fun Gz13 =>
  fg_ob rz9 fun az14 =>
  fg_gd (fg_rc Gz13 az14 30) <|
  fg_oc (fJ2_add az14 (some az10) Gz13) fun xz16 Gz15 =>
  fg_ob (fg_gr Gz15 a0 [1] 6) fun rz17 =>
  fg_ob rz17 fun az18 =>
  fg_gd (fg_rc Gz15 az18 30) <|
  fg_oc (fJ2_size az18 Gz15) fun xz20 Gz19 =>
  some (xz20, Gz19))))
/-! java/util/ArrayList.clear()V -/
noncomputable def fJ2_clear_27b (r1 : Option Nat) (i2 : Int32) (i3 : Int32) (G : fg_H) : Option ((Option Nat × Int32 × Int32 × fg_H) ⊕ (Unit × fg_H)) :=
  if i2 ≤ i3 then (fg_rt (some ((), G)))
  else (fg_ob r1 fun az7 =>
  fg_ob (fg_sr G az7 4 i3 none) fun Gz8 =>
  some (.inl ((some az7), i2, (i3 + (1 : Int32)), Gz8)))
noncomputable def fJ2_clear_27 (r1 : Option Nat) (i2 : Int32) (i3 : Int32) (G : fg_H) : Option (Unit × fg_H) :=
  fg_lp (fun y : Option Nat × Int32 × Int32 × fg_H => fJ2_clear_27b y.1 y.2.1 y.2.2.1 y.2.2.2) (r1, i2, i3, G)
noncomputable def fJ2_clear (a0 : Nat) (G : fg_H) : Option (Unit × fg_H) :=
  fg_ob (fg_gi G a0 [30] 0) fun xz1 =>
  fg_ob (fg_pv G a0 [30] 0 (.int (xz1 + (1 : Int32)))) fun Gz2 =>
  fg_ob (fg_gr Gz2 a0 [30] 1) fun rz3 =>
  fg_ob (fg_gi Gz2 a0 [30] 2) fun xz4 =>
  fg_ob (fg_pv Gz2 a0 [30] 2 (.int (0 : Int32))) fun Gz5 =>
  fJ2_clear_27 rz3 xz4 (0 : Int32) Gz5
/-! FogNets.clear()Z -/
noncomputable def fX1_clear (a0 : Nat) (G : fg_H) : Option (Int32 × fg_H) :=
  fg_ob (fg_gr G a0 [1] 6) fun rz1 =>
  fg_ob rz1 fun az2 =>
  fg_gd (fg_rc G az2 30) <|
  fg_oc (fJ2_clear az2 G) fun _ Gz3 =>
  some ((1 : Int32), Gz3)
/-! FogNets.findsTaken()V -/
noncomputable def fX1_findsTaken_63b (a0 : Nat) (i1 : Int32) (i2 : Int32) (i3 : Int32) (G : fg_H) : Option ((Nat × Int32 × Int32 × Int32 × fg_H) ⊕ ((Nat × Int32 × Int32 × fg_H) ⊕ ((Nat × Int32 × fg_H) ⊕ (Unit × fg_H)))) :=
  fg_ob (fg_gr G a0 [1] 1) fun rz15 =>
  fg_ob rz15 fun az16 =>
  fg_gd (fg_rc G az16 3) <|
  fg_oc (fX3_lines az16 i2 G) fun xz18 Gz17 =>
  if xz18 ≤ i3 then (fg_rt (fg_ob (fg_gr Gz17 a0 [1] 8) fun rz20 =>
  fg_ob rz20 fun az21 =>
  fg_ob (fg_gr Gz17 az21 [5] 6) fun rz22 =>
  fg_ob (fg_gr Gz17 a0 [1] 11) fun rz23 =>
  fg_ob (fg_gr Gz17 a0 [1] 8) fun rz24 =>
  fg_ob rz24 fun az25 =>
  fg_ob (fg_gi Gz17 az25 [5] 5) fun xz26 =>
  fg_ob rz23 fun az27 =>
  fg_ob rz22 fun az28 =>
  fg_ob (fg_cpi Gz17 az28 (0 : Int32) az27 ((12 : Int32) * (((4 : Int32) * i1) + i2)) xz26) fun Gz29 =>
  some (.inl (a0, i1, (i2 + (1 : Int32)), Gz29))))
  else (fg_ob (fg_gr Gz17 a0 [1] 8) fun rz30 =>
  fg_ob (fg_gr Gz17 a0 [1] 1) fun rz31 =>
  fg_ob (fg_gi Gz17 a0 [1] 4) fun xz32 =>
  fg_ob rz31 fun az33 =>
  fg_gd (fg_rc Gz17 az33 3) <|
  fg_oc (fX3_fog az33 (xz32 - (1 : Int32)) i1 i3 i2 Gz17) fun xz35 Gz34 =>
  fg_ob rz30 fun az36 =>
  fg_gd (fg_rc Gz34 az36 5) <|
  fg_oc (fX5_blows az36 i2 i3 xz35 i1 Gz34) fun xz38 Gz37 =>
  some (.inl (a0, i1, i2, (i3 + (1 : Int32)), Gz37)))
noncomputable def fX1_findsTaken_63 (a0 : Nat) (i1 : Int32) (i2 : Int32) (i3 : Int32) (G : fg_H) : Option ((Nat × Int32 × Int32 × fg_H) ⊕ ((Nat × Int32 × fg_H) ⊕ (Unit × fg_H))) :=
  fg_lp (fun y : Nat × Int32 × Int32 × Int32 × fg_H => fX1_findsTaken_63b y.1 y.2.1 y.2.2.1 y.2.2.2.1 y.2.2.2.2) (a0, i1, i2, i3, G)
noncomputable def fX1_findsTaken_34b (a0 : Nat) (i1 : Int32) (i2 : Int32) (i3 : Int32) (G : fg_H) : Option ((Nat × Int32 × Int32 × Int32 × fg_H) ⊕ ((Nat × Int32 × Int32 × fg_H) ⊕ ((Nat × Int32 × fg_H) ⊕ (Unit × fg_H)))) :=
  fg_ob (fg_gr G a0 [1] 8) fun rz11 =>
  fg_ob rz11 fun az12 =>
  fg_ob (fg_gi G az12 [5] 5) fun xz13 =>
  if xz13 ≤ i3 then (fg_rt (fX1_findsTaken_63 a0 i1 i2 (0 : Int32) G))
  else (fg_ob (fg_gr G a0 [1] 8) fun rz39 =>
  fg_ob rz39 fun az40 =>
  fg_ob (fg_gr G az40 [5] 6) fun rz41 =>
  fg_ob rz41 fun az42 =>
  fg_ob (fg_si G az42 0 i3 (0 : Int32)) fun Gz43 =>
  some (.inl (a0, i1, i2, (i3 + (1 : Int32)), Gz43)))
noncomputable def fX1_findsTaken_34 (a0 : Nat) (i1 : Int32) (i2 : Int32) (i3 : Int32) (G : fg_H) : Option ((Nat × Int32 × Int32 × fg_H) ⊕ ((Nat × Int32 × fg_H) ⊕ (Unit × fg_H))) :=
  fg_lp (fun y : Nat × Int32 × Int32 × Int32 × fg_H => fX1_findsTaken_34b y.1 y.2.1 y.2.2.1 y.2.2.2.1 y.2.2.2.2) (a0, i1, i2, i3, G)
noncomputable def fX1_findsTaken_27b (a0 : Nat) (i1 : Int32) (i2 : Int32) (G : fg_H) : Option ((Nat × Int32 × Int32 × fg_H) ⊕ ((Nat × Int32 × fg_H) ⊕ (Unit × fg_H))) :=
  if (4 : Int32) ≤ i2 then (fg_rt (some (.inl (a0, (i1 + (1 : Int32)), G))))
  else (fX1_findsTaken_34 a0 i1 i2 (0 : Int32) G)
noncomputable def fX1_findsTaken_27 (a0 : Nat) (i1 : Int32) (i2 : Int32) (G : fg_H) : Option ((Nat × Int32 × fg_H) ⊕ (Unit × fg_H)) :=
  fg_lp (fun y : Nat × Int32 × Int32 × fg_H => fX1_findsTaken_27b y.1 y.2.1 y.2.2.1 y.2.2.2) (a0, i1, i2, G)
noncomputable def fX1_findsTaken_14b (a0 : Nat) (i1 : Int32) (G : fg_H) : Option ((Nat × Int32 × fg_H) ⊕ (Unit × fg_H)) :=
  fg_ob (fg_gr G a0 [1] 1) fun rz6 =>
  fg_ob rz6 fun az7 =>
  fg_ob (fg_gi G az7 [3] 2) fun xz8 =>
  if xz8 ≤ i1 then (fg_rt (some ((), G)))
  else (fX1_findsTaken_27 a0 i1 (0 : Int32) G)
noncomputable def fX1_findsTaken_14 (a0 : Nat) (i1 : Int32) (G : fg_H) : Option (Unit × fg_H) :=
  fg_lp (fun y : Nat × Int32 × fg_H => fX1_findsTaken_14b y.1 y.2.1 y.2.2) (a0, i1, G)
noncomputable def fX1_findsTaken (a0 : Nat) (G : fg_H) : Option (Unit × fg_H) :=
  fg_ob (fg_gr G a0 [1] 8) fun rz1 =>
  fg_ob (fg_gr G a0 [1] 2) fun rz2 =>
  fg_ob rz1 fun az3 =>
  fg_gd (fg_rc G az3 5) <|
  fg_oc (fX5_copies az3 rz2 G) fun rz5 Gz4 =>
  fX1_findsTaken_14 a0 (0 : Int32) Gz4
/-! FogNets.isSo(I)Z -/
noncomputable def fX1_isSo_18b (a0 : Nat) (i1 : Int32) (i2 : Int32) (i3 : Int32) (i4 : Int32) (G : fg_H) : Option ((Nat × Int32 × Int32 × Int32 × Int32 × fg_H) ⊕ ((Nat × Int32 × Int32 × fg_H) ⊕ (Int32 × fg_H))) :=
  fg_ob (fg_gr G a0 [1] 1) fun rz6 =>
  fg_ob rz6 fun az7 =>
  fg_ob (fg_gi G az7 [3] 2) fun xz8 =>
  if xz8 ≤ i4 then (fg_rt (fg_ob (fg_gr G a0 [1] 6) fun rz10 =>
  fg_ob rz10 fun az11 =>
  fg_gd (fg_rc G az11 30) <|
  fg_oc (fJ2_get az11 i2 G) fun rz13 Gz12 =>
  fg_gd (fg_cka Gz12 rz13 0) <|
  fg_ob rz13 fun az14 =>
  fg_ob (fg_ai Gz12 az14 0 (1 : Int32)) fun xz15 =>
  if i3 = xz15 then (some (.inl (a0, i1, (i2 + (1 : Int32)), Gz12)))
  else (fg_rt (some ((0 : Int32), Gz12)))))
  else (fg_ob (fg_gr G a0 [1] 11) fun rz17 =>
  fg_ob (fg_gr G a0 [1] 6) fun rz18 =>
  fg_ob rz18 fun az19 =>
  fg_gd (fg_rc G az19 30) <|
  fg_oc (fJ2_get az19 i2 G) fun rz21 Gz20 =>
  fg_gd (fg_cka Gz20 rz21 0) <|
  fg_ob rz21 fun az22 =>
  fg_ob (fg_ai Gz20 az22 0 (0 : Int32)) fun xz23 =>
  fg_ob rz17 fun az24 =>
  fg_ob (fg_ai Gz20 az24 0 (((12 : Int32) * (((4 : Int32) * i4) + ((i1 >>> (((2 : Int32) * i4) &&& 31)) &&& (3 : Int32)))) + xz23)) fun xz25 =>
  fg_ob (some (i3 + xz25)) fun vz26 =>
  some (.inl (a0, i1, i2, vz26, (i4 + (1 : Int32)), Gz20)))
noncomputable def fX1_isSo_18 (a0 : Nat) (i1 : Int32) (i2 : Int32) (i3 : Int32) (i4 : Int32) (G : fg_H) : Option ((Nat × Int32 × Int32 × fg_H) ⊕ (Int32 × fg_H)) :=
  fg_lp (fun y : Nat × Int32 × Int32 × Int32 × Int32 × fg_H => fX1_isSo_18b y.1 y.2.1 y.2.2.1 y.2.2.2.1 y.2.2.2.2.1 y.2.2.2.2.2) (a0, i1, i2, i3, i4, G)
noncomputable def fX1_isSo_2b (a0 : Nat) (i1 : Int32) (i2 : Int32) (G : fg_H) : Option ((Nat × Int32 × Int32 × fg_H) ⊕ (Int32 × fg_H)) :=
  fg_ob (fg_gr G a0 [1] 6) fun rz1 =>
  fg_ob rz1 fun az2 =>
  fg_gd (fg_rc G az2 30) <|
  fg_oc (fJ2_size az2 G) fun xz4 Gz3 =>
  if xz4 ≤ i2 then (fg_rt (some ((1 : Int32), Gz3)))
  else (fX1_isSo_18 a0 i1 i2 (0 : Int32) (0 : Int32) Gz3)
noncomputable def fX1_isSo_2 (a0 : Nat) (i1 : Int32) (i2 : Int32) (G : fg_H) : Option (Int32 × fg_H) :=
  fg_lp (fun y : Nat × Int32 × Int32 × fg_H => fX1_isSo_2b y.1 y.2.1 y.2.2.1 y.2.2.2) (a0, i1, i2, G)
noncomputable def fX1_isSo (a0 : Nat) (i1 : Int32) (G : fg_H) : Option (Int32 × fg_H) :=
  fX1_isSo_2 a0 i1 (0 : Int32) G
/-! FogNets.findsWinds(I)I -/
noncomputable def fX1_findsWinds_29b (a0 : Nat) (i1 : Int32) (i2 : Int32) (i3 : Int32) (G : fg_H) : Option ((Nat × Int32 × Int32 × Int32 × fg_H) ⊕ (Int32 × fg_H)) :=
  fg_ob (fg_gr G a0 [1] 1) fun rz6 =>
  fg_ob rz6 fun az7 =>
  fg_ob (fg_gi G az7 [3] 2) fun xz8 =>
  if ((1 : Int32) <<< (((2 : Int32) * xz8) &&& 31)) ≤ i3 then (fg_rt (if i1 = (-1 : Int32) then (some (i2, G))
  else (some ((-1 : Int32), G))))
  else (fg_gd (fg_rc G a0 1) <|
  fg_oc (fX1_isSo a0 i3 G) fun xz11 Gz10 =>
  if xz11 = 0 then (some (.inl (a0, i1, i2, (i3 + (1 : Int32)), Gz10)))
  else (if i2 = i1 then (fg_rt (some (i3, Gz10)))
  else (some (.inl (a0, i1, (i2 + (1 : Int32)), (i3 + (1 : Int32)), Gz10)))))
noncomputable def fX1_findsWinds_29 (a0 : Nat) (i1 : Int32) (i2 : Int32) (i3 : Int32) (G : fg_H) : Option (Int32 × fg_H) :=
  fg_lp (fun y : Nat × Int32 × Int32 × Int32 × fg_H => fX1_findsWinds_29b y.1 y.2.1 y.2.2.1 y.2.2.2.1 y.2.2.2.2) (a0, i1, i2, i3, G)
noncomputable def fX1_findsWinds (a0 : Nat) (i1 : Int32) (G : fg_H) : Option (Int32 × fg_H) :=
  fg_ob (fg_gr G a0 [1] 1) fun rz1 =>
  fg_ob rz1 fun az2 =>
  fg_ob (fg_gi G az2 [3] 2) fun xz3 =>
  if (6 : Int32) < xz3 then (some ((-1 : Int32), G))
  else (fg_ob (fg_gi G a0 [1] 4) fun xz4 =>
  if xz4 = 0 then (some ((-1 : Int32), G))
  else (fg_gd (fg_rc G a0 1) <|
  fg_oc (fX1_findsTaken a0 G) fun _ Gz5 =>
  fX1_findsWinds_29 a0 i1 (0 : Int32) (0 : Int32) Gz5))
/-! FogNets.winds()I -/
noncomputable def fX1_winds (a0 : Nat) (G : fg_H) : Option (Int32 × fg_H) :=
  fg_gd (fg_rc G a0 1) <|
  fg_oc (fX1_findsWinds a0 (-1 : Int32) G) fun xz2 Gz1 =>
  some (xz2, Gz1)
/-! FogNets.windsAt(I)I -/
noncomputable def fX1_windsAt (a0 : Nat) (i1 : Int32) (G : fg_H) : Option (Int32 × fg_H) :=
  if 0 ≤ i1 then (fg_gd (fg_rc G a0 1) <|
  fg_oc (fX1_findsWinds a0 i1 G) fun xz2 Gz1 =>
  some (xz2, Gz1))
  else (some ((-1 : Int32), G))
/-! FogNets.draw(I)I -/
noncomputable def fX1_draw (a0 : Nat) (i1 : Int32) (G : fg_H) : Option (Int32 × fg_H) :=
  fg_ob (fg_gl G a0 [1] 12) fun yz1 =>
  fg_ob (fg_pv G a0 [1] 12 (.long (((yz1 * (1103515245 : Int64)) + (12345 : Int64)) - ((yz1 * (1103515245 : Int64)) + (12345 : Int64)) / (2147483648 : Int64) * (2147483648 : Int64)))) fun Gz2 =>
  fg_ob (fg_gl Gz2 a0 [1] 12) fun yz3 =>
  fg_gd (!((i1).toInt64 == 0)) <|
  some ((((yz3 / (65536 : Int64)) - (yz3 / (65536 : Int64)) / (i1).toInt64 * (i1).toInt64)).toInt32, Gz2)
/-! FogNets.drawsNight(I)V -/
noncomputable def fX1_drawsNight_15b (a0 : Nat) (i1 : Int32) (i2 : Int32) (G : fg_H) : Option ((Nat × Int32 × Int32 × fg_H) ⊕ (Unit × fg_H)) :=
  fg_ob (fg_gr G a0 [1] 1) fun rz6 =>
  fg_ob rz6 fun az7 =>
  fg_ob (fg_gi G az7 [3] 2) fun xz8 =>
  if xz8 ≤ i2 then (fg_rt (fg_ob (fg_gr G a0 [1] 9) fun rz10 =>
  fg_ob (fg_gr G a0 [1] 8) fun rz11 =>
  fg_ob (fg_gr G a0 [1] 7) fun rz12 =>
  fg_ob rz11 fun az13 =>
  fg_gd (fg_rc G az13 5) <|
  fg_oc (fX5_takes az13 rz12 G) fun rz15 Gz14 =>
  fg_ob rz10 fun az16 =>
  fg_gd (fg_rc Gz14 az16 6) <|
  fg_oc (fX6_passes az16 rz15 Gz14) fun _ Gz17 =>
  some ((), Gz17)))
  else (fg_gd (fg_rc G a0 1) <|
  fg_oc (fX1_draw a0 (10 : Int32) G) fun xz19 Gz18 =>
  fg_ob (fg_gr Gz18 a0 [1] 1) fun rz20 =>
  fg_ob rz20 fun az21 =>
  fg_ob (fg_gi Gz18 az21 [3] 4) fun xz22 =>
  if xz22 ≤ xz19 then (some (.inl (a0, i1, (i2 + (1 : Int32)), Gz18)))
  else (fg_ob (fg_gr Gz18 a0 [1] 7) fun rz23 =>
  fg_ob (fg_gr Gz18 a0 [1] 1) fun rz24 =>
  fg_gd (fg_rc Gz18 a0 1) <|
  fg_oc (fX1_draw a0 (4 : Int32) Gz18) fun xz26 Gz25 =>
  fg_ob rz23 fun az27 =>
  fg_gd (fg_rc Gz25 az27 7) <|
  fg_oc (fX7_turns az27 rz24 i1 i2 xz26 Gz25) fun _ Gz28 =>
  some (.inl (a0, i1, (i2 + (1 : Int32)), Gz28))))
noncomputable def fX1_drawsNight_15 (a0 : Nat) (i1 : Int32) (i2 : Int32) (G : fg_H) : Option (Unit × fg_H) :=
  fg_lp (fun y : Nat × Int32 × Int32 × fg_H => fX1_drawsNight_15b y.1 y.2.1 y.2.2.1 y.2.2.2) (a0, i1, i2, G)
noncomputable def fX1_drawsNight (a0 : Nat) (i1 : Int32) (G : fg_H) : Option (Unit × fg_H) :=
  fg_ob (fg_gr G a0 [1] 7) fun rz1 =>
  fg_ob (fg_gr G a0 [1] 1) fun rz2 =>
  fg_ob rz1 fun az3 =>
  fg_gd (fg_rc G az3 7) <|
  fg_oc (fX7_finds az3 rz2 i1 G) fun rz5 Gz4 =>
  fX1_drawsNight_15 a0 i1 (0 : Int32) Gz4
/-! FogNets.lots(IIII)I -/
noncomputable def fX1_lots_113b (a0 : Nat) (i2 : Int32) (i3 : Int32) (i4 : Int32) (i5 : Int32) (i6 : Int32) (i7 : Int32) (G : fg_H) : Option ((Nat × Int32 × Int32 × Int32 × Int32 × Int32 × Int32 × fg_H) ⊕ ((Nat × Int32 × Int32 × Int32 × Int32 × Int32 × fg_H) ⊕ (Int32 × fg_H))) :=
  fg_ob (fg_gr G a0 [1] 1) fun rz21 =>
  fg_ob rz21 fun az22 =>
  fg_ob (fg_gr G az22 [3] 7) fun rz23 =>
  fg_ob rz23 fun az24 =>
  fg_gd (fg_rc G az24 30) <|
  fg_oc (fJ2_size az24 G) fun xz26 Gz25 =>
  if xz26 ≤ i7 then (fg_rt (some (.inl (a0, i2, i3, i4, i5, (i6 + (1 : Int32)), Gz25))))
  else (if i4 = 0 then (fg_ob (fg_gr Gz25 a0 [1] 9) fun rz39 =>
  fg_ob rz39 fun az40 =>
  fg_ob (fg_gr Gz25 az40 [6] 0) fun rz41 =>
  fg_ob rz41 fun az42 =>
  fg_ob (fg_ai Gz25 az42 0 i7) fun xz43 =>
  fg_ob (some (i5 + xz43)) fun vz44 =>
  some (.inl (a0, i2, i3, i4, vz44, i6, (i7 + (1 : Int32)), Gz25)))
  else (fg_ob (fg_gr Gz25 a0 [1] 9) fun rz28 =>
  fg_ob rz28 fun az29 =>
  fg_ob (fg_gr Gz25 az29 [6] 1) fun rz30 =>
  fg_ob rz30 fun az31 =>
  fg_ob (fg_ai Gz25 az31 0 i7) fun xz32 =>
  fg_ob (fg_gr Gz25 a0 [1] 3) fun rz33 =>
  fg_ob rz33 fun az34 =>
  fg_ob (fg_gr Gz25 az34 [6] 1) fun rz35 =>
  fg_ob rz35 fun az36 =>
  fg_ob (fg_ai Gz25 az36 0 i7) fun xz37 =>
  fg_ob (some (i5 + (xz32 - xz37))) fun vz38 =>
  some (.inl (a0, i2, i3, i4, vz38, i6, (i7 + (1 : Int32)), Gz25))))
noncomputable def fX1_lots_113 (a0 : Nat) (i2 : Int32) (i3 : Int32) (i4 : Int32) (i5 : Int32) (i6 : Int32) (i7 : Int32) (G : fg_H) : Option ((Nat × Int32 × Int32 × Int32 × Int32 × Int32 × fg_H) ⊕ (Int32 × fg_H)) :=
  fg_lp (fun y : Nat × Int32 × Int32 × Int32 × Int32 × Int32 × Int32 × fg_H => fX1_lots_113b y.1 y.2.1 y.2.2.1 y.2.2.2.1 y.2.2.2.2.1 y.2.2.2.2.2.1 y.2.2.2.2.2.2.1 y.2.2.2.2.2.2.2) (a0, i2, i3, i4, i5, i6, i7, G)
noncomputable def fX1_lots_87b (a0 : Nat) (i2 : Int32) (i3 : Int32) (i4 : Int32) (i5 : Int32) (i6 : Int32) (i7 : Int32) (G : fg_H) : Option ((Nat × Int32 × Int32 × Int32 × Int32 × Int32 × Int32 × fg_H) ⊕ ((Nat × Int32 × Int32 × Int32 × Int32 × Int32 × fg_H) ⊕ (Int32 × fg_H))) :=
  if i3 ≤ i7 then (fg_rt (fX1_lots_113 a0 i2 i3 i4 i5 i6 (0 : Int32) G))
  else (fg_ob (fg_gi G a0 [1] 4) fun xz45 =>
  fg_gd (fg_rc G a0 1) <|
  fg_oc (fX1_drawsNight a0 (xz45 + i7) G) fun _ Gz46 =>
  some (.inl (a0, i2, i3, i4, i5, i6, (i7 + (1 : Int32)), Gz46)))
noncomputable def fX1_lots_87 (a0 : Nat) (i2 : Int32) (i3 : Int32) (i4 : Int32) (i5 : Int32) (i6 : Int32) (i7 : Int32) (G : fg_H) : Option ((Nat × Int32 × Int32 × Int32 × Int32 × Int32 × fg_H) ⊕ (Int32 × fg_H)) :=
  fg_lp (fun y : Nat × Int32 × Int32 × Int32 × Int32 × Int32 × Int32 × fg_H => fX1_lots_87b y.1 y.2.1 y.2.2.1 y.2.2.2.1 y.2.2.2.2.1 y.2.2.2.2.2.1 y.2.2.2.2.2.2.1 y.2.2.2.2.2.2.2) (a0, i2, i3, i4, i5, i6, i7, G)
noncomputable def fX1_lots_67b (a0 : Nat) (i2 : Int32) (i3 : Int32) (i4 : Int32) (i5 : Int32) (i6 : Int32) (G : fg_H) : Option ((Nat × Int32 × Int32 × Int32 × Int32 × Int32 × fg_H) ⊕ (Int32 × fg_H)) :=
  if i2 ≤ i6 then (fg_rt (some (i5, G)))
  else (fg_ob (fg_gr G a0 [1] 9) fun rz16 =>
  fg_ob (fg_gr G a0 [1] 3) fun rz17 =>
  fg_ob rz16 fun az18 =>
  fg_gd (fg_rc G az18 6) <|
  fg_oc (fX6_copies az18 rz17 G) fun _ Gz19 =>
  fX1_lots_87 a0 i2 i3 i4 i5 i6 (0 : Int32) Gz19)
noncomputable def fX1_lots_67 (a0 : Nat) (i2 : Int32) (i3 : Int32) (i4 : Int32) (i5 : Int32) (i6 : Int32) (G : fg_H) : Option (Int32 × fg_H) :=
  fg_lp (fun y : Nat × Int32 × Int32 × Int32 × Int32 × Int32 × fg_H => fX1_lots_67b y.1 y.2.1 y.2.2.1 y.2.2.2.1 y.2.2.2.2.1 y.2.2.2.2.2.1 y.2.2.2.2.2.2) (a0, i2, i3, i4, i5, i6, G)
noncomputable def fX1_lots (a0 : Nat) (i1 : Int32) (i2 : Int32) (i3 : Int32) (i4 : Int32) (G : fg_H) : Option (Int32 × fg_H) :=
  fg_oc (fX1_within i1 (0 : Int32) (9999 : Int32) G) fun xz2 Gz1 =>
  if xz2 = 0 then (some ((-1 : Int32), Gz1))
  else (fg_oc (fX1_within i2 (1 : Int32) (20 : Int32) Gz1) fun xz4 Gz3 =>
  if xz4 = 0 then (some ((-1 : Int32), Gz3))
  else (fg_oc (fX1_within i3 (1 : Int32) (30 : Int32) Gz3) fun xz6 Gz5 =>
  if xz6 = 0 then (some ((-1 : Int32), Gz5))
  else (fg_oc (fX1_within i4 (0 : Int32) (1 : Int32) Gz5) fun xz8 Gz7 =>
  if xz8 = 0 then (some ((-1 : Int32), Gz7))
  else (fg_ob (fg_pv Gz7 a0 [1] 12 (.long (i1).toInt64)) fun Gz9 =>
  fg_ob (fg_gr Gz9 a0 [1] 8) fun rz10 =>
  fg_ob (fg_gr Gz9 a0 [1] 2) fun rz11 =>
  fg_ob rz10 fun az12 =>
  fg_gd (fg_rc Gz9 az12 5) <|
  fg_oc (fX5_copies az12 rz11 Gz9) fun rz14 Gz13 =>
  fX1_lots_67 a0 i2 i3 i4 (0 : Int32) (0 : Int32) Gz13))))
/-! FogNets$Mark.<init>(LFogNets;)V -/
noncomputable def fX29_init_101b (a0 : Nat) (a1 : Nat) (i2 : Int32) (G : fg_H) : Option ((Nat × Nat × Int32 × fg_H) ⊕ (Unit × fg_H)) :=
  fg_ob (fg_gr G a1 [1] 6) fun rz35 =>
  fg_ob rz35 fun az36 =>
  fg_gd (fg_rc G az36 30) <|
  fg_oc (fJ2_size az36 G) fun xz38 Gz37 =>
  if xz38 ≤ i2 then (fg_rt (some ((), Gz37)))
  else (fg_ob (fg_gr Gz37 a0 [29] 5) fun rz40 =>
  fg_ob (fg_gr Gz37 a1 [1] 6) fun rz41 =>
  fg_ob rz41 fun az42 =>
  fg_gd (fg_rc Gz37 az42 30) <|
  fg_oc (fJ2_get az42 i2 Gz37) fun rz44 Gz43 =>
  fg_gd (fg_cka Gz43 rz44 0) <|
  fg_ob rz40 fun az45 =>
  fg_gd (fg_rc Gz43 az45 30) <|
  fg_oc (fJ2_add az45 rz44 Gz43) fun xz47 Gz46 =>
  some (.inl (a0, a1, (i2 + (1 : Int32)), Gz46)))
noncomputable def fX29_init_101 (a0 : Nat) (a1 : Nat) (i2 : Int32) (G : fg_H) : Option (Unit × fg_H) :=
  fg_lp (fun y : Nat × Nat × Int32 × fg_H => fX29_init_101b y.1 y.2.1 y.2.2.1 y.2.2.2) (a0, a1, i2, G)
noncomputable def fX29_init (a0 : Nat) (r1 : Option Nat) (G : fg_H) : Option (Unit × fg_H) :=
  fg_oc (fg_new G 5 7 nw_X5) fun az1 Gz2 =>
  fg_oc (fX5_init az1 Gz2) fun _ Gz3 =>
  fg_ob (fg_pv Gz3 a0 [29] 1 (.ref az1)) fun Gz4 =>
  fg_oc (fg_new Gz4 6 2 nw_X6) fun az5 Gz6 =>
  fg_oc (fX6_init az5 Gz6) fun _ Gz7 =>
  fg_ob (fg_pv Gz7 a0 [29] 2 (.ref az5)) fun Gz8 =>
  fg_oc (fg_na Gz8 0 (12 : Int32)) fun az9 Gz10 =>
  fg_ob (fg_pv Gz10 a0 [29] 4 (.ref az9)) fun Gz11 =>
  fg_oc (fg_new Gz11 30 3 nw_J2) fun az12 Gz13 =>
  fg_oc (fJ2_init_2 az12 Gz13) fun _ Gz14 =>
  fg_ob (fg_pv Gz14 a0 [29] 5 (.ref az12)) fun Gz15 =>
  fg_ob r1 fun az16 =>
  fg_ob (fg_gr Gz15 az16 [1] 1) fun rz17 =>
  fg_ob (fg_pv Gz15 a0 [29] 0 (va_rf rz17)) fun Gz18 =>
  fg_ob (fg_gr Gz18 a0 [29] 1) fun rz19 =>
  fg_ob (fg_gr Gz18 az16 [1] 2) fun rz20 =>
  fg_ob rz19 fun az21 =>
  fg_gd (fg_rc Gz18 az21 5) <|
  fg_oc (fX5_copies az21 rz20 Gz18) fun rz23 Gz22 =>
  fg_ob (fg_gr Gz22 a0 [29] 2) fun rz24 =>
  fg_ob (fg_gr Gz22 az16 [1] 3) fun rz25 =>
  fg_ob rz24 fun az26 =>
  fg_gd (fg_rc Gz22 az26 6) <|
  fg_oc (fX6_copies az26 rz25 Gz22) fun _ Gz27 =>
  fg_ob (fg_gi Gz27 az16 [1] 4) fun xz28 =>
  fg_ob (fg_pv Gz27 a0 [29] 3 (.int xz28)) fun Gz29 =>
  fg_ob (fg_gr Gz29 az16 [1] 5) fun rz30 =>
  fg_ob (fg_gr Gz29 a0 [29] 4) fun rz31 =>
  fg_ob rz31 fun az32 =>
  fg_ob rz30 fun az33 =>
  fg_ob (fg_cpi Gz29 az33 (0 : Int32) az32 (0 : Int32) (12 : Int32)) fun Gz34 =>
  fX29_init_101 a0 az16 (0 : Int32) Gz34
/-! FogNets.mark(IZ)Z -/
noncomputable def fX1_mark_115b (a0 : Nat) (a3 : Nat) (i4 : Int32) (G : fg_H) : Option ((Nat × Nat × Int32 × fg_H) ⊕ (Int32 × fg_H)) :=
  fg_ob (fg_gr G a3 [29] 5) fun rz28 =>
  fg_ob rz28 fun az29 =>
  fg_gd (fg_rc G az29 30) <|
  fg_oc (fJ2_size az29 G) fun xz31 Gz30 =>
  if xz31 ≤ i4 then (fg_rt (some ((1 : Int32), Gz30)))
  else (fg_ob (fg_gr Gz30 a0 [1] 6) fun rz33 =>
  fg_ob (fg_gr Gz30 a3 [29] 5) fun rz34 =>
  fg_ob rz34 fun az35 =>
  fg_gd (fg_rc Gz30 az35 30) <|
  fg_oc (fJ2_get az35 i4 Gz30) fun rz37 Gz36 =>
  fg_gd (fg_cka Gz36 rz37 0) <|
  fg_ob rz33 fun az38 =>
  fg_gd (fg_rc Gz36 az38 30) <|
  fg_oc (fJ2_add az38 rz37 Gz36) fun xz40 Gz39 =>
  some (.inl (a0, a3, (i4 + (1 : Int32)), Gz39)))
noncomputable def fX1_mark_115 (a0 : Nat) (a3 : Nat) (i4 : Int32) (G : fg_H) : Option (Int32 × fg_H) :=
  fg_lp (fun y : Nat × Nat × Int32 × fg_H => fX1_mark_115b y.1 y.2.1 y.2.2.1 y.2.2.2) (a0, a3, i4, G)
noncomputable def fX1_mark_24 (a0 : Nat) (i1 : Int32) (i2 : Int32) (G : fg_H) : Option (Int32 × fg_H) :=
  if i2 = 0 then (fg_ob (fg_gr G a0 [1] 13) fun rz41 =>
  fg_oc (fg_new G 29 6 nw_X29) fun az42 Gz43 =>
  fg_oc (fX29_init az42 (some a0) Gz43) fun _ Gz44 =>
  fg_ob rz41 fun az45 =>
  fg_ob (fg_sr Gz44 az45 6 i1 (some az42)) fun Gz46 =>
  some ((1 : Int32), Gz46))
  else (fg_ob (fg_gr G a0 [1] 13) fun rz3 =>
  fg_ob rz3 fun az4 =>
  fg_ob (fg_ar G az4 6 i1) fun rz5 =>
  fg_ob rz5 fun az6 =>
  fg_ob (fg_gr G az6 [29] 0) fun rz7 =>
  fg_ob (fg_pv G a0 [1] 1 (va_rf rz7)) fun Gz8 =>
  fg_ob (fg_gr Gz8 a0 [1] 2) fun rz9 =>
  fg_ob (fg_gr Gz8 az6 [29] 1) fun rz10 =>
  fg_ob rz9 fun az11 =>
  fg_gd (fg_rc Gz8 az11 5) <|
  fg_oc (fX5_copies az11 rz10 Gz8) fun rz13 Gz12 =>
  fg_ob (fg_gr Gz12 a0 [1] 3) fun rz14 =>
  fg_ob (fg_gr Gz12 az6 [29] 2) fun rz15 =>
  fg_ob rz14 fun az16 =>
  fg_gd (fg_rc Gz12 az16 6) <|
  fg_oc (fX6_copies az16 rz15 Gz12) fun _ Gz17 =>
  fg_ob (fg_gi Gz17 az6 [29] 3) fun xz18 =>
  fg_ob (fg_pv Gz17 a0 [1] 4 (.int xz18)) fun Gz19 =>
  fg_ob (fg_gr Gz19 az6 [29] 4) fun rz20 =>
  fg_ob (fg_gr Gz19 a0 [1] 5) fun rz21 =>
  fg_ob rz21 fun az22 =>
  fg_ob rz20 fun az23 =>
  fg_ob (fg_cpi Gz19 az23 (0 : Int32) az22 (0 : Int32) (12 : Int32)) fun Gz24 =>
  fg_ob (fg_gr Gz24 a0 [1] 6) fun rz25 =>
  fg_ob rz25 fun az26 =>
  fg_gd (fg_rc Gz24 az26 30) <|
  fg_oc (fJ2_clear az26 Gz24) fun _ Gz27 =>
  fX1_mark_115 a0 az6 (0 : Int32) Gz27)
noncomputable def fX1_mark (a0 : Nat) (i1 : Int32) (i2 : Int32) (G : fg_H) : Option (Int32 × fg_H) :=
  fg_oc (fX1_within i1 (0 : Int32) (3 : Int32) G) fun xz2 Gz1 =>
  if xz2 = 0 then (some ((0 : Int32), Gz1))
  else (if i2 = 0 then (fX1_mark_24 a0 i1 i2 Gz1)
  else (fg_ob (fg_gr Gz1 a0 [1] 13) fun rz47 =>
  fg_ob rz47 fun az48 =>
  fg_ob (fg_ar Gz1 az48 6 i1) fun rz49 =>
  fg_on rz49 (some ((0 : Int32), Gz1))
  (fun az50 => fX1_mark_24 a0 i1 i2 Gz1)))
/-! FogNets.count(I)I -/
noncomputable def fX1_count (a0 : Nat) (i1 : Int32) (G : fg_H) : Option (Int32 × fg_H) :=
  if i1 = (0 : Int32) then (fg_ob (fg_gr G a0 [1] 1) fun rz1 =>
  fg_ob rz1 fun az2 =>
  fg_ob (fg_gi G az2 [3] 0) fun xz3 =>
  some (xz3, G))
  else (if i1 = (1 : Int32) then (fg_ob (fg_gr G a0 [1] 1) fun rz4 =>
  fg_ob rz4 fun az5 =>
  fg_ob (fg_gi G az5 [3] 1) fun xz6 =>
  some (xz6, G))
  else (if i1 = (2 : Int32) then (fg_ob (fg_gr G a0 [1] 1) fun rz7 =>
  fg_ob rz7 fun az8 =>
  fg_ob (fg_gr G az8 [3] 7) fun rz9 =>
  fg_ob rz9 fun az10 =>
  fg_gd (fg_rc G az10 30) <|
  fg_oc (fJ2_size az10 G) fun xz12 Gz11 =>
  some (xz12, Gz11))
  else (if i1 = (3 : Int32) then (fg_ob (fg_gr G a0 [1] 2) fun rz13 =>
  fg_ob rz13 fun az14 =>
  fg_ob (fg_gi G az14 [5] 5) fun xz15 =>
  some (xz15, G))
  else (if i1 = (4 : Int32) then (fg_ob (fg_gi G a0 [1] 4) fun xz16 =>
  some (xz16, G))
  else (if i1 = (5 : Int32) then (fg_ob (fg_gr G a0 [1] 1) fun rz17 =>
  fg_ob rz17 fun az18 =>
  fg_ob (fg_gi G az18 [3] 2) fun xz19 =>
  some (xz19, G))
  else (if i1 = (6 : Int32) then (fg_ob (fg_gr G a0 [1] 6) fun rz20 =>
  fg_ob rz20 fun az21 =>
  fg_gd (fg_rc G az21 30) <|
  fg_oc (fJ2_size az21 G) fun xz23 Gz22 =>
  some (xz23, Gz22))
  else (if i1 = (7 : Int32) then (fg_ob (fg_gr G a0 [1] 1) fun rz24 =>
  fg_ob rz24 fun az25 =>
  fg_ob (fg_gi G az25 [3] 4) fun xz26 =>
  some (xz26, G))
  else (if i1 = (8 : Int32) then (fg_ob (fg_gr G a0 [1] 0) fun rz27 =>
  fg_ob rz27 fun az28 =>
  fg_ob (fg_gi G az28 [2] 9) fun xz29 =>
  some (xz29, G))
  else (some ((-1 : Int32), G))))))))))
/-! FogNets.yields(I)I -/
noncomputable def fX1_yields_21 (a0 : Nat) (i1 : Int32) (G : fg_H) : Option ((Int32 ⊕ Nat) × fg_H) :=
  fg_gd (fg_rc G a0 1) <|
  fg_oc (fX1_tries a0 G) fun rz2 Gz1 =>
  fg_ob (fg_gr Gz1 a0 [1] 7) fun rz3 =>
  fg_ob rz2 fun az4 =>
  fg_gd (fg_rc Gz1 az4 5) <|
  fg_oc (fX5_takes az4 rz3 Gz1) fun rz6 Gz5 =>
  fg_ob rz6 fun az7 =>
  fg_gd (fg_rc Gz5 az7 5) <|
  fg_oc (fX5_yields az7 i1 Gz5) fun xz9 Gz8 =>
  some (.inl xz9, Gz8)
noncomputable def fX1_yields (a0 : Nat) (i1 : Int32) (G : fg_H) : Option ((Int32 ⊕ Nat) × fg_H) :=
  if i1 = (-1 : Int32) then (fX1_yields_21 a0 i1 G)
  else (fg_gd (fg_rc G a0 1) <|
  fg_oc (fX1_isVillage a0 i1 G) fun xz11 Gz10 =>
  if xz11 = 0 then (fg_oc (fg_new Gz10 32 6 nw_J17) fun az12 Gz13 =>
  fg_ob (fg_ct Gz13 az12 32) fun Gz14 =>
  fg_gd (fg_rc Gz14 az12 32) (some (.inr az12, Gz14)))
  else (fX1_yields_21 a0 i1 Gz10))
/-! FogNets.hole(I)I -/
noncomputable def fX1_hole (a0 : Nat) (i1 : Int32) (G : fg_H) : Option ((Int32 ⊕ Nat) × fg_H) :=
  fg_gd (fg_rc G a0 1) <|
  fg_oc (fX1_isNet a0 i1 G) fun xz2 Gz1 =>
  if xz2 = 0 then (fg_oc (fg_new Gz1 32 6 nw_J17) fun az48 Gz49 =>
  fg_ob (fg_ct Gz49 az48 32) fun Gz50 =>
  fg_gd (fg_rc Gz50 az48 32) (some (.inr az48, Gz50)))
  else (fg_ob (fg_gr Gz1 a0 [1] 2) fun rz3 =>
  fg_ob rz3 fun az4 =>
  fg_ob (fg_gr Gz1 az4 [5] 2) fun rz5 =>
  fg_ob rz5 fun az6 =>
  fg_ob (fg_ar Gz1 az6 5 i1) fun rz7 =>
  fg_ob rz7 fun az8 =>
  fg_ob (fg_gi Gz1 az8 [23, 24, 25, 26, 27, 28] 0) fun xz9 =>
  fg_gd (fg_rc Gz1 a0 1) <|
  fg_oc (fX1_tries a0 Gz1) fun rz11 Gz10 =>
  fg_ob (fg_gr Gz10 a0 [1] 7) fun rz12 =>
  fg_ob rz11 fun az13 =>
  fg_gd (fg_rc Gz10 az13 5) <|
  fg_oc (fX5_takes az13 rz12 Gz10) fun rz15 Gz14 =>
  fg_ob (fg_gr Gz14 a0 [1] 8) fun rz16 =>
  fg_ob rz16 fun az17 =>
  fg_gd (fg_rc Gz14 az17 5) <|
  fg_oc (fX5_yields az17 (-1 : Int32) Gz14) fun xz19 Gz18 =>
  fg_ob (fg_gr Gz18 a0 [1] 8) fun rz20 =>
  fg_ob rz20 fun az21 =>
  fg_gd (fg_rc Gz18 az21 5) <|
  fg_oc (fX5_yields az21 xz9 Gz18) fun xz23 Gz22 =>
  fg_ob (some (xz19 - xz23)) fun vz24 =>
  fg_ob (fg_gr Gz22 a0 [1] 8) fun rz25 =>
  fg_ob rz25 fun az26 =>
  fg_ob (fg_gr Gz22 az26 [5] 1) fun rz27 =>
  fg_ob (fg_gr Gz22 a0 [1] 8) fun rz28 =>
  fg_ob rz28 fun az29 =>
  fg_ob (fg_gr Gz22 az29 [5] 3) fun rz30 =>
  fg_ob rz30 fun az31 =>
  fg_ob (fg_ai Gz22 az31 0 i1) fun xz32 =>
  fg_ob rz27 fun az33 =>
  fg_ob (fg_si Gz22 az33 0 xz32 (0 : Int32)) fun Gz34 =>
  fg_ob (fg_gr Gz34 a0 [1] 8) fun rz35 =>
  fg_ob (fg_gr Gz34 a0 [1] 7) fun rz36 =>
  fg_ob rz35 fun az37 =>
  fg_gd (fg_rc Gz34 az37 5) <|
  fg_oc (fX5_takes az37 rz36 Gz34) fun rz39 Gz38 =>
  fg_ob (fg_gr Gz38 a0 [1] 8) fun rz40 =>
  fg_ob rz40 fun az41 =>
  fg_gd (fg_rc Gz38 az41 5) <|
  fg_oc (fX5_yields az41 (-1 : Int32) Gz38) fun xz43 Gz42 =>
  fg_ob (fg_gr Gz42 a0 [1] 8) fun rz44 =>
  fg_ob rz44 fun az45 =>
  fg_gd (fg_rc Gz42 az45 5) <|
  fg_oc (fX5_yields az45 xz9 Gz42) fun xz47 Gz46 =>
  some (.inl ((xz43 - xz47) - vz24), Gz46))
/-! FogNets$Expression.<init>()V -/
noncomputable def fX10_init (a0 : Nat) (G : fg_H) : Option (Unit × fg_H) :=
  some ((), G)
/-! FogNets$Fact.<init>(I)V -/
noncomputable def fX11_init (a0 : Nat) (i1 : Int32) (G : fg_H) : Option (Unit × fg_H) :=
  fg_oc (fX10_init a0 G) fun _ Gz1 =>
  fg_ob (fg_pv Gz1 a0 [11] 0 (.int i1)) fun Gz2 =>
  some ((), Gz2)
/-! FogNets$Plain.<init>(I)V -/
noncomputable def fX12_init (a0 : Nat) (i1 : Int32) (G : fg_H) : Option (Unit × fg_H) :=
  fg_oc (fX10_init a0 G) fun _ Gz1 =>
  fg_ob (fg_pv Gz1 a0 [12] 0 (.int i1)) fun Gz2 =>
  some ((), Gz2)
/-! FogNets$Not.<init>(LFogNets$Expression;)V -/
noncomputable def fX13_init (a0 : Nat) (r1 : Option Nat) (G : fg_H) : Option (Unit × fg_H) :=
  fg_oc (fX10_init a0 G) fun _ Gz1 =>
  fg_ob (fg_pv Gz1 a0 [13] 0 (va_rf r1)) fun Gz2 =>
  some ((), Gz2)
/-! FogNets$Chain.<init>(LFogNets$Expression;)V -/
noncomputable def fX14_init (a0 : Nat) (r1 : Option Nat) (G : fg_H) : Option (Unit × fg_H) :=
  fg_oc (fX10_init a0 G) fun _ Gz1 =>
  fg_oc (fg_new Gz1 30 3 nw_J2) fun az2 Gz3 =>
  fg_oc (fJ2_init az2 (1 : Int32) Gz3) fun _ Gz4 =>
  fg_ob (fg_pv Gz4 a0 [14] 1 (.ref az2)) fun Gz5 =>
  fg_ob (fg_pv Gz5 a0 [14] 0 (va_rf r1)) fun Gz6 =>
  some ((), Gz6)
/-! java/lang/String.isLatin1()Z -/
noncomputable def fJ5_isLatin1 (a0 : Nat) (G : fg_H) : Option (Int32 × fg_H) :=
  if (1 : Int32) = 0 then (some ((0 : Int32), G))
  else (fg_ob (fg_gi G a0 [33] 1) fun xz1 =>
  if xz1 = 0 then (some ((1 : Int32), G))
  else (some ((0 : Int32), G)))
/-! java/lang/String.coder()B -/
noncomputable def fJ5_coder (a0 : Nat) (G : fg_H) : Option (Int32 × fg_H) :=
  if (1 : Int32) = 0 then (fg_gd (fg_nr .byte (1 : Int32)) (some ((1 : Int32), G)))
  else (fg_ob (fg_gi G a0 [33] 1) fun xz1 =>
  fg_gd (fg_nr .byte xz1) (some (xz1, G)))
/-! java/lang/String.length()I -/
noncomputable def fJ5_length (a0 : Nat) (G : fg_H) : Option (Int32 × fg_H) :=
  fg_ob (fg_gr G a0 [33] 0) fun rz1 =>
  fg_ob rz1 fun az2 =>
  fg_ob (fg_ln G az2) fun xz3 =>
  fg_gd (fg_rc G a0 33) <|
  fg_oc (fJ5_coder a0 G) fun xz5 Gz4 =>
  some ((xz3 >>> (xz5 &&& 31)), Gz4)
/-! java/lang/StringLatin1.canEncode(I)Z -/
noncomputable def fJ6_canEncode (i0 : Int32) (G : fg_H) : Option (Int32 × fg_H) :=
  if i0 < 0 then (some ((0 : Int32), G))
  else (if (255 : Int32) < i0 then (some ((0 : Int32), G))
  else (some ((1 : Int32), G)))
/-! java/lang/StringLatin1.indexOfChar([BIII)I -/
noncomputable def fJ6_indexOfChar_7b (r0 : Option Nat) (i3 : Int32) (i4 : Int32) (i5 : Int32) (G : fg_H) : Option ((Option Nat × Int32 × Int32 × Int32 × fg_H) ⊕ (Int32 × fg_H)) :=
  if i3 ≤ i5 then (fg_rt (some ((-1 : Int32), G)))
  else (fg_ob r0 fun az3 =>
  fg_ob (fg_ai G az3 9 i5) fun xz4 =>
  if xz4 = i4 then (fg_rt (some (i5, G)))
  else (some (.inl ((some az3), i3, i4, (i5 + (1 : Int32)), G))))
noncomputable def fJ6_indexOfChar_7 (r0 : Option Nat) (i3 : Int32) (i4 : Int32) (i5 : Int32) (G : fg_H) : Option (Int32 × fg_H) :=
  fg_lp (fun y : Option Nat × Int32 × Int32 × Int32 × fg_H => fJ6_indexOfChar_7b y.1 y.2.1 y.2.2.1 y.2.2.2.1 y.2.2.2.2) (r0, i3, i4, i5, G)
noncomputable def fJ6_indexOfChar (r0 : Option Nat) (i1 : Int32) (i2 : Int32) (i3 : Int32) (G : fg_H) : Option (Int32 × fg_H) :=
  fg_ob (some (i1).toInt8.toInt32) fun vz1 =>
  fJ6_indexOfChar_7 r0 i3 vz1 i2 G
/-! java/lang/StringLatin1.indexOf([BIII)I -/
noncomputable def fJ6_indexOf (r0 : Option Nat) (i1 : Int32) (i2 : Int32) (i3 : Int32) (G : fg_H) : Option (Int32 × fg_H) :=
  fg_oc (fJ6_canEncode i1 G) fun xz2 Gz1 =>
  if xz2 = 0 then (some ((-1 : Int32), Gz1))
  else (fg_oc (fJ7_max i2 (0 : Int32) Gz1) fun xz4 Gz3 =>
  fg_ob r0 fun az5 =>
  fg_ob (fg_ln Gz3 az5) fun xz6 =>
  fg_oc (fJ7_min i3 xz6 Gz3) fun xz8 Gz7 =>
  if xz4 < xz8 then (fg_oc (fJ6_indexOfChar (some az5) i1 xz4 xz8 Gz7) fun xz10 Gz9 =>
  some (xz10, Gz9))
  else (some ((-1 : Int32), Gz7)))
/-! java/lang/String.indexOf(II)I -/
noncomputable def fJ5_indexOf_2 (a0 : Nat) (i1 : Int32) (i2 : Int32) (G : fg_H) : Option (Int32 × fg_H) :=
  fg_gd (fg_rc G a0 33) <|
  fg_oc (fJ5_isLatin1 a0 G) fun xz2 Gz1 =>
  if xz2 = 0 then (none)
  else (fg_ob (fg_gr Gz1 a0 [33] 0) fun rz3 =>
  fg_gd (fg_rc Gz1 a0 33) <|
  fg_oc (fJ5_length a0 Gz1) fun xz5 Gz4 =>
  fg_oc (fJ6_indexOf rz3 i1 i2 xz5 Gz4) fun xz7 Gz6 =>
  some (xz7, Gz6))
/-! java/lang/String.indexOf(I)I -/
noncomputable def fJ5_indexOf (a0 : Nat) (i1 : Int32) (G : fg_H) : Option (Int32 × fg_H) :=
  fg_gd (fg_rc G a0 33) <|
  fg_oc (fJ5_indexOf_2 a0 i1 (0 : Int32) G) fun xz2 Gz1 =>
  some (xz2, Gz1)
/-! FogNets$Reader.isDigit(I)Z -/
noncomputable def fX2_isDigit (i0 : Int32) (G : fg_H) : Option (Int32 × fg_H) :=
  fg_oc (fX1_within i0 (48 : Int32) (57 : Int32) G) fun xz2 Gz1 =>
  fg_gd (fg_b xz2) (some (xz2, Gz1))
/-! FogNets$Reader.isLetter(I)Z -/
noncomputable def fX2_isLetter (i0 : Int32) (G : fg_H) : Option (Int32 × fg_H) :=
  fg_oc (fX1_within i0 (97 : Int32) (122 : Int32) G) fun xz2 Gz1 =>
  fg_gd (fg_b xz2) (some (xz2, Gz1))
/-! FogNets$Reader.cut()V -/
noncomputable def fX2_cut_246 (a0 : Nat) (i1 : Int32) (i2 : Int32) (i3 : Int32) (i5 : Int32) (l6 : Int64) (G : fg_H) : Option ((Nat × Int32 × Int32 × Int32 × fg_H) ⊕ (Unit × fg_H)) :=
  fg_ob (fg_gr G a0 [2] 11) fun rz25 =>
  fg_ob rz25 fun az26 =>
  fg_ob (fg_sl G az26 i2 l6) fun Gz27 =>
  fg_ob (fg_gr Gz27 a0 [2] 12) fun rz28 =>
  fg_ob rz28 fun az29 =>
  fg_ob (fg_si Gz27 az29 0 i2 i5) fun Gz30 =>
  some (.inl (a0, i1, (i2 + (1 : Int32)), i3, Gz30))
noncomputable def fX2_cut_245 (a0 : Nat) (i1 : Int32) (i2 : Int32) (i3 : Int32) (i5 : Int32) (l6 : Int64) (s0 : Option Nat) (s1 : Int32) (s2 : Int32) (G : fg_H) : Option ((Nat × Int32 × Int32 × Int32 × fg_H) ⊕ (Unit × fg_H)) :=
  fg_ob s0 fun az23 =>
  fg_ob (fg_si G az23 0 s1 s2) fun Gz24 =>
  fX2_cut_246 a0 i1 i2 i3 i5 l6 Gz24
noncomputable def fX2_cut_213 (a0 : Nat) (i1 : Int32) (i2 : Int32) (i3 : Int32) (i5 : Int32) (l6 : Int64) (s0 : Option Nat) (s1 : Int32) (s2 : Int32) (G : fg_H) : Option ((Nat × Int32 × Int32 × Int32 × fg_H) ⊕ (Unit × fg_H)) :=
  fg_ob s0 fun az33 =>
  fg_ob (fg_si G az33 0 s1 s2) fun Gz34 =>
  fX2_cut_246 a0 i1 i2 i3 i5 l6 Gz34
noncomputable def fX2_cut_195 (a0 : Nat) (i1 : Int32) (i2 : Int32) (i3 : Int32) (i5 : Int32) (l6 : Int64) (G : fg_H) : Option ((Nat × Int32 × Int32 × Int32 × fg_H) ⊕ (Unit × fg_H)) :=
  fg_ob (fg_gr G a0 [2] 10) fun rz32 =>
  if (i3 - i5) ≤ (4 : Int32) then (fX2_cut_213 a0 i1 i2 i3 i5 l6 rz32 i2 (2 : Int32) G)
  else (fX2_cut_213 a0 i1 i2 i3 i5 l6 rz32 i2 (4 : Int32) G)
noncomputable def fX2_cut_144b (a0 : Nat) (i1 : Int32) (i2 : Int32) (i3 : Int32) (i5 : Int32) (l6 : Int64) (G : fg_H) : Option ((Nat × Int32 × Int32 × Int32 × Int32 × Int64 × fg_H) ⊕ ((Nat × Int32 × Int32 × Int32 × fg_H) ⊕ (Unit × fg_H))) :=
  if i1 ≤ i3 then (fg_rt (fX2_cut_195 a0 i1 i2 i3 i5 l6 G))
  else (fg_ob (fg_gr G a0 [2] 8) fun rz35 =>
  fg_ob rz35 fun az36 =>
  fg_ob (fg_ai G az36 0 i3) fun xz37 =>
  fg_oc (fX2_isDigit xz37 G) fun xz39 Gz38 =>
  if xz39 = 0 then (fg_rt (fX2_cut_195 a0 i1 i2 i3 i5 l6 Gz38))
  else (if (4 : Int32) ≤ (i3 - i5) then (some (.inl (a0, i1, i2, (i3 + (1 : Int32)), i5, l6, Gz38)))
  else (fg_ob (fg_gr Gz38 a0 [2] 8) fun rz41 =>
  fg_ob rz41 fun az42 =>
  fg_ob (fg_ai Gz38 az42 0 i3) fun xz43 =>
  fg_ob (some ((((10 : Int64) * l6) + (xz43).toInt64) - (48 : Int64))) fun vz44 =>
  some (.inl (a0, i1, i2, (i3 + (1 : Int32)), i5, vz44, Gz38)))))
noncomputable def fX2_cut_144 (a0 : Nat) (i1 : Int32) (i2 : Int32) (i3 : Int32) (i5 : Int32) (l6 : Int64) (G : fg_H) : Option ((Nat × Int32 × Int32 × Int32 × fg_H) ⊕ (Unit × fg_H)) :=
  fg_lp (fun y : Nat × Int32 × Int32 × Int32 × Int32 × Int64 × fg_H => fX2_cut_144b y.1 y.2.1 y.2.2.1 y.2.2.2.1 y.2.2.2.2.1 y.2.2.2.2.2.1 y.2.2.2.2.2.2) (a0, i1, i2, i3, i5, l6, G)
noncomputable def fX2_cut_132 (a0 : Nat) (i1 : Int32) (i2 : Int32) (i3 : Int32) (i5 : Int32) (l6 : Int64) (s0 : Option Nat) (s1 : Int32) (s2 : Int32) (G : fg_H) : Option ((Nat × Int32 × Int32 × Int32 × fg_H) ⊕ (Unit × fg_H)) :=
  fg_ob s0 fun az47 =>
  fg_ob (fg_si G az47 0 s1 s2) fun Gz48 =>
  fX2_cut_246 a0 i1 i2 i3 i5 l6 Gz48
noncomputable def fX2_cut_113 (a0 : Nat) (i1 : Int32) (i2 : Int32) (i3 : Int32) (i5 : Int32) (l6 : Int64) (G : fg_H) : Option ((Nat × Int32 × Int32 × Int32 × fg_H) ⊕ (Unit × fg_H)) :=
  fg_ob (fg_gr G a0 [2] 10) fun rz46 =>
  if (i3 - i5) ≤ (8 : Int32) then (fX2_cut_132 a0 i1 i2 i3 i5 l6 rz46 i2 (1 : Int32) G)
  else (fX2_cut_132 a0 i1 i2 i3 i5 l6 rz46 i2 (4 : Int32) G)
noncomputable def fX2_cut_61b (a0 : Nat) (i1 : Int32) (i2 : Int32) (i3 : Int32) (i5 : Int32) (l6 : Int64) (G : fg_H) : Option ((Nat × Int32 × Int32 × Int32 × Int32 × Int64 × fg_H) ⊕ ((Nat × Int32 × Int32 × Int32 × fg_H) ⊕ (Unit × fg_H))) :=
  if i1 ≤ i3 then (fg_rt (fX2_cut_113 a0 i1 i2 i3 i5 l6 G))
  else (fg_ob (fg_gr G a0 [2] 8) fun rz49 =>
  fg_ob rz49 fun az50 =>
  fg_ob (fg_ai G az50 0 i3) fun xz51 =>
  fg_oc (fX2_isLetter xz51 G) fun xz53 Gz52 =>
  if xz53 = 0 then (fg_rt (fX2_cut_113 a0 i1 i2 i3 i5 l6 Gz52))
  else (if (8 : Int32) ≤ (i3 - i5) then (some (.inl (a0, i1, i2, (i3 + (1 : Int32)), i5, l6, Gz52)))
  else (fg_ob (fg_gr Gz52 a0 [2] 8) fun rz55 =>
  fg_ob rz55 fun az56 =>
  fg_ob (fg_ai Gz52 az56 0 i3) fun xz57 =>
  fg_ob (some ((((27 : Int64) * l6) + (xz57).toInt64) - (96 : Int64))) fun vz58 =>
  some (.inl (a0, i1, i2, (i3 + (1 : Int32)), i5, vz58, Gz52)))))
noncomputable def fX2_cut_61 (a0 : Nat) (i1 : Int32) (i2 : Int32) (i3 : Int32) (i5 : Int32) (l6 : Int64) (G : fg_H) : Option ((Nat × Int32 × Int32 × Int32 × fg_H) ⊕ (Unit × fg_H)) :=
  fg_lp (fun y : Nat × Int32 × Int32 × Int32 × Int32 × Int64 × fg_H => fX2_cut_61b y.1 y.2.1 y.2.2.1 y.2.2.2.1 y.2.2.2.2.1 y.2.2.2.2.2.1 y.2.2.2.2.2.2) (a0, i1, i2, i3, i5, l6, G)
noncomputable def fX2_cut_14b (a0 : Nat) (i1 : Int32) (i2 : Int32) (i3 : Int32) (G : fg_H) : Option ((Nat × Int32 × Int32 × Int32 × fg_H) ⊕ (Unit × fg_H)) :=
  if i1 ≤ i3 then (fg_rt (fg_ob (fg_gr G a0 [2] 10) fun rz4 =>
  fg_ob rz4 fun az5 =>
  fg_ob (fg_si G az5 0 i2 (0 : Int32)) fun Gz6 =>
  fg_ob (fg_gr Gz6 a0 [2] 12) fun rz7 =>
  fg_ob rz7 fun az8 =>
  fg_ob (fg_si Gz6 az8 0 i2 i1) fun Gz9 =>
  fg_ob (fg_pv Gz9 a0 [2] 13 (.int (0 : Int32))) fun Gz10 =>
  some ((), Gz10)))
  else (fg_ob (fg_gr G a0 [2] 8) fun rz11 =>
  fg_ob rz11 fun az12 =>
  fg_ob (fg_ai G az12 0 i3) fun xz13 =>
  if xz13 = (10 : Int32) then (some (.inl (a0, i1, i2, (i3 + (1 : Int32)), G)))
  else (if xz13 = (32 : Int32) then (some (.inl (a0, i1, i2, (i3 + (1 : Int32)), G)))
  else (fg_oc (fX2_isLetter xz13 G) fun xz15 Gz14 =>
  if xz15 = 0 then (fg_oc (fX2_isDigit xz13 Gz14) fun xz17 Gz16 =>
  if xz17 = 0 then (fg_ob (some (xz13).toInt64) fun vz18 =>
  fg_ob (fg_gr Gz16 a0 [2] 10) fun rz19 =>
  fg_ob (some (Gz16.1.2.2 25)) fun rz20 =>
  fg_gd (fg_rc Gz16 rz20 33) <|
  fg_oc (fJ5_indexOf rz20 xz13 Gz16) fun xz22 Gz21 =>
  if xz22 < 0 then (fX2_cut_245 a0 i1 i2 (i3 + (1 : Int32)) i3 vz18 rz19 i2 (4 : Int32) Gz21)
  else (fX2_cut_245 a0 i1 i2 (i3 + (1 : Int32)) i3 vz18 rz19 i2 (3 : Int32) Gz21))
  else (fX2_cut_144 a0 i1 i2 i3 i3 (0 : Int64) Gz16))
  else (fX2_cut_61 a0 i1 i2 i3 i3 (0 : Int64) Gz14))))
noncomputable def fX2_cut_14 (a0 : Nat) (i1 : Int32) (i2 : Int32) (i3 : Int32) (G : fg_H) : Option (Unit × fg_H) :=
  fg_lp (fun y : Nat × Int32 × Int32 × Int32 × fg_H => fX2_cut_14b y.1 y.2.1 y.2.2.1 y.2.2.2.1 y.2.2.2.2) (a0, i1, i2, i3, G)
noncomputable def fX2_cut (a0 : Nat) (G : fg_H) : Option (Unit × fg_H) :=
  fg_ob (fg_gi G a0 [2] 9) fun xz1 =>
  fg_ob (fg_pv G a0 [2] 9 (.int (0 : Int32))) fun Gz2 =>
  fX2_cut_14 a0 xz1 (0 : Int32) (0 : Int32) Gz2
/-! java/lang/String.checkIndex(II)V -/
noncomputable def fJ5_checkIndex (i0 : Int32) (i1 : Int32) (G : fg_H) : Option (Unit × fg_H) :=
  fg_ob (some (G.1.2.1 5)) fun rz1 =>
  fg_oc (fJ4_checkIndex i0 i1 rz1 G) fun xz3 Gz2 =>
  some ((), Gz2)
/-! java/lang/StringLatin1.charAt([BI)C -/
noncomputable def fJ6_charAt (r0 : Option Nat) (i1 : Int32) (G : fg_H) : Option (Int32 × fg_H) :=
  fg_ob r0 fun az1 =>
  fg_ob (fg_ln G az1) fun xz2 =>
  fg_oc (fJ5_checkIndex i1 xz2 G) fun _ Gz3 =>
  fg_ob (fg_ai Gz3 az1 9 i1) fun xz4 =>
  fg_gd (fg_nr .char (((xz4 &&& (255 : Int32))).toUInt32 % 65536).toInt32) (some ((((xz4 &&& (255 : Int32))).toUInt32 % 65536).toInt32, Gz3))
/-! java/lang/String.charAt(I)C -/
noncomputable def fJ5_charAt (a0 : Nat) (i1 : Int32) (G : fg_H) : Option (Int32 × fg_H) :=
  fg_gd (fg_rc G a0 33) <|
  fg_oc (fJ5_isLatin1 a0 G) fun xz2 Gz1 =>
  if xz2 = 0 then (none)
  else (fg_ob (fg_gr Gz1 a0 [33] 0) fun rz3 =>
  fg_oc (fJ6_charAt rz3 i1 Gz1) fun xz5 Gz4 =>
  fg_gd (fg_nr .char xz5) (some (xz5, Gz4)))
/-! FogNets$Reader.word(Ljava/lang/String;)J -/
noncomputable def fX2_word_4b (r0 : Option Nat) (l1 : Int64) (i3 : Int32) (G : fg_H) : Option ((Option Nat × Int64 × Int32 × fg_H) ⊕ (Int64 × fg_H)) :=
  fg_ob r0 fun az1 =>
  fg_gd (fg_rc G az1 33) <|
  fg_oc (fJ5_length az1 G) fun xz3 Gz2 =>
  if xz3 ≤ i3 then (fg_rt (some (l1, Gz2)))
  else (fg_gd (fg_rc Gz2 az1 33) <|
  fg_oc (fJ5_charAt az1 i3 Gz2) fun xz6 Gz5 =>
  fg_ob (some ((((27 : Int64) * l1) + (xz6).toInt64) - (96 : Int64))) fun vz7 =>
  some (.inl ((some az1), vz7, (i3 + (1 : Int32)), Gz5)))
noncomputable def fX2_word_4 (r0 : Option Nat) (l1 : Int64) (i3 : Int32) (G : fg_H) : Option (Int64 × fg_H) :=
  fg_lp (fun y : Option Nat × Int64 × Int32 × fg_H => fX2_word_4b y.1 y.2.1 y.2.2.1 y.2.2.2) (r0, l1, i3, G)
noncomputable def fX2_word (r0 : Option Nat) (G : fg_H) : Option (Int64 × fg_H) :=
  fX2_word_4 r0 (0 : Int64) (0 : Int32) G
/-! FogNets$Reader.isWord(Ljava/lang/String;)Z -/
noncomputable def fX2_isWord (a0 : Nat) (r1 : Option Nat) (G : fg_H) : Option (Int32 × fg_H) :=
  fg_ob (fg_gr G a0 [2] 10) fun rz1 =>
  fg_ob (fg_gi G a0 [2] 13) fun xz2 =>
  fg_ob rz1 fun az3 =>
  fg_ob (fg_ai G az3 0 xz2) fun xz4 =>
  if xz4 = (1 : Int32) then (fg_ob (fg_gr G a0 [2] 11) fun rz5 =>
  fg_ob (fg_gi G a0 [2] 13) fun xz6 =>
  fg_ob rz5 fun az7 =>
  fg_ob (fg_al G az7 xz6) fun yz8 =>
  fg_oc (fX2_word r1 G) fun yz10 Gz9 =>
  if (lg_cmp yz8 yz10) = 0 then (some ((1 : Int32), Gz9))
  else (some ((0 : Int32), Gz9)))
  else (some ((0 : Int32), G))
/-! java/util/ArrayList.isEmpty()Z -/
noncomputable def fJ2_isEmpty (a0 : Nat) (G : fg_H) : Option (Int32 × fg_H) :=
  fg_ob (fg_gi G a0 [30] 2) fun xz1 =>
  if xz1 = 0 then (some ((1 : Int32), G))
  else (some ((0 : Int32), G))
/-! FogNets$Link.<init>(LFogNets$Expression;)V -/
noncomputable def fX15_init (a0 : Nat) (r1 : Option Nat) (G : fg_H) : Option (Unit × fg_H) :=
  fg_ob (fg_pv G a0 [16, 17, 18, 19, 20, 21, 22] 0 (va_rf r1)) fun Gz1 =>
  some ((), Gz1)
/-! FogNets$And.<init>(LFogNets$Expression;)V -/
noncomputable def fX21_init (a0 : Nat) (r1 : Option Nat) (G : fg_H) : Option (Unit × fg_H) :=
  fg_oc (fX15_init a0 r1 G) fun _ Gz1 =>
  some ((), Gz1)
/-! FogNets$Or.<init>(LFogNets$Expression;)V -/
noncomputable def fX22_init (a0 : Nat) (r1 : Option Nat) (G : fg_H) : Option (Unit × fg_H) :=
  fg_oc (fX15_init a0 r1 G) fun _ Gz1 =>
  some ((), Gz1)
/-! FogNets$Reader.chain(LFogNets$Expression;LFogNets$Chain;)LFogNets$Chain; -/
noncomputable def fX2_chain (r0 : Option Nat) (r1 : Option Nat) (G : fg_H) : Option (Option Nat × fg_H) :=
  fg_on r1 (fg_oc (fg_new G 14 2 nw_X14) fun az2 Gz3 =>
  fg_oc (fX14_init az2 r0 Gz3) fun _ Gz4 =>
  some ((some az2), Gz4))
  (fun az1 => some ((some az1), G))
/-! FogNets$Less.<init>(LFogNets$Expression;)V -/
noncomputable def fX19_init (a0 : Nat) (r1 : Option Nat) (G : fg_H) : Option (Unit × fg_H) :=
  fg_oc (fX15_init a0 r1 G) fun _ Gz1 =>
  some ((), Gz1)
/-! FogNets$Same.<init>(LFogNets$Expression;)V -/
noncomputable def fX20_init (a0 : Nat) (r1 : Option Nat) (G : fg_H) : Option (Unit × fg_H) :=
  fg_oc (fX15_init a0 r1 G) fun _ Gz1 =>
  some ((), Gz1)
/-! FogNets$Reader.isSign(I)Z -/
noncomputable def fX2_isSign (a0 : Nat) (i1 : Int32) (G : fg_H) : Option (Int32 × fg_H) :=
  fg_ob (fg_gr G a0 [2] 10) fun rz1 =>
  fg_ob (fg_gi G a0 [2] 13) fun xz2 =>
  fg_ob rz1 fun az3 =>
  fg_ob (fg_ai G az3 0 xz2) fun xz4 =>
  if xz4 = (3 : Int32) then (fg_ob (fg_gr G a0 [2] 11) fun rz5 =>
  fg_ob (fg_gi G a0 [2] 13) fun xz6 =>
  fg_ob rz5 fun az7 =>
  fg_ob (fg_al G az7 xz6) fun yz8 =>
  if (lg_cmp yz8 (i1).toInt64) = 0 then (some ((1 : Int32), G))
  else (some ((0 : Int32), G)))
  else (some ((0 : Int32), G))
/-! FogNets$Plus.<init>(LFogNets$Expression;)V -/
noncomputable def fX17_init (a0 : Nat) (r1 : Option Nat) (G : fg_H) : Option (Unit × fg_H) :=
  fg_oc (fX15_init a0 r1 G) fun _ Gz1 =>
  some ((), Gz1)
/-! FogNets$Minus.<init>(LFogNets$Expression;)V -/
noncomputable def fX18_init (a0 : Nat) (r1 : Option Nat) (G : fg_H) : Option (Unit × fg_H) :=
  fg_oc (fX15_init a0 r1 G) fun _ Gz1 =>
  some ((), Gz1)
/-! FogNets$Times.<init>(LFogNets$Expression;)V -/
noncomputable def fX16_init (a0 : Nat) (r1 : Option Nat) (G : fg_H) : Option (Unit × fg_H) :=
  fg_oc (fX15_init a0 r1 G) fun _ Gz1 =>
  some ((), Gz1)
/-! FogNets$Reader.hasSign(I)Z -/
noncomputable def fX2_hasSign (a0 : Nat) (i1 : Int32) (G : fg_H) : Option (Int32 × fg_H) :=
  fg_gd (fg_rc G a0 2) <|
  fg_oc (fX2_isSign a0 i1 G) fun xz2 Gz1 =>
  if xz2 = 0 then (fg_gd (fg_b xz2) (some (xz2, Gz1)))
  else (fg_ob (fg_gi Gz1 a0 [2] 13) fun xz3 =>
  fg_ob (fg_pv Gz1 a0 [2] 13 (.int (xz3 + (1 : Int32)))) fun Gz4 =>
  fg_gd (fg_b xz2) (some (xz2, Gz4)))
/-! FogNets$Reader.term()LFogNets$Expression; -/
noncomputable def fX2_term_7b (vp : (Nat → fg_H → Option ((Option Nat ⊕ Nat) × fg_H))) (a0 : Nat) (r1 : Option Nat) (r2 : Option Nat) (G : fg_H) : Option ((Nat × Option Nat × Option Nat × fg_H) ⊕ ((Option Nat ⊕ Nat) × fg_H)) :=
  fg_gd (fg_rc G a0 2) <|
  fg_oc (fX2_hasSign a0 (42 : Int32) G) fun xz6 Gz5 =>
  if xz6 = 0 then (fg_rt (fg_on r2 (some (.inl r1, Gz5))
  (fun az8 => some (.inl (some az8), Gz5))))
  else (fg_gd (fg_rc Gz5 a0 2) <|
  fg_oc (vp a0 Gz5) fun zz11 Gz9 =>
  fg_th zz11 (fun qz12 => some (.inr (.inr qz12, Gz9))) fun rz10 =>
  fg_oc (fX2_chain r1 r2 Gz9) fun rz14 Gz13 =>
  fg_ob rz14 fun az15 =>
  fg_ob (fg_gr Gz13 az15 [14] 1) fun rz16 =>
  fg_oc (fg_new Gz13 16 1 nw_X16) fun az17 Gz18 =>
  fg_oc (fX16_init az17 rz10 Gz18) fun _ Gz19 =>
  fg_ob rz16 fun az20 =>
  fg_gd (fg_rc Gz19 az20 30) <|
  fg_oc (fJ2_add az20 (some az17) Gz19) fun xz22 Gz21 =>
  some (.inl (a0, r1, (some az15), Gz21)))
noncomputable def fX2_term_7 (vp : (Nat → fg_H → Option ((Option Nat ⊕ Nat) × fg_H))) (a0 : Nat) (r1 : Option Nat) (r2 : Option Nat) (G : fg_H) : Option ((Option Nat ⊕ Nat) × fg_H) :=
  fg_lp (fun y : Nat × Option Nat × Option Nat × fg_H => fX2_term_7b vp y.1 y.2.1 y.2.2.1 y.2.2.2) (a0, r1, r2, G)
noncomputable def fX2_term (vp : (Nat → fg_H → Option ((Option Nat ⊕ Nat) × fg_H))) (a0 : Nat) (G : fg_H) : Option ((Option Nat ⊕ Nat) × fg_H) :=
  fg_gd (fg_rc G a0 2) <|
  fg_oc (vp a0 G) fun zz3 Gz1 =>
  fg_th zz3 (fun qz4 => some (.inr qz4, Gz1)) fun rz2 =>
  fX2_term_7 vp a0 rz2 none Gz1
/-! FogNets$Reader.sum()LFogNets$Expression; -/
noncomputable def fX2_sum_83 (vp : (Nat → fg_H → Option ((Option Nat ⊕ Nat) × fg_H))) (a0 : Nat) (r1 : Option Nat) (a2 : Nat) (s0 : Option Nat) (s1 : Nat) (G : fg_H) : Option ((Nat × Option Nat × Option Nat × fg_H) ⊕ ((Option Nat ⊕ Nat) × fg_H)) :=
  fg_ob s0 fun az22 =>
  fg_gd (fg_rc G az22 30) <|
  fg_oc (fJ2_add az22 (some s1) G) fun xz24 Gz23 =>
  some (.inl (a0, r1, (some a2), Gz23))
noncomputable def fX2_sum_25 (vp : (Nat → fg_H → Option ((Option Nat ⊕ Nat) × fg_H))) (a0 : Nat) (r1 : Option Nat) (r2 : Option Nat) (G : fg_H) : Option ((Nat × Option Nat × Option Nat × fg_H) ⊕ ((Option Nat ⊕ Nat) × fg_H)) :=
  fg_gd (fg_rc G a0 2) <|
  fg_oc (fX2_isSign a0 (43 : Int32) G) fun xz8 Gz7 =>
  fg_ob (fg_gi Gz7 a0 [2] 13) fun xz9 =>
  fg_ob (fg_pv Gz7 a0 [2] 13 (.int (xz9 + (1 : Int32)))) fun Gz10 =>
  fg_gd (fg_rc Gz10 a0 2) <|
  fg_oc (fX2_term vp a0 Gz10) fun zz13 Gz11 =>
  fg_th zz13 (fun qz14 => some (.inr (.inr qz14, Gz11))) fun rz12 =>
  fg_oc (fX2_chain r1 r2 Gz11) fun rz16 Gz15 =>
  fg_ob rz16 fun az17 =>
  fg_ob (fg_gr Gz15 az17 [14] 1) fun rz18 =>
  if xz8 = 0 then (fg_oc (fg_new Gz15 18 1 nw_X18) fun az19 Gz20 =>
  fg_oc (fX18_init az19 rz12 Gz20) fun _ Gz21 =>
  fX2_sum_83 vp a0 r1 az17 rz18 az19 Gz21)
  else (fg_oc (fg_new Gz15 17 1 nw_X17) fun az25 Gz26 =>
  fg_oc (fX17_init az25 rz12 Gz26) fun _ Gz27 =>
  fX2_sum_83 vp a0 r1 az17 rz18 az25 Gz27)
noncomputable def fX2_sum_7b (vp : (Nat → fg_H → Option ((Option Nat ⊕ Nat) × fg_H))) (a0 : Nat) (r1 : Option Nat) (r2 : Option Nat) (G : fg_H) : Option ((Nat × Option Nat × Option Nat × fg_H) ⊕ ((Option Nat ⊕ Nat) × fg_H)) :=
  fg_gd (fg_rc G a0 2) <|
  fg_oc (fX2_isSign a0 (43 : Int32) G) fun xz6 Gz5 =>
  if xz6 = 0 then (fg_gd (fg_rc Gz5 a0 2) <|
  fg_oc (fX2_isSign a0 (45 : Int32) Gz5) fun xz29 Gz28 =>
  if xz29 = 0 then (fg_rt (fg_on r2 (some (.inl r1, Gz28))
  (fun az31 => some (.inl (some az31), Gz28))))
  else (fX2_sum_25 vp a0 r1 r2 Gz28))
  else (fX2_sum_25 vp a0 r1 r2 Gz5)
noncomputable def fX2_sum_7 (vp : (Nat → fg_H → Option ((Option Nat ⊕ Nat) × fg_H))) (a0 : Nat) (r1 : Option Nat) (r2 : Option Nat) (G : fg_H) : Option ((Option Nat ⊕ Nat) × fg_H) :=
  fg_lp (fun y : Nat × Option Nat × Option Nat × fg_H => fX2_sum_7b vp y.1 y.2.1 y.2.2.1 y.2.2.2) (a0, r1, r2, G)
noncomputable def fX2_sum (vp : (Nat → fg_H → Option ((Option Nat ⊕ Nat) × fg_H))) (a0 : Nat) (G : fg_H) : Option ((Option Nat ⊕ Nat) × fg_H) :=
  fg_gd (fg_rc G a0 2) <|
  fg_oc (fX2_term vp a0 G) fun zz3 Gz1 =>
  fg_th zz3 (fun qz4 => some (.inr qz4, Gz1)) fun rz2 =>
  fX2_sum_7 vp a0 rz2 none Gz1
/-! FogNets$Reader.test()LFogNets$Expression; -/
noncomputable def fX2_test_85 (vp : (Nat → fg_H → Option ((Option Nat ⊕ Nat) × fg_H))) (a4 : Nat) (s0 : Option Nat) (s1 : Nat) (G : fg_H) : Option ((Option Nat ⊕ Nat) × fg_H) :=
  fg_ob s0 fun az22 =>
  fg_gd (fg_rc G az22 30) <|
  fg_oc (fJ2_add az22 (some s1) G) fun xz24 Gz23 =>
  some (.inl (some a4), Gz23)
noncomputable def fX2_test_25 (vp : (Nat → fg_H → Option ((Option Nat ⊕ Nat) × fg_H))) (a0 : Nat) (r1 : Option Nat) (G : fg_H) : Option ((Option Nat ⊕ Nat) × fg_H) :=
  fg_gd (fg_rc G a0 2) <|
  fg_oc (fX2_isSign a0 (60 : Int32) G) fun xz8 Gz7 =>
  fg_ob (fg_gi Gz7 a0 [2] 13) fun xz9 =>
  fg_ob (fg_pv Gz7 a0 [2] 13 (.int (xz9 + (1 : Int32)))) fun Gz10 =>
  fg_gd (fg_rc Gz10 a0 2) <|
  fg_oc (fX2_sum vp a0 Gz10) fun zz13 Gz11 =>
  fg_th zz13 (fun qz14 => some (.inr qz14, Gz11)) fun rz12 =>
  fg_oc (fg_new Gz11 14 2 nw_X14) fun az15 Gz16 =>
  fg_oc (fX14_init az15 r1 Gz16) fun _ Gz17 =>
  fg_ob (fg_gr Gz17 az15 [14] 1) fun rz18 =>
  if xz8 = 0 then (fg_oc (fg_new Gz17 20 1 nw_X20) fun az19 Gz20 =>
  fg_oc (fX20_init az19 rz12 Gz20) fun _ Gz21 =>
  fX2_test_85 vp az15 rz18 az19 Gz21)
  else (fg_oc (fg_new Gz17 19 1 nw_X19) fun az25 Gz26 =>
  fg_oc (fX19_init az25 rz12 Gz26) fun _ Gz27 =>
  fX2_test_85 vp az15 rz18 az25 Gz27)
noncomputable def fX2_test (vp : (Nat → fg_H → Option ((Option Nat ⊕ Nat) × fg_H))) (a0 : Nat) (G : fg_H) : Option ((Option Nat ⊕ Nat) × fg_H) :=
  fg_gd (fg_rc G a0 2) <|
  fg_oc (fX2_sum vp a0 G) fun zz3 Gz1 =>
  fg_th zz3 (fun qz4 => some (.inr qz4, Gz1)) fun rz2 =>
  fg_gd (fg_rc Gz1 a0 2) <|
  fg_oc (fX2_isSign a0 (60 : Int32) Gz1) fun xz6 Gz5 =>
  if xz6 = 0 then (fg_gd (fg_rc Gz5 a0 2) <|
  fg_oc (fX2_isSign a0 (61 : Int32) Gz5) fun xz29 Gz28 =>
  if xz29 = 0 then (some (.inl rz2, Gz28))
  else (fX2_test_25 vp a0 rz2 Gz28))
  else (fX2_test_25 vp a0 rz2 Gz5)
/-! FogNets$Reader.all()LFogNets$Expression; -/
noncomputable def fX2_all_83 (vp : (Nat → fg_H → Option ((Option Nat ⊕ Nat) × fg_H))) (a0 : Nat) (r1 : Option Nat) (a2 : Nat) (s0 : Option Nat) (s1 : Nat) (G : fg_H) : Option ((Nat × Option Nat × Option Nat × fg_H) ⊕ ((Option Nat ⊕ Nat) × fg_H)) :=
  fg_ob s0 fun az24 =>
  fg_gd (fg_rc G az24 30) <|
  fg_oc (fJ2_add az24 (some s1) G) fun xz26 Gz25 =>
  some (.inl (a0, r1, (some a2), Gz25))
noncomputable def fX2_all_25 (vp : (Nat → fg_H → Option ((Option Nat ⊕ Nat) × fg_H))) (a0 : Nat) (r1 : Option Nat) (r2 : Option Nat) (G : fg_H) : Option ((Nat × Option Nat × Option Nat × fg_H) ⊕ ((Option Nat ⊕ Nat) × fg_H)) :=
  fg_ob (some (G.1.2.2 23)) fun rz8 =>
  fg_gd (fg_rc G a0 2) <|
  fg_oc (fX2_isWord a0 (some rz8) G) fun xz10 Gz9 =>
  fg_ob (fg_gi Gz9 a0 [2] 13) fun xz11 =>
  fg_ob (fg_pv Gz9 a0 [2] 13 (.int (xz11 + (1 : Int32)))) fun Gz12 =>
  fg_gd (fg_rc Gz12 a0 2) <|
  fg_oc (fX2_test vp a0 Gz12) fun zz15 Gz13 =>
  fg_th zz15 (fun qz16 => some (.inr (.inr qz16, Gz13))) fun rz14 =>
  fg_oc (fX2_chain r1 r2 Gz13) fun rz18 Gz17 =>
  fg_ob rz18 fun az19 =>
  fg_ob (fg_gr Gz17 az19 [14] 1) fun rz20 =>
  if xz10 = 0 then (fg_oc (fg_new Gz17 22 1 nw_X22) fun az21 Gz22 =>
  fg_oc (fX22_init az21 rz14 Gz22) fun _ Gz23 =>
  fX2_all_83 vp a0 r1 az19 rz20 az21 Gz23)
  else (fg_oc (fg_new Gz17 21 1 nw_X21) fun az27 Gz28 =>
  fg_oc (fX21_init az27 rz14 Gz28) fun _ Gz29 =>
  fX2_all_83 vp a0 r1 az19 rz20 az27 Gz29)
noncomputable def fX2_all_7b (vp : (Nat → fg_H → Option ((Option Nat ⊕ Nat) × fg_H))) (a0 : Nat) (r1 : Option Nat) (r2 : Option Nat) (G : fg_H) : Option ((Nat × Option Nat × Option Nat × fg_H) ⊕ ((Option Nat ⊕ Nat) × fg_H)) :=
  fg_ob (some (G.1.2.2 23)) fun rz5 =>
  fg_gd (fg_rc G a0 2) <|
  fg_oc (fX2_isWord a0 (some rz5) G) fun xz7 Gz6 =>
  if xz7 = 0 then (fg_ob (some (Gz6.1.2.2 24)) fun rz30 =>
  fg_gd (fg_rc Gz6 a0 2) <|
  fg_oc (fX2_isWord a0 (some rz30) Gz6) fun xz32 Gz31 =>
  if xz32 = 0 then (fg_rt (fg_on r2 (some (.inl r1, Gz31))
  (fun az34 => some (.inl (some az34), Gz31))))
  else (fX2_all_25 vp a0 r1 r2 Gz31))
  else (fX2_all_25 vp a0 r1 r2 Gz6)
noncomputable def fX2_all_7 (vp : (Nat → fg_H → Option ((Option Nat ⊕ Nat) × fg_H))) (a0 : Nat) (r1 : Option Nat) (r2 : Option Nat) (G : fg_H) : Option ((Option Nat ⊕ Nat) × fg_H) :=
  fg_lp (fun y : Nat × Option Nat × Option Nat × fg_H => fX2_all_7b vp y.1 y.2.1 y.2.2.1 y.2.2.2) (a0, r1, r2, G)
noncomputable def fX2_all (vp : (Nat → fg_H → Option ((Option Nat ⊕ Nat) × fg_H))) (a0 : Nat) (G : fg_H) : Option ((Option Nat ⊕ Nat) × fg_H) :=
  fg_gd (fg_rc G a0 2) <|
  fg_oc (fX2_test vp a0 G) fun zz3 Gz1 =>
  fg_th zz3 (fun qz4 => some (.inr qz4, Gz1)) fun rz2 =>
  fX2_all_7 vp a0 rz2 none Gz1
/-! FogNets$Wrong.<init>(I)V -/
noncomputable def fX9_init (a0 : Nat) (i1 : Int32) (G : fg_H) : Option (Unit × fg_H) :=
  fg_ob (fg_ct G a0 9) fun Gz1 =>
  fg_ob (fg_pv Gz1 a0 [9] 6 (.int i1)) fun Gz2 =>
  some ((), Gz2)
/-! FogNets$Reader.wrong(I)LFogNets$Wrong; -/
noncomputable def fX2_wrong (a0 : Nat) (i1 : Int32) (G : fg_H) : Option (Option Nat × fg_H) :=
  fg_oc (fg_new G 9 7 nw_X9) fun az1 Gz2 =>
  fg_ob (fg_gr Gz2 a0 [2] 12) fun rz3 =>
  fg_ob (fg_gi Gz2 a0 [2] 13) fun xz4 =>
  fg_ob rz3 fun az5 =>
  fg_ob (fg_ai Gz2 az5 0 xz4) fun xz6 =>
  fg_oc (fX9_init az1 (i1 + ((16 : Int32) * xz6)) Gz2) fun _ Gz7 =>
  some ((some az1), Gz7)
/-! FogNets$Reader.sign(I)V -/
noncomputable def fX2_sign (a0 : Nat) (i1 : Int32) (G : fg_H) : Option ((Unit ⊕ Nat) × fg_H) :=
  fg_gd (fg_rc G a0 2) <|
  fg_oc (fX2_hasSign a0 i1 G) fun xz2 Gz1 =>
  if xz2 = 0 then (fg_gd (fg_rc Gz1 a0 2) <|
  fg_oc (fX2_wrong a0 (1 : Int32) Gz1) fun rz4 Gz3 =>
  fg_ob rz4 fun az5 =>
  fg_gd (fg_rc Gz3 az5 9) (some (.inr az5, Gz3)))
  else (some (.inl (), Gz1))
/-! FogNets$Reader.which([Ljava/lang/String;)I -/
noncomputable def fX2_which_2b (a0 : Nat) (r1 : Option Nat) (i2 : Int32) (G : fg_H) : Option ((Nat × Option Nat × Int32 × fg_H) ⊕ (Int32 × fg_H)) :=
  fg_ob r1 fun az1 =>
  fg_ob (fg_ln G az1) fun xz2 =>
  if xz2 ≤ i2 then (fg_rt (some ((-1 : Int32), G)))
  else (fg_ob (fg_ar G az1 7 i2) fun rz4 =>
  fg_gd (fg_rc G a0 2) <|
  fg_oc (fX2_isWord a0 rz4 G) fun xz6 Gz5 =>
  if xz6 = 0 then (some (.inl (a0, (some az1), (i2 + (1 : Int32)), Gz5)))
  else (fg_rt (some (i2, Gz5))))
noncomputable def fX2_which_2 (a0 : Nat) (r1 : Option Nat) (i2 : Int32) (G : fg_H) : Option (Int32 × fg_H) :=
  fg_lp (fun y : Nat × Option Nat × Int32 × fg_H => fX2_which_2b y.1 y.2.1 y.2.2.1 y.2.2.2) (a0, r1, i2, G)
noncomputable def fX2_which (a0 : Nat) (r1 : Option Nat) (G : fg_H) : Option (Int32 × fg_H) :=
  fX2_which_2 a0 r1 (0 : Int32) G
/-! FogNets$Reader.part()LFogNets$Expression; -/
noncomputable def fX2_part_173 (vp : (Nat → fg_H → Option ((Option Nat ⊕ Nat) × fg_H))) (a0 : Nat) (r3 : Option Nat) (G : fg_H) : Option ((Option Nat ⊕ Nat) × fg_H) :=
  fg_ob (fg_gi G a0 [2] 14) fun xz16 =>
  fg_ob (fg_pv G a0 [2] 14 (.int (xz16 - (1 : Int32)))) fun Gz17 =>
  some (.inl r3, Gz17)
noncomputable def fX2_part_162 (vp : (Nat → fg_H → Option ((Option Nat ⊕ Nat) × fg_H))) (a0 : Nat) (i2 : Int32) (s0 : Option Nat) (G : fg_H) : Option ((Option Nat ⊕ Nat) × fg_H) :=
  if i2 = 0 then (fg_gd (fg_rc G a0 2) <|
  fg_oc (fX2_sign a0 (41 : Int32) G) fun zz19 Gz18 =>
  fg_th zz19 (fun qz20 => some (.inr qz20, Gz18)) fun uz21 =>
  fX2_part_173 vp a0 s0 Gz18)
  else (fX2_part_173 vp a0 s0 G)
noncomputable def fX2_part_130 (vp : (Nat → fg_H → Option ((Option Nat ⊕ Nat) × fg_H))) (a0 : Nat) (i2 : Int32) (G : fg_H) : Option ((Option Nat ⊕ Nat) × fg_H) :=
  fg_ob (fg_gi G a0 [2] 14) fun xz10 =>
  fg_ob (fg_pv G a0 [2] 14 (.int (xz10 + (1 : Int32)))) fun Gz11 =>
  if i2 = 0 then (fg_gd (fg_rc Gz11 a0 2) <|
  fg_oc (fX2_all vp a0 Gz11) fun zz14 Gz12 =>
  fg_th zz14 (fun qz15 => some (.inr qz15, Gz12)) fun rz13 =>
  fX2_part_162 vp a0 i2 rz13 Gz12)
  else (fg_oc (fg_new Gz11 13 1 nw_X13) fun az22 Gz23 =>
  fg_gd (fg_rc Gz23 a0 2) <|
  fg_oc (vp a0 Gz23) fun zz26 Gz24 =>
  fg_th zz26 (fun qz27 => some (.inr qz27, Gz24)) fun rz25 =>
  fg_oc (fX13_init az22 rz25 Gz24) fun _ Gz28 =>
  fX2_part_162 vp a0 i2 (some az22) Gz28)
noncomputable def fX2_part_53 (vp : (Nat → fg_H → Option ((Option Nat ⊕ Nat) × fg_H))) (a0 : Nat) (i1 : Int32) (i2 : Int32) (G : fg_H) : Option ((Option Nat ⊕ Nat) × fg_H) :=
  fg_ob (fg_gi G a0 [2] 14) fun xz7 =>
  if xz7 = (5 : Int32) then (fg_gd (fg_rc G a0 2) <|
  fg_oc (fX2_wrong a0 (5 : Int32) G) fun rz44 Gz43 =>
  fg_ob rz44 fun az45 =>
  fg_gd (fg_rc Gz43 az45 9) (some (.inr az45, Gz43)))
  else (fg_ob (fg_gi G a0 [2] 13) fun xz8 =>
  fg_ob (fg_pv G a0 [2] 13 (.int (xz8 + (1 : Int32)))) fun Gz9 =>
  if i1 = (-1 : Int32) then (if i2 = 0 then (fg_ob (fg_gr Gz9 a0 [2] 10) fun rz29 =>
  fg_ob (fg_gi Gz9 a0 [2] 13) fun xz30 =>
  fg_ob rz29 fun az31 =>
  fg_ob (fg_ai Gz9 az31 0 (xz30 - (1 : Int32))) fun xz32 =>
  if xz32 = (2 : Int32) then (fg_oc (fg_new Gz9 12 1 nw_X12) fun az33 Gz34 =>
  fg_ob (fg_gr Gz34 a0 [2] 11) fun rz35 =>
  fg_ob (fg_gi Gz34 a0 [2] 13) fun xz36 =>
  fg_ob rz35 fun az37 =>
  fg_ob (fg_al Gz34 az37 (xz36 - (1 : Int32))) fun yz38 =>
  fg_oc (fX12_init az33 (yz38).toInt32 Gz34) fun _ Gz39 =>
  some (.inl (some az33), Gz39))
  else (fX2_part_130 vp a0 i2 Gz9))
  else (fX2_part_130 vp a0 i2 Gz9))
  else (fg_oc (fg_new Gz9 11 1 nw_X11) fun az40 Gz41 =>
  fg_oc (fX11_init az40 i1 Gz41) fun _ Gz42 =>
  some (.inl (some az40), Gz42)))
noncomputable def fX2_part (vp : (Nat → fg_H → Option ((Option Nat ⊕ Nat) × fg_H))) (a0 : Nat) (G : fg_H) : Option ((Option Nat ⊕ Nat) × fg_H) :=
  fg_ob (fg_gr G a0 [2] 7) fun rz1 =>
  fg_gd (fg_rc G a0 2) <|
  fg_oc (fX2_which a0 rz1 G) fun xz3 Gz2 =>
  fg_ob (some (Gz2.1.2.2 22)) fun rz4 =>
  fg_gd (fg_rc Gz2 a0 2) <|
  fg_oc (fX2_isWord a0 (some rz4) Gz2) fun xz6 Gz5 =>
  if xz3 = (-1 : Int32) then (if xz6 = 0 then (fg_ob (fg_gr Gz5 a0 [2] 10) fun rz46 =>
  fg_ob (fg_gi Gz5 a0 [2] 13) fun xz47 =>
  fg_ob rz46 fun az48 =>
  fg_ob (fg_ai Gz5 az48 0 xz47) fun xz49 =>
  if xz49 = (2 : Int32) then (fX2_part_53 vp a0 xz3 xz6 Gz5)
  else (fg_gd (fg_rc Gz5 a0 2) <|
  fg_oc (fX2_isSign a0 (40 : Int32) Gz5) fun xz51 Gz50 =>
  if xz51 = 0 then (fg_gd (fg_rc Gz50 a0 2) <|
  fg_oc (fX2_wrong a0 (1 : Int32) Gz50) fun rz53 Gz52 =>
  fg_ob rz53 fun az54 =>
  fg_gd (fg_rc Gz52 az54 9) (some (.inr az54, Gz52)))
  else (fX2_part_53 vp a0 xz3 xz6 Gz50)))
  else (fX2_part_53 vp a0 xz3 xz6 Gz5))
  else (fX2_part_53 vp a0 xz3 xz6 Gz5)
noncomputable def vX2_part : Nat → Nat → fg_H → Option ((Option Nat ⊕ Nat) × fg_H)
  | 0 => fun _ _ => none
  | n + 1 => fun a0 G => fX2_part (vX2_part n) a0 G
/-! FogNets$Reader.whole()LFogNets$Expression; -/
noncomputable def fX2_whole (a0 : Nat) (G : fg_H) : Option ((Option Nat ⊕ Nat) × fg_H) :=
  fg_ob (fg_pv G a0 [2] 14 (.int (0 : Int32))) fun Gz1 =>
  fg_gd (fg_rc Gz1 a0 2) <|
  fg_oc (fX2_all (vX2_part 7) a0 Gz1) fun zz4 Gz2 =>
  fg_th zz4 (fun qz5 => some (.inr qz5, Gz2)) fun rz3 =>
  some (.inl rz3, Gz2)
/-! FogNets$Reader.law([Ljava/lang/String;)LFogNets$Expression; -/
noncomputable def fX2_law (a0 : Nat) (r1 : Option Nat) (G : fg_H) : Option ((Option Nat ⊕ Nat) × fg_H) :=
  fg_ob (fg_pv G a0 [2] 7 (va_rf r1)) fun Gz1 =>
  fg_gd (fg_rc Gz1 a0 2) <|
  fg_oc (fX2_whole a0 Gz1) fun zz4 Gz2 =>
  fg_th zz4 (fun qz5 => some (.inr qz5, Gz2)) fun rz3 =>
  some (.inl rz3, Gz2)
/-! FogNets$Reader.number(II)I -/
noncomputable def fX2_number_49 (a0 : Nat) (G : fg_H) : Option ((Int32 ⊕ Nat) × fg_H) :=
  fg_gd (fg_rc G a0 2) <|
  fg_oc (fX2_wrong a0 (4 : Int32) G) fun rz10 Gz9 =>
  fg_ob rz10 fun az11 =>
  fg_gd (fg_rc Gz9 az11 9) (some (.inr az11, Gz9))
noncomputable def fX2_number (a0 : Nat) (i1 : Int32) (i2 : Int32) (G : fg_H) : Option ((Int32 ⊕ Nat) × fg_H) :=
  fg_ob (fg_gr G a0 [2] 10) fun rz1 =>
  fg_ob (fg_gi G a0 [2] 13) fun xz2 =>
  fg_ob rz1 fun az3 =>
  fg_ob (fg_ai G az3 0 xz2) fun xz4 =>
  if xz4 = (2 : Int32) then (fg_ob (fg_gr G a0 [2] 11) fun rz5 =>
  fg_ob (fg_gi G a0 [2] 13) fun xz6 =>
  fg_ob rz5 fun az7 =>
  fg_ob (fg_al G az7 xz6) fun yz8 =>
  if (lg_cmp yz8 (i1).toInt64) < 0 then (fX2_number_49 a0 G)
  else (fg_ob (fg_gr G a0 [2] 11) fun rz12 =>
  fg_ob (fg_gi G a0 [2] 13) fun xz13 =>
  fg_ob rz12 fun az14 =>
  fg_ob (fg_al G az14 xz13) fun yz15 =>
  if (lg_cmp yz15 (i2).toInt64) ≤ 0 then (fg_ob (fg_gi G a0 [2] 13) fun xz16 =>
  fg_ob (fg_pv G a0 [2] 13 (.int (xz16 + (1 : Int32)))) fun Gz17 =>
  fg_ob (fg_gr Gz17 a0 [2] 11) fun rz18 =>
  fg_ob (fg_gi Gz17 a0 [2] 13) fun xz19 =>
  fg_ob rz18 fun az20 =>
  fg_ob (fg_al Gz17 az20 (xz19 - (1 : Int32))) fun yz21 =>
  some (.inl (yz21).toInt32, Gz17))
  else (fX2_number_49 a0 G)))
  else (fg_gd (fg_rc G a0 2) <|
  fg_oc (fX2_wrong a0 (1 : Int32) G) fun rz23 Gz22 =>
  fg_ob rz23 fun az24 =>
  fg_gd (fg_rc Gz22 az24 9) (some (.inr az24, Gz22)))
/-! FogNets$Reader.line(I)V -/
noncomputable def fX2_line_26 (a0 : Nat) (G : fg_H) : Option ((Unit ⊕ Nat) × fg_H) :=
  fg_gd (fg_rc G a0 2) <|
  fg_oc (fX2_wrong a0 (3 : Int32) G) fun rz5 Gz4 =>
  fg_ob rz5 fun az6 =>
  fg_gd (fg_rc Gz4 az6 9) (some (.inr az6, Gz4))
noncomputable def fX2_line_32 (a0 : Nat) (i1 : Int32) (G : fg_H) : Option ((Unit ⊕ Nat) × fg_H) :=
  fg_ob (fg_gr G a0 [2] 5) fun rz7 =>
  fg_ob rz7 fun az8 =>
  fg_ob (fg_si G az8 2 i1 (vp_nar .boolean (1 : Int32))) fun Gz9 =>
  fg_ob (fg_gi Gz9 a0 [2] 13) fun xz10 =>
  fg_ob (fg_pv Gz9 a0 [2] 13 (.int (xz10 + (1 : Int32)))) fun Gz11 =>
  if i1 = (0 : Int32) then (fg_ob (fg_gr Gz11 a0 [2] 6) fun rz12 =>
  fg_gd (fg_rc Gz11 a0 2) <|
  fg_oc (fX2_number a0 (1 : Int32) (8 : Int32) Gz11) fun zz15 Gz13 =>
  fg_th zz15 (fun qz16 => some (.inr qz16, Gz13)) fun xz14 =>
  fg_ob rz12 fun az17 =>
  fg_ob (fg_pv Gz13 az17 [3] 0 (.int xz14)) fun Gz18 =>
  fg_ob (fg_gr Gz18 a0 [2] 6) fun rz19 =>
  fg_gd (fg_rc Gz18 a0 2) <|
  fg_oc (fX2_number a0 (1 : Int32) (8 : Int32) Gz18) fun zz22 Gz20 =>
  fg_th zz22 (fun qz23 => some (.inr qz23, Gz20)) fun xz21 =>
  fg_ob rz19 fun az24 =>
  fg_ob (fg_pv Gz20 az24 [3] 1 (.int xz21)) fun Gz25 =>
  some (.inl (), Gz25))
  else (if i1 = (1 : Int32) then (fg_ob (fg_gr Gz11 a0 [2] 6) fun rz26 =>
  fg_gd (fg_rc Gz11 a0 2) <|
  fg_oc (fX2_number a0 (1 : Int32) (12 : Int32) Gz11) fun zz29 Gz27 =>
  fg_th zz29 (fun qz30 => some (.inr qz30, Gz27)) fun xz28 =>
  fg_ob rz26 fun az31 =>
  fg_ob (fg_pv Gz27 az31 [3] 2 (.int xz28)) fun Gz32 =>
  some (.inl (), Gz32))
  else (if i1 = (2 : Int32) then (fg_ob (fg_gr Gz11 a0 [2] 6) fun rz33 =>
  fg_gd (fg_rc Gz11 a0 2) <|
  fg_oc (fX2_number a0 (0 : Int32) (99 : Int32) Gz11) fun zz36 Gz34 =>
  fg_th zz36 (fun qz37 => some (.inr qz37, Gz34)) fun xz35 =>
  fg_ob rz33 fun az38 =>
  fg_ob (fg_pv Gz34 az38 [3] 3 (.int xz35)) fun Gz39 =>
  some (.inl (), Gz39))
  else (if i1 = (3 : Int32) then (fg_ob (fg_gr Gz11 a0 [2] 6) fun rz40 =>
  fg_gd (fg_rc Gz11 a0 2) <|
  fg_oc (fX2_number a0 (0 : Int32) (10 : Int32) Gz11) fun zz43 Gz41 =>
  fg_th zz43 (fun qz44 => some (.inr qz44, Gz41)) fun xz42 =>
  fg_ob rz40 fun az45 =>
  fg_ob (fg_pv Gz41 az45 [3] 4 (.int xz42)) fun Gz46 =>
  some (.inl (), Gz46))
  else (if i1 = (4 : Int32) then (fg_ob (fg_gr Gz11 a0 [2] 6) fun rz47 =>
  fg_ob (fg_gr Gz11 a0 [2] 0) fun rz48 =>
  fg_gd (fg_rc Gz11 a0 2) <|
  fg_oc (fX2_law a0 rz48 Gz11) fun zz51 Gz49 =>
  fg_th zz51 (fun qz52 => some (.inr qz52, Gz49)) fun rz50 =>
  fg_ob rz47 fun az53 =>
  fg_ob (fg_pv Gz49 az53 [3] 5 (va_rf rz50)) fun Gz54 =>
  some (.inl (), Gz54))
  else (fg_ob (fg_gr Gz11 a0 [2] 6) fun rz55 =>
  fg_ob (fg_gr Gz11 a0 [2] 1) fun rz56 =>
  fg_gd (fg_rc Gz11 a0 2) <|
  fg_oc (fX2_law a0 rz56 Gz11) fun zz59 Gz57 =>
  fg_th zz59 (fun qz60 => some (.inr qz60, Gz57)) fun rz58 =>
  fg_ob rz55 fun az61 =>
  fg_ob (fg_pv Gz57 az61 [3] 6 (va_rf rz58)) fun Gz62 =>
  some (.inl (), Gz62))))))
noncomputable def fX2_line (a0 : Nat) (i1 : Int32) (G : fg_H) : Option ((Unit ⊕ Nat) × fg_H) :=
  fg_ob (fg_gr G a0 [2] 5) fun rz1 =>
  fg_ob rz1 fun az2 =>
  fg_ob (fg_ai G az2 2 i1) fun xz3 =>
  if xz3 = 0 then (if i1 = 0 then (fg_ob (fg_gr G a0 [2] 6) fun rz63 =>
  fg_ob rz63 fun az64 =>
  fg_ob (fg_gr G az64 [3] 10) fun rz65 =>
  fg_ob rz65 fun az66 =>
  fg_gd (fg_rc G az66 30) <|
  fg_oc (fJ2_isEmpty az66 G) fun xz68 Gz67 =>
  if xz68 = 0 then (fX2_line_26 a0 Gz67)
  else (fX2_line_32 a0 i1 Gz67))
  else (fX2_line_32 a0 i1 G))
  else (fX2_line_26 a0 G)
/-! FogNets$Reader.isName()Z -/
noncomputable def fX2_isName (a0 : Nat) (G : fg_H) : Option (Int32 × fg_H) :=
  fg_ob (fg_gr G a0 [2] 10) fun rz1 =>
  fg_ob (fg_gi G a0 [2] 13) fun xz2 =>
  fg_ob rz1 fun az3 =>
  fg_ob (fg_ai G az3 0 xz2) fun xz4 =>
  if xz4 = (1 : Int32) then (fg_ob (fg_gr G a0 [2] 3) fun rz5 =>
  fg_gd (fg_rc G a0 2) <|
  fg_oc (fX2_which a0 rz5 G) fun xz7 Gz6 =>
  if xz7 = (-1 : Int32) then (fg_ob (fg_gr Gz6 a0 [2] 4) fun rz8 =>
  fg_gd (fg_rc Gz6 a0 2) <|
  fg_oc (fX2_which a0 rz8 Gz6) fun xz10 Gz9 =>
  if xz10 = (-1 : Int32) then (fg_ob (fg_gr Gz9 a0 [2] 2) fun rz11 =>
  fg_gd (fg_rc Gz9 a0 2) <|
  fg_oc (fX2_which a0 rz11 Gz9) fun xz13 Gz12 =>
  if xz13 = (-1 : Int32) then (some ((1 : Int32), Gz12))
  else (some ((0 : Int32), Gz12)))
  else (some ((0 : Int32), Gz9)))
  else (some ((0 : Int32), Gz6)))
  else (some ((0 : Int32), G))
/-! FogNets$Reader.hasWord(Ljava/lang/String;)Z -/
noncomputable def fX2_hasWord (a0 : Nat) (r1 : Option Nat) (G : fg_H) : Option (Int32 × fg_H) :=
  fg_gd (fg_rc G a0 2) <|
  fg_oc (fX2_isWord a0 r1 G) fun xz2 Gz1 =>
  if xz2 = 0 then (fg_gd (fg_b xz2) (some (xz2, Gz1)))
  else (fg_ob (fg_gi Gz1 a0 [2] 13) fun xz3 =>
  fg_ob (fg_pv Gz1 a0 [2] 13 (.int (xz3 + (1 : Int32)))) fun Gz4 =>
  fg_gd (fg_b xz2) (some (xz2, Gz4)))
/-! FogNets$Reader.takeWord(Ljava/lang/String;)V -/
noncomputable def fX2_takeWord (a0 : Nat) (r1 : Option Nat) (G : fg_H) : Option ((Unit ⊕ Nat) × fg_H) :=
  fg_gd (fg_rc G a0 2) <|
  fg_oc (fX2_hasWord a0 r1 G) fun xz2 Gz1 =>
  if xz2 = 0 then (fg_gd (fg_rc Gz1 a0 2) <|
  fg_oc (fX2_wrong a0 (1 : Int32) Gz1) fun rz4 Gz3 =>
  fg_ob rz4 fun az5 =>
  fg_gd (fg_rc Gz3 az5 9) (some (.inr az5, Gz3)))
  else (some (.inl (), Gz1))
/-! FogNets$Reader.number(Ljava/lang/String;II)I -/
noncomputable def fX2_number_2 (a0 : Nat) (r1 : Option Nat) (i2 : Int32) (i3 : Int32) (G : fg_H) : Option ((Int32 ⊕ Nat) × fg_H) :=
  fg_gd (fg_rc G a0 2) <|
  fg_oc (fX2_takeWord a0 r1 G) fun zz2 Gz1 =>
  fg_th zz2 (fun qz3 => some (.inr qz3, Gz1)) fun uz4 =>
  fg_gd (fg_rc Gz1 a0 2) <|
  fg_oc (fX2_number a0 i2 i3 Gz1) fun zz7 Gz5 =>
  fg_th zz7 (fun qz8 => some (.inr qz8, Gz5)) fun xz6 =>
  some (.inl xz6, Gz5)
/-! java/lang/Long.longValue()J -/
noncomputable def fJ15_longValue (a0 : Nat) (G : fg_H) : Option (Int64 × fg_H) :=
  fg_ob (fg_gl G a0 [31] 0) fun yz1 =>
  some (yz1, G)
/-! FogNets$Ridge.find(J)I -/
noncomputable def fX3_find_2b (a0 : Nat) (l1 : Int64) (i3 : Int32) (G : fg_H) : Option ((Nat × Int64 × Int32 × fg_H) ⊕ (Int32 × fg_H)) :=
  fg_ob (fg_gr G a0 [3] 7) fun rz1 =>
  fg_ob rz1 fun az2 =>
  fg_gd (fg_rc G az2 30) <|
  fg_oc (fJ2_size az2 G) fun xz4 Gz3 =>
  if xz4 ≤ i3 then (fg_rt (some ((-1 : Int32), Gz3)))
  else (fg_ob (fg_gr Gz3 a0 [3] 7) fun rz6 =>
  fg_ob rz6 fun az7 =>
  fg_gd (fg_rc Gz3 az7 30) <|
  fg_oc (fJ2_get az7 i3 Gz3) fun rz9 Gz8 =>
  fg_gd (fg_ck Gz8 rz9 [31]) <|
  fg_ob rz9 fun az10 =>
  fg_gd (fg_rc Gz8 az10 31) <|
  fg_oc (fJ15_longValue az10 Gz8) fun yz12 Gz11 =>
  if (lg_cmp yz12 l1) = 0 then (fg_rt (some (i3, Gz11)))
  else (some (.inl (a0, l1, (i3 + (1 : Int32)), Gz11))))
noncomputable def fX3_find_2 (a0 : Nat) (l1 : Int64) (i3 : Int32) (G : fg_H) : Option (Int32 × fg_H) :=
  fg_lp (fun y : Nat × Int64 × Int32 × fg_H => fX3_find_2b y.1 y.2.1 y.2.2.1 y.2.2.2) (a0, l1, i3, G)
noncomputable def fX3_find (a0 : Nat) (l1 : Int64) (G : fg_H) : Option (Int32 × fg_H) :=
  fX3_find_2 a0 l1 (0 : Int32) G
/-! FogNets$Reader.net()V -/
noncomputable def fX2_net_104b (a0 : Nat) (i1 : Int32) (i2 : Int32) (i3 : Int32) (i4 : Int32) (G : fg_H) : Option ((Nat × Int32 × Int32 × Int32 × Int32 × fg_H) ⊕ ((Unit ⊕ Nat) × fg_H)) :=
  if i1 ≤ i4 then (fg_rt (fg_ob (fg_gr G a0 [2] 6) fun rz30 =>
  fg_ob rz30 fun az31 =>
  fg_ob (fg_gr G az31 [3] 11) fun rz32 =>
  fg_ob (fg_gr G a0 [2] 6) fun rz33 =>
  fg_ob rz33 fun az34 =>
  fg_ob (fg_gi G az34 [3] 1) fun xz35 =>
  fg_gd (fg_rc G a0 2) <|
  fg_oc (fX2_number a0 (0 : Int32) (xz35 - (1 : Int32)) G) fun zz38 Gz36 =>
  fg_th zz38 (fun qz39 => some (.inr qz39, Gz36)) fun xz37 =>
  fg_ob rz32 fun az40 =>
  fg_ob (fg_si Gz36 az40 0 i1 (((8 : Int32) * xz37) + i3)) fun Gz41 =>
  fg_ob (some (Gz41.1.2.2 21)) fun rz42 =>
  fg_gd (fg_rc Gz41 a0 2) <|
  fg_oc (fX2_number_2 a0 (some rz42) (0 : Int32) (10 : Int32) Gz41) fun zz45 Gz43 =>
  fg_th zz45 (fun qz46 => some (.inr qz46, Gz43)) fun xz44 =>
  fg_ob (fg_gr Gz43 a0 [2] 2) fun rz47 =>
  fg_gd (fg_rc Gz43 a0 2) <|
  fg_oc (fX2_which a0 rz47 Gz43) fun xz49 Gz48 =>
  if xz49 = (-1 : Int32) then (fg_gd (fg_rc Gz48 a0 2) <|
  fg_oc (fX2_wrong a0 (1 : Int32) Gz48) fun rz61 Gz60 =>
  fg_ob rz61 fun az62 =>
  fg_gd (fg_rc Gz60 az62 9) (some (.inr az62, Gz60)))
  else (fg_ob (fg_gi Gz48 a0 [2] 13) fun xz50 =>
  fg_ob (fg_pv Gz48 a0 [2] 13 (.int (xz50 + (1 : Int32)))) fun Gz51 =>
  fg_ob (fg_gr Gz51 a0 [2] 6) fun rz52 =>
  fg_ob rz52 fun az53 =>
  fg_ob (fg_gr Gz51 az53 [3] 10) fun rz54 =>
  fg_oc (fX1_net xz49 i2 xz44 Gz51) fun rz56 Gz55 =>
  fg_ob rz54 fun az57 =>
  fg_gd (fg_rc Gz55 az57 30) <|
  fg_oc (fJ2_add az57 rz56 Gz55) fun xz59 Gz58 =>
  some (.inl (), Gz58))))
  else (fg_ob (fg_gr G a0 [2] 10) fun rz63 =>
  fg_ob (fg_gi G a0 [2] 13) fun xz64 =>
  fg_ob rz63 fun az65 =>
  fg_ob (fg_ai G az65 0 xz64) fun xz66 =>
  if xz66 = (2 : Int32) then (fg_ob (fg_gr G a0 [2] 6) fun rz67 =>
  fg_ob rz67 fun az68 =>
  fg_ob (fg_gr G az68 [3] 11) fun rz69 =>
  fg_ob rz69 fun az70 =>
  fg_ob (fg_ai G az70 0 i4) fun xz71 =>
  if (xz71 - xz71 / (8 : Int32) * (8 : Int32)) = i3 then (fg_ob (fg_gr G a0 [2] 6) fun rz72 =>
  fg_ob rz72 fun az73 =>
  fg_ob (fg_gr G az73 [3] 11) fun rz74 =>
  fg_ob rz74 fun az75 =>
  fg_ob (fg_ai G az75 0 i4) fun xz76 =>
  fg_ob (fg_gr G a0 [2] 11) fun rz77 =>
  fg_ob (fg_gi G a0 [2] 13) fun xz78 =>
  fg_ob rz77 fun az79 =>
  fg_ob (fg_al G az79 xz78) fun yz80 =>
  if (lg_cmp ((xz76 / (8 : Int32))).toInt64 yz80) = 0 then (fg_rt (fg_gd (fg_rc G a0 2) <|
  fg_oc (fX2_wrong a0 (3 : Int32) G) fun rz83 Gz82 =>
  fg_ob rz83 fun az84 =>
  fg_gd (fg_rc Gz82 az84 9) (some (.inr az84, Gz82))))
  else (some (.inl (a0, i1, i2, i3, (i4 + (1 : Int32)), G))))
  else (some (.inl (a0, i1, i2, i3, (i4 + (1 : Int32)), G))))
  else (some (.inl (a0, i1, i2, i3, (i4 + (1 : Int32)), G))))
noncomputable def fX2_net_104 (a0 : Nat) (i1 : Int32) (i2 : Int32) (i3 : Int32) (i4 : Int32) (G : fg_H) : Option ((Unit ⊕ Nat) × fg_H) :=
  fg_lp (fun y : Nat × Int32 × Int32 × Int32 × Int32 × fg_H => fX2_net_104b y.1 y.2.1 y.2.2.1 y.2.2.2.1 y.2.2.2.2.1 y.2.2.2.2.2) (a0, i1, i2, i3, i4, G)
noncomputable def fX2_net (a0 : Nat) (G : fg_H) : Option ((Unit ⊕ Nat) × fg_H) :=
  fg_ob (fg_gr G a0 [2] 6) fun rz1 =>
  fg_ob rz1 fun az2 =>
  fg_ob (fg_gr G az2 [3] 10) fun rz3 =>
  fg_ob rz3 fun az4 =>
  fg_gd (fg_rc G az4 30) <|
  fg_oc (fJ2_size az4 G) fun xz6 Gz5 =>
  if xz6 = (12 : Int32) then (fg_gd (fg_rc Gz5 a0 2) <|
  fg_oc (fX2_wrong a0 (5 : Int32) Gz5) fun rz92 Gz91 =>
  fg_ob rz92 fun az93 =>
  fg_gd (fg_rc Gz91 az93 9) (some (.inr az93, Gz91)))
  else (fg_ob (fg_gi Gz5 a0 [2] 13) fun xz7 =>
  fg_ob (fg_pv Gz5 a0 [2] 13 (.int (xz7 + (1 : Int32)))) fun Gz8 =>
  fg_gd (fg_rc Gz8 a0 2) <|
  fg_oc (fX2_isName a0 Gz8) fun xz10 Gz9 =>
  if xz10 = 0 then (fg_gd (fg_rc Gz9 a0 2) <|
  fg_oc (fX2_wrong a0 (1 : Int32) Gz9) fun rz89 Gz88 =>
  fg_ob rz89 fun az90 =>
  fg_gd (fg_rc Gz88 az90 9) (some (.inr az90, Gz88)))
  else (fg_ob (fg_gr Gz9 a0 [2] 6) fun rz11 =>
  fg_ob (fg_gr Gz9 a0 [2] 11) fun rz12 =>
  fg_ob (fg_gi Gz9 a0 [2] 13) fun xz13 =>
  fg_ob rz12 fun az14 =>
  fg_ob (fg_al Gz9 az14 xz13) fun yz15 =>
  fg_ob rz11 fun az16 =>
  fg_gd (fg_rc Gz9 az16 3) <|
  fg_oc (fX3_find az16 yz15 Gz9) fun xz18 Gz17 =>
  if xz18 = (-1 : Int32) then (fg_gd (fg_rc Gz17 a0 2) <|
  fg_oc (fX2_wrong a0 (2 : Int32) Gz17) fun rz86 Gz85 =>
  fg_ob rz86 fun az87 =>
  fg_gd (fg_rc Gz85 az87 9) (some (.inr az87, Gz85)))
  else (fg_ob (fg_gi Gz17 a0 [2] 13) fun xz19 =>
  fg_ob (fg_pv Gz17 a0 [2] 13 (.int (xz19 + (1 : Int32)))) fun Gz20 =>
  fg_ob (some (Gz20.1.2.2 20)) fun rz21 =>
  fg_ob (fg_gr Gz20 a0 [2] 6) fun rz22 =>
  fg_ob rz22 fun az23 =>
  fg_ob (fg_gi Gz20 az23 [3] 0) fun xz24 =>
  fg_gd (fg_rc Gz20 a0 2) <|
  fg_oc (fX2_number_2 a0 (some rz21) (0 : Int32) (xz24 - (1 : Int32)) Gz20) fun zz27 Gz25 =>
  fg_th zz27 (fun qz28 => some (.inr qz28, Gz25)) fun xz26 =>
  fX2_net_104 a0 xz6 xz18 xz26 (0 : Int32) Gz25)))
/-! java/lang/Number.<init>()V -/
noncomputable def fJ14_init (a0 : Nat) (G : fg_H) : Option (Unit × fg_H) :=
  some ((), G)
/-! java/lang/Long.<init>(J)V -/
noncomputable def fJ15_init (a0 : Nat) (l1 : Int64) (G : fg_H) : Option (Unit × fg_H) :=
  fg_oc (fJ14_init a0 G) fun _ Gz1 =>
  fg_ob (fg_pv Gz1 a0 [31] 0 (.long l1)) fun Gz2 =>
  some ((), Gz2)
/-! java/lang/Long.valueOf(J)Ljava/lang/Long; -/
noncomputable def fJ15_valueOf_31 (l0 : Int64) (G : fg_H) : Option (Option Nat × fg_H) :=
  fg_oc (fg_new G 31 1 nw_J15) fun az1 Gz2 =>
  fg_oc (fJ15_init az1 l0 Gz2) fun _ Gz3 =>
  some ((some az1), Gz3)
noncomputable def fJ15_valueOf (l0 : Int64) (G : fg_H) : Option (Option Nat × fg_H) :=
  if (lg_cmp l0 (-128 : Int64)) < 0 then (fJ15_valueOf_31 l0 G)
  else (if 0 < (lg_cmp l0 (127 : Int64)) then (fJ15_valueOf_31 l0 G)
  else (fg_ob (fg_lc G ((l0).toInt32 + (128 : Int32))) fun az4 =>
  some ((some az4), G)))
/-! FogNets$Reader.village()V -/
noncomputable def fX2_village (a0 : Nat) (G : fg_H) : Option ((Unit ⊕ Nat) × fg_H) :=
  fg_ob (fg_gr G a0 [2] 6) fun rz1 =>
  fg_ob rz1 fun az2 =>
  fg_ob (fg_gr G az2 [3] 7) fun rz3 =>
  fg_ob rz3 fun az4 =>
  fg_gd (fg_rc G az4 30) <|
  fg_oc (fJ2_size az4 G) fun xz6 Gz5 =>
  if xz6 = (6 : Int32) then (fg_gd (fg_rc Gz5 a0 2) <|
  fg_oc (fX2_wrong a0 (5 : Int32) Gz5) fun rz60 Gz59 =>
  fg_ob rz60 fun az61 =>
  fg_gd (fg_rc Gz59 az61 9) (some (.inr az61, Gz59)))
  else (fg_ob (fg_gi Gz5 a0 [2] 13) fun xz7 =>
  fg_ob (fg_pv Gz5 a0 [2] 13 (.int (xz7 + (1 : Int32)))) fun Gz8 =>
  fg_gd (fg_rc Gz8 a0 2) <|
  fg_oc (fX2_isName a0 Gz8) fun xz10 Gz9 =>
  if xz10 = 0 then (fg_gd (fg_rc Gz9 a0 2) <|
  fg_oc (fX2_wrong a0 (1 : Int32) Gz9) fun rz57 Gz56 =>
  fg_ob rz57 fun az58 =>
  fg_gd (fg_rc Gz56 az58 9) (some (.inr az58, Gz56)))
  else (fg_ob (fg_gr Gz9 a0 [2] 6) fun rz11 =>
  fg_ob (fg_gr Gz9 a0 [2] 11) fun rz12 =>
  fg_ob (fg_gi Gz9 a0 [2] 13) fun xz13 =>
  fg_ob rz12 fun az14 =>
  fg_ob (fg_al Gz9 az14 xz13) fun yz15 =>
  fg_ob rz11 fun az16 =>
  fg_gd (fg_rc Gz9 az16 3) <|
  fg_oc (fX3_find az16 yz15 Gz9) fun xz18 Gz17 =>
  if xz18 = (-1 : Int32) then (fg_ob (fg_gr Gz17 a0 [2] 11) fun rz19 =>
  fg_ob (fg_gi Gz17 a0 [2] 13) fun xz20 =>
  fg_ob rz19 fun az21 =>
  fg_ob (fg_al Gz17 az21 xz20) fun yz22 =>
  fg_ob (fg_gi Gz17 a0 [2] 13) fun xz23 =>
  fg_ob (fg_pv Gz17 a0 [2] 13 (.int (xz23 + (1 : Int32)))) fun Gz24 =>
  fg_ob (fg_gr Gz24 a0 [2] 6) fun rz25 =>
  fg_ob rz25 fun az26 =>
  fg_ob (fg_gr Gz24 az26 [3] 8) fun rz27 =>
  fg_ob (some (Gz24.1.2.2 17)) fun rz28 =>
  fg_gd (fg_rc Gz24 a0 2) <|
  fg_oc (fX2_number_2 a0 (some rz28) (0 : Int32) (999 : Int32) Gz24) fun zz31 Gz29 =>
  fg_th zz31 (fun qz32 => some (.inr qz32, Gz29)) fun xz30 =>
  fg_ob rz27 fun az33 =>
  fg_ob (fg_si Gz29 az33 0 xz6 xz30) fun Gz34 =>
  fg_ob (fg_gr Gz34 a0 [2] 6) fun rz35 =>
  fg_ob rz35 fun az36 =>
  fg_ob (fg_gr Gz34 az36 [3] 9) fun rz37 =>
  fg_ob (some (Gz34.1.2.2 18)) fun rz38 =>
  fg_gd (fg_rc Gz34 a0 2) <|
  fg_oc (fX2_number_2 a0 (some rz38) (0 : Int32) (9999 : Int32) Gz34) fun zz41 Gz39 =>
  fg_th zz41 (fun qz42 => some (.inr qz42, Gz39)) fun xz40 =>
  fg_ob rz37 fun az43 =>
  fg_ob (fg_si Gz39 az43 0 xz6 xz40) fun Gz44 =>
  fg_ob (fg_gr Gz44 a0 [2] 6) fun rz45 =>
  fg_ob rz45 fun az46 =>
  fg_ob (fg_gr Gz44 az46 [3] 7) fun rz47 =>
  fg_oc (fJ15_valueOf yz22 Gz44) fun rz49 Gz48 =>
  fg_ob rz47 fun az50 =>
  fg_gd (fg_rc Gz48 az50 30) <|
  fg_oc (fJ2_add az50 rz49 Gz48) fun xz52 Gz51 =>
  some (.inl (), Gz51))
  else (fg_gd (fg_rc Gz17 a0 2) <|
  fg_oc (fX2_wrong a0 (3 : Int32) Gz17) fun rz54 Gz53 =>
  fg_ob rz54 fun az55 =>
  fg_gd (fg_rc Gz53 az55 9) (some (.inr az55, Gz53)))))
/-! FogNets$Reader.ridge()LFogNets$Ridge; -/
noncomputable def fX2_ridge_116 (a0 : Nat) (G : fg_H) : Option ((Nat × fg_H) ⊕ ((Option Nat ⊕ Nat) × fg_H)) :=
  fg_gd (fg_rc G a0 2) <|
  fg_oc (fX2_sign a0 (59 : Int32) G) fun zz34 Gz33 =>
  fg_th zz34 (fun qz35 => some (.inr (.inr qz35, Gz33))) fun uz36 =>
  some (.inl (a0, Gz33))
noncomputable def fX2_ridge_39b (a0 : Nat) (G : fg_H) : Option ((Nat × fg_H) ⊕ ((Option Nat ⊕ Nat) × fg_H)) :=
  fg_ob (fg_gr G a0 [2] 10) fun rz10 =>
  fg_ob (fg_gi G a0 [2] 13) fun xz11 =>
  fg_ob rz10 fun az12 =>
  fg_ob (fg_ai G az12 0 xz11) fun xz13 =>
  if xz13 = 0 then (fg_rt (fg_ob (fg_gr G a0 [2] 6) fun rz15 =>
  some (.inl rz15, G)))
  else (fg_ob (fg_gr G a0 [2] 3) fun rz16 =>
  fg_gd (fg_rc G a0 2) <|
  fg_oc (fX2_which a0 rz16 G) fun xz18 Gz17 =>
  if xz18 = (-1 : Int32) then (fg_ob (some (Gz17.1.2.2 16)) fun rz19 =>
  fg_gd (fg_rc Gz17 a0 2) <|
  fg_oc (fX2_isWord a0 (some rz19) Gz17) fun xz21 Gz20 =>
  if xz21 = 0 then (fg_ob (some (Gz20.1.2.2 19)) fun rz22 =>
  fg_gd (fg_rc Gz20 a0 2) <|
  fg_oc (fX2_isWord a0 (some rz22) Gz20) fun xz24 Gz23 =>
  if xz24 = 0 then (fg_rt (fg_gd (fg_rc Gz23 a0 2) <|
  fg_oc (fX2_wrong a0 (1 : Int32) Gz23) fun rz27 Gz26 =>
  fg_ob rz27 fun az28 =>
  fg_gd (fg_rc Gz26 az28 9) (some (.inr az28, Gz26))))
  else (fg_gd (fg_rc Gz23 a0 2) <|
  fg_oc (fX2_net a0 Gz23) fun zz30 Gz29 =>
  fg_th zz30 (fun qz31 => some (.inr (.inr qz31, Gz29))) fun uz32 =>
  fX2_ridge_116 a0 Gz29))
  else (fg_gd (fg_rc Gz20 a0 2) <|
  fg_oc (fX2_village a0 Gz20) fun zz38 Gz37 =>
  fg_th zz38 (fun qz39 => some (.inr (.inr qz39, Gz37))) fun uz40 =>
  fX2_ridge_116 a0 Gz37))
  else (fg_ob (fg_gr Gz17 a0 [2] 3) fun rz41 =>
  fg_gd (fg_rc Gz17 a0 2) <|
  fg_oc (fX2_which a0 rz41 Gz17) fun xz43 Gz42 =>
  fg_gd (fg_rc Gz42 a0 2) <|
  fg_oc (fX2_line a0 xz43 Gz42) fun zz45 Gz44 =>
  fg_th zz45 (fun qz46 => some (.inr (.inr qz46, Gz44))) fun uz47 =>
  fX2_ridge_116 a0 Gz44))
noncomputable def fX2_ridge_39 (a0 : Nat) (G : fg_H) : Option ((Option Nat ⊕ Nat) × fg_H) :=
  fg_lp (fun y : Nat × fg_H => fX2_ridge_39b y.1 y.2) (a0, G)
noncomputable def fX2_ridge_17b (a0 : Nat) (i1 : Int32) (G : fg_H) : Option ((Nat × Int32 × fg_H) ⊕ ((Option Nat ⊕ Nat) × fg_H)) :=
  fg_ob (fg_gr G a0 [2] 5) fun rz6 =>
  fg_ob rz6 fun az7 =>
  fg_ob (fg_ln G az7) fun xz8 =>
  if xz8 ≤ i1 then (fg_rt (fX2_ridge_39 a0 G))
  else (fg_ob (fg_gr G a0 [2] 5) fun rz48 =>
  fg_ob rz48 fun az49 =>
  fg_ob (fg_si G az49 2 i1 (vp_nar .boolean (0 : Int32))) fun Gz50 =>
  some (.inl (a0, (i1 + (1 : Int32)), Gz50)))
noncomputable def fX2_ridge_17 (a0 : Nat) (i1 : Int32) (G : fg_H) : Option ((Option Nat ⊕ Nat) × fg_H) :=
  fg_lp (fun y : Nat × Int32 × fg_H => fX2_ridge_17b y.1 y.2.1 y.2.2) (a0, i1, G)
noncomputable def fX2_ridge (a0 : Nat) (G : fg_H) : Option ((Option Nat ⊕ Nat) × fg_H) :=
  fg_gd (fg_rc G a0 2) <|
  fg_oc (fX2_cut a0 G) fun _ Gz1 =>
  fg_oc (fg_new Gz1 3 13 nw_X3) fun az2 Gz3 =>
  fg_oc (fX3_init az2 Gz3) fun _ Gz4 =>
  fg_ob (fg_pv Gz4 a0 [2] 6 (.ref az2)) fun Gz5 =>
  fX2_ridge_17 a0 (0 : Int32) Gz5
/-! FogNets$Tanks.begins(LFogNets$Ridge;)V -/
noncomputable def fX6_begins_17b (a0 : Nat) (i2 : Int32) (G : fg_H) : Option ((Nat × Int32 × fg_H) ⊕ (Unit × fg_H)) :=
  if (6 : Int32) ≤ i2 then (fg_rt (some ((), G)))
  else (fg_ob (fg_gr G a0 [6] 1) fun rz8 =>
  fg_ob rz8 fun az9 =>
  fg_ob (fg_si G az9 0 i2 (0 : Int32)) fun Gz10 =>
  some (.inl (a0, (i2 + (1 : Int32)), Gz10)))
noncomputable def fX6_begins_17 (a0 : Nat) (i2 : Int32) (G : fg_H) : Option (Unit × fg_H) :=
  fg_lp (fun y : Nat × Int32 × fg_H => fX6_begins_17b y.1 y.2.1 y.2.2) (a0, i2, G)
noncomputable def fX6_begins (a0 : Nat) (r1 : Option Nat) (G : fg_H) : Option (Unit × fg_H) :=
  fg_ob r1 fun az1 =>
  fg_ob (fg_gr G az1 [3] 9) fun rz2 =>
  fg_ob (fg_gr G a0 [6] 0) fun rz3 =>
  fg_ob rz3 fun az4 =>
  fg_ob rz2 fun az5 =>
  fg_ob (fg_cpi G az5 (0 : Int32) az4 (0 : Int32) (6 : Int32)) fun Gz6 =>
  fX6_begins_17 a0 (0 : Int32) Gz6

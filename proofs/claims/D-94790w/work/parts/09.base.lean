/-! fg: an abstract heap with a deterministic course, its operations, and the machine's rows over it -/
abbrev fg_E : Type := (Nat × vp_A) ⊕ (Nat × List Value)
/-- what stays all through a run: which cells may be written; static references; text constants -/
abbrev fg_V : Type := (Nat → Bool) × (Nat → Option Nat) × (Nat → Nat)
/-- the heap: (what stays, cells, size, cells left, slots left) -/
abbrev fg_H : Type := fg_V × (Nat → Option fg_E) × Nat × Nat × Nat
abbrev fg_D : Type := va_G × (Nat → ClassId)
def fg_ty (k : Nat) : FieldType := match k with
  | 0 => .int
  | 1 => .long
  | 2 => .boolean
  | 3 => .byte
  | 4 => .object "java/lang/Object"
  | 5 => .object "FogNets$Net"
  | 6 => .object "FogNets$Mark"
  | _ => .object "java/lang/String"
abbrev fg_tys (D : fg_D) : List (ClassId × FieldType) := [(D.2 0, fg_ty 0), (D.2 1, fg_ty 1), (D.2 2, fg_ty 2), (D.2 3, fg_ty 3), (D.2 4, fg_ty 4), (D.2 5, fg_ty 5), (D.2 6, fg_ty 6), (D.2 7, fg_ty 7)]
def fg_cl : List vw_C := [(RX1, TX1, 14), (RX1, TX1, 14), (RX2, TX2, 15), (RX3, TX3, 13), (RX4, TX4, 1), (RX5, TX5, 7), (RX6, TX6, 2), (RX7, TX7, 2), (RX8, TX8, 47), (RX9, TX9, 7), (RX1, TX1, 14), (RX11, TX11, 1), (RX12, TX12, 1), (RX13, TX13, 1), (RX14, TX14, 2), (RX1, TX1, 14), (RX16, TX16, 1), (RX17, TX17, 1), (RX18, TX18, 1), (RX19, TX19, 1), (RX20, TX20, 1), (RX21, TX21, 1), (RX22, TX22, 1), (RX23, TX23, 2), (RX24, TX24, 2), (RX25, TX25, 2), (RX26, TX26, 2), (RX27, TX27, 2), (RX28, TX28, 2), (RX29, TX29, 6), (RJ2, TJ2, 3), (RJ15, TJ15, 1), (RJ17, TJ17, 6)]
/-- the text constants: place, text, letters -/
def fg_txt (i : Nat) : (Nat × String) × List Nat := match i with
  | 0 => ((11, "hour"), [104, 111, 117, 114])
  | 1 => ((13, "night"), [110, 105, 103, 104, 116])
  | 2 => ((21, "line"), [108, 105, 110, 101])
  | 3 => ((23, "way"), [119, 97, 121])
  | 4 => ((28, "plain"), [112, 108, 97, 105, 110])
  | 5 => ((30, "shroud"), [115, 104, 114, 111, 117, 100])
  | 6 => ((32, "birds"), [98, 105, 114, 100, 115])
  | 7 => ((34, "torn"), [116, 111, 114, 110])
  | 8 => ((36, "spite"), [115, 112, 105, 116, 101])
  | 9 => ((38, "high"), [104, 105, 103, 104])
  | 10 => ((43, "field"), [102, 105, 101, 108, 100])
  | 11 => ((45, "hours"), [104, 111, 117, 114, 115])
  | 12 => ((47, "dew"), [100, 101, 119])
  | 13 => ((49, "turns"), [116, 117, 114, 110, 115])
  | 14 => ((51, "wind"), [119, 105, 110, 100])
  | 15 => ((53, "fog"), [102, 111, 103])
  | 16 => ((58, "village"), [118, 105, 108, 108, 97, 103, 101])
  | 17 => ((60, "thirst"), [116, 104, 105, 114, 115, 116])
  | 18 => ((62, "tank"), [116, 97, 110, 107])
  | 19 => ((64, "net"), [110, 101, 116])
  | 20 => ((66, "at"), [97, 116])
  | 21 => ((68, "mesh"), [109, 101, 115, 104])
  | 22 => ((70, "not"), [110, 111, 116])
  | 23 => ((72, "and"), [97, 110, 100])
  | 24 => ((74, "or"), [111, 114])
  | _ => ((133, "()<=+-*;"), [40, 41, 60, 61, 43, 45, 42, 59])
/-- nobody holds the lock of an exception -/
def fg_mo (ci a : Nat) (H : Heap) : Prop := (ci = 9 ∨ ci = 32) → ∀ cell : Cell, H[a]? = some cell → cell.monitor.owner = none ∧ cell.monitor.count = 0
def fg_at (D : fg_D) (V : fg_V) (a : Nat) (e : fg_E) (H : Heap) : Prop := match e with
  | .inl (k, x) => (k < 8 ∧ H[a]? = some (vp_cell (D.2 k) x)) ∨ (k = 9 ∧ ∃ i, i < 26 ∧ a = V.2.2 (26 + i) ∧ x = ((fg_txt i).2.length, .inl (fun j => Int32.ofNat ((fg_txt i).2.getD j 0))))
  | .inr o => ((o.1 < 33 ∧ fg_mo o.1 a H) ∧ ∃ r : vw_C, fg_cl[o.1]? = some r ∧ t_OB a (D.1.1 o.1) r.2.2 (D.1.2 o.1) H (vp_V o.2)) ∨ (o.1 = 33 ∧ ∃ i, i < 26 ∧ a = V.2.2 i ∧ o.2 = [.ref (V.2.2 (26 + i)), .int 0])
def fg_P (D : fg_D) (G : fg_H) (H : Heap) : Prop := (∀ (a : Nat) (e : fg_E), G.2.1 a = some e → fg_at D G.1 a e H) ∧ H.size = G.2.2.1
def fg_tot (H : Heap) : Nat := (H.toList.map (·.slots.size)).sum
def fg_R (N Z : Nat) (G : fg_H) (H : Heap) : Prop := G.2.2.1 + G.2.2.2.1 = N ∧ fg_tot H + G.2.2.2.2 = Z
abbrev fg_A (V : fg_V) : Nat → Prop := fun q => V.1 q = true
/-! operations -/
def fg_ob {α β : Type} (x : Option α) (f : α → Option β) : Option β := match x with
  | none => none
  | some a => f a
def fg_oc {α β : Type} (x : Option (α × fg_H)) (f : α → fg_H → Option β) : Option β := match x with
  | none => none
  | some a => f a.1 a.2
theorem fg_ob_some {α β : Type} {x : Option α} {f : α → Option β} {t : β} (h : fg_ob x f = some t) : ∃ a, x = some a ∧ f a = some t := by
  cases x with
  | none => cases h
  | some a => exact ⟨a, rfl, h⟩
theorem fg_oc_some {α β : Type} {x : Option (α × fg_H)} {f : α → fg_H → Option β} {t : β} (h : fg_oc x f = some t) : ∃ a G, x = some (a, G) ∧ f a G = some t := by
  cases x with
  | none => cases h
  | some a => exact ⟨a.1, a.2, rfl, h⟩
/-- a null test: a refers to nothing, or to a cell -/
def fg_on {α β : Type} (x : Option α) (n : β) (f : α → β) : β := match x with
  | none => n
  | some a => f a
def fg_itr {σ τ : Type} (f : σ → Option (σ ⊕ τ)) : Nat → σ → Option τ
  | 0, _ => none
  | n + 1, x => match f x with
    | none => none
    | some (.inl y) => fg_itr f n y
    | some (.inr t) => some t


noncomputable def fg_lp {σ τ : Type} (f : σ → Option (σ ⊕ τ)) (x : σ) : Option τ := fg_itr f (Classical.epsilon (fun n => (fg_itr f n x).isSome = true)) x
theorem fg_itr_mono {σ τ : Type} {f : σ → Option (σ ⊕ τ)} {t : τ} : ∀ {n : Nat} {x : σ}, fg_itr f n x = some t → ∀ k : Nat, fg_itr f (n + k) x = some t
  | 0, _, h, _ => by cases h
  | n + 1, x, h, k => by
    rw [show n + 1 + k = (n + k) + 1 by omega]
    unfold fg_itr at h ⊢
    cases hf : f x with
    | none => rw [hf] at h; cases h
    | some o =>
      rw [hf] at h
      cases o with
      | inl y => exact fg_itr_mono (n := n) h k
      | inr u => exact h
theorem fg_lp_of {σ τ : Type} {f : σ → Option (σ ⊕ τ)} {x : σ} {t : τ} {n : Nat} (h : fg_itr f n x = some t) : fg_lp f x = some t := by
  have hs : (fg_itr f (Classical.epsilon (fun n => (fg_itr f n x).isSome = true)) x).isSome = true := Classical.epsilon_spec (p := fun n => (fg_itr f n x).isSome = true) ⟨n, by rw [h]; rfl⟩
  unfold fg_lp
  obtain ⟨u, hu⟩ := Option.isSome_iff_exists.mp hs
  have h1 := fg_itr_mono h (Classical.epsilon (fun n => (fg_itr f n x).isSome = true))
  have h2 := fg_itr_mono hu n
  rw [Nat.add_comm] at h2
  rw [hu]
  exact h2.symm.trans h1
theorem fg_lp_to {σ τ : Type} {f : σ → Option (σ ⊕ τ)} {x : σ} {t : τ} (h : fg_lp f x = some t) : ∃ n, fg_itr f n x = some t := ⟨_, h⟩
theorem fg_lp_l {σ τ : Type} {f : σ → Option (σ ⊕ τ)} {x y : σ} (h : f x = some (.inl y)) : fg_lp f x = fg_lp f y := by
  cases hy : fg_lp f y with
  | some t =>
    obtain ⟨n, hn⟩ := fg_lp_to hy
    exact fg_lp_of (n := n + 1) (by unfold fg_itr; rw [h]; exact hn)
  | none =>
    cases hx : fg_lp f x with
    | none => rfl
    | some t =>
      obtain ⟨n, hn⟩ := fg_lp_to hx
      cases n with
      | zero => cases hn
      | succ n =>
        unfold fg_itr at hn
        rw [h] at hn
        rw [fg_lp_of hn] at hy
        cases hy
theorem fg_lp_r {σ τ : Type} {f : σ → Option (σ ⊕ τ)} {x : σ} {t : τ} (h : f x = some (.inr t)) : fg_lp f x = some t := fg_lp_of (n := 1) (by unfold fg_itr; rw [h])
theorem fg_lp_walk {σ τ : Type} {f : σ → Option (σ ⊕ τ)} {t : τ} {P : σ → Prop} (step : ∀ (x : σ) (o : σ ⊕ τ), f x = some o → (∀ y, o = .inl y → P y) → (∀ u, o = .inr u → u = t) → P x) : ∀ {x : σ}, fg_lp f x = some t → P x := by
  have key : ∀ (n : Nat) (x : σ), fg_itr f n x = some t → P x := by
    intro n
    induction n with
    | zero => intro x h; cases h
    | succ n ih =>
      intro x h
      unfold fg_itr at h
      cases hf : f x with
      | none => rw [hf] at h; cases h
      | some o =>
        rw [hf] at h
        refine step x o hf (fun y e => ?_) (fun u e => ?_)
        · rw [e] at h; exact ih y h
        · rw [e] at h; exact Option.some.inj h
  intro x h
  obtain ⟨n, hn⟩ := fg_lp_to h
  exact key n x hn
def fg_wr (G : fg_H) (a : Nat) (e : fg_E) : fg_H := (G.1, va_up G.2.1 a (some e), G.2.2)
def fg_bn (G : fg_H) (e : fg_E) (k : Nat) : fg_H := (G.1, va_up G.2.1 G.2.2.1 (some e), G.2.2.1 + 1, G.2.2.2.1 - 1, G.2.2.2.2 - k)
/-- a field: of an object of one of the kinds cs, by its place -/
def fg_gv (G : fg_H) (a : Nat) (cs : List Nat) (k : Nat) : Option Value := match G.2.1 a with
  | some (.inr o) => if cs.contains o.1 = true then o.2[k]? else none
  | _ => none
def fg_gi (G : fg_H) (a : Nat) (cs : List Nat) (k : Nat) : Option Int32 := match fg_gv G a cs k with
  | some (.int x) => some x
  | _ => none
def fg_gl (G : fg_H) (a : Nat) (cs : List Nat) (k : Nat) : Option Int64 := match fg_gv G a cs k with
  | some (.long x) => some x
  | _ => none
def fg_gr (G : fg_H) (a : Nat) (cs : List Nat) (k : Nat) : Option (Option Nat) := match fg_gv G a cs k with
  | some (.ref b) => some (some b)
  | some .null => some none
  | _ => none
def fg_pv (G : fg_H) (a : Nat) (cs : List Nat) (k : Nat) (v : Value) : Option fg_H := match G.2.1 a with
  | some (.inr o) => if cs.contains o.1 = true ∧ k < o.2.length ∧ G.1.1 a = true then some (fg_wr G a (.inr (o.1, o.2.set k v))) else none
  | _ => none
def fg_ai (G : fg_H) (a kd : Nat) (i : Int32) : Option Int32 := match G.2.1 a with
  | some (.inl (k, n, .inl f)) => if k = kd ∧ ¬ (i < 0 ∨ n ≤ i.toNatClampNeg) then some (f i.toNatClampNeg) else none
  | _ => none
def fg_al (G : fg_H) (a : Nat) (i : Int32) : Option Int64 := match G.2.1 a with
  | some (.inl (k, n, .inr (.inl f))) => if k = 1 ∧ ¬ (i < 0 ∨ n ≤ i.toNatClampNeg) then some (f i.toNatClampNeg) else none
  | _ => none
def fg_ar (G : fg_H) (a kd : Nat) (i : Int32) : Option (Option Nat) := match G.2.1 a with
  | some (.inl (k, n, .inr (.inr (.inr (.inr f))))) => if k = kd ∧ ¬ (i < 0 ∨ n ≤ i.toNatClampNeg) then some (f i.toNatClampNeg) else none
  | _ => none
def fg_si (G : fg_H) (a kd : Nat) (i x : Int32) : Option fg_H := match G.2.1 a with
  | some (.inl (k, n, .inl f)) => if k = kd ∧ ¬ (i < 0 ∨ n ≤ i.toNatClampNeg) ∧ G.1.1 a = true then some (fg_wr G a (.inl (k, n, .inl (upd f i.toNatClampNeg x)))) else none
  | _ => none
def fg_sl (G : fg_H) (a : Nat) (i : Int32) (x : Int64) : Option fg_H := match G.2.1 a with
  | some (.inl (k, n, .inr (.inl f))) => if k = 1 ∧ ¬ (i < 0 ∨ n ≤ i.toNatClampNeg) ∧ G.1.1 a = true then some (fg_wr G a (.inl (k, n, .inr (.inl (vp_updL f i.toNatClampNeg x))))) else none
  | _ => none
def fg_ln (G : fg_H) (a : Nat) : Option Int32 := match G.2.1 a with
  | some (.inl (k, x)) => if k < 8 ∨ k = 9 then some (Int32.ofNat x.1) else none
  | _ => none
def fg_new (G : fg_H) (ci N : Nat) (fs : List Value) : Option (Nat × fg_H) := if 1 ≤ G.2.2.2.1 ∧ N ≤ G.2.2.2.2 then some (G.2.2.1, fg_bn G (.inr (ci, fs)) N) else none
def fg_zero (kd : Nat) : (Nat → Int32) ⊕ (Nat → Int64) ⊕ (Nat → UInt32) ⊕ (Nat → UInt64) ⊕ (Nat → Option Nat) := match kd with
  | 0 => .inl fun _ => 0
  | 1 => .inr (.inl fun _ => 0)
  | 2 => .inl fun _ => 0
  | 3 => .inl fun _ => 0
  | _ => .inr (.inr (.inr (.inr fun _ => none)))
def fg_na (G : fg_H) (kd : Nat) (n : Int32) : Option (Nat × fg_H) := if ¬ n < 0 ∧ n.toNatClampNeg ≤ 65536 ∧ 1 ≤ G.2.2.2.1 ∧ n.toNatClampNeg ≤ G.2.2.2.2 then some (G.2.2.1, fg_bn G (.inl (kd, n.toNatClampNeg, fg_zero kd)) n.toNatClampNeg) else none
/-! the state of a walk -/
abbrev fg_O : Type := fg_D × fg_V × (Nat × Nat) × Program × Launch × Env × Room × State × MethodId × Array Value × List Frame × Method × Code × Bool × Outcome × fg_H
def fg_Q (D : fg_D) (N Z : Nat) (V : fg_V) (o0 : Outcome) (G0 : fg_H) : Array Value → State → Outcome → State → Prop := fun _ st o t => (o = o0 ∧ fg_P D G0 t.heap ∧ G0.1 = V ∧ fg_R N Z G0 t.heap) ∧ va_F (fg_A V) st t
def fg_nwk (w : Cond) : Bool := match w with
  | .castable _ _ => true
  | .fieldLinkNest _ _ _ _ _ _ => true
  | .methodLinkNest _ _ _ _ => true
  | .declares _ => true
  | _ => false
/-- static fields that stand all through a run -/
def fg_st (V : fg_V) : List (String × String × String × Value) := [("java/util/ArrayList", "EMPTY_ELEMENTDATA", "[Ljava/lang/Object;", va_rf (V.2.1 0)), ("java/util/ArrayList", "DEFAULTCAPACITY_EMPTY_ELEMENTDATA", "[Ljava/lang/Object;", va_rf (V.2.1 1)), ("java/lang/Long$LongCache", "cache", "[Ljava/lang/Long;", va_rf (V.2.1 2)), ("java/lang/Throwable", "UNASSIGNED_STACK", "[Ljava/lang/StackTraceElement;", va_rf (V.2.1 3)), ("java/lang/Throwable", "SUPPRESSED_SENTINEL", "Ljava/util/List;", va_rf (V.2.1 4)), ("jdk/internal/util/Preconditions", "SIOOBE_FORMATTER", "Ljava/util/function/BiFunction;", va_rf (V.2.1 5)), ("java/lang/String", "COMPACT_STRINGS", "Z", .int 1)]
def fg_KS (V : fg_V) (U : State) (H : Heap) : Prop := vk_S 26 ((List.range 26).map fun i => (fg_txt i).2.length) ((List.range 26).map fun i => (fg_txt i).2.map Int32.ofNat) V.2.2 (fun i => V.2.2 (26 + i)) (fg_A V) U H ∧ ∀ i, i < 26 → vk_R "FogNets$Reader" (fg_txt i).1.1 (fg_txt i).1.2 (V.2.2 i) U
def fg_K (D : fg_D) (V : fg_V) (U : State) : Prop := va_K D.1 fg_cl (fg_tys D) U ∧ (∀ w ∈ lw_tbl, fg_nwk w = true → va_Nw w U) ∧ (va_AO "java/lang/Object" U ∧ va_AO "FogNets$Net" U ∧ va_AO "FogNets$Mark" U ∧ va_AO "java/lang/String" U) ∧ (∀ q ∈ fg_st V, va_Z q.1 q.2.1 q.2.2.1 q.2.2.2 (fg_A V) U U.heap) ∧ fg_KS V U U.heap ∧ va_Mi "[Ljava/lang/Object;" (V.2.2 52) U ∧ (∃ t, V.2.1 2 = some t ∧ va_T (.object "java/lang/Long") t 256 (fun i => .ref (V.2.2 (100 + i))) (fg_A V) U U.heap) ∧ vy_L "java/lang/Throwable" "UNASSIGNED_STACK" "[Ljava/lang/StackTraceElement;" (fg_A V) U U.heap ∧ vy_L "java/lang/Throwable" "SUPPRESSED_SENTINEL" "Ljava/util/List;" (fg_A V) U U.heap
/-- what the method may come to by throwing q -/
def fg_QX (D : fg_D) (N Z : Nat) (V : fg_V) (o0 : Outcome) (G0 : fg_H) : Addr → String → State → State → Prop := fun q E st t => (o0 = .threw q ∧ fg_P D G0 t.heap ∧ G0.1 = V ∧ fg_R N Z G0 t.heap ∧ ∃ (ci : Nat) (fs : List Value), ci < 33 ∧ G0.2.1 q = some (.inr (ci, fs)) ∧ (fg_cl[ci]?).map (fun q => q.1) = some E) ∧ va_F (fg_A V) st t
def fg_EE (tw : Bool) (D : fg_D) (N Z : Nat) (V : fg_V) (o0 : Outcome) (G0 : fg_H) (below : List Frame) (args : Array Value) (s : State) (k n : Nat) : State → Prop := match tw with
  | false => MQ below (fg_Q D N Z V o0 G0) args s k n (fg_A V)
  | true => vy_MQ below (fg_Q D N Z V o0 G0) (fg_QX D N Z V o0 G0) args s k n (fg_A V)
def fg_X : fg_O → String → String → ByteArray → Nat → Option FieldType → Nat → Prop
  | (D, V, (N, Z), p, l, e, R, s, m, args, below, meth, c, tw, o0, G0), own, nm, cc, nL, ret, d => p.tables.exec = Jvm.exec ∧ c.code = cc ∧ c.maxLocals = nL ∧ s.vm.findClass own = some m.cls ∧ (∀ w ∈ lw_all, w.before args s = true) ∧ fg_K D V s ∧ (s.heap.size + R.cells = N ∧ fg_tot s.heap + R.slots = Z) ∧ meth.locks = false ∧ meth.sig.returnType = ret ∧ R.frames = d ∧ R.locals = 64 * d ∧ meth.name = nm ∧ l.stackTraces = false ∧ (tw = true → ∀ x ∈ c.exceptionTable.toList, False)
def fg_W : fg_O → fg_H → Nat → List (Nat × Value) → List Value → Prop
  | (D, V, (N, Z), p, l, e, R, s, m, args, below, meth, c, tw, o0, G0), G, pc, L, st => ∀ (H : Heap) (locs : List Loc) (ls : Array Slot), fg_P D G H → G.1 = V → fg_R N Z G H → va_S (fg_A V) s.heap H locs → lv_has ls c.maxLocals L → W p l e R s m args below meth c H locs R.cells R.slots (fg_EE tw D N Z V o0 G0 below args s R.cells R.slots) (F0 m pc ls st)
/-- the walk's end: what it came to -/
def fg_T (Ω : fg_O) (o : Outcome) (G : fg_H) : Prop := Ω.2.2.2.2.2.2.2.2.2.2.2.2.2.2 = (o, G)
section FGR
variable {Ω : fg_O} {own nm : String} {cc : ByteArray} {nL d : Nat} {ret : Option FieldType} {G : fg_H} {pc : Nat} {L L' : List (Nat × Value)} {st : List Value}
theorem fg_iconst (X : fg_X Ω own nm cc nL ret d) {n : Int} {v : Int32} (hd : decode cc pc = .ok (.iconst n, 1)) (hv : Int32.ofInt n = v)
    (k : fg_W Ω G (pc + 1) L (.int v :: st)) : fg_W Ω G pc L st := by
  obtain ⟨D, V, ⟨N, Z⟩, p, l, e, R, s, m, args, below, meth, c, tw, o0, G0⟩ := Ω
  obtain ⟨hx, hb, hml, hown, hts, hK, hN, hlk, hr, hfr, hlo, hnm, hst, htb⟩ := X
  intro H locs ls hP hV hR hS hl
  exact lv_iconst hx hb hd hv (k H locs ls hP hV hR hS hl)
theorem fg_bipush (X : fg_X Ω own nm cc nL ret d) {n : Int} {v : Int32} (hd : decode cc pc = .ok (.bipush n, 2)) (hv : (Int8.ofInt n).toInt32 = v)
    (k : fg_W Ω G (pc + 2) L (.int v :: st)) : fg_W Ω G pc L st := by
  obtain ⟨D, V, ⟨N, Z⟩, p, l, e, R, s, m, args, below, meth, c, tw, o0, G0⟩ := Ω
  obtain ⟨hx, hb, hml, hown, hts, hK, hN, hlk, hr, hfr, hlo, hnm, hst, htb⟩ := X
  intro H locs ls hP hV hR hS hl
  exact lv_bipush hx hb hd hv (k H locs ls hP hV hR hS hl)
theorem fg_sipush (X : fg_X Ω own nm cc nL ret d) {n : Int} {v : Int32} (hd : decode cc pc = .ok (.sipush n, 3)) (hv : (Int16.ofInt n).toInt32 = v)
    (k : fg_W Ω G (pc + 3) L (.int v :: st)) : fg_W Ω G pc L st := by
  obtain ⟨D, V, ⟨N, Z⟩, p, l, e, R, s, m, args, below, meth, c, tw, o0, G0⟩ := Ω
  obtain ⟨hx, hb, hml, hown, hts, hK, hN, hlk, hr, hfr, hlo, hnm, hst, htb⟩ := X
  intro H locs ls hP hV hR hS hl
  exact lv_sipush hx hb hd hv (k H locs ls hP hV hR hS hl)
theorem fg_lconst (X : fg_X Ω own nm cc nL ret d) {n : Fin 2} {v : Int64} (hd : decode cc pc = .ok (.lconst n, 1)) (hv : Int64.ofNat (n : Nat) = v)
    (k : fg_W Ω G (pc + 1) L (.long v :: st)) : fg_W Ω G pc L st := by
  obtain ⟨D, V, ⟨N, Z⟩, p, l, e, R, s, m, args, below, meth, c, tw, o0, G0⟩ := Ω
  obtain ⟨hx, hb, hml, hown, hts, hK, hN, hlk, hr, hfr, hlo, hnm, hst, htb⟩ := X
  intro H locs ls hP hV hR hS hl
  exact lv_lconst hx hb hd hv (k H locs ls hP hV hR hS hl)
theorem fg_anull (X : fg_X Ω own nm cc nL ret d) (hd : decode cc pc = .ok (.aconst_null, 1))
    (k : fg_W Ω G (pc + 1) L (va_rf none :: st)) : fg_W Ω G pc L st := by
  obtain ⟨D, V, ⟨N, Z⟩, p, l, e, R, s, m, args, below, meth, c, tw, o0, G0⟩ := Ω
  obtain ⟨hx, hb, hml, hown, hts, hK, hN, hlk, hr, hfr, hlo, hnm, hst, htb⟩ := X
  intro H locs ls hP hV hR hS hl
  exact lv_null hx hb hd (k H locs ls hP hV hR hS hl)
theorem fg_ldc (X : fg_X Ω own nm cc nL ret d) {i : Nat} {v : Int32} (q : Cond.constant own i v ∈ lw_all) (hd : decode cc pc = .ok (.ldc i, 2))
    (k : fg_W Ω G (pc + 2) L (.int v :: st)) : fg_W Ω G pc L st := by
  obtain ⟨D, V, ⟨N, Z⟩, p, l, e, R, s, m, args, below, meth, c, tw, o0, G0⟩ := Ω
  obtain ⟨hx, hb, hml, hown, hts, hK, hN, hlk, hr, hfr, hlo, hnm, hst, htb⟩ := X
  intro H locs ls hP hV hR hS hl
  exact lv_ldc hx hb hown (hts _ q) hd (k H locs ls hP hV hR hS hl)
theorem fg_ldcw (X : fg_X Ω own nm cc nL ret d) {i : Nat} {v : Int32} (q : Cond.constant own i v ∈ lw_all) (hd : decode cc pc = .ok (.ldc_w i, 3))
    (k : fg_W Ω G (pc + 3) L (.int v :: st)) : fg_W Ω G pc L st := by
  obtain ⟨D, V, ⟨N, Z⟩, p, l, e, R, s, m, args, below, meth, c, tw, o0, G0⟩ := Ω
  obtain ⟨hx, hb, hml, hown, hts, hK, hN, hlk, hr, hfr, hlo, hnm, hst, htb⟩ := X
  intro H locs ls hP hV hR hS hl
  exact lv_ldcw hx hb hown (hts _ q) hd (k H locs ls hP hV hR hS hl)
theorem fg_ldc2 (X : fg_X Ω own nm cc nL ret d) {i : Nat} {v : Int64} (q : Cond.constantLong own i v ∈ lw_all) (hd : decode cc pc = .ok (.ldc2_w i, 3))
    (k : fg_W Ω G (pc + 3) L (.long v :: st)) : fg_W Ω G pc L st := by
  obtain ⟨D, V, ⟨N, Z⟩, p, l, e, R, s, m, args, below, meth, c, tw, o0, G0⟩ := Ω
  obtain ⟨hx, hb, hml, hown, hts, hK, hN, hlk, hr, hfr, hlo, hnm, hst, htb⟩ := X
  intro H locs ls hP hV hR hS hl
  exact lv_ldc2 hx hb hown (hts _ q) hd (k H locs ls hP hV hR hS hl)
theorem fg_iload_n (X : fg_X Ω own nm cc nL ret d) {k0 : Fin 4} {i : Nat} {x : Int32} (hd : decode cc pc = .ok (.iload_n k0, 1)) (hi : (k0 : Nat) = i) (j : Nat) (hj : L[j]? = some (i, .int x))
    (k : fg_W Ω G (pc + 1) L (.int x :: st)) : fg_W Ω G pc L st := by
  obtain ⟨D, V, ⟨N, Z⟩, p, l, e, R, s, m, args, below, meth, c, tw, o0, G0⟩ := Ω
  obtain ⟨hx, hb, hml, hown, hts, hK, hN, hlk, hr, hfr, hlo, hnm, hst, htb⟩ := X
  intro H locs ls hP hV hR hS hl
  exact lv_iload_n hx hb hd hi (lv_at hl j hj) (k H locs ls hP hV hR hS hl)
theorem fg_iload (X : fg_X Ω own nm cc nL ret d) {i : Nat} {x : Int32} (hd : decode cc pc = .ok (.iload i, 2)) (j : Nat) (hj : L[j]? = some (i, .int x))
    (k : fg_W Ω G (pc + 2) L (.int x :: st)) : fg_W Ω G pc L st := by
  obtain ⟨D, V, ⟨N, Z⟩, p, l, e, R, s, m, args, below, meth, c, tw, o0, G0⟩ := Ω
  obtain ⟨hx, hb, hml, hown, hts, hK, hN, hlk, hr, hfr, hlo, hnm, hst, htb⟩ := X
  intro H locs ls hP hV hR hS hl
  exact lv_iload hx hb hd (lv_at hl j hj) (k H locs ls hP hV hR hS hl)
theorem fg_lload_n (X : fg_X Ω own nm cc nL ret d) {k0 : Fin 4} {i : Nat} {x : Int64} (hd : decode cc pc = .ok (.lload_n k0, 1)) (hi : (k0 : Nat) = i) (j : Nat) (hj : L[j]? = some (i, .long x))
    (k : fg_W Ω G (pc + 1) L (.long x :: st)) : fg_W Ω G pc L st := by
  obtain ⟨D, V, ⟨N, Z⟩, p, l, e, R, s, m, args, below, meth, c, tw, o0, G0⟩ := Ω
  obtain ⟨hx, hb, hml, hown, hts, hK, hN, hlk, hr, hfr, hlo, hnm, hst, htb⟩ := X
  intro H locs ls hP hV hR hS hl
  exact lv_lload_n hx hb hd hi (lv_at hl j hj) (k H locs ls hP hV hR hS hl)
theorem fg_lload (X : fg_X Ω own nm cc nL ret d) {i : Nat} {x : Int64} (hd : decode cc pc = .ok (.lload i, 2)) (j : Nat) (hj : L[j]? = some (i, .long x))
    (k : fg_W Ω G (pc + 2) L (.long x :: st)) : fg_W Ω G pc L st := by
  obtain ⟨D, V, ⟨N, Z⟩, p, l, e, R, s, m, args, below, meth, c, tw, o0, G0⟩ := Ω
  obtain ⟨hx, hb, hml, hown, hts, hK, hN, hlk, hr, hfr, hlo, hnm, hst, htb⟩ := X
  intro H locs ls hP hV hR hS hl
  exact lv_lload hx hb hd (lv_at hl j hj) (k H locs ls hP hV hR hS hl)
theorem fg_aload_n (X : fg_X Ω own nm cc nL ret d) {k0 : Fin 4} {i : Nat} {r : Option Nat} (hd : decode cc pc = .ok (.aload_n k0, 1)) (hi : (k0 : Nat) = i) (j : Nat) (hj : L[j]? = some (i, va_rf r))
    (k : fg_W Ω G (pc + 1) L (va_rf r :: st)) : fg_W Ω G pc L st := by
  obtain ⟨D, V, ⟨N, Z⟩, p, l, e, R, s, m, args, below, meth, c, tw, o0, G0⟩ := Ω
  obtain ⟨hx, hb, hml, hown, hts, hK, hN, hlk, hr, hfr, hlo, hnm, hst, htb⟩ := X
  intro H locs ls hP hV hR hS hl
  cases r with
  | none => exact lv_aload_nN hx hb hd hi (lv_at hl j hj) (k H locs ls hP hV hR hS hl)
  | some y => exact lv_aload_n hx hb hd hi (lv_at hl j hj) (k H locs ls hP hV hR hS hl)
theorem fg_aload (X : fg_X Ω own nm cc nL ret d) {i : Nat} {r : Option Nat} (hd : decode cc pc = .ok (.aload i, 2)) (j : Nat) (hj : L[j]? = some (i, va_rf r))
    (k : fg_W Ω G (pc + 2) L (va_rf r :: st)) : fg_W Ω G pc L st := by
  obtain ⟨D, V, ⟨N, Z⟩, p, l, e, R, s, m, args, below, meth, c, tw, o0, G0⟩ := Ω
  obtain ⟨hx, hb, hml, hown, hts, hK, hN, hlk, hr, hfr, hlo, hnm, hst, htb⟩ := X
  intro H locs ls hP hV hR hS hl
  cases r with
  | none => exact lv_aloadN hx hb hd (lv_at hl j hj) (k H locs ls hP hV hR hS hl)
  | some y => exact lv_aload hx hb hd (lv_at hl j hj) (k H locs ls hP hV hR hS hl)
theorem fg_istore_n (X : fg_X Ω own nm cc nL ret d) {k0 : Fin 4} {i : Nat} {x : Int32} (hd : decode cc pc = .ok (.istore_n k0, 1)) (hi : (k0 : Nat) = i) (hn : i < nL) (hL : (i, Value.int x) :: L.filter (fun q => !(q.1 == i) && !(q.1 + 1 == i && q.2.category == 2)) = L')
    (k : fg_W Ω G (pc + 1) L' st) : fg_W Ω G pc L (.int x :: st) := by
  obtain ⟨D, V, ⟨N, Z⟩, p, l, e, R, s, m, args, below, meth, c, tw, o0, G0⟩ := Ω
  obtain ⟨hx, hb, hml, hown, hts, hK, hN, hlk, hr, hfr, hlo, hnm, hst, htb⟩ := X
  intro H locs ls hP hV hR hS hl
  exact lv_istore_n hx hb hd hi (hml ▸ hl) hn hL (fun ls' hl' => k H locs ls' hP hV hR hS (hml ▸ hl'))
theorem fg_istore (X : fg_X Ω own nm cc nL ret d) {i : Nat} {x : Int32} (hd : decode cc pc = .ok (.istore i, 2)) (hn : i < nL) (hL : (i, Value.int x) :: L.filter (fun q => !(q.1 == i) && !(q.1 + 1 == i && q.2.category == 2)) = L')
    (k : fg_W Ω G (pc + 2) L' st) : fg_W Ω G pc L (.int x :: st) := by
  obtain ⟨D, V, ⟨N, Z⟩, p, l, e, R, s, m, args, below, meth, c, tw, o0, G0⟩ := Ω
  obtain ⟨hx, hb, hml, hown, hts, hK, hN, hlk, hr, hfr, hlo, hnm, hst, htb⟩ := X
  intro H locs ls hP hV hR hS hl
  exact lv_istore hx hb hd (hml ▸ hl) hn hL (fun ls' hl' => k H locs ls' hP hV hR hS (hml ▸ hl'))
theorem fg_lstore_n (X : fg_X Ω own nm cc nL ret d) {k0 : Fin 4} {i : Nat} {x : Int64} (hd : decode cc pc = .ok (.lstore_n k0, 1)) (hi : (k0 : Nat) = i) (hn : i + 1 < nL) (hL : (i, Value.long x) :: L.filter (fun q => !(q.1 == i) && (!(q.1 == i + 1) && !(q.1 + 1 == i && q.2.category == 2))) = L')
    (k : fg_W Ω G (pc + 1) L' st) : fg_W Ω G pc L (.long x :: st) := by
  obtain ⟨D, V, ⟨N, Z⟩, p, l, e, R, s, m, args, below, meth, c, tw, o0, G0⟩ := Ω
  obtain ⟨hx, hb, hml, hown, hts, hK, hN, hlk, hr, hfr, hlo, hnm, hst, htb⟩ := X
  intro H locs ls hP hV hR hS hl
  exact lv_lstore_n hx hb hd hi (hml ▸ hl) hn hL (fun ls' hl' => k H locs ls' hP hV hR hS (hml ▸ hl'))
theorem fg_lstore (X : fg_X Ω own nm cc nL ret d) {i : Nat} {x : Int64} (hd : decode cc pc = .ok (.lstore i, 2)) (hn : i + 1 < nL) (hL : (i, Value.long x) :: L.filter (fun q => !(q.1 == i) && (!(q.1 == i + 1) && !(q.1 + 1 == i && q.2.category == 2))) = L')
    (k : fg_W Ω G (pc + 2) L' st) : fg_W Ω G pc L (.long x :: st) := by
  obtain ⟨D, V, ⟨N, Z⟩, p, l, e, R, s, m, args, below, meth, c, tw, o0, G0⟩ := Ω
  obtain ⟨hx, hb, hml, hown, hts, hK, hN, hlk, hr, hfr, hlo, hnm, hst, htb⟩ := X
  intro H locs ls hP hV hR hS hl
  exact lv_lstore hx hb hd (hml ▸ hl) hn hL (fun ls' hl' => k H locs ls' hP hV hR hS (hml ▸ hl'))
theorem fg_astore_n (X : fg_X Ω own nm cc nL ret d) {k0 : Fin 4} {i : Nat} {r : Option Nat} (hd : decode cc pc = .ok (.astore_n k0, 1)) (hi : (k0 : Nat) = i) (hn : i < nL) (hL : (i, va_rf r) :: L.filter (fun q => !(q.1 == i) && !(q.1 + 1 == i && q.2.category == 2)) = L')
    (k : fg_W Ω G (pc + 1) L' st) : fg_W Ω G pc L (va_rf r :: st) := by
  obtain ⟨D, V, ⟨N, Z⟩, p, l, e, R, s, m, args, below, meth, c, tw, o0, G0⟩ := Ω
  obtain ⟨hx, hb, hml, hown, hts, hK, hN, hlk, hr, hfr, hlo, hnm, hst, htb⟩ := X
  intro H locs ls hP hV hR hS hl
  cases r with
  | none => exact lv_astore_nN hx hb hd hi (hml ▸ hl) hn hL (fun ls' hl' => k H locs ls' hP hV hR hS (hml ▸ hl'))
  | some y => exact lv_astore_n hx hb hd hi (hml ▸ hl) hn hL (fun ls' hl' => k H locs ls' hP hV hR hS (hml ▸ hl'))
theorem fg_astore (X : fg_X Ω own nm cc nL ret d) {i : Nat} {r : Option Nat} (hd : decode cc pc = .ok (.astore i, 2)) (hn : i < nL) (hL : (i, va_rf r) :: L.filter (fun q => !(q.1 == i) && !(q.1 + 1 == i && q.2.category == 2)) = L')
    (k : fg_W Ω G (pc + 2) L' st) : fg_W Ω G pc L (va_rf r :: st) := by
  obtain ⟨D, V, ⟨N, Z⟩, p, l, e, R, s, m, args, below, meth, c, tw, o0, G0⟩ := Ω
  obtain ⟨hx, hb, hml, hown, hts, hK, hN, hlk, hr, hfr, hlo, hnm, hst, htb⟩ := X
  intro H locs ls hP hV hR hS hl
  cases r with
  | none => exact lv_astoreN hx hb hd (hml ▸ hl) hn hL (fun ls' hl' => k H locs ls' hP hV hR hS (hml ▸ hl'))
  | some y => exact lv_astore hx hb hd (hml ▸ hl) hn hL (fun ls' hl' => k H locs ls' hP hV hR hS (hml ▸ hl'))
theorem fg_iinc (X : fg_X Ω own nm cc nL ret d) {i : Nat} {n : Int} {x v : Int32} (hd : decode cc pc = .ok (.iinc i n, 3)) (j : Nat) (hj : L[j]? = some (i, .int x)) (hv : x + Int32.ofInt n = v) (hn : i < nL) (hL : (i, Value.int v) :: L.filter (fun q => !(q.1 == i) && !(q.1 + 1 == i && q.2.category == 2)) = L')
    (k : fg_W Ω G (pc + 3) L' st) : fg_W Ω G pc L st := by
  obtain ⟨D, V, ⟨N, Z⟩, p, l, e, R, s, m, args, below, meth, c, tw, o0, G0⟩ := Ω
  obtain ⟨hx, hb, hml, hown, hts, hK, hN, hlk, hr, hfr, hlo, hnm, hst, htb⟩ := X
  intro H locs ls hP hV hR hS hl
  exact lv_iinc hx hb hd (hml ▸ hl) (k := j) hj hv hn hL (fun ls' hl' => k H locs ls' hP hV hR hS (hml ▸ hl'))
theorem fg_iadd (X : fg_X Ω own nm cc nL ret d) {x y : Int32} (hd : decode cc pc = .ok (.iadd, 1))
    (k : fg_W Ω G (pc + 1) L (.int (x + y) :: st)) : fg_W Ω G pc L (.int y :: .int x :: st) := by
  obtain ⟨D, V, ⟨N, Z⟩, p, l, e, R, s, m, args, below, meth, c, tw, o0, G0⟩ := Ω
  obtain ⟨hx, hb, hml, hown, hts, hK, hN, hlk, hr, hfr, hlo, hnm, hst, htb⟩ := X
  intro H locs ls hP hV hR hS hl
  exact lv_iadd hx hb hd (k H locs ls hP hV hR hS hl)
theorem fg_isub (X : fg_X Ω own nm cc nL ret d) {x y : Int32} (hd : decode cc pc = .ok (.isub, 1))
    (k : fg_W Ω G (pc + 1) L (.int (x - y) :: st)) : fg_W Ω G pc L (.int y :: .int x :: st) := by
  obtain ⟨D, V, ⟨N, Z⟩, p, l, e, R, s, m, args, below, meth, c, tw, o0, G0⟩ := Ω
  obtain ⟨hx, hb, hml, hown, hts, hK, hN, hlk, hr, hfr, hlo, hnm, hst, htb⟩ := X
  intro H locs ls hP hV hR hS hl
  exact lv_isub hx hb hd (k H locs ls hP hV hR hS hl)
theorem fg_imul (X : fg_X Ω own nm cc nL ret d) {x y : Int32} (hd : decode cc pc = .ok (.imul, 1))
    (k : fg_W Ω G (pc + 1) L (.int (x * y) :: st)) : fg_W Ω G pc L (.int y :: .int x :: st) := by
  obtain ⟨D, V, ⟨N, Z⟩, p, l, e, R, s, m, args, below, meth, c, tw, o0, G0⟩ := Ω
  obtain ⟨hx, hb, hml, hown, hts, hK, hN, hlk, hr, hfr, hlo, hnm, hst, htb⟩ := X
  intro H locs ls hP hV hR hS hl
  exact lv_imul hx hb hd (k H locs ls hP hV hR hS hl)
theorem fg_iand (X : fg_X Ω own nm cc nL ret d) {x y : Int32} (hd : decode cc pc = .ok (.iand, 1))
    (k : fg_W Ω G (pc + 1) L (.int (x &&& y) :: st)) : fg_W Ω G pc L (.int y :: .int x :: st) := by
  obtain ⟨D, V, ⟨N, Z⟩, p, l, e, R, s, m, args, below, meth, c, tw, o0, G0⟩ := Ω
  obtain ⟨hx, hb, hml, hown, hts, hK, hN, hlk, hr, hfr, hlo, hnm, hst, htb⟩ := X
  intro H locs ls hP hV hR hS hl
  exact lv_iand hx hb hd (k H locs ls hP hV hR hS hl)
theorem fg_ior (X : fg_X Ω own nm cc nL ret d) {x y : Int32} (hd : decode cc pc = .ok (.ior, 1))
    (k : fg_W Ω G (pc + 1) L (.int (x ||| y) :: st)) : fg_W Ω G pc L (.int y :: .int x :: st) := by
  obtain ⟨D, V, ⟨N, Z⟩, p, l, e, R, s, m, args, below, meth, c, tw, o0, G0⟩ := Ω
  obtain ⟨hx, hb, hml, hown, hts, hK, hN, hlk, hr, hfr, hlo, hnm, hst, htb⟩ := X
  intro H locs ls hP hV hR hS hl
  exact lv_ior hx hb hd (k H locs ls hP hV hR hS hl)
theorem fg_ixor (X : fg_X Ω own nm cc nL ret d) {x y : Int32} (hd : decode cc pc = .ok (.ixor, 1))
    (k : fg_W Ω G (pc + 1) L (.int (x ^^^ y) :: st)) : fg_W Ω G pc L (.int y :: .int x :: st) := by
  obtain ⟨D, V, ⟨N, Z⟩, p, l, e, R, s, m, args, below, meth, c, tw, o0, G0⟩ := Ω
  obtain ⟨hx, hb, hml, hown, hts, hK, hN, hlk, hr, hfr, hlo, hnm, hst, htb⟩ := X
  intro H locs ls hP hV hR hS hl
  exact lv_ixor hx hb hd (k H locs ls hP hV hR hS hl)
theorem fg_ishl (X : fg_X Ω own nm cc nL ret d) {x y : Int32} (hd : decode cc pc = .ok (.ishl, 1))
    (k : fg_W Ω G (pc + 1) L (.int (x <<< (y &&& 31)) :: st)) : fg_W Ω G pc L (.int y :: .int x :: st) := by
  obtain ⟨D, V, ⟨N, Z⟩, p, l, e, R, s, m, args, below, meth, c, tw, o0, G0⟩ := Ω
  obtain ⟨hx, hb, hml, hown, hts, hK, hN, hlk, hr, hfr, hlo, hnm, hst, htb⟩ := X
  intro H locs ls hP hV hR hS hl
  exact lv_ishl hx hb hd (k H locs ls hP hV hR hS hl)
theorem fg_ishr (X : fg_X Ω own nm cc nL ret d) {x y : Int32} (hd : decode cc pc = .ok (.ishr, 1))
    (k : fg_W Ω G (pc + 1) L (.int (x >>> (y &&& 31)) :: st)) : fg_W Ω G pc L (.int y :: .int x :: st) := by
  obtain ⟨D, V, ⟨N, Z⟩, p, l, e, R, s, m, args, below, meth, c, tw, o0, G0⟩ := Ω
  obtain ⟨hx, hb, hml, hown, hts, hK, hN, hlk, hr, hfr, hlo, hnm, hst, htb⟩ := X
  intro H locs ls hP hV hR hS hl
  exact lv_ishr hx hb hd (k H locs ls hP hV hR hS hl)
theorem fg_iushr (X : fg_X Ω own nm cc nL ret d) {x y : Int32} (hd : decode cc pc = .ok (.iushr, 1))
    (k : fg_W Ω G (pc + 1) L (.int ((x.toUInt32 >>> (y.toUInt32 &&& Int32.toUInt32 31)).toInt32) :: st)) : fg_W Ω G pc L (.int y :: .int x :: st) := by
  obtain ⟨D, V, ⟨N, Z⟩, p, l, e, R, s, m, args, below, meth, c, tw, o0, G0⟩ := Ω
  obtain ⟨hx, hb, hml, hown, hts, hK, hN, hlk, hr, hfr, hlo, hnm, hst, htb⟩ := X
  intro H locs ls hP hV hR hS hl
  exact lv_iushr hx hb hd rfl (k H locs ls hP hV hR hS hl)
theorem fg_idiv (X : fg_X Ω own nm cc nL ret d) {x y : Int32} (hd : decode cc pc = .ok (.idiv, 1)) (h0 : ¬ y = 0)
    (k : fg_W Ω G (pc + 1) L (.int (x / y) :: st)) : fg_W Ω G pc L (.int y :: .int x :: st) := by
  obtain ⟨D, V, ⟨N, Z⟩, p, l, e, R, s, m, args, below, meth, c, tw, o0, G0⟩ := Ω
  obtain ⟨hx, hb, hml, hown, hts, hK, hN, hlk, hr, hfr, hlo, hnm, hst, htb⟩ := X
  intro H locs ls hP hV hR hS hl
  exact lv_idiv hx hb hd h0 (k H locs ls hP hV hR hS hl)
theorem fg_irem (X : fg_X Ω own nm cc nL ret d) {x y : Int32} (hd : decode cc pc = .ok (.irem, 1)) (h0 : ¬ y = 0)
    (k : fg_W Ω G (pc + 1) L (.int (x - x / y * y) :: st)) : fg_W Ω G pc L (.int y :: .int x :: st) := by
  obtain ⟨D, V, ⟨N, Z⟩, p, l, e, R, s, m, args, below, meth, c, tw, o0, G0⟩ := Ω
  obtain ⟨hx, hb, hml, hown, hts, hK, hN, hlk, hr, hfr, hlo, hnm, hst, htb⟩ := X
  intro H locs ls hP hV hR hS hl
  exact lv_irem hx hb hd h0 (k H locs ls hP hV hR hS hl)
theorem fg_ineg (X : fg_X Ω own nm cc nL ret d) {x : Int32} (hd : decode cc pc = .ok (.ineg, 1))
    (k : fg_W Ω G (pc + 1) L (.int (-x) :: st)) : fg_W Ω G pc L (.int x :: st) := by
  obtain ⟨D, V, ⟨N, Z⟩, p, l, e, R, s, m, args, below, meth, c, tw, o0, G0⟩ := Ω
  obtain ⟨hx, hb, hml, hown, hts, hK, hN, hlk, hr, hfr, hlo, hnm, hst, htb⟩ := X
  intro H locs ls hP hV hR hS hl
  exact lv_ineg hx hb hd (k H locs ls hP hV hR hS hl)
theorem fg_ladd (X : fg_X Ω own nm cc nL ret d) {x y : Int64} (hd : decode cc pc = .ok (.ladd, 1))
    (k : fg_W Ω G (pc + 1) L (.long (x + y) :: st)) : fg_W Ω G pc L (.long y :: .long x :: st) := by
  obtain ⟨D, V, ⟨N, Z⟩, p, l, e, R, s, m, args, below, meth, c, tw, o0, G0⟩ := Ω
  obtain ⟨hx, hb, hml, hown, hts, hK, hN, hlk, hr, hfr, hlo, hnm, hst, htb⟩ := X
  intro H locs ls hP hV hR hS hl
  exact lv_ladd hx hb hd (k H locs ls hP hV hR hS hl)
theorem fg_lsub (X : fg_X Ω own nm cc nL ret d) {x y : Int64} (hd : decode cc pc = .ok (.lsub, 1))
    (k : fg_W Ω G (pc + 1) L (.long (x - y) :: st)) : fg_W Ω G pc L (.long y :: .long x :: st) := by
  obtain ⟨D, V, ⟨N, Z⟩, p, l, e, R, s, m, args, below, meth, c, tw, o0, G0⟩ := Ω
  obtain ⟨hx, hb, hml, hown, hts, hK, hN, hlk, hr, hfr, hlo, hnm, hst, htb⟩ := X
  intro H locs ls hP hV hR hS hl
  exact lv_lsub hx hb hd (k H locs ls hP hV hR hS hl)
theorem fg_lmul (X : fg_X Ω own nm cc nL ret d) {x y : Int64} (hd : decode cc pc = .ok (.lmul, 1))
    (k : fg_W Ω G (pc + 1) L (.long (x * y) :: st)) : fg_W Ω G pc L (.long y :: .long x :: st) := by
  obtain ⟨D, V, ⟨N, Z⟩, p, l, e, R, s, m, args, below, meth, c, tw, o0, G0⟩ := Ω
  obtain ⟨hx, hb, hml, hown, hts, hK, hN, hlk, hr, hfr, hlo, hnm, hst, htb⟩ := X
  intro H locs ls hP hV hR hS hl
  exact lv_lmul hx hb hd (k H locs ls hP hV hR hS hl)
theorem fg_land (X : fg_X Ω own nm cc nL ret d) {x y : Int64} (hd : decode cc pc = .ok (.land, 1))
    (k : fg_W Ω G (pc + 1) L (.long (x &&& y) :: st)) : fg_W Ω G pc L (.long y :: .long x :: st) := by
  obtain ⟨D, V, ⟨N, Z⟩, p, l, e, R, s, m, args, below, meth, c, tw, o0, G0⟩ := Ω
  obtain ⟨hx, hb, hml, hown, hts, hK, hN, hlk, hr, hfr, hlo, hnm, hst, htb⟩ := X
  intro H locs ls hP hV hR hS hl
  exact lv_land hx hb hd (k H locs ls hP hV hR hS hl)
theorem fg_lor (X : fg_X Ω own nm cc nL ret d) {x y : Int64} (hd : decode cc pc = .ok (.lor, 1))
    (k : fg_W Ω G (pc + 1) L (.long (x ||| y) :: st)) : fg_W Ω G pc L (.long y :: .long x :: st) := by
  obtain ⟨D, V, ⟨N, Z⟩, p, l, e, R, s, m, args, below, meth, c, tw, o0, G0⟩ := Ω
  obtain ⟨hx, hb, hml, hown, hts, hK, hN, hlk, hr, hfr, hlo, hnm, hst, htb⟩ := X
  intro H locs ls hP hV hR hS hl
  exact lv_lor hx hb hd (k H locs ls hP hV hR hS hl)
theorem fg_ldiv (X : fg_X Ω own nm cc nL ret d) {x y : Int64} (hd : decode cc pc = .ok (.ldiv, 1)) (h0 : ¬ y = 0)
    (k : fg_W Ω G (pc + 1) L (.long (x / y) :: st)) : fg_W Ω G pc L (.long y :: .long x :: st) := by
  obtain ⟨D, V, ⟨N, Z⟩, p, l, e, R, s, m, args, below, meth, c, tw, o0, G0⟩ := Ω
  obtain ⟨hx, hb, hml, hown, hts, hK, hN, hlk, hr, hfr, hlo, hnm, hst, htb⟩ := X
  intro H locs ls hP hV hR hS hl
  exact lv_ldiv hx hb hd h0 (k H locs ls hP hV hR hS hl)
theorem fg_lrem (X : fg_X Ω own nm cc nL ret d) {x y : Int64} (hd : decode cc pc = .ok (.lrem, 1)) (h0 : ¬ y = 0)
    (k : fg_W Ω G (pc + 1) L (.long (x - x / y * y) :: st)) : fg_W Ω G pc L (.long y :: .long x :: st) := by
  obtain ⟨D, V, ⟨N, Z⟩, p, l, e, R, s, m, args, below, meth, c, tw, o0, G0⟩ := Ω
  obtain ⟨hx, hb, hml, hown, hts, hK, hN, hlk, hr, hfr, hlo, hnm, hst, htb⟩ := X
  intro H locs ls hP hV hR hS hl
  exact lv_lrem hx hb hd h0 (k H locs ls hP hV hR hS hl)
theorem fg_lshl (X : fg_X Ω own nm cc nL ret d) {x : Int64} {y : Int32} (hd : decode cc pc = .ok (.lshl, 1))
    (k : fg_W Ω G (pc + 1) L (.long (x <<< (y.toInt64 &&& 63)) :: st)) : fg_W Ω G pc L (.int y :: .long x :: st) := by
  obtain ⟨D, V, ⟨N, Z⟩, p, l, e, R, s, m, args, below, meth, c, tw, o0, G0⟩ := Ω
  obtain ⟨hx, hb, hml, hown, hts, hK, hN, hlk, hr, hfr, hlo, hnm, hst, htb⟩ := X
  intro H locs ls hP hV hR hS hl
  exact lv_lshl hx hb hd rfl (k H locs ls hP hV hR hS hl)
theorem fg_lushr (X : fg_X Ω own nm cc nL ret d) {x : Int64} {y : Int32} (hd : decode cc pc = .ok (.lushr, 1))
    (k : fg_W Ω G (pc + 1) L (.long ((x.toUInt64 >>> (y.toInt64.toUInt64 &&& Int64.toUInt64 63)).toInt64) :: st)) : fg_W Ω G pc L (.int y :: .long x :: st) := by
  obtain ⟨D, V, ⟨N, Z⟩, p, l, e, R, s, m, args, below, meth, c, tw, o0, G0⟩ := Ω
  obtain ⟨hx, hb, hml, hown, hts, hK, hN, hlk, hr, hfr, hlo, hnm, hst, htb⟩ := X
  intro H locs ls hP hV hR hS hl
  exact lv_lushr hx hb hd rfl (k H locs ls hP hV hR hS hl)
theorem fg_lcmp (X : fg_X Ω own nm cc nL ret d) {x y : Int64} (hd : decode cc pc = .ok (.lcmp, 1))
    (k : fg_W Ω G (pc + 1) L (.int (lg_cmp x y) :: st)) : fg_W Ω G pc L (.long y :: .long x :: st) := by
  obtain ⟨D, V, ⟨N, Z⟩, p, l, e, R, s, m, args, below, meth, c, tw, o0, G0⟩ := Ω
  obtain ⟨hx, hb, hml, hown, hts, hK, hN, hlk, hr, hfr, hlo, hnm, hst, htb⟩ := X
  intro H locs ls hP hV hR hS hl
  exact W.lcmp hx hb hd (k H locs ls hP hV hR hS hl)
theorem fg_i2l (X : fg_X Ω own nm cc nL ret d) {x : Int32} (hd : decode cc pc = .ok (.i2l, 1))
    (k : fg_W Ω G (pc + 1) L (.long x.toInt64 :: st)) : fg_W Ω G pc L (.int x :: st) := by
  obtain ⟨D, V, ⟨N, Z⟩, p, l, e, R, s, m, args, below, meth, c, tw, o0, G0⟩ := Ω
  obtain ⟨hx, hb, hml, hown, hts, hK, hN, hlk, hr, hfr, hlo, hnm, hst, htb⟩ := X
  intro H locs ls hP hV hR hS hl
  exact lv_i2l hx hb hd rfl (k H locs ls hP hV hR hS hl)
theorem fg_l2i (X : fg_X Ω own nm cc nL ret d) {x : Int64} (hd : decode cc pc = .ok (.l2i, 1))
    (k : fg_W Ω G (pc + 1) L (.int x.toInt32 :: st)) : fg_W Ω G pc L (.long x :: st) := by
  obtain ⟨D, V, ⟨N, Z⟩, p, l, e, R, s, m, args, below, meth, c, tw, o0, G0⟩ := Ω
  obtain ⟨hx, hb, hml, hown, hts, hK, hN, hlk, hr, hfr, hlo, hnm, hst, htb⟩ := X
  intro H locs ls hP hV hR hS hl
  exact lv_l2i hx hb hd rfl (k H locs ls hP hV hR hS hl)
theorem fg_i2c (X : fg_X Ω own nm cc nL ret d) {x : Int32} (hd : decode cc pc = .ok (.i2c, 1))
    (k : fg_W Ω G (pc + 1) L (.int (x.toUInt32 % 65536).toInt32 :: st)) : fg_W Ω G pc L (.int x :: st) := by
  obtain ⟨D, V, ⟨N, Z⟩, p, l, e, R, s, m, args, below, meth, c, tw, o0, G0⟩ := Ω
  obtain ⟨hx, hb, hml, hown, hts, hK, hN, hlk, hr, hfr, hlo, hnm, hst, htb⟩ := X
  intro H locs ls hP hV hR hS hl
  exact lv_i2c hx hb hd rfl (k H locs ls hP hV hR hS hl)
theorem fg_pop (X : fg_X Ω own nm cc nL ret d) {v : Value} (hd : decode cc pc = .ok (.pop, 1)) (hc : v.category = 1)
    (k : fg_W Ω G (pc + 1) L st) : fg_W Ω G pc L (v :: st) := by
  obtain ⟨D, V, ⟨N, Z⟩, p, l, e, R, s, m, args, below, meth, c, tw, o0, G0⟩ := Ω
  obtain ⟨hx, hb, hml, hown, hts, hK, hN, hlk, hr, hfr, hlo, hnm, hst, htb⟩ := X
  intro H locs ls hP hV hR hS hl
  exact lv_pop hx hb hd hc (k H locs ls hP hV hR hS hl)
theorem fg_dup (X : fg_X Ω own nm cc nL ret d) {v : Value} (hd : decode cc pc = .ok (.dup, 1)) (hc : v.category = 1)
    (k : fg_W Ω G (pc + 1) L (v :: v :: st)) : fg_W Ω G pc L (v :: st) := by
  obtain ⟨D, V, ⟨N, Z⟩, p, l, e, R, s, m, args, below, meth, c, tw, o0, G0⟩ := Ω
  obtain ⟨hx, hb, hml, hown, hts, hK, hN, hlk, hr, hfr, hlo, hnm, hst, htb⟩ := X
  intro H locs ls hP hV hR hS hl
  exact lv_dup hx hb hd hc (k H locs ls hP hV hR hS hl)
theorem fg_dup2 (X : fg_X Ω own nm cc nL ret d) {v w : Value} (hd : decode cc pc = .ok (.dup2, 1)) (hc : v.category = 1) (hw : w.category = 1)
    (k : fg_W Ω G (pc + 1) L (v :: w :: v :: w :: st)) : fg_W Ω G pc L (v :: w :: st) := by
  obtain ⟨D, V, ⟨N, Z⟩, p, l, e, R, s, m, args, below, meth, c, tw, o0, G0⟩ := Ω
  obtain ⟨hx, hb, hml, hown, hts, hK, hN, hlk, hr, hfr, hlo, hnm, hst, htb⟩ := X
  intro H locs ls hP hV hR hS hl
  exact lv_dup2_11 hx hb hd hc hw (k H locs ls hP hV hR hS hl)
theorem fg_dup2l (X : fg_X Ω own nm cc nL ret d) {v : Value} (hd : decode cc pc = .ok (.dup2, 1)) (hc : v.category = 2)
    (k : fg_W Ω G (pc + 1) L (v :: v :: st)) : fg_W Ω G pc L (v :: st) := by
  obtain ⟨D, V, ⟨N, Z⟩, p, l, e, R, s, m, args, below, meth, c, tw, o0, G0⟩ := Ω
  obtain ⟨hx, hb, hml, hown, hts, hK, hN, hlk, hr, hfr, hlo, hnm, hst, htb⟩ := X
  intro H locs ls hP hV hR hS hl
  exact lv_dup2_2 hx hb hd hc (k H locs ls hP hV hR hS hl)
theorem fg_dup_x1 (X : fg_X Ω own nm cc nL ret d) {v w : Value} (hd : decode cc pc = .ok (.dup_x1, 1)) (hc : v.category = 1) (hw : w.category = 1)
    (k : fg_W Ω G (pc + 1) L (v :: w :: v :: st)) : fg_W Ω G pc L (v :: w :: st) := by
  obtain ⟨D, V, ⟨N, Z⟩, p, l, e, R, s, m, args, below, meth, c, tw, o0, G0⟩ := Ω
  obtain ⟨hx, hb, hml, hown, hts, hK, hN, hlk, hr, hfr, hlo, hnm, hst, htb⟩ := X
  intro H locs ls hP hV hR hS hl
  exact lv_dup_x1 hx hb hd hc hw (k H locs ls hP hV hR hS hl)
theorem fg_goto (X : fg_X Ω own nm cc nL ret d) {off : Int} {tgt : Nat} (hd : decode cc pc = .ok (.goto off, 3)) (ht : (pc : Int) + off = (tgt : Int))
    (k : fg_W Ω G tgt L st) : fg_W Ω G pc L st := by
  obtain ⟨D, V, ⟨N, Z⟩, p, l, e, R, s, m, args, below, meth, c, tw, o0, G0⟩ := Ω
  obtain ⟨hx, hb, hml, hown, hts, hK, hN, hlk, hr, hfr, hlo, hnm, hst, htb⟩ := X
  intro H locs ls hP hV hR hS hl
  exact lv_goto hx hb hd ht (k H locs ls hP hV hR hS hl)
theorem fg_if_eq (X : fg_X Ω own nm cc nL ret d) {x : Int32} {off : Int} {tgt : Nat} (hd : decode cc pc = .ok (.ifCond .eq off, 3)) (ht : (pc : Int) + off = (tgt : Int))
    (kt : x = 0 → fg_W Ω G tgt L st) (kf : ¬ x = 0 → fg_W Ω G (pc + 3) L st) : fg_W Ω G pc L (.int x :: st) := by
  obtain ⟨D, V, ⟨N, Z⟩, p, l, e, R, s, m, args, below, meth, c, tw, o0, G0⟩ := Ω
  obtain ⟨hx, hb, hml, hown, hts, hK, hN, hlk, hr, hfr, hlo, hnm, hst, htb⟩ := X
  intro H locs ls hP hV hR hS hl
  exact lv_if_eq hx hb hd ht (fun q => kt q H locs ls hP hV hR hS hl) (fun q => kf q H locs ls hP hV hR hS hl)
theorem fg_if_ne (X : fg_X Ω own nm cc nL ret d) {x : Int32} {off : Int} {tgt : Nat} (hd : decode cc pc = .ok (.ifCond .ne off, 3)) (ht : (pc : Int) + off = (tgt : Int))
    (kt : ¬ x = 0 → fg_W Ω G tgt L st) (kf : x = 0 → fg_W Ω G (pc + 3) L st) : fg_W Ω G pc L (.int x :: st) := by
  obtain ⟨D, V, ⟨N, Z⟩, p, l, e, R, s, m, args, below, meth, c, tw, o0, G0⟩ := Ω
  obtain ⟨hx, hb, hml, hown, hts, hK, hN, hlk, hr, hfr, hlo, hnm, hst, htb⟩ := X
  intro H locs ls hP hV hR hS hl
  exact lv_if_ne hx hb hd ht (fun q => kt q H locs ls hP hV hR hS hl) (fun q => kf q H locs ls hP hV hR hS hl)
theorem fg_if_lt (X : fg_X Ω own nm cc nL ret d) {x : Int32} {off : Int} {tgt : Nat} (hd : decode cc pc = .ok (.ifCond .lt off, 3)) (ht : (pc : Int) + off = (tgt : Int))
    (kt : x < 0 → fg_W Ω G tgt L st) (kf : ¬ x < 0 → fg_W Ω G (pc + 3) L st) : fg_W Ω G pc L (.int x :: st) := by
  obtain ⟨D, V, ⟨N, Z⟩, p, l, e, R, s, m, args, below, meth, c, tw, o0, G0⟩ := Ω
  obtain ⟨hx, hb, hml, hown, hts, hK, hN, hlk, hr, hfr, hlo, hnm, hst, htb⟩ := X
  intro H locs ls hP hV hR hS hl
  exact lv_if_lt hx hb hd ht (fun q => kt q H locs ls hP hV hR hS hl) (fun q => kf q H locs ls hP hV hR hS hl)
theorem fg_if_ge (X : fg_X Ω own nm cc nL ret d) {x : Int32} {off : Int} {tgt : Nat} (hd : decode cc pc = .ok (.ifCond .ge off, 3)) (ht : (pc : Int) + off = (tgt : Int))
    (kt : 0 ≤ x → fg_W Ω G tgt L st) (kf : ¬ 0 ≤ x → fg_W Ω G (pc + 3) L st) : fg_W Ω G pc L (.int x :: st) := by
  obtain ⟨D, V, ⟨N, Z⟩, p, l, e, R, s, m, args, below, meth, c, tw, o0, G0⟩ := Ω
  obtain ⟨hx, hb, hml, hown, hts, hK, hN, hlk, hr, hfr, hlo, hnm, hst, htb⟩ := X
  intro H locs ls hP hV hR hS hl
  exact lv_if_ge hx hb hd ht (fun q => kt q H locs ls hP hV hR hS hl) (fun q => kf q H locs ls hP hV hR hS hl)
theorem fg_if_gt (X : fg_X Ω own nm cc nL ret d) {x : Int32} {off : Int} {tgt : Nat} (hd : decode cc pc = .ok (.ifCond .gt off, 3)) (ht : (pc : Int) + off = (tgt : Int))
    (kt : 0 < x → fg_W Ω G tgt L st) (kf : ¬ 0 < x → fg_W Ω G (pc + 3) L st) : fg_W Ω G pc L (.int x :: st) := by
  obtain ⟨D, V, ⟨N, Z⟩, p, l, e, R, s, m, args, below, meth, c, tw, o0, G0⟩ := Ω
  obtain ⟨hx, hb, hml, hown, hts, hK, hN, hlk, hr, hfr, hlo, hnm, hst, htb⟩ := X
  intro H locs ls hP hV hR hS hl
  exact lv_if_gt hx hb hd ht (fun q => kt q H locs ls hP hV hR hS hl) (fun q => kf q H locs ls hP hV hR hS hl)
theorem fg_if_le (X : fg_X Ω own nm cc nL ret d) {x : Int32} {off : Int} {tgt : Nat} (hd : decode cc pc = .ok (.ifCond .le off, 3)) (ht : (pc : Int) + off = (tgt : Int))
    (kt : x ≤ 0 → fg_W Ω G tgt L st) (kf : ¬ x ≤ 0 → fg_W Ω G (pc + 3) L st) : fg_W Ω G pc L (.int x :: st) := by
  obtain ⟨D, V, ⟨N, Z⟩, p, l, e, R, s, m, args, below, meth, c, tw, o0, G0⟩ := Ω
  obtain ⟨hx, hb, hml, hown, hts, hK, hN, hlk, hr, hfr, hlo, hnm, hst, htb⟩ := X
  intro H locs ls hP hV hR hS hl
  exact lv_if_le hx hb hd ht (fun q => kt q H locs ls hP hV hR hS hl) (fun q => kf q H locs ls hP hV hR hS hl)
theorem fg_icmp_eq (X : fg_X Ω own nm cc nL ret d) {x y : Int32} {off : Int} {tgt : Nat} (hd : decode cc pc = .ok (.if_icmp .eq off, 3)) (ht : (pc : Int) + off = (tgt : Int))
    (kt : x = y → fg_W Ω G tgt L st) (kf : ¬ x = y → fg_W Ω G (pc + 3) L st) : fg_W Ω G pc L (.int y :: .int x :: st) := by
  obtain ⟨D, V, ⟨N, Z⟩, p, l, e, R, s, m, args, below, meth, c, tw, o0, G0⟩ := Ω
  obtain ⟨hx, hb, hml, hown, hts, hK, hN, hlk, hr, hfr, hlo, hnm, hst, htb⟩ := X
  intro H locs ls hP hV hR hS hl
  exact lv_icmp_eq hx hb hd ht (fun q => kt q H locs ls hP hV hR hS hl) (fun q => kf q H locs ls hP hV hR hS hl)
theorem fg_icmp_ne (X : fg_X Ω own nm cc nL ret d) {x y : Int32} {off : Int} {tgt : Nat} (hd : decode cc pc = .ok (.if_icmp .ne off, 3)) (ht : (pc : Int) + off = (tgt : Int))
    (kt : ¬ x = y → fg_W Ω G tgt L st) (kf : x = y → fg_W Ω G (pc + 3) L st) : fg_W Ω G pc L (.int y :: .int x :: st) := by
  obtain ⟨D, V, ⟨N, Z⟩, p, l, e, R, s, m, args, below, meth, c, tw, o0, G0⟩ := Ω
  obtain ⟨hx, hb, hml, hown, hts, hK, hN, hlk, hr, hfr, hlo, hnm, hst, htb⟩ := X
  intro H locs ls hP hV hR hS hl
  exact lv_icmp_ne hx hb hd ht (fun q => kt q H locs ls hP hV hR hS hl) (fun q => kf q H locs ls hP hV hR hS hl)
theorem fg_icmp_lt (X : fg_X Ω own nm cc nL ret d) {x y : Int32} {off : Int} {tgt : Nat} (hd : decode cc pc = .ok (.if_icmp .lt off, 3)) (ht : (pc : Int) + off = (tgt : Int))
    (kt : x < y → fg_W Ω G tgt L st) (kf : ¬ x < y → fg_W Ω G (pc + 3) L st) : fg_W Ω G pc L (.int y :: .int x :: st) := by
  obtain ⟨D, V, ⟨N, Z⟩, p, l, e, R, s, m, args, below, meth, c, tw, o0, G0⟩ := Ω
  obtain ⟨hx, hb, hml, hown, hts, hK, hN, hlk, hr, hfr, hlo, hnm, hst, htb⟩ := X
  intro H locs ls hP hV hR hS hl
  exact lv_icmp_lt hx hb hd ht (fun q => kt q H locs ls hP hV hR hS hl) (fun q => kf q H locs ls hP hV hR hS hl)
theorem fg_icmp_ge (X : fg_X Ω own nm cc nL ret d) {x y : Int32} {off : Int} {tgt : Nat} (hd : decode cc pc = .ok (.if_icmp .ge off, 3)) (ht : (pc : Int) + off = (tgt : Int))
    (kt : y ≤ x → fg_W Ω G tgt L st) (kf : ¬ y ≤ x → fg_W Ω G (pc + 3) L st) : fg_W Ω G pc L (.int y :: .int x :: st) := by
  obtain ⟨D, V, ⟨N, Z⟩, p, l, e, R, s, m, args, below, meth, c, tw, o0, G0⟩ := Ω
  obtain ⟨hx, hb, hml, hown, hts, hK, hN, hlk, hr, hfr, hlo, hnm, hst, htb⟩ := X
  intro H locs ls hP hV hR hS hl
  exact lv_icmp_ge hx hb hd ht (fun q => kt q H locs ls hP hV hR hS hl) (fun q => kf q H locs ls hP hV hR hS hl)
theorem fg_icmp_gt (X : fg_X Ω own nm cc nL ret d) {x y : Int32} {off : Int} {tgt : Nat} (hd : decode cc pc = .ok (.if_icmp .gt off, 3)) (ht : (pc : Int) + off = (tgt : Int))
    (kt : y < x → fg_W Ω G tgt L st) (kf : ¬ y < x → fg_W Ω G (pc + 3) L st) : fg_W Ω G pc L (.int y :: .int x :: st) := by
  obtain ⟨D, V, ⟨N, Z⟩, p, l, e, R, s, m, args, below, meth, c, tw, o0, G0⟩ := Ω
  obtain ⟨hx, hb, hml, hown, hts, hK, hN, hlk, hr, hfr, hlo, hnm, hst, htb⟩ := X
  intro H locs ls hP hV hR hS hl
  exact lv_icmp_gt hx hb hd ht (fun q => kt q H locs ls hP hV hR hS hl) (fun q => kf q H locs ls hP hV hR hS hl)
theorem fg_icmp_le (X : fg_X Ω own nm cc nL ret d) {x y : Int32} {off : Int} {tgt : Nat} (hd : decode cc pc = .ok (.if_icmp .le off, 3)) (ht : (pc : Int) + off = (tgt : Int))
    (kt : x ≤ y → fg_W Ω G tgt L st) (kf : ¬ x ≤ y → fg_W Ω G (pc + 3) L st) : fg_W Ω G pc L (.int y :: .int x :: st) := by
  obtain ⟨D, V, ⟨N, Z⟩, p, l, e, R, s, m, args, below, meth, c, tw, o0, G0⟩ := Ω
  obtain ⟨hx, hb, hml, hown, hts, hK, hN, hlk, hr, hfr, hlo, hnm, hst, htb⟩ := X
  intro H locs ls hP hV hR hS hl
  exact lv_icmp_le hx hb hd ht (fun q => kt q H locs ls hP hV hR hS hl) (fun q => kf q H locs ls hP hV hR hS hl)
theorem fg_ifnull (X : fg_X Ω own nm cc nL ret d) {r : Option Nat} {off : Int} {tgt : Nat} (hd : decode cc pc = .ok (.ifnull off, 3)) (ht : (pc : Int) + off = (tgt : Int))
    (kt : r = none → fg_W Ω G tgt L st) (kf : ∀ y, r = some y → fg_W Ω G (pc + 3) L st) : fg_W Ω G pc L (va_rf r :: st) := by
  obtain ⟨D, V, ⟨N, Z⟩, p, l, e, R, s, m, args, below, meth, c, tw, o0, G0⟩ := Ω
  obtain ⟨hx, hb, hml, hown, hts, hK, hN, hlk, hr, hfr, hlo, hnm, hst, htb⟩ := X
  intro H locs ls hP hV hR hS hl
  cases r with
  | none => exact lv_ifnullN hx hb hd ht (kt rfl H locs ls hP hV hR hS hl)
  | some y => exact lv_ifnull hx hb hd (kf y rfl H locs ls hP hV hR hS hl)
theorem fg_ifnonnull (X : fg_X Ω own nm cc nL ret d) {r : Option Nat} {off : Int} {tgt : Nat} (hd : decode cc pc = .ok (.ifnonnull off, 3)) (ht : (pc : Int) + off = (tgt : Int))
    (kt : ∀ y, r = some y → fg_W Ω G tgt L st) (kf : r = none → fg_W Ω G (pc + 3) L st) : fg_W Ω G pc L (va_rf r :: st) := by
  obtain ⟨D, V, ⟨N, Z⟩, p, l, e, R, s, m, args, below, meth, c, tw, o0, G0⟩ := Ω
  obtain ⟨hx, hb, hml, hown, hts, hK, hN, hlk, hr, hfr, hlo, hnm, hst, htb⟩ := X
  intro H locs ls hP hV hR hS hl
  cases r with
  | none => exact lv_ifnonnullN hx hb hd (kf rfl H locs ls hP hV hR hS hl)
  | some y => exact lv_ifnonnull hx hb hd ht (kt y rfl H locs ls hP hV hR hS hl)
theorem fg_sub (js : List Nat) (hL : lv_pick L js = L') (k : fg_W Ω G pc L' st) : fg_W Ω G pc L st := by
  obtain ⟨D, V, ⟨N, Z⟩, p, l, e, R, s, m, args, below, meth, c, tw, o0, G0⟩ := Ω
  intro H locs ls hP hV hR hS hl
  exact k H locs ls hP hV hR hS (lv_sub hl js hL)
/-- a table switch: into its place, or out -/
theorem fg_tableIn (X : fg_X Ω own nm cc nL ret d) {dflt lo hi : Int} {offs : Array Int} {len : Nat} {x : Int32} {off : Int} {tgt : Nat} (hd : decode cc pc = .ok (.tableswitch dflt lo hi offs, len)) (h1 : ¬ x.toInt < lo) (h2 : ¬ hi < x.toInt) (ho : offs[(x.toInt - lo).toNat]? = some off) (ht : (pc : Int) + off = (tgt : Int))
    (k : fg_W Ω G tgt L st) : fg_W Ω G pc L (.int x :: st) := by
  obtain ⟨D, V, ⟨N, Z⟩, p, l, e, R, s, m, args, below, meth, c, tw, o0, G0⟩ := Ω
  obtain ⟨hx, hb, hml, hown, hts, hK, hN, hlk, hr, hfr, hlo, hnm, hst, htb⟩ := X
  intro H locs ls hP hV hR hS hl
  exact lv_tableIn hx hb hd h1 h2 ho ht (k H locs ls hP hV hR hS hl)
theorem fg_tableOut (X : fg_X Ω own nm cc nL ret d) {dflt lo hi : Int} {offs : Array Int} {len : Nat} {x : Int32} {tgt : Nat} (hd : decode cc pc = .ok (.tableswitch dflt lo hi offs, len)) (h : x.toInt < lo ∨ hi < x.toInt) (ht : (pc : Int) + dflt = (tgt : Int))
    (k : fg_W Ω G tgt L st) : fg_W Ω G pc L (.int x :: st) := by
  obtain ⟨D, V, ⟨N, Z⟩, p, l, e, R, s, m, args, below, meth, c, tw, o0, G0⟩ := Ω
  obtain ⟨hx, hb, hml, hown, hts, hK, hN, hlk, hr, hfr, hlo, hnm, hst, htb⟩ := X
  intro H locs ls hP hV hR hS hl
  exact lv_tableOut hx hb hd h ht (k H locs ls hP hV hR hS hl)
end FGR

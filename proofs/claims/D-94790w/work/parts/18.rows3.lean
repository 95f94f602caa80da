/-! rows of calls on text constants, of the switch, of the plain constructors of exceptions -/
section FGV
variable {Ω : fg_O} {own nm : String} {cc : ByteArray} {nL d : Nat} {ret : Option FieldType} {G G' : fg_H} {pc a : Nat} {L L' : List (Nat × Value)} {st : List Value}
theorem fg_callVs (X : fg_X Ω own nm cc nL ret d) {y : MethodName} {code : ByteArray} {nL' d' n index : Nat} {ret' : Option FieldType} {As : List Value} {v : Option Value} {G1 : fg_H} {fs : List Value}
    (hM : fg_M Ω.2.2.2.2.1 Ω.1 y code nL' ret' d' (.ref a :: As) G (.returned v) G1) (q1 : Cond.methodLink own index y ∈ lw_all) (q2 : Cond.instanceMethod y ∈ lw_all) (q3 : Cond.selects y.cls y y ∈ lw_all) (q4 : Cond.initialized y.cls ∈ lw_all) (q5 : Cond.code y code nL' ret' ∈ lw_all)
    (hd : y.cls ≠ "java/lang/invoke/MethodHandle" ∧ y.cls ≠ "java/lang/invoke/VarHandle" ∧ (parseMethodDescriptor y.desc).map (fun d => d.parameters.length) = some n) (hcl : y.cls = "java/lang/String") (hob : G.2.1 a = some (.inr (33, fs)))
    (hdd : d' + 1 ≤ d ∧ nL' ≤ 45) (hn : As.length = n) {st0 : List Value} (hsk : st0 = As.reverse ++ .ref a :: st) (hW : (st.map fun v => v.category).sum ≤ 8) (hdg : decode cc pc = .ok (.invokevirtual index, 3))
    (kk : fg_W Ω G1 (pc + 3) L (v.toList ++ st)) : fg_W Ω G pc L st0 := by
  obtain ⟨D, V, ⟨N, Z⟩, p, l, e, R, s, m, args, below, meth, c, tw, o0, G0⟩ := Ω
  obtain ⟨hx, hb, hml, hown, hts, hK, hN, hlk, hr, hfr, hlo, hnm, hst, htb⟩ := X
  intro H locs ls hP hV hR hS hl
  have hM := hM hst N Z
  refine fg_alloc hN (by rw [hP.2]; exact hR.1) hR.2 fun c1 s1 e1 e2 => ?_
  have hrecv : ∃ cellB : Cell, H[a]? = some cellB ∧ cellB.vm.isStatics = false ∧ s.vm.findClass y.cls = some cellB.cls := by
    rcases hP.1 a _ hob with ⟨⟨h33, -⟩, -⟩ | ⟨-, i, hi, ha, ho2⟩
    · exact absurd h33 (by show ¬ 33 < 33; omega)
    rw [hV] at ha
    subst ha
    obtain ⟨cell, g1, g2, g3⟩ := vk_recv (A := fg_A V) hK.2.2.2.2.1.1 hi hS
    rw [hcl]
    exact ⟨cell, g1, g2, g3⟩
  have hcw := cwV (R := R) (C := y.cls) (rm := ({ frames := d', cells := G.2.2.2.1, slots := G.2.2.2.2, locals := 64 * d' } : Room)) (mc := G.2.2.2.1) (ms := G.2.2.2.2) n hts (lw_V q1 q2 q3 q4 q5) rfl rfl rfl ⟨rfl, hd⟩ ⟨by show d' + 1 ≤ R.frames; omega, by show 8 + (nL' + 11) + 64 * d' ≤ R.locals; omega⟩
  have hrun := va_runV (p := p) (e := e) (below := below) (meth := meth) (H := H) (locs := locs) (cells := c1) (slots := s1) (b := a) (As := As) (rest := st) (g := F0 m pc ls st0) ⟨hx, hb, hml, hown, hts⟩ hM hcw ⟨fg_blind, hrecv, fun U hU hW => ⟨rfl, by rw [hU]; exact hP, by rw [hU]; exact hR, by rw [hV]; exact hK.goes hS hU hW⟩⟩ rfl hn (hl.1.trans hml) hsk (by show 2 * 0 + _ ≤ 8; omega) hdg ⟨by omega, by omega⟩
  rw [hV] at hrun
  refine fg_after hrun hS fun H1 locs1 p1 p2 p3 p4 => ?_
  rw [e1, e2]
  exact kk H1 locs1 ls p1 p2 p3 p4 hl
theorem fg_getSr (X : fg_X Ω own nm cc nL ret d) {index : Nat} {r : Option Nat} (q : Cond.fieldLink own index "java/lang/String" "value" "[B" ∈ lw_all) (h : fg_gr G a [33] 0 = some r) (hd : decode cc pc = .ok (.getfield index, 3))
    (kk : fg_W Ω G (pc + 3) L (va_rf r :: st)) : fg_W Ω G pc L (.ref a :: st) := fg_getS X q (Or.inl ⟨rfl, rfl, rfl⟩) (fg_gr_get h) hd kk
theorem fg_getSi (X : fg_X Ω own nm cc nL ret d) {index : Nat} {x : Int32} (q : Cond.fieldLink own index "java/lang/String" "coder" "B" ∈ lw_all) (h : fg_gi G a [33] 1 = some x) (hd : decode cc pc = .ok (.getfield index, 3))
    (kk : fg_W Ω G (pc + 3) L (.int x :: st)) : fg_W Ω G pc L (.ref a :: st) := fg_getS X q (Or.inr ⟨rfl, rfl, rfl⟩) (fg_gi_get h) hd kk
theorem fg_swout (n : Nat) {x : Int32} {lo hi : Int} (hh : hi = lo + n - 1) (h : ∀ j : Nat, j < n → x.toInt ≠ lo + j) : x.toInt < lo ∨ hi < x.toInt := by
  by_cases h1 : x.toInt < lo
  · exact Or.inl h1
  · by_cases h2 : hi < x.toInt
    · exact Or.inr h2
    · exact absurd (by omega) (h (x.toInt - lo).toNat (by omega))
theorem fg_lt3 {j : Nat} (h : j < 3) : j = 0 ∨ j = 1 ∨ j = 2 := by omega
theorem fg_lt4 {j : Nat} (h : j < 4) : j = 0 ∨ j = 1 ∨ j = 2 ∨ j = 3 := by omega
theorem fg_lt5 {j : Nat} (h : j < 5) : j = 0 ∨ j = 1 ∨ j = 2 ∨ j = 3 ∨ j = 4 := by omega
theorem fg_lt6 {j : Nat} (h : j < 6) : j = 0 ∨ j = 1 ∨ j = 2 ∨ j = 3 ∨ j = 4 ∨ j = 5 := by omega
theorem fg_lt9 {j : Nat} (h : j < 9) : j = 0 ∨ j = 1 ∨ j = 2 ∨ j = 3 ∨ j = 4 ∨ j = 5 ∨ j = 6 ∨ j = 7 ∨ j = 8 := by omega
/-- what the plain constructor of an exception leaves -/
def fg_ct (G : fg_H) (a ci : Nat) : Option fg_H := match G.2.1 a with
  | some (.inr (c, fs)) => if c = ci ∧ fs[4]? = some .null ∧ fs.length = 7 - (c - 31) ∧ G.1.1 a = true then some (fg_wr G a (.inr (c, (((fs.set 0 (.ref a)).set 1 (va_rf (G.1.2.1 3))).set 2 (va_rf (G.1.2.1 4))).set 1 (va_rf (G.1.2.1 3))))) else none
  | _ => none
theorem fg_rfR (r : Option Nat) : (va_rf r).isRef = true := by cases r <;> rfl
set_option maxHeartbeats 2000000 in
theorem fg_ctorT (X : fg_X Ω own nm cc nL ret d) {ic ci Nf : Nat} {E C : String} {names : List String} {T0 : u_T} (hE : Bundle.fit E = true) (hnames : ∀ n ∈ names, Bundle.fit n = true)
    (hq : ∀ w ∈ Bundle.throwableAtoms ++ Bundle.chain0Atoms E names, w = Cond.laysStatic Bundle.tN "UNASSIGNED_STACK" Bundle.steD ∨ w = Cond.laysStatic Bundle.tN "SUPPRESSED_SENTINEL" Bundle.listD ∨ (w ∈ lw_tbl ∧ fg_nwk w = true) ∨ w ∈ lw_all)
    (h1 : Cond.methodLink own ic (Bundle.init0 E) ∈ lw_all) (h1b : Cond.instanceMethod (Bundle.init0 E) ∈ lw_all) (h1c : Cond.code (Bundle.init0 E) Bundle.five 1 none ∈ lw_all)
    (h2 : Cond.selects C Bundle.tFill0 Bundle.tFill0 ∈ lw_all) (h3 : Cond.selects C Bundle.tFill Bundle.tFill ∈ lw_all) (h4 : Cond.fieldLink Bundle.tN 198 Bundle.tN "backtrace" "Ljava/lang/Object;" ∈ lw_all) (h5 : Cond.lays Bundle.tN Bundle.tN "backtrace" "Ljava/lang/Object;" ∈ lw_all)
    (hcl : fg_cl[ci]? = some (C, T0, Nf)) (hN5 : 5 ≤ Nf) (hNl : Nf = 7 - (ci - 31)) (t0 : T0 0 = (Bundle.tN, "cause", "Ljava/lang/Throwable;", false)) (t1 : T0 1 = (Bundle.tN, "stackTrace", Bundle.steD, false)) (t2 : T0 2 = (Bundle.tN, "suppressedExceptions", Bundle.listD, false)) (t4 : T0 4 = (Bundle.tN, "backtrace", "Ljava/lang/Object;", false))
    (hci : ci = 9 ∨ ci = 32) (h : fg_ct G a ci = some G') (hdd : names.length + 4 ≤ d ∧ names.length ≤ 3) (hW : (st.map fun v => v.category).sum ≤ 8) (hd : decode cc pc = .ok (.invokespecial ic, 3))
    (kk : fg_W Ω G' (pc + 3) L st) : fg_W Ω G pc L (.ref a :: st) := by
  obtain ⟨D, V, ⟨N, Z⟩, p, l, e, R, s, m, args, below, meth, c, tw, o0, G0⟩ := Ω
  obtain ⟨hx, hb, hml, hown, hts, hK, hN, hlk, hr, hfr, hlo, hnm, hst, htb⟩ := X
  intro H locs ls hP hV hR hS hl
  unfold fg_ct at h
  split at h
  · rename_i ci' fs hob
    split at h
    · rename_i hc
      obtain ⟨rfl, hbt, hlen, hA⟩ := hc
      cases h
      rw [← hNl] at hlen
      obtain ⟨cell, q1, q2, q3, q4⟩ : t_OB a (D.1.1 ci') Nf (D.1.2 ci') H (vp_V fs) := by
        rcases hP.1 a _ hob with ⟨-, r, g1, g2⟩ | ⟨g1, -⟩
        · cases hcl.symm.trans g1
          exact g2
        · have g1 : ci' = 33 := g1
          omega
      obtain ⟨hm1, hm2⟩ : cell.monitor.owner = none ∧ cell.monitor.count = 0 := by
        rcases hP.1 a _ hob with ⟨g1, -⟩ | ⟨g1, -⟩
        · exact g1.2 hci cell q1
        · have g1 : ci' = 33 := g1
          omega
      have hin := fg_in_all _ (List.mem_of_getElem? hcl)
      obtain ⟨ty0, hty0⟩ := fg_ty_all _ (List.mem_of_getElem? hcl)
      have hnms := fg_nm_all _ (List.mem_of_getElem? hcl)
      have hap := va_apart (own := own) hts hin ty0 hty0 hnms hK.1 hcl
      obtain ⟨hSl, hfc, kC, hkC, hkind⟩ := hK.1.1 ci' _ hcl
      intro W hW0 X
      have howns : e.platform.frameOwnsMonitors = true := by rw [X.admits.platform]
      have hfin : e.platform.finalization = false := by rw [X.admits.platform]
      have hpl : e.platform.magicAccessors = ({} : Platform).magicAccessors := by rw [X.admits.platform]
      have htr : e.platform.stackTraces = false := (show e.platform.stackTraces = l.stackTraces by rw [X.admits.platform]).trans hst
      have hall : ∀ w ∈ Bundle.throwableAtoms ++ Bundle.chain0Atoms E names, w.before args s = true := by
        intro w hw
        rcases hq w hw with rfl | rfl | h | h
        · exact vy_L.word hK.2.2.2.2.2.2.2.1
        · exact vy_L.word hK.2.2.2.2.2.2.2.2
        · exact va_Nw.use (fg_nwk_on h.2) (hK.2.1 w h.1 h.2)
        · exact hts w h
      obtain ⟨T, Z0, L0, LZ, Y⟩ := ThrowableC.of_atoms (args := args) howns hfin hpl (fun x hx => hall x (List.mem_append.mpr (Or.inl hx)))
      obtain ⟨P1, Ps, hlenP, L1, hL, hP1m, hlink1, hlink⟩ := Bundle.chain0 (args := args) hpl Y.init0 names E hE hnames (fun x hx => hall x (List.mem_append.mpr (Or.inr hx)))
      have hsel0 : selectMethod e.platform s.vm cell.cls T.fill0 = .method T.fill0 := by
        obtain ⟨c2, r2, m2, g1, g2, g3, g4, -⟩ := Cond.selects_spec (hts _ h2)
        cases Option.some.inj (g1.symm.trans hfc)
        cases Option.some.inj (g2.symm.trans (State.methodFound?_of_named Y.fill0 (by decide)))
        cases Option.some.inj (g3.symm.trans Y.fill0)
        rw [Launch.admits_selectMethod X.admits, q2]; exact g4
      have hselF : selectMethod e.platform s.vm cell.cls T.fill = .method T.fill := by
        obtain ⟨c2, r2, m2, g1, g2, g3, g4, -⟩ := Cond.selects_spec (hts _ h3)
        cases Option.some.inj (g1.symm.trans hfc)
        cases Option.some.inj (g2.symm.trans (State.methodFound?_of_named Y.fill (by decide)))
        cases Option.some.inj (g3.symm.trans Y.fill)
        rw [Launch.admits_selectMethod X.admits, q2]; exact g4
      have slotOf : ∀ (k : Nat) (hk : k < Nf) {O f d2 : String} {fin : Bool} {cf kf fi : _} {fd : Field}, T0 k = (O, f, d2, fin) → s.fieldFound? O f d2 = some (cf, kf, fi, fd) → D.1.2 ci' k = fd.slot := by
        intro k hk O f d2 fin cf kf fi fd ht hf
        obtain ⟨cf', kf', fi', f', hi, hsl⟩ := hSl k hk
        dsimp only at hi
        rw [ht] at hi
        cases hf.symm.trans hi
        exact hsl.symm
      have b0 := slotOf 0 (by omega) t0 Y.cause
      have b1 := slotOf 1 (by omega) t1 Y.stack
      have b2 := slotOf 2 (by omega) t2 Y.supp
      obtain ⟨ci198, i198, fB, hk198, hg198, ha198, hsB, -, hnB, htB, hffB⟩ := Cond.ownField (t := .object "java/lang/Object") Y.found L0.cls (by decide +kernel) (hts _ h4) (hts _ h5) e.platform hpl
      have b4 := slotOf 4 (by omega) t4 hffB
      obtain ⟨cf3, kf3, fi3, f3, aS, cS, z1, z2, z3, z4, z5, z6, z7, z8⟩ := hK.2.2.2.1 _ (List.mem_of_getElem? (show (fg_st V)[3]? = some (Bundle.tN, "UNASSIGNED_STACK", Bundle.steD, va_rf (V.2.1 3)) from rfl))
      obtain ⟨cf5, kf5, fi5, f5, aS5, cS5, y1, y2, y3, y4, y5, y6, y7, y8⟩ := hK.2.2.2.1 _ (List.mem_of_getElem? (show (fg_st V)[4]? = some (Bundle.tN, "SUPPRESSED_SENTINEL", Bundle.listD, va_rf (V.2.1 4)) from rfl))
      cases Y.unassigned.symm.trans z1
      cases Y.sentinel.symm.trans y1
      cases L0.statics.symm.trans z4
      cases L0.statics.symm.trans y4
      cases z5.symm.trans y5
      have hcS : H[T.aS]? = some cS := (hS.2.1 T.aS (Array.getElem?_eq_some_iff.mp z5).1 z8).trans z5
      have hneS : T.aS ≠ a := fun q => z8 (by show V.1 T.aS = true; rw [q, ← hV]; exact hA)
      have hknownS : cS.vm ≠ .unknown := by
        intro hu
        rw [show cS.vm = .unknown from hu] at z6
        cases z6
      have takes : ∀ (k : Nat) (hk : k < Nf) {O f d2 : String} {cf kf fi : _} {fd : Field} {ty : FieldType} {v : Value}, T0 k = (O, f, d2, false) → s.fieldFound? O f d2 = some (cf, kf, fi, fd) → parseFieldDescriptor d2 = some ty → narrow ty v = v → fits ty v = true → Takes s cell fd v := by
        intro k hk O f d2 cf kf fi fd ty v ht hf hdp hn hv
        have hlay := hts _ (hin _ (u_in_lay hk))
        unfold u_lay at hlay
        rw [if_neg (by show ¬ ((T0 k).2.2.2 = true); rw [ht]; exact fun h => by cases h)] at hlay
        have hlay : (Cond.lays C O f d2).before args s = true := by
          have e0 := hlay
          dsimp only at e0
          rw [ht] at e0
          exact e0
        have h6 := u_fits hfc hkC hkind (Or.inl hlay) hf hdp hn hv
        refine ⟨by rw [← slotOf k hk ht hf]; exact k2_hasslot (q4 k hk), ?_⟩
        rw [q2, q3]
        exact h6.2
      have w0 : cell.slots[fB.slot]? = some .null := by
        rw [← b4, q4 4 (by omega)]
        show some (fs.getD 4 .null) = _
        rw [List.getD_eq_getElem?_getD, hbt]
        rfl
      have n4 : ∀ k, k < Nf → k ≠ 4 → fB.slot ≠ D.1.2 ci' k := fun k hk hne => by rw [← b4]; exact hap 4 k (by show 4 < Nf; omega) hk (Ne.symm hne)
      have n0 := n4 0 (by omega) (by decide); have n1 := n4 1 (by omega) (by decide); have n2 := n4 2 (by omega) (by decide)
      rw [b0] at n0; rw [b1] at n1; rw [b2] at n2
      let u0 : RefV := ⟨va_rf (V.2.1 3), fg_rfR _⟩
      let sen : RefV := ⟨va_rf (V.2.1 4), fg_rfR _⟩
      have hskip : SkipFacts T e.platform s (fun u => u) u0 ((preparedCellV T.toThrowableT cell a u0 sen).withEntry W.cur) :=
        ⟨{ ci198 := ci198, i198 := i198, fBack := fB }, ⟨hk198, hg198, ha198, hsB⟩, by
          show ((preparedCellV T.toThrowableT cell a u0 sen).withEntry W.cur).slots[fB.slot]? = some .null
          simpa [preparedCellV, Cell.setSlot, Cell.withEntry, Array.getElem?_setIfInBounds, n0, n1, n2, n0.symm, n1.symm, n2.symm] using w0, fun _ _ => rfl⟩
      have hcellW : W.heap[a]? = some cell := by rw [hW0]; exact q1
      obtain ⟨tm, methC, cdC, kC2, vm₁, hnC, -, -, -, -, -, -, -, hW₁, st1⟩ := Steps.initCold (tb := p.tables) (e := e) (below := below) (s := s) (U := W) X.here hx X.warmed hpl hown (t := Bundle.init0 E) rfl rfl (Bundle.fit_spec hE).2
        (hts _ h1) (hts _ h1b) (bytes := Bundle.five) (maxL := 1) (hts _ h1c)
        (f := F0 m pc ls (.ref a :: st)) rfl (a := a) (rest := st) rfl (by rw [hb]; exact hd)
      cases Option.some.inj (hnC.symm.trans hP1m)
      have X₁ := X.noted hW₁
      obtain ⟨vm₂, X₂, st2⟩ := X₁.ctorPlainOffV hx (g := { F0 m pc ls (.ref a :: st) with stack := st }) rfl hl.1 T L0 Z0 LZ (P1 :: Ps)
        (fun P hP => by rcases List.mem_cons.mp hP with rfl | hP; exact L1; exact hL P hP) ⟨hlink1, hlink⟩ (u0 := u0) (sen := sen) (self := a) (cell := cell) (cellS := cS)
        hcellW (fun k q => by rw [q3] at q; cases q) (by rw [q3]; simp) hm1 hm2 hsel0 hselF (show W.heap[T.aS]? = some cS by rw [hW0]; exact hcS) hneS hknownS z7 y7
        (takes (ty := .object "java/lang/Throwable") 0 (by omega) t0 Y.cause (by decide +kernel) rfl rfl) (takes (ty := .array (.object "java/lang/StackTraceElement")) 1 (by omega) t1 Y.stack (by decide +kernel) (fg_nrf _ (Or.inr ⟨_, rfl⟩)) (fg_frf _ (Or.inr ⟨_, rfl⟩))) (takes (ty := .object "java/util/List") 2 (by omega) t2 Y.supp (by decide +kernel) (fg_nrf _ (Or.inl ⟨_, rfl⟩)) (fg_frf _ (Or.inl ⟨_, rfl⟩))) Y.objLocals hskip htr [] (by rw [hb]; exact hd)
        (by simp only [List.length_cons, hlenP]; omega) (by simp only [List.length_cons, hlenP]; show 2 * 0 + _ + _ ≤ _; omega)
      have hlt : a < H.size := (Array.getElem?_eq_some_iff.mp q1).1
      generalize hce : (preparedCellV T.toThrowableT cell a u0 sen).setSlot T.fStack.slot u0.v = ce at X₂ st2
      have hheap : ((((W.setVm vm₁).setVm vm₂)).setCell a ce).heap = H.setIfInBounds a ce := by rw [← hW0]; rfl
      generalize hH1 : H.setIfInBounds a ce = H1 at hheap
      have w1 : H1[a]? = some ce := by rw [← hH1]; simp [Array.getElem?_setIfInBounds, hlt]
      have wz : H1.size = H.size := by rw [← hH1]; simp
      have wo : ∀ q : Nat, q ≠ a → H1[q]? = H[q]? := fun q hq => by rw [← hH1]; simp [Array.getElem?_setIfInBounds, Ne.symm hq]
      have hce1 : ce.cls = cell.cls ∧ ce.vm = cell.vm ∧ ce.monitor = cell.monitor ∧ ce.slots.size = cell.slots.size := by
        rw [← hce]
        refine ⟨rfl, rfl, rfl, ?_⟩
        simp [preparedCellV, Cell.setSlot]
      have k0 := t_set q4 hap (k := 0) (by omega) (.ref a)
      have k1 := t_set k0 hap (k := 1) (by omega) u0.v
      have k2 := t_set k1 hap (k := 2) (by omega) sen.v
      have k3 := t_set k2 hap (k := 1) (by omega) u0.v
      rw [b0, b1, b2] at k3
      have hobj : t_OB a (D.1.1 ci') Nf (D.1.2 ci') H1 (vp_V ((((fs.set 0 (.ref a)).set 1 (va_rf (V.2.1 3))).set 2 (va_rf (V.2.1 4))).set 1 (va_rf (V.2.1 3)))) := by
        refine t_OB.to ⟨ce, w1, by rw [hce1.1, q2], by rw [hce1.2.1, q3], ?_⟩ (V := updV (updV (updV (updV (vp_V fs) 0 (.ref a)) 1 u0.v) 2 sen.v) 1 u0.v) (fun j _ => ?_)
        · rw [← hce]; exact k3
        · have e1 : updV (vp_V fs) 0 (.ref a) = vp_V (fs.set 0 (.ref a)) := funext fun j => vp_updV_set (by omega) _ j
          have e2 : updV (vp_V (fs.set 0 (.ref a))) 1 u0.v = vp_V ((fs.set 0 (.ref a)).set 1 u0.v) := funext fun j => vp_updV_set (by simp; omega) _ j
          have e3 : updV (vp_V ((fs.set 0 (.ref a)).set 1 u0.v)) 2 sen.v = vp_V (((fs.set 0 (.ref a)).set 1 u0.v).set 2 sen.v) := funext fun j => vp_updV_set (by simp; omega) _ j
          rw [e1, e2, e3]
          exact vp_updV_set (by simp; omega) _ j
      have h33 : ci' < 33 := by omega
      obtain ⟨p1, p2, p3⟩ := fg_put (i := 0) (x := .inr (ci', (((fs.set 0 (.ref a)).set 1 (va_rf (G.1.2.1 3))).set 2 (va_rf (G.1.2.1 4))).set 1 (va_rf (G.1.2.1 3)))) hP hR (by rw [hV]; exact hS) wz wo q1 w1 hce1.2.2.2 (Or.inl ⟨⟨h33, fun _ c9 hc9 => by rw [w1] at hc9; cases hc9; rw [hce1.2.2.1]; exact ⟨hm1, hm2⟩⟩, _, hcl, by rw [hV]; exact hobj⟩) hA
      obtain ⟨t, a1, a2⟩ := kk H1 _ ls p1 hV p2 ⟨p3.1, by rw [← hV]; exact p3.2.1, fun q hq => by
          rcases List.mem_append.mp hq with h | h
          · exact hS.2.2 q h
          · simp only [List.mem_cons, List.not_mem_nil, or_false] at h
            rcases h with rfl | rfl | rfl | rfl <;> (show V.1 a = true; rw [← hV]; exact hA)⟩ hl _ hheap X₂
      exact ⟨t, st1 t (fun acts => by rw [doInvoke_state]; exact st2 t a1), a2⟩
    · cases h
  · cases h
set_option maxHeartbeats 2000000 in
theorem fg_ctq9 : ∀ w ∈ Bundle.throwableAtoms ++ Bundle.chain0Atoms "java/lang/Exception" [], w = Cond.laysStatic Bundle.tN "UNASSIGNED_STACK" Bundle.steD ∨ w = Cond.laysStatic Bundle.tN "SUPPRESSED_SENTINEL" Bundle.listD ∨ (w ∈ lw_tbl ∧ fg_nwk w = true) ∨ w ∈ lw_all := by
  intro w hw
  simp only [Bundle.throwableAtoms, Bundle.chain0Atoms, Bundle.passAtoms, List.cons_append, List.nil_append, List.mem_cons, List.not_mem_nil, or_false] at hw
  rcases hw with h | h | h | h | h | h | h | h | h | h | h | h | h | h | h | h | h | h | h | h | h | h | h | h | h | h | h | h | h <;> subst h <;> first | exact Or.inl rfl | exact Or.inr (Or.inl rfl) | exact Or.inr (Or.inr (Or.inl ⟨q665, rfl⟩)) | exact Or.inr (Or.inr (Or.inl ⟨q663, rfl⟩)) | exact Or.inr (Or.inr (Or.inl ⟨q1514, rfl⟩)) | exact Or.inr (Or.inr (Or.inr q111)) | exact Or.inr (Or.inr (Or.inr q680)) | exact Or.inr (Or.inr (Or.inr q689)) | exact Or.inr (Or.inr (Or.inr q692)) | exact Or.inr (Or.inr (Or.inr q695)) | exact Or.inr (Or.inr (Or.inr q697)) | exact Or.inr (Or.inr (Or.inr q681)) | exact Or.inr (Or.inr (Or.inr q682)) | exact Or.inr (Or.inr (Or.inr q148)) | exact Or.inr (Or.inr (Or.inr q149)) | exact Or.inr (Or.inr (Or.inr q683)) | exact Or.inr (Or.inr (Or.inr q688)) | exact Or.inr (Or.inr (Or.inr q693)) | exact Or.inr (Or.inr (Or.inr q708)) | exact Or.inr (Or.inr (Or.inr q670)) | exact Or.inr (Or.inr (Or.inr q709)) | exact Or.inr (Or.inr (Or.inr q672)) | exact Or.inr (Or.inr (Or.inr q710)) | exact Or.inr (Or.inr (Or.inr q674)) | exact Or.inr (Or.inr (Or.inr q684)) | exact Or.inr (Or.inr (Or.inr q686)) | exact Or.inr (Or.inr (Or.inr q676)) | exact Or.inr (Or.inr (Or.inr q702)) | exact Or.inr (Or.inr (Or.inr q703)) | exact Or.inr (Or.inr (Or.inr q704)) | exact Or.inr (Or.inr (Or.inr q1526)) | exact Or.inr (Or.inr (Or.inr q1527)) | exact Or.inr (Or.inr (Or.inr q1528)) | exact Or.inr (Or.inr (Or.inr q1523)) | exact Or.inr (Or.inr (Or.inr q1524)) | exact Or.inr (Or.inr (Or.inr q1525))
theorem fg_ctor9 (X : fg_X Ω own nm cc nL ret d) {ic : Nat} (h1 : Cond.methodLink own ic ⟨"java/lang/Exception", "<init>", "()V"⟩ ∈ lw_all) (h : fg_ct G a 9 = some G') (hdd : 4 ≤ d) (hW : (st.map fun v => v.category).sum ≤ 8) (hd : decode cc pc = .ok (.invokespecial ic, 3))
    (kk : fg_W Ω G' (pc + 3) L st) : fg_W Ω G pc L (.ref a :: st) :=
  fg_ctorT X (E := "java/lang/Exception") (C := "FogNets$Wrong") (names := []) (ci := 9) (T0 := TX9) (Nf := 7) (by decide +kernel) (by decide +kernel) fg_ctq9 h1 q702 q703 q667 q668 q679 q678 rfl (by decide) rfl rfl rfl rfl rfl (Or.inl rfl) h ⟨hdd, by decide⟩ hW hd kk
set_option maxHeartbeats 2000000 in
theorem fg_ctq32 : ∀ w ∈ Bundle.throwableAtoms ++ Bundle.chain0Atoms "java/util/NoSuchElementException" ["java/lang/RuntimeException", "java/lang/Exception"], w = Cond.laysStatic Bundle.tN "UNASSIGNED_STACK" Bundle.steD ∨ w = Cond.laysStatic Bundle.tN "SUPPRESSED_SENTINEL" Bundle.listD ∨ (w ∈ lw_tbl ∧ fg_nwk w = true) ∨ w ∈ lw_all := by
  intro w hw
  simp only [Bundle.throwableAtoms, Bundle.chain0Atoms, Bundle.passAtoms, List.cons_append, List.nil_append, List.mem_cons, List.not_mem_nil, or_false] at hw
  rcases hw with h | h | h | h | h | h | h | h | h | h | h | h | h | h | h | h | h | h | h | h | h | h | h | h | h | h | h | h | h | h | h | h | h | h | h | h | h | h | h <;> subst h <;> first | exact Or.inl rfl | exact Or.inr (Or.inl rfl) | exact Or.inr (Or.inr (Or.inl ⟨q665, rfl⟩)) | exact Or.inr (Or.inr (Or.inl ⟨q663, rfl⟩)) | exact Or.inr (Or.inr (Or.inl ⟨q1514, rfl⟩)) | exact Or.inr (Or.inr (Or.inr q111)) | exact Or.inr (Or.inr (Or.inr q680)) | exact Or.inr (Or.inr (Or.inr q689)) | exact Or.inr (Or.inr (Or.inr q692)) | exact Or.inr (Or.inr (Or.inr q695)) | exact Or.inr (Or.inr (Or.inr q697)) | exact Or.inr (Or.inr (Or.inr q681)) | exact Or.inr (Or.inr (Or.inr q682)) | exact Or.inr (Or.inr (Or.inr q148)) | exact Or.inr (Or.inr (Or.inr q149)) | exact Or.inr (Or.inr (Or.inr q683)) | exact Or.inr (Or.inr (Or.inr q688)) | exact Or.inr (Or.inr (Or.inr q693)) | exact Or.inr (Or.inr (Or.inr q708)) | exact Or.inr (Or.inr (Or.inr q670)) | exact Or.inr (Or.inr (Or.inr q709)) | exact Or.inr (Or.inr (Or.inr q672)) | exact Or.inr (Or.inr (Or.inr q710)) | exact Or.inr (Or.inr (Or.inr q674)) | exact Or.inr (Or.inr (Or.inr q684)) | exact Or.inr (Or.inr (Or.inr q686)) | exact Or.inr (Or.inr (Or.inr q676)) | exact Or.inr (Or.inr (Or.inr q702)) | exact Or.inr (Or.inr (Or.inr q703)) | exact Or.inr (Or.inr (Or.inr q704)) | exact Or.inr (Or.inr (Or.inr q1526)) | exact Or.inr (Or.inr (Or.inr q1527)) | exact Or.inr (Or.inr (Or.inr q1528)) | exact Or.inr (Or.inr (Or.inr q1523)) | exact Or.inr (Or.inr (Or.inr q1524)) | exact Or.inr (Or.inr (Or.inr q1525))
theorem fg_ctor32 (X : fg_X Ω own nm cc nL ret d) {ic : Nat} (h1 : Cond.methodLink own ic ⟨"java/util/NoSuchElementException", "<init>", "()V"⟩ ∈ lw_all) (h : fg_ct G a 32 = some G') (hdd : 6 ≤ d) (hW : (st.map fun v => v.category).sum ≤ 8) (hd : decode cc pc = .ok (.invokespecial ic, 3))
    (kk : fg_W Ω G' (pc + 3) L st) : fg_W Ω G pc L (.ref a :: st) :=
  fg_ctorT X (E := "java/util/NoSuchElementException") (C := "java/util/NoSuchElementException") (names := ["java/lang/RuntimeException", "java/lang/Exception"]) (ci := 32) (T0 := TJ17) (Nf := 6) (by decide +kernel) (by decide +kernel) fg_ctq32 h1 q1523 q1524 q1516 q691 q679 q678 rfl (by decide) rfl rfl rfl rfl rfl (Or.inr rfl) h ⟨hdd, by decide⟩ hW hd kk
end FGV

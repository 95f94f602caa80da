/-! allocation, the ends of a method, calls -/
/-- the contract of a method: from the heap G it comes to the outcome o0 and the heap G0 -/
def fg_M (l : Launch) (D : fg_D) (y : MethodName) (code : ByteArray) (nL : Nat) (ret : Option FieldType) (d : Nat) (As : List Value) (G : fg_H) (o0 : Outcome) (G0 : fg_H) : Prop :=
  l.stackTraces = false → ∀ N Z : Nat, Met l y (ws_ y code nL ret) ({ frames := d, cells := G.2.2.2.1, slots := G.2.2.2.2, locals := 64 * d } : Room) (va_Pc As (fun U => fg_P D G U.heap ∧ fg_R N Z G U.heap ∧ fg_K D G.1 U)) (fg_Q D N Z G.1 o0 G0) G.2.2.2.1 G.2.2.2.2 (fg_A G.1)
theorem fg_ofWF {l : Launch} {y : MethodName} {ws ws' : List Cond} {rm : Room} {Pc : Array Value → State → Prop} {Qc : Array Value → State → Outcome → State → Prop} {mc ms : Nat} {free : Addr → Prop} {cc : ByteArray} {maxL : Nat} {ret : Option FieldType}
    (hy : plainFor y = true) (hw : ws = Cond.code y cc maxL ret :: ws')
    (body : ∀ p e s m args below meth c s₁, BodyLoose p l y (headSpec ws rm) cc maxL ret e s m args below meth c s₁ → c.maxLocals = maxL → Pc args s →
      W p l e (headSpec ws rm).room s m args below meth c s.heap [] 0 0 (MQ below Qc args s mc ms free) (entryFrame m args maxL)) : Met l y ws rm Pc Qc mc ms free := by
  refine MetFree.of_bodySF (code := cc) (maxLocals := maxL) (ret := ret) hy ?_ ?_
  · intro args s m h hn
    obtain ⟨meth, c, h1, h2, h3, h4, h5, h6, -, -⟩ := Cond.code_spec hn (atoms_spec (ws := ws) h _ (by rw [hw]; exact List.mem_cons_self))
    exact ⟨meth, c, h1, h2, h3, h4, h5, h6⟩
  · intro p e s m args below meth c s₁ B hml hP _
    have hh0 : s₁.heap = s.heap := by rw [B.state]; rfl
    obtain ⟨t, a1, o, b1, b2, b3⟩ := body p e s m args below meth c s₁ B hml hP s₁ hh0 (Stand.of_body B)
    exact ⟨t, o, a1, b1, b2, ⟨b3.1, b3.2⟩⟩
theorem fg_Mof {l : Launch} {D : fg_D} {y : MethodName} {own nm : String} {code : ByteArray} {nL : Nat} {ret : Option FieldType} {d : Nat} {As : List Value} {G : fg_H} {o0 : Outcome} {G0 : fg_H} {L : List (Nat × Value)} (hy : plainFor y = true) (hown : y.cls = own) (hnm : y.name = nm) (hL : lv_args 0 As = L) (hfit : (lg_sl As).length ≤ nL)
    (body : ∀ Ω : fg_O, Ω.1 = D → Ω.2.2.2.2.1 = l → fg_X Ω own nm code nL ret d → fg_T Ω o0 G0 → fg_W Ω G 0 L []) : fg_M l D y code nL ret d As G o0 G0 := by
  intro hst N Z
  refine fg_ofWF (cc := code) (maxL := nL) (ret := ret) hy rfl ?_
  intro p e s m args below meth c s₁ B hml hv
  obtain ⟨rfl, hP, hR, hK⟩ := hv
  have hts := atoms_spec (ws := ws_ y code nL ret) B.pre
  have hts : ∀ w ∈ lw_all, w.before _ s = true := fun w h => hts w (List.mem_cons_of_mem _ h)
  have hl := lv_entry As (n := nL) hfit
  rw [lg_entry_eq]
  rw [hL] at hl
  have hN : s.heap.size + G.2.2.2.1 = N := by rw [hP.2]; exact hR.1
  refine W.widen (k := G.2.2.2.1) (n := G.2.2.2.2) (Nat.zero_le _) (Nat.zero_le _) ?_
  refine body (D, G.1, (N, Z), p, l, e, ({ frames := d, cells := G.2.2.2.1, slots := G.2.2.2.2, locals := 64 * d } : Room), s, m, As.toArray, below, meth, c, false, o0, G0) rfl rfl ⟨B.exec, B.bytes, hml, ?_, hts, hK, ⟨hN, hR.2⟩, B.notSynchronized, B.returns, rfl, rfl, ?_, hst, fun h => by cases h⟩ rfl s.heap [] _ hP rfl hR va_S.rf ?_
  · rw [← hown]; exact findClass_of_methodNamed B.named
  · rw [← hnm]; exact (name_of_methodNamed B.named B.method).1
  · rw [hml]; exact hl
section FGC
variable {Ω : fg_O} {own nm : String} {cc : ByteArray} {nL d : Nat} {ret : Option FieldType} {G G' : fg_H} {pc a : Nat} {L L' : List (Nat × Value)} {st : List Value}
theorem fg_end {D : fg_D} {N Z : Nat} {V : fg_V} {s t : State} {o o0 : Outcome} {G0 : fg_H} {H : Heap} {locs : List Loc} {args : Array Value} (hP : fg_P D G H) (hV : G.1 = V) (hR : fg_R N Z G H) (hS : va_S (fg_A V) s.heap H locs) (ht : t.heap = H) (ho : o = o0) (hG : G = G0) : fg_Q D N Z V o0 G0 args s o t := by
  subst hG
  exact ⟨⟨ho, by rw [ht]; exact hP, hV, by rw [ht]; exact hR⟩, hS.F ht⟩
theorem fg_ret {tw : Bool} {p : Program} {l : Launch} {e : Env} {R : Room} {s : State} {m : MethodId} {args : Array Value} {below : List Frame} {meth : Method} {c : Code} {H : Heap} {locs : List Loc} {cells slots k n N Z : Nat} {D : fg_D} {V : fg_V} {o0 : Outcome} {G0 : fg_H} {g : JFrame} (h : W p l e R s m args below meth c H locs cells slots (MQ below (fg_Q D N Z V o0 G0) args s k n (fg_A V)) g) : W p l e R s m args below meth c H locs cells slots (fg_EE tw D N Z V o0 G0 below args s k n) g := by
  cases tw with
  | false => exact h
  | true => exact vy_ret h
theorem fg_iret (X : fg_X Ω own nm cc nL (some .int) d) {v : Int32} (hd : decode cc pc = .ok (.ireturn, 1)) (hT : fg_T Ω (.returned (some (.int v))) G) : fg_W Ω G pc L [.int v] := by
  obtain ⟨D, V, ⟨N, Z⟩, p, l, e, R, s, m, args, below, meth, c, tw, o0, G0⟩ := Ω
  obtain ⟨hx, hb, hml, hown, hts, hK, hN, hlk, hr, hfr, hlo, hnm, hst, htb⟩ := X
  have hT : (o0, G0) = (Outcome.returned (some (.int v)), G) := hT
  cases hT
  intro H locs ls hP hV hR hS hl
  exact fg_ret (W.iret hx hb hr (fun t ht _ => fg_end hP hV hR hS ht rfl rfl) hS.2.2 hd)
theorem fg_zret (X : fg_X Ω own nm cc nL (some .boolean) d) {v : Int32} (hv : v = 0 ∨ v = 1) (hd : decode cc pc = .ok (.ireturn, 1)) (hT : fg_T Ω (.returned (some (.int v))) G) : fg_W Ω G pc L [.int v] := by
  obtain ⟨D, V, ⟨N, Z⟩, p, l, e, R, s, m, args, below, meth, c, tw, o0, G0⟩ := Ω
  obtain ⟨hx, hb, hml, hown, hts, hK, hN, hlk, hr, hfr, hlo, hnm, hst, htb⟩ := X
  have hT : (o0, G0) = (Outcome.returned (some (.int v)), G) := hT
  cases hT
  intro H locs ls hP hV hR hS hl
  exact fg_ret (W.zret hx hb hr (by rcases hv with h | h <;> subst h <;> rfl) (fun t ht _ => fg_end hP hV hR hS ht rfl rfl) hS.2.2 hd)
theorem fg_lret (X : fg_X Ω own nm cc nL (some .long) d) {v : Int64} (hd : decode cc pc = .ok (.lreturn, 1)) (hT : fg_T Ω (.returned (some (.long v))) G) : fg_W Ω G pc L [.long v] := by
  obtain ⟨D, V, ⟨N, Z⟩, p, l, e, R, s, m, args, below, meth, c, tw, o0, G0⟩ := Ω
  obtain ⟨hx, hb, hml, hown, hts, hK, hN, hlk, hr, hfr, hlo, hnm, hst, htb⟩ := X
  have hT : (o0, G0) = (Outcome.returned (some (.long v)), G) := hT
  cases hT
  intro H locs ls hP hV hR hS hl
  exact fg_ret (W.lret hx hb hr (fun t ht _ => fg_end hP hV hR hS ht rfl rfl) hS.2.2 hd)
theorem fg_vret (X : fg_X Ω own nm cc nL none d) (hd : decode cc pc = .ok (.return_, 1)) (hT : fg_T Ω (.returned none) G) : fg_W Ω G pc L [] := by
  obtain ⟨D, V, ⟨N, Z⟩, p, l, e, R, s, m, args, below, meth, c, tw, o0, G0⟩ := Ω
  obtain ⟨hx, hb, hml, hown, hts, hK, hN, hlk, hr, hfr, hlo, hnm, hst, htb⟩ := X
  have hT : (o0, G0) = (Outcome.returned none, G) := hT
  cases hT
  intro H locs ls hP hV hR hS hl
  exact fg_ret (W.vret hx hb hr (fun t ht _ => fg_end hP hV hR hS ht rfl rfl) hS.2.2 hd)
theorem fg_aret {rt : FieldType} (hrt : (∃ n, rt = .object n) ∨ ∃ t, rt = .array t) (X : fg_X Ω own nm cc nL (some rt) d) {r : Option Nat} (hd : decode cc pc = .ok (.areturn, 1)) (hT : fg_T Ω (.returned (some (va_rf r))) G) : fg_W Ω G pc L [va_rf r] := by
  obtain ⟨D, V, ⟨N, Z⟩, p, l, e, R, s, m, args, below, meth, c, tw, o0, G0⟩ := Ω
  obtain ⟨hx, hb, hml, hown, hts, hK, hN, hlk, hr, hfr, hlo, hnm, hst, htb⟩ := X
  have hT : (o0, G0) = (Outcome.returned (some (va_rf r)), G) := hT
  cases hT
  intro H locs ls hP hV hR hS hl
  exact fg_ret (W.aret hx hb hr hrt (by cases r with | none => exact Or.inl rfl | some y => exact Or.inr ⟨y, rfl⟩) (fun t ht _ => fg_end hP hV hR hS ht rfl rfl) hS.2.2 hd)
theorem fg_objInit (X : fg_X Ω own nm cc nL ret d) {index : Nat} (q : Cond.methodLink own index objectInit ∈ lw_all) (q1 : Cond.instanceMethod objectInit ∈ lw_all) (q2 : Cond.code objectInit ⟨#[0xb1]⟩ 1 none ∈ lw_all) (h1 : 1 ≤ d) (hW : (st.map fun v => v.category).sum ≤ 8) (hd : decode cc pc = .ok (.invokespecial index, 3))
    (kk : fg_W Ω G (pc + 3) L st) : fg_W Ω G pc L (.ref a :: st) := by
  obtain ⟨D, V, ⟨N, Z⟩, p, l, e, R, s, m, args, below, meth, c, tw, o0, G0⟩ := Ω
  obtain ⟨hx, hb, hml, hown, hts, hK, hN, hlk, hr, hfr, hlo, hnm, hst, htb⟩ := X
  intro H locs ls hP hV hR hS hl
  exact W.objInit (a := a) (rest := st) hx hb hown (hts _ q) (hts _ q1) (hts _ q2) rfl hl.1 rfl hd (by rw [hfr]; exact h1) (by show 2 * 0 + _ + 12 ≤ _; omega) (kk H locs ls hP hV hR hS hl)
theorem fg_new_get {G G' : fg_H} {ci n q : Nat} {fs : List Value} (h : fg_new G ci n fs = some (q, G')) : (1 ≤ G.2.2.2.1 ∧ n ≤ G.2.2.2.2) ∧ q = G.2.2.1 ∧ G' = fg_bn G (.inr (ci, fs)) n := by
  unfold fg_new at h
  split at h
  · rename_i hc
    cases h
    exact ⟨hc, rfl, rfl⟩
  · cases h
theorem fg_newo (X : fg_X Ω own nm cc nL ret d) {index ci n q : Nat} {C : String} {T : u_T} {fs : List Value} (q1 : Cond.classLink own index C ∈ lw_all) (q2 : Cond.instantiable C n ∈ lw_all) (q3 : Cond.initialized C ∈ lw_all) (hc : fg_cl[ci]? = some (C, T, n)) (hci : ci < 33) {ty : Nat → FieldType} (hty : ∀ k, k < n → parseFieldDescriptor (T k).2.2.1 = some (ty k)) (hfs : ∀ j, j < n → defaultValue (ty j) = vp_V fs j) (h : fg_new G ci n fs = some (q, G')) (hd : decode cc pc = .ok (.new index, 3))
    (kk : fg_W Ω G' (pc + 3) L (.ref q :: st)) : fg_W Ω G pc L st := by
  obtain ⟨D, V, ⟨N, Z⟩, p, l, e, R, s, m, args, below, meth, c, tw, o0, G0⟩ := Ω
  obtain ⟨hx, hb, hml, hown, hts, hK, hN, hlk, hr, hfr, hlo, hnm, hst, htb⟩ := X
  intro H locs ls hP hV hR hS hl
  obtain ⟨hk, rfl, rfl⟩ := fg_new_get h
  have hKn := hK.1.1 ci _ hc
  have hin := fg_in_all _ (List.mem_of_getElem? hc)
  refine fg_alloc hN (by rw [hP.2]; exact hR.1) hR.2 fun c1 s1 e1 e2 => ?_
  refine W.newcK hx hb hown (hts _ q1) (hts _ q2) (hts _ q3) rfl hd (by omega) (by omega) hKn.2.1 hP.2 fun H1 kC hkC f1 z1 o1 => ?_
  have hob : t_OB G.2.2.1 (D.1.1 ci) n (D.1.2 ci) H1 (vp_V fs) := (u_born ty hts hin hKn hkC f1 hty).to hfs
  have hsz : (blank (D.1.1 ci) kC).slots.size = n := by
    obtain ⟨c9, k9, h8, h9, -, h10⟩ := Cond.instantiable_spec (hts _ q2)
    cases hKn.2.1.symm.trans h8
    cases hkC.symm.trans h9
    simp [blank, h10]
  rw [← hP.2] at f1 z1 o1 hob
  obtain ⟨p1, p2, p3⟩ := fg_push (k := n) (x := .inr (ci, fs)) hP hR (by rw [hV]; exact hS) z1 o1 f1 hsz (Or.inl ⟨⟨hci, fun _ c9 hc9 => by rw [f1] at hc9; cases hc9; exact ⟨rfl, rfl⟩⟩, _, hc, hob⟩) hk
  exact W.widen (by omega) (by omega) (kk H1 locs ls p1 hV p2 (by rw [hV] at p3; exact p3) hl)
theorem fg_na_get {G G' : fg_H} {kd q : Nat} {n : Int32} (h : fg_na G kd n = some (q, G')) : (¬ n < 0 ∧ n.toNatClampNeg ≤ 65536 ∧ 1 ≤ G.2.2.2.1 ∧ n.toNatClampNeg ≤ G.2.2.2.2) ∧ q = G.2.2.1 ∧ G' = fg_bn G (.inl (kd, n.toNatClampNeg, fg_zero kd)) n.toNatClampNeg := by
  unfold fg_na at h
  split at h
  · rename_i hc
    cases h
    exact ⟨hc, rfl, rfl⟩
  · cases h
theorem fg_newa (X : fg_X Ω own nm cc nL ret d) {kd q : Nat} {atype : ArrayType} {n : Int32} (q1 : Cond.arrayClass (newarray.typeOf atype) ∈ lw_all) (hkd : kd < 4) (hty : fg_ty kd = newarray.typeOf atype) (hbs : componentBytes (newarray.typeOf atype) ≤ 8) (hz : ∀ cA n, vp_cell cA (n, fg_zero kd) = arrV cA n (fun _ => defaultValue (newarray.typeOf atype))) (h : fg_na G kd n = some (q, G')) (hd : decode cc pc = .ok (.newarray atype, 2))
    (kk : fg_W Ω G' (pc + 2) L (.ref q :: st)) : fg_W Ω G pc L (.int n :: st) := by
  obtain ⟨D, V, ⟨N, Z⟩, p, l, e, R, s, m, args, below, meth, c, tw, o0, G0⟩ := Ω
  obtain ⟨hx, hb, hml, hown, hts, hK, hN, hlk, hr, hfr, hlo, hnm, hst, htb⟩ := X
  intro H locs ls hP hV hR hS hl
  obtain ⟨⟨hn0, hn1, hc1, hc2⟩, rfl, rfl⟩ := fg_na_get h
  have hty8 : (fg_tys D)[kd]? = some (D.2 kd, fg_ty kd) := by
    rcases (show kd = 0 ∨ kd = 1 ∨ kd = 2 ∨ kd = 3 by omega) with h | h | h | h <;> subst h <;> rfl
  have hRA := (hK.1.2 kd _ hty8).2
  refine fg_alloc hN (by rw [hP.2]; exact hR.1) hR.2 fun c1 s1 e1 e2 => ?_
  refine va_newaK hx hb (hts _ q1) rfl hd rfl hn0 rfl (by
    have : n.toNatClampNeg * componentBytes (newarray.typeOf atype) ≤ 65536 * 8 := Nat.mul_le_mul hn1 hbs
    omega) (by omega) (by omega) hP.2 fun H1 cA f1 z1 o1 ha hf => ?_
  have hcA : cA = D.2 kd := by
    have h1 : va_RA s (D.2 kd) (newarray.typeOf atype) := by rw [← hty]; exact hRA
    have h2 : s.vm.findClass ("[" ++ (newarray.typeOf atype).toString) = some (D.2 kd) := by
      cases atype <;> exact h1
    exact Option.some.inj (hf.symm.trans h2)
  subst hcA
  rw [← hP.2] at f1 z1 o1
  obtain ⟨p1, p2, p3⟩ := fg_push (k := n.toNatClampNeg) (x := .inl (kd, n.toNatClampNeg, fg_zero kd)) hP hR (by rw [hV]; exact hS) z1 o1 f1 (arrV_size _ _ _) (Or.inl ⟨by omega, by rw [f1, hz]⟩) ⟨hc1, hc2⟩
  exact W.widen (by omega) (by omega) (kk H1 locs ls p1 hV p2 (by rw [hV] at p3; exact p3) hl)
/-- behind a call -/
theorem fg_after {p : Program} {l : Launch} {e : Env} {R : Room} {s : State} {m : MethodId} {args : Array Value} {below : List Frame} {meth : Method} {c : Code} {H : Heap} {locs : List Loc} {cells slots mc ms : Nat} {Q : State → Prop} {ls : Array Slot} {st0 rest : List Value} {D : fg_D} {N Z : Nat} {V : fg_V} {v : Option Value} {G1 : fg_H} {a1 : Array Value}
    (hr : va_Run p l e R s m args below meth c H locs cells slots mc ms (F0 m pc ls st0) rest (fg_Q D N Z V (.returned v) G1 a1) (fg_A V)) (hS : va_S (fg_A V) s.heap H locs)
    (kk : ∀ (H1 : Heap) (locs1 : List Loc), fg_P D G1 H1 → G1.1 = V → fg_R N Z G1 H1 → va_S (fg_A V) s.heap H1 locs1 → W p l e R s m args below meth c H1 locs1 (cells + mc) (slots + ms) Q (F0 m (pc + 3) ls (v.toList ++ rest))) : W p l e R s m args below meth c H locs cells slots Q (F0 m pc ls st0) := by
  intro T hT X
  obtain ⟨v', st₀, t, T', Lc, h0, X', hL, e1, e2, ⟨⟨ho, hP, hV, hR⟩, hz, hk⟩, st⟩ := hr T hT X
  have hv : v' = v := by injection ho
  subst hv
  rw [h0] at hz hk
  rw [← e1] at hP hR hz hk
  obtain ⟨t2, b1, b2⟩ := kk T'.heap (locs ++ Lc) hP hV hR ⟨Nat.le_trans hS.1 hz, fun q h1 h2 => (hk q (Nat.lt_of_lt_of_le h1 hS.1) h2).trans (hS.2.1 q h1 h2), fun q hq => by
      rcases List.mem_append.mp hq with h | h
      · exact hS.2.2 q h
      · exact hL q h⟩ T' rfl X'
  exact ⟨t2, st t2 b1, b2⟩
theorem fg_blind {D : fg_D} {N Z : Nat} {G : fg_H} {As : List Value} : FrameBlind (va_Pc As (fun U => fg_P D G U.heap ∧ fg_R N Z G U.heap ∧ fg_K D G.1 U)) := by
  intro a U g mk q
  obtain ⟨q0, qP, qR, qK⟩ := q
  exact ⟨q0, qP, qR, qK.call g mk a⟩
theorem fg_callV (X : fg_X Ω own nm cc nL ret d) {y : MethodName} {code : ByteArray} {nL' d' n index ci : Nat} {ret' : Option FieldType} {As : List Value} {v : Option Value} {G1 : fg_H} {fs : List Value}
    (hM : fg_M Ω.2.2.2.2.1 Ω.1 y code nL' ret' d' (.ref a :: As) G (.returned v) G1) (q1 : Cond.methodLink own index y ∈ lw_all) (q2 : Cond.instanceMethod y ∈ lw_all) (q3 : Cond.selects y.cls y y ∈ lw_all) (q4 : Cond.initialized y.cls ∈ lw_all) (q5 : Cond.code y code nL' ret' ∈ lw_all)
    (hd : y.cls ≠ "java/lang/invoke/MethodHandle" ∧ y.cls ≠ "java/lang/invoke/VarHandle" ∧ (parseMethodDescriptor y.desc).map (fun d => d.parameters.length) = some n) (hci : ci < 33) (hcl : (fg_cl[ci]?).map (fun q => q.1) = some y.cls) (hob : G.2.1 a = some (.inr (ci, fs)))
    (hdd : d' + 1 ≤ d ∧ nL' ≤ 45) (hn : As.length = n) {st0 : List Value} (hsk : st0 = As.reverse ++ .ref a :: st) (hW : (st.map fun v => v.category).sum ≤ 8) (hdg : decode cc pc = .ok (.invokevirtual index, 3))
    (kk : fg_W Ω G1 (pc + 3) L (v.toList ++ st)) : fg_W Ω G pc L st0 := by
  obtain ⟨D, V, ⟨N, Z⟩, p, l, e, R, s, m, args, below, meth, c, tw, o0, G0⟩ := Ω
  obtain ⟨hx, hb, hml, hown, hts, hK, hN, hlk, hr, hfr, hlo, hnm, hst, htb⟩ := X
  intro H locs ls hP hV hR hS hl
  have hM := hM hst N Z
  refine fg_alloc hN (by rw [hP.2]; exact hR.1) hR.2 fun c1 s1 e1 e2 => ?_
  have hrecv : ∃ cellB : Cell, H[a]? = some cellB ∧ cellB.vm.isStatics = false ∧ s.vm.findClass y.cls = some cellB.cls := by
    rcases hP.1 a _ hob with ⟨-, r, h1, cell, g1, g2, g3, -⟩ | ⟨h1, -⟩
    · refine ⟨cell, g1, by rw [g3]; rfl, ?_⟩
      rw [g2]
      have h2 := (hK.1.1 ci r h1).2.1
      have h3 : r.1 = y.cls := by
        rw [h1] at hcl
        exact Option.some.inj hcl
      rw [← h3]
      exact h2
    · exact absurd h1 (by show ¬ ci = 33; omega)
  have hcw := cwV (R := R) (C := y.cls) (rm := ({ frames := d', cells := G.2.2.2.1, slots := G.2.2.2.2, locals := 64 * d' } : Room)) (mc := G.2.2.2.1) (ms := G.2.2.2.2) n hts (lw_V q1 q2 q3 q4 q5) rfl rfl rfl ⟨rfl, hd⟩ ⟨by show d' + 1 ≤ R.frames; omega, by show 8 + (nL' + 11) + 64 * d' ≤ R.locals; omega⟩
  have hrun := va_runV (p := p) (e := e) (below := below) (meth := meth) (H := H) (locs := locs) (cells := c1) (slots := s1) (b := a) (As := As) (rest := st) (g := F0 m pc ls st0) ⟨hx, hb, hml, hown, hts⟩ hM hcw ⟨fg_blind, hrecv, fun U hU hW => ⟨rfl, by rw [hU]; exact hP, by rw [hU]; exact hR, by rw [hV]; exact hK.goes hS hU hW⟩⟩ rfl hn (hl.1.trans hml) hsk (by show 2 * 0 + _ ≤ 8; omega) hdg ⟨by omega, by omega⟩
  rw [hV] at hrun
  refine fg_after hrun hS fun H1 locs1 p1 p2 p3 p4 => ?_
  rw [e1, e2]
  exact kk H1 locs1 ls p1 p2 p3 p4 hl
theorem fg_callS (X : fg_X Ω own nm cc nL ret d) {y : MethodName} {code : ByteArray} {nL' d' n index : Nat} {ret' : Option FieldType} {As : List Value} {v : Option Value} {G1 : fg_H}
    (hM : fg_M Ω.2.2.2.2.1 Ω.1 y code nL' ret' d' As G (.returned v) G1) (q1 : Cond.methodLink own index y ∈ lw_all) (q2 : Cond.static y ∈ lw_all) (q4 : Cond.initialized y.cls ∈ lw_all) (q5 : Cond.code y code nL' ret' ∈ lw_all)
    (hd : y.cls ≠ "java/lang/invoke/MethodHandle" ∧ y.cls ≠ "java/lang/invoke/VarHandle" ∧ (parseMethodDescriptor y.desc).map (fun d => d.parameters.length) = some n)
    (hdd : d' + 1 ≤ d ∧ nL' ≤ 45) (hn : As.length = n) {st0 : List Value} (hsk : st0 = As.reverse ++ st) (hW : (st.map fun v => v.category).sum ≤ 8) (hdg : decode cc pc = .ok (.invokestatic index, 3))
    (kk : fg_W Ω G1 (pc + 3) L (v.toList ++ st)) : fg_W Ω G pc L st0 := by
  obtain ⟨D, V, ⟨N, Z⟩, p, l, e, R, s, m, args, below, meth, c, tw, o0, G0⟩ := Ω
  obtain ⟨hx, hb, hml, hown, hts, hK, hN, hlk, hr, hfr, hlo, hnm, hst, htb⟩ := X
  intro H locs ls hP hV hR hS hl
  have hM := hM hst N Z
  refine fg_alloc hN (by rw [hP.2]; exact hR.1) hR.2 fun c1 s1 e1 e2 => ?_
  have hcw := va_cwS (R := R) (own := own) (index := index) (rm := ({ frames := d', cells := G.2.2.2.1, slots := G.2.2.2.2, locals := 64 * d' } : Room)) (mc := G.2.2.2.1) (ms := G.2.2.2.2) n hts (lw_S q1 q2 q4 q5) rfl rfl rfl hd ⟨by show d' + 1 ≤ R.frames; omega, by show 8 + (nL' + 11) + 64 * d' ≤ R.locals; omega⟩
  have hrun := va_runS (p := p) (e := e) (below := below) (meth := meth) (H := H) (locs := locs) (cells := c1) (slots := s1) (As := As) (rest := st) (g := F0 m pc ls st0) ⟨hx, hb, hml, hown, hts⟩ hM hcw ⟨fg_blind, fun U hU hW => ⟨rfl, by rw [hU]; exact hP, by rw [hU]; exact hR, by rw [hV]; exact hK.goes hS hU hW⟩⟩ rfl hn (hl.1.trans hml) hsk (by show 2 * 0 + _ ≤ 8; omega) hdg ⟨by omega, by omega⟩
  rw [hV] at hrun
  refine fg_after hrun hS fun H1 locs1 p1 p2 p3 p4 => ?_
  rw [e1, e2]
  exact kk H1 locs1 ls p1 p2 p3 p4 hl
theorem fg_callI (X : fg_X Ω own nm cc nL ret d) {y : MethodName} {code : ByteArray} {nL' d' n index : Nat} {As : List Value} {G1 : fg_H}
    (hM : fg_M Ω.2.2.2.2.1 Ω.1 y code nL' none d' (.ref a :: As) G (.returned none) G1) (q1 : Cond.methodLink own index y ∈ lw_all) (q2 : Cond.instanceMethod y ∈ lw_all) (q4 : Cond.initialized y.cls ∈ lw_all) (q5 : Cond.code y code nL' none ∈ lw_all) (hin : y.name = "<init>")
    (hd : y.cls ≠ "java/lang/invoke/MethodHandle" ∧ y.cls ≠ "java/lang/invoke/VarHandle" ∧ (parseMethodDescriptor y.desc).map (fun d => d.parameters.length) = some n)
    (hdd : d' + 1 ≤ d ∧ nL' ≤ 45) (hn : As.length = n) {st0 : List Value} (hsk : st0 = As.reverse ++ .ref a :: st) (hW : (st.map fun v => v.category).sum ≤ 8) (hdg : decode cc pc = .ok (.invokespecial index, 3))
    (kk : fg_W Ω G1 (pc + 3) L st) : fg_W Ω G pc L st0 := by
  obtain ⟨D, V, ⟨N, Z⟩, p, l, e, R, s, m, args, below, meth, c, tw, o0, G0⟩ := Ω
  obtain ⟨hx, hb, hml, hown, hts, hK, hN, hlk, hr, hfr, hlo, hnm, hst, htb⟩ := X
  intro H locs ls hP hV hR hS hl
  have hM := hM hst N Z
  refine fg_alloc hN (by rw [hP.2]; exact hR.1) hR.2 fun c1 s1 e1 e2 => ?_
  have hcw := cwI (R := R) (own := own) (index := index) (rm := ({ frames := d', cells := G.2.2.2.1, slots := G.2.2.2.2, locals := 64 * d' } : Room)) (mc := G.2.2.2.1) (ms := G.2.2.2.2) n hts (lw_meth q5) rfl rfl rfl (hts _ q4) (hts _ q1) (hts _ q2) hin hd ⟨by show d' + 1 ≤ R.frames; omega, by show 8 + (nL' + 11) + 64 * d' ≤ R.locals; omega⟩
  have hrun := va_runI (p := p) (e := e) (below := below) (meth := meth) (H := H) (locs := locs) (cells := c1) (slots := s1) (b := a) (As := As) (rest := st) (g := F0 m pc ls st0) ⟨hx, hb, hml, hown, hts⟩ hM hcw ⟨fg_blind, fun U hU hW => ⟨rfl, by rw [hU]; exact hP, by rw [hU]; exact hR, by rw [hV]; exact hK.goes hS hU hW⟩⟩ rfl hn (hl.1.trans hml) hsk (by show 2 * 0 + _ ≤ 8; omega) hdg ⟨by omega, by omega⟩
  rw [hV] at hrun
  refine fg_after (v := none) hrun hS fun H1 locs1 p1 p2 p3 p4 => ?_
  rw [e1, e2]
  exact kk H1 locs1 ls p1 p2 p3 p4 hl
end FGC

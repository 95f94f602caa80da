/-! methods that may throw -/
def fg_oi (z : Int32 ⊕ Nat) : Outcome := match z with
  | .inl v => .returned (some (.int v))
  | .inr q => .threw q
def fg_or (z : Option Nat ⊕ Nat) : Outcome := match z with
  | .inl v => .returned (some (va_rf v))
  | .inr q => .threw q
def fg_ov (z : Unit ⊕ Nat) : Outcome := match z with
  | .inl _ => .returned none
  | .inr q => .threw q
def fg_th {α β : Type} (z : α ⊕ Nat) (t : Nat → β) (k : α → β) : β := match z with
  | .inl v => k v
  | .inr q => t q
def fg_TX (Ω : fg_O) (o : Outcome) (G : fg_H) : Prop := fg_T Ω o G ∧ Ω.2.2.2.2.2.2.2.2.2.2.2.2.2.1 = true
def fg_MX (l : Launch) (D : fg_D) (y : MethodName) (code : ByteArray) (nL : Nat) (ret : Option FieldType) (d : Nat) (As : List Value) (G : fg_H) (o0 : Outcome) (G0 : fg_H) : Prop :=
  l.stackTraces = false → ∀ N Z : Nat, vy_Met l y (ws_ y code nL ret) ({ frames := d, cells := G.2.2.2.1, slots := G.2.2.2.2, locals := 64 * d } : Room) (va_Pc As (fun U => fg_P D G U.heap ∧ fg_R N Z G U.heap ∧ fg_K D G.1 U)) (fg_Q D N Z G.1 o0 G0) (fg_QX D N Z G.1 o0 G0) G.2.2.2.1 G.2.2.2.2 (fg_A G.1)
theorem fg_MXof {l : Launch} {D : fg_D} {y : MethodName} {own nm : String} {code : ByteArray} {nL : Nat} {ret : Option FieldType} {d : Nat} {As : List Value} {G : fg_H} {o0 : Outcome} {G0 : fg_H} {L : List (Nat × Value)} (hy : plainName y.cls = true) (hown : y.cls = own) (hnm : y.name = nm) (hL : lv_args 0 As = L) (hfit : (lg_sl As).length ≤ nL)
    (body : ∀ Ω : fg_O, Ω.1 = D → Ω.2.2.2.2.1 = l → fg_X Ω own nm code nL ret d → fg_TX Ω o0 G0 → fg_W Ω G 0 L []) : fg_MX l D y code nL ret d As G o0 G0 := by
  intro hst N Z
  refine vy_ofW (cc := code) (maxL := nL) (ret := ret) hy rfl ?_
  intro p e s m args below meth c s₁ B hml htab hv
  obtain ⟨rfl, hP, hR, hK⟩ := hv
  have hts := atoms_spec (ws := ws_ y code nL ret) B.pre
  have hts : ∀ w ∈ lw_all, w.before _ s = true := fun w h => hts w (List.mem_cons_of_mem _ h)
  have hl := lv_entry As (n := nL) hfit
  rw [lg_entry_eq]
  rw [hL] at hl
  have hN : s.heap.size + G.2.2.2.1 = N := by rw [hP.2]; exact hR.1
  refine W.widen (k := G.2.2.2.1) (n := G.2.2.2.2) (Nat.zero_le _) (Nat.zero_le _) ?_
  refine body (D, G.1, (N, Z), p, l, e, ({ frames := d, cells := G.2.2.2.1, slots := G.2.2.2.2, locals := 64 * d } : Room), s, m, As.toArray, below, meth, c, true, o0, G0) rfl rfl ⟨B.exec, B.bytes, hml, ?_, hts, hK, ⟨hN, hR.2⟩, B.notSynchronized, B.returns, rfl, rfl, ?_, hst, fun _ => htab⟩ ⟨rfl, rfl⟩ s.heap [] _ hP rfl hR va_S.rf ?_
  · rw [← hown]; exact findClass_of_methodNamed B.named
  · rw [← hnm]; exact (name_of_methodNamed B.named B.method).1
  · rw [hml]; exact hl
section FGT
variable {Ω : fg_O} {own nm : String} {cc : ByteArray} {nL d : Nat} {ret : Option FieldType} {G G' : fg_H} {pc a : Nat} {L L' : List (Nat × Value)} {st : List Value}
/-- it goes on to the caller -/
theorem fg_out {D : fg_D} {V : fg_V} {N Z : Nat} {p : Program} {l : Launch} {e : Env} {R : Room} {s : State} {m : MethodId} {args : Array Value} {below : List Frame} {meth : Method} {c : Code} {o0 : Outcome} {G0 : fg_H} {H : Heap} {locs : List Loc} {ls : Array Slot} {q ci : Nat} {fs : List Value}
    (htb : ∀ x ∈ c.exceptionTable.toList, False) (hlk : meth.locks = false) (hK : fg_K D V s) (hP : fg_P D G H) (hV : G.1 = V) (hR : fg_R N Z G H) (hS : va_S (fg_A V) s.heap H locs) (hT : (o0, G0) = (Outcome.threw q, G)) (hci : ci < 33) (hob : G.2.1 q = some (.inr (ci, fs))) :
    vy_W p l e R s m args below meth c H locs R.cells R.slots (fg_EE true D N Z V o0 G0 below args s R.cells R.slots) (F0 m pc ls st) q := by
  cases hT
  rcases hP.1 q _ hob with ⟨-, r, h1, cell, g1, g2, g3, -⟩ | ⟨h1, -⟩
  · refine vy_out (E := r.1) (ce := cell) (fun x hx => (htb x hx).elim) hlk g1 g3 (by rw [g2]; exact (hK.1.1 ci r h1).2.1) (fun t ht _ => ⟨⟨rfl, by rw [ht]; exact hP, hV, by rw [ht]; exact hR, ci, fs, hci, hob, by rw [h1]; rfl⟩, hS.F ht⟩) hS.2.2 (Nat.le_refl _) (Nat.le_refl _)
  · exact absurd h1 (by show ¬ ci = 33; omega)
theorem fg_athrow (X : fg_X Ω own nm cc nL ret d) {ci : Nat} {fs : List Value} (hz : ci = ci) (hci : ci < 33) (hob : G.2.1 a = some (.inr (ci, fs))) (hd : decode cc pc = .ok (.athrow, 1)) (hT : fg_TX Ω (.threw a) G) : fg_W Ω G pc L (.ref a :: st) := by
  obtain ⟨D, V, ⟨N, Z⟩, p, l, e, R, s, m, args, below, meth, c, tw, o0, G0⟩ := Ω
  obtain ⟨hx, hb, hml, hown, hts, hK, hN, hlk, hr, hfr, hlo, hnm, hst, htb⟩ := X
  obtain ⟨hT, htw⟩ := hT
  have htw : tw = true := htw
  subst htw
  intro H locs ls hP hV hR hS hl
  exact vy_athrow hx hb hd (fg_out (htb rfl) hlk hK hP hV hR hS hT hci hob)
/-- a callee that may throw, returning -/
theorem fg_callX0 {D : fg_D} {V : fg_V} {N Z : Nat} {p : Program} {l : Launch} {e : Env} {R : Room} {s : State} {m : MethodId} {args : Array Value} {below : List Frame} {meth : Method} {c : Code} {H : Heap} {locs : List Loc} {cells slots mc ms : Nat} {Q : State → Prop} {ls : Array Slot} {st0 rest : List Value} {o1 : Outcome} {G1 : fg_H} {a1 : Array Value}
    (hr : vy_Run p l e R s m args below meth c H locs cells slots mc ms (F0 m pc ls st0) rest (fg_Q D N Z V o1 G1 a1) (fg_QX D N Z V o1 G1) (fg_A V)) (hS : va_S (fg_A V) s.heap H locs)
    (kk : ∀ (v : Option Value) (H1 : Heap) (locs1 : List Loc), o1 = .returned v → fg_P D G1 H1 → G1.1 = V → fg_R N Z G1 H1 → va_S (fg_A V) s.heap H1 locs1 → W p l e R s m args below meth c H1 locs1 (cells + mc) (slots + ms) Q (F0 m (pc + 3) ls (v.toList ++ rest)))
    (kx : ∀ (q : Nat) (H1 : Heap) (locs1 : List Loc), o1 = .threw q → fg_P D G1 H1 → G1.1 = V → fg_R N Z G1 H1 → va_S (fg_A V) s.heap H1 locs1 → (∃ (ci : Nat) (fs : List Value), ci < 33 ∧ G1.2.1 q = some (.inr (ci, fs))) → vy_W p l e R s m args below meth c H1 locs1 (cells + mc) (slots + ms) Q (F0 m pc ls rest) q) : W p l e R s m args below meth c H locs cells slots Q (F0 m pc ls st0) := by
  intro T hT X
  rcases hr T hT X with ⟨v', st₀, t, T', Lc, h0, X', hL, e1, e2, ⟨⟨ho, hP, hV, hR⟩, hz, hk⟩, stp⟩ | ⟨q, st₀, t, T', Lc, E, ce, h0, X', hL, e1, e2, ⟨⟨ho, hP, hV, hR, ci, fs, hci, hob, hE⟩, hz, hk⟩, hce, hcv, hcl, stp⟩
  · rw [h0] at hz hk
    rw [← e1] at hP hR hz hk
    obtain ⟨t2, b1, b2⟩ := kk v' T'.heap (locs ++ Lc) ho.symm hP hV hR ⟨Nat.le_trans hS.1 hz, fun q h1 h2 => (hk q (Nat.lt_of_lt_of_le h1 hS.1) h2).trans (hS.2.1 q h1 h2), fun q hq => by
        rcases List.mem_append.mp hq with h | h
        · exact hS.2.2 q h
        · exact hL q h⟩ T' rfl X'
    exact ⟨t2, stp t2 b1, b2⟩
  · rw [h0] at hz hk
    rw [← e1] at hP hR hz hk
    obtain ⟨t2, b1, b2⟩ := kx q T'.heap (locs ++ Lc) ho hP hV hR ⟨Nat.le_trans hS.1 hz, fun q h1 h2 => (hk q (Nat.lt_of_lt_of_le h1 hS.1) h2).trans (hS.2.1 q h1 h2), fun q hq => by
        rcases List.mem_append.mp hq with h | h
        · exact hS.2.2 q h
        · exact hL q h⟩ ⟨ci, fs, hci, hob⟩ T' rfl X'
    exact ⟨t2, stp.trans b1, b2⟩
theorem fg_runX {D : fg_D} {V : fg_V} {N Z : Nat} {p : Program} {l : Launch} {e : Env} {R : Room} {s : State} {m : MethodId} {args : Array Value} {below : List Frame} {meth : Method} {c : Code} {tw : Bool} {o0 : Outcome} {G0 : fg_H} {H : Heap} {locs : List Loc} {ls : Array Slot} {y : MethodName} {code : ByteArray} {nL' d' n index ci c1 s1 : Nat} {ret' : Option FieldType} {As : List Value} {o1 : Outcome} {G1 : fg_H} {fs : List Value}
    (X : fg_X (D, V, (N, Z), p, l, e, R, s, m, args, below, meth, c, tw, o0, G0) own nm cc nL ret d) (hP : fg_P D G H) (hV : G.1 = V) (hR : fg_R N Z G H) (hS : va_S (fg_A V) s.heap H locs) (hl : lv_has ls c.maxLocals L) (e1 : c1 + G.2.2.2.1 = R.cells) (e2 : s1 + G.2.2.2.2 = R.slots)
    (hM : fg_MX l D y code nL' ret' d' (.ref a :: As) G o1 G1) (q1 : Cond.methodLink own index y ∈ lw_all) (q2 : Cond.instanceMethod y ∈ lw_all) (q3 : Cond.selects y.cls y y ∈ lw_all) (q4 : Cond.initialized y.cls ∈ lw_all) (q5 : Cond.code y code nL' ret' ∈ lw_all)
    (hd : y.cls ≠ "java/lang/invoke/MethodHandle" ∧ y.cls ≠ "java/lang/invoke/VarHandle" ∧ (parseMethodDescriptor y.desc).map (fun d => d.parameters.length) = some n) (hci : ci < 33) (hcl : (fg_cl[ci]?).map (fun q => q.1) = some y.cls) (hob : G.2.1 a = some (.inr (ci, fs)))
    (hdd : d' + 1 ≤ d ∧ nL' ≤ 45) (hn : As.length = n) {st0 : List Value} (hsk : st0 = As.reverse ++ .ref a :: st) (hW : (st.map fun v => v.category).sum ≤ 8) (hdg : decode cc pc = .ok (.invokevirtual index, 3)) :
    vy_Run p l e R s m args below meth c H locs c1 s1 G.2.2.2.1 G.2.2.2.2 (F0 m pc ls st0) st (fg_Q D N Z V o1 G1 (Value.ref a :: As).toArray) (fg_QX D N Z V o1 G1) (fg_A V) := by
  obtain ⟨hx, hb, hml, hown, hts, hK, hN, hlk, hr, hfr, hlo, hnm, hst, htb⟩ := X
  have hM := hM hst N Z
  have hrecv := fg_recv hK hP hci hcl hob
  have hcw := cwV (R := R) (C := y.cls) (rm := ({ frames := d', cells := G.2.2.2.1, slots := G.2.2.2.2, locals := 64 * d' } : Room)) (mc := G.2.2.2.1) (ms := G.2.2.2.2) n hts (lw_V q1 q2 q3 q4 q5) rfl rfl rfl ⟨rfl, hd⟩ ⟨by show d' + 1 ≤ R.frames; omega, by show 8 + (nL' + 11) + 64 * d' ≤ R.locals; omega⟩
  have hrun := vy_runV (p := p) (e := e) (below := below) (meth := meth) (H := H) (locs := locs) (cells := c1) (slots := s1) (b := a) (As := As) (rest := st) (g := F0 m pc ls st0) ⟨hx, hb, hml, hown, hts⟩ hM hcw ⟨fg_blind, hrecv, fun U hU hW => ⟨rfl, by rw [hU]; exact hP, by rw [hU]; exact hR, by rw [hV]; exact hK.goes hS hU hW⟩⟩ rfl hn (hl.1.trans hml) hsk (by show 2 * 0 + _ ≤ 8; omega) hdg ⟨by omega, by omega⟩
  rw [hV] at hrun
  exact hrun
theorem fg_callVX (X : fg_X Ω own nm cc nL ret d) {y : MethodName} {code : ByteArray} {nL' d' n index ci : Nat} {ret' : Option FieldType} {As : List Value} {v : Option Value} {G1 : fg_H} {fs : List Value}
    (hM : fg_MX Ω.2.2.2.2.1 Ω.1 y code nL' ret' d' (.ref a :: As) G (.returned v) G1) (q1 : Cond.methodLink own index y ∈ lw_all) (q2 : Cond.instanceMethod y ∈ lw_all) (q3 : Cond.selects y.cls y y ∈ lw_all) (q4 : Cond.initialized y.cls ∈ lw_all) (q5 : Cond.code y code nL' ret' ∈ lw_all)
    (hd : y.cls ≠ "java/lang/invoke/MethodHandle" ∧ y.cls ≠ "java/lang/invoke/VarHandle" ∧ (parseMethodDescriptor y.desc).map (fun d => d.parameters.length) = some n) (hci : ci < 33) (hcl : (fg_cl[ci]?).map (fun q => q.1) = some y.cls) (hob : G.2.1 a = some (.inr (ci, fs)))
    (hdd : d' + 1 ≤ d ∧ nL' ≤ 45) (hn : As.length = n) {st0 : List Value} (hsk : st0 = As.reverse ++ .ref a :: st) (hW : (st.map fun v => v.category).sum ≤ 8) (hdg : decode cc pc = .ok (.invokevirtual index, 3))
    (kk : fg_W Ω G1 (pc + 3) L (v.toList ++ st)) : fg_W Ω G pc L st0 := by
  obtain ⟨D, V, ⟨N, Z⟩, p, l, e, R, s, m, args, below, meth, c, tw, o0, G0⟩ := Ω
  intro H locs ls hP hV hR hS hl
  refine fg_alloc X.2.2.2.2.2.2.1 (by rw [hP.2]; exact hR.1) hR.2 fun c1 s1 e1 e2 => ?_
  have hrun := fg_runX X hP hV hR hS hl e1 e2 hM q1 q2 q3 q4 q5 hd hci hcl hob hdd hn hsk hW hdg
  refine fg_callX0 hrun hS (fun v' H1 locs1 ho p1 p2 p3 p4 => ?_) (fun q H1 locs1 ho => by cases ho)
  have hv : v = v' := by injection ho
  subst hv
  rw [e1, e2]
  exact kk H1 locs1 ls p1 p2 p3 p4 hl
theorem fg_callVT (X : fg_X Ω own nm cc nL ret d) {y : MethodName} {code : ByteArray} {nL' d' n index ci q : Nat} {ret' : Option FieldType} {As : List Value} {G1 : fg_H} {fs : List Value}
    (hM : fg_MX Ω.2.2.2.2.1 Ω.1 y code nL' ret' d' (.ref a :: As) G (.threw q) G1) (q1 : Cond.methodLink own index y ∈ lw_all) (q2 : Cond.instanceMethod y ∈ lw_all) (q3 : Cond.selects y.cls y y ∈ lw_all) (q4 : Cond.initialized y.cls ∈ lw_all) (q5 : Cond.code y code nL' ret' ∈ lw_all)
    (hd : y.cls ≠ "java/lang/invoke/MethodHandle" ∧ y.cls ≠ "java/lang/invoke/VarHandle" ∧ (parseMethodDescriptor y.desc).map (fun d => d.parameters.length) = some n) (hci : ci < 33) (hcl : (fg_cl[ci]?).map (fun q => q.1) = some y.cls) (hob : G.2.1 a = some (.inr (ci, fs)))
    (hdd : d' + 1 ≤ d ∧ nL' ≤ 45) (hn : As.length = n) {st0 : List Value} (hsk : st0 = As.reverse ++ .ref a :: st) (hW : (st.map fun v => v.category).sum ≤ 8) (hdg : decode cc pc = .ok (.invokevirtual index, 3))
    (hT : fg_TX Ω (.threw q) G1) : fg_W Ω G pc L st0 := by
  obtain ⟨D, V, ⟨N, Z⟩, p, l, e, R, s, m, args, below, meth, c, tw, o0, G0⟩ := Ω
  intro H locs ls hP hV hR hS hl
  obtain ⟨hT, htw⟩ := hT
  have htw : tw = true := htw
  subst htw
  refine fg_alloc X.2.2.2.2.2.2.1 (by rw [hP.2]; exact hR.1) hR.2 fun c1 s1 e1 e2 => ?_
  have hrun := fg_runX X hP hV hR hS hl e1 e2 hM q1 q2 q3 q4 q5 hd hci hcl hob hdd hn hsk hW hdg
  refine fg_callX0 hrun hS (fun v' H1 locs1 ho => by cases ho) (fun q' H1 locs1 ho p1 p2 p3 p4 hc => ?_)
  have hq : q = q' := by injection ho
  subst hq
  rw [e1, e2]
  obtain ⟨ci', fs', h1, h2⟩ := hc
  exact fg_out (X.2.2.2.2.2.2.2.2.2.2.2.2.2 rfl) X.2.2.2.2.2.2.2.1 X.2.2.2.2.2.1 p1 p2 p3 p4 hT h1 h2
end FGT
/-! the table of boxed numbers -/
def fg_lc (G : fg_H) (i : Int32) : Option Nat := if ¬ (i < 0 ∨ 256 ≤ i.toNatClampNeg) then some (G.1.2.2 (100 + i.toNatClampNeg)) else none
theorem fg_lcache {Ω : fg_O} {own nm : String} {cc : ByteArray} {nL d : Nat} {ret : Option FieldType} {G : fg_H} {pc x : Nat} {L : List (Nat × Value)} {st : List Value} {i : Int32} (X : fg_X Ω own nm cc nL ret d) (h : fg_lc G i = some x) (hd : decode cc pc = .ok (.aaload, 1)) (kk : fg_W Ω G (pc + 1) L (.ref x :: st)) : fg_W Ω G pc L (.int i :: va_rf (G.1.2.1 2) :: st) := by
  obtain ⟨D, V, ⟨N, Z⟩, p, l, e, R, s, m, args, below, meth, c, tw, o0, G0⟩ := Ω
  obtain ⟨hx, hb, hml, hown, hts, hK, hN, hlk, hr, hfr, hlo, hnm, hst, htb⟩ := X
  intro H locs ls hP hV hR hS hl
  unfold fg_lc at h
  split at h
  · rename_i hin
    cases h
    obtain ⟨t, h1, h2⟩ := hK.2.2.2.2.2.2.1
    have hk2 := kk H locs ls hP hV hR hS hl
    rw [hV] at hk2 ⊢
    rw [h1]
    exact vb_tq hx hb h2 hS hin rfl hd hk2
  · cases h

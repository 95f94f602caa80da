/-! rows of calls through the receiver's class, of nest mates, of super; arraycopy; the class object of an array of objects -/
section FGU
variable {Ω : fg_O} {own nm : String} {cc : ByteArray} {nL d : Nat} {ret : Option FieldType} {G G' : fg_H} {pc a : Nat} {L L' : List (Nat × Value)} {st : List Value}
theorem fg_recv {D : fg_D} {V : fg_V} {s : State} {H : Heap} {ci : Nat} {fs : List Value} {C : String} (hK : fg_K D V s) (hP : fg_P D G H) (hci : ci < 33) (hcl : (fg_cl[ci]?).map (fun q => q.1) = some C) (hob : G.2.1 a = some (.inr (ci, fs))) :
    ∃ cellB : Cell, H[a]? = some cellB ∧ cellB.vm.isStatics = false ∧ s.vm.findClass C = some cellB.cls := by
  rcases hP.1 a _ hob with ⟨-, r, h1, cell, g1, g2, g3, -⟩ | ⟨h1, -⟩
  · refine ⟨cell, g1, by rw [g3]; rfl, ?_⟩
    rw [g2]
    have h2 := (hK.1.1 ci r h1).2.1
    have h3 : r.1 = C := by
      rw [h1] at hcl
      exact Option.some.inj hcl
    rw [← h3]
    exact h2
  · exact absurd h1 (by show ¬ ci = 33; omega)
/-- what a call by the receiver's class asks of the words: the named method is inherited (or overridden, or abstract: declared) -/
theorem fg_callU (X : fg_X Ω own nm cc nL ret d) {x y : MethodName} {owner : String} {code : ByteArray} {nL' d' n index ci : Nat} {C : String} {ret' : Option FieldType} {As : List Value} {v : Option Value} {G1 : fg_H} {fs : List Value}
    (hM : fg_M Ω.2.2.2.2.1 Ω.1 y code nL' ret' d' (.ref a :: As) G (.returned v) G1) (q1 : Cond.methodLink own index x ∈ lw_all) (q6 : Cond.sameMethod x.cls owner x.name x.desc ∈ lw_all) (q2 : Cond.instanceMethod y ∈ lw_all) (q3 : Cond.selects C x y ∈ lw_all) (q4 : Cond.initialized y.cls ∈ lw_all) (q5 : Cond.code y code nL' ret' ∈ lw_all)
    (hdc : Cond.declares ⟨owner, x.name, x.desc⟩ ∈ lw_tbl ∨ (Cond.instanceMethod ⟨owner, x.name, x.desc⟩ ∈ lw_all ∧ ∃ b0 m0 r0, Cond.code ⟨owner, x.name, x.desc⟩ b0 m0 r0 ∈ lw_all))
    (hd : owner ≠ "java/lang/invoke/MethodHandle" ∧ owner ≠ "java/lang/invoke/VarHandle" ∧ (parseMethodDescriptor x.desc).map (fun d => d.parameters.length) = some n) (hci : ci < 33) (hcl : (fg_cl[ci]?).map (fun q => q.1) = some C) (hob : G.2.1 a = some (.inr (ci, fs)))
    (hdd : d' + 1 ≤ d ∧ nL' ≤ 45) (hn : As.length = n) {st0 : List Value} (hsk : st0 = As.reverse ++ .ref a :: st) (hW : (st.map fun v => v.category).sum ≤ 8) (hdg : decode cc pc = .ok (.invokevirtual index, 3))
    (kk : fg_W Ω G1 (pc + 3) L (v.toList ++ st)) : fg_W Ω G pc L st0 := by
  obtain ⟨D, V, ⟨N, Z⟩, p, l, e, R, s, m, args, below, meth, c, tw, o0, G0⟩ := Ω
  obtain ⟨hx, hb, hml, hown, hts, hK, hN, hlk, hr, hfr, hlo, hnm, hst, htb⟩ := X
  intro H locs ls hP hV hR hS hl
  have hM := hM hst N Z
  refine fg_alloc hN (by rw [hP.2]; exact hR.1) hR.2 fun c1 s1 e1 e2 => ?_
  have hrecv := fg_recv hK hP hci hcl hob
  have hG : GoodIn lw_all (ws_ y code nL' ret') := lw_meth q5
  have hdecl : va_Decl s ⟨owner, x.name, x.desc⟩ := by
    rcases hdc with h | ⟨h1, b0, m0, r0, h2⟩
    · exact va_Decl.abs (hK.2.1 _ h rfl)
    · exact va_Decl.of (hts _ h1) (hts _ h2)
  have hcw : va_CU R s args own C owner index x y code nL' ret' (ws_ y code nL' ret') ({ frames := d', cells := G.2.2.2.1, slots := G.2.2.2.2, locals := 64 * d' } : Room) G.2.2.2.1 G.2.2.2.2 n := by
    refine ⟨⟨rfl, rfl, by show d' + 1 ≤ R.frames; omega, by show 8 + (nL' + 11) + 64 * d' ≤ R.locals; omega, pay_in hts hG, List.mem_cons_self⟩, hts _ q5, hts _ q4, ⟨hd.1, hd.2.1⟩, fun sig h => ?_, hts _ q1, hts _ q6, hdecl, hts _ q3, hts _ q2⟩
    have h2 := hd.2.2
    rw [h] at h2
    exact (Option.some.inj h2).symm
  have hrun := va_runU (p := p) (e := e) (below := below) (meth := meth) (H := H) (locs := locs) (cells := c1) (slots := s1) (b := a) (As := As) (rest := st) (g := F0 m pc ls st0) ⟨hx, hb, hml, hown, hts⟩ hM hcw ⟨fg_blind, hrecv, fun U hU hW => ⟨rfl, by rw [hU]; exact hP, by rw [hU]; exact hR, by rw [hV]; exact hK.goes hS hU hW⟩⟩ rfl hn (hl.1.trans hml) hsk (by show 2 * 0 + _ ≤ 8; omega) hdg ⟨by omega, by omega⟩
  rw [hV] at hrun
  refine fg_after hrun hS fun H1 locs1 p1 p2 p3 p4 => ?_
  rw [e1, e2]
  exact kk H1 locs1 ls p1 p2 p3 p4 hl
/-- super.y(..) -/
theorem fg_callZ (X : fg_X Ω own nm cc nL ret d) {y : MethodName} {code : ByteArray} {nL' d' n index ci : Nat} {C : String} {ret' : Option FieldType} {As : List Value} {v : Option Value} {G1 : fg_H} {fs : List Value}
    (hM : fg_M Ω.2.2.2.2.1 Ω.1 y code nL' ret' d' (.ref a :: As) G (.returned v) G1) (q1 : Cond.methodLink own index y ∈ lw_all) (q6 : Cond.sameMethod y.cls y.cls y.name y.desc ∈ lw_all) (q7 : Cond.superclass own y.cls ∈ lw_all) (q2 : Cond.instanceMethod y ∈ lw_all) (q4 : Cond.initialized y.cls ∈ lw_all) (q5 : Cond.code y code nL' ret' ∈ lw_all)
    (hd : y.name ≠ "<init>" ∧ (parseMethodDescriptor y.desc).map (fun d => d.parameters.length) = some n) (hci : ci < 33) (hcl : (fg_cl[ci]?).map (fun q => q.1) = some C) (hob : G.2.1 a = some (.inr (ci, fs)))
    (hdd : d' + 1 ≤ d ∧ nL' ≤ 45) (hn : As.length = n) {st0 : List Value} (hsk : st0 = As.reverse ++ .ref a :: st) (hW : (st.map fun v => v.category).sum ≤ 8) (hdg : decode cc pc = .ok (.invokespecial index, 3))
    (kk : fg_W Ω G1 (pc + 3) L (v.toList ++ st)) : fg_W Ω G pc L st0 := by
  obtain ⟨D, V, ⟨N, Z⟩, p, l, e, R, s, m, args, below, meth, c, tw, o0, G0⟩ := Ω
  obtain ⟨hx, hb, hml, hown, hts, hK, hN, hlk, hr, hfr, hlo, hnm, hst, htb⟩ := X
  intro H locs ls hP hV hR hS hl
  have hM := hM hst N Z
  refine fg_alloc hN (by rw [hP.2]; exact hR.1) hR.2 fun c1 s1 e1 e2 => ?_
  have hrecv := fg_recv hK hP hci hcl hob
  have hT : GoodIn lw_all (va_wsSU own index y (ws_ y code nL' ret')) := by
    refine lw_app ?_ (lw_meth q5)
    intro w hw
    simp only [List.mem_cons, List.not_mem_nil, or_false] at hw
    rcases hw with e | e | e | e | e
    · rw [e]; exact q1
    · rw [e]; exact q6
    · rw [e]; exact q7
    · rw [e]; exact q2
    · rw [e]; exact q4
  have hcw := va_cwSU (R := R) (own := own) (index := index) (rm := ({ frames := d', cells := G.2.2.2.1, slots := G.2.2.2.2, locals := 64 * d' } : Room)) (mc := G.2.2.2.1) (ms := G.2.2.2.2) n hts hT rfl rfl rfl hd ⟨by show d' + 1 ≤ R.frames; omega, by show 8 + (nL' + 11) + 64 * d' ≤ R.locals; omega⟩
  obtain ⟨q, hq⟩ : ∃ q : vw_C, fg_cl[ci]? = some q := by
    cases h : fg_cl[ci]? with
    | none => rw [h] at hcl; cases hcl
    | some q => exact ⟨q, rfl⟩
  have hC : q.1 = C := by rw [hq] at hcl; exact Option.some.inj hcl
  have hat : ClassAt s C (D.1.1 ci) := by rw [← hC]; exact (hK.1.1 ci _ hq).2
  have hrun := va_runSU (p := p) (e := e) (below := below) (meth := meth) (H := H) (locs := locs) (cells := c1) (slots := s1) (b := a) (As := As) (rest := st) (g := F0 m pc ls st0) hat ⟨hx, hb, hml, hown, hts⟩ hM hcw ⟨fg_blind, hrecv, fun U hU hW => ⟨rfl, by rw [hU]; exact hP, by rw [hU]; exact hR, by rw [hV]; exact hK.goes hS hU hW⟩⟩ rfl hn (hl.1.trans hml) hsk (by show 2 * 0 + _ ≤ 8; omega) hdg ⟨by omega, by omega⟩
  rw [hV] at hrun
  refine fg_after hrun hS fun H1 locs1 p1 p2 p3 p4 => ?_
  rw [e1, e2]
  exact kk H1 locs1 ls p1 p2 p3 p4 hl
theorem fg_callSN (X : fg_X Ω own nm cc nL ret d) {y : MethodName} {host : String} {code : ByteArray} {nL' d' n index : Nat} {ret' : Option FieldType} {As : List Value} {v : Option Value} {G1 : fg_H}
    (hM : fg_M Ω.2.2.2.2.1 Ω.1 y code nL' ret' d' As G (.returned v) G1) (q1 : Cond.methodLinkNest own index y host ∈ lw_tbl) (q2 : Cond.static y ∈ lw_all) (q4 : Cond.initialized y.cls ∈ lw_all) (q5 : Cond.code y code nL' ret' ∈ lw_all)
    (hd : y.cls ≠ "java/lang/invoke/MethodHandle" ∧ y.cls ≠ "java/lang/invoke/VarHandle" ∧ (parseMethodDescriptor y.desc).map (fun d => d.parameters.length) = some n)
    (hdd : d' + 1 ≤ d ∧ nL' ≤ 45) (hn : As.length = n) {st0 : List Value} (hsk : st0 = As.reverse ++ st) (hW : (st.map fun v => v.category).sum ≤ 8) (hdg : decode cc pc = .ok (.invokestatic index, 3))
    (kk : fg_W Ω G1 (pc + 3) L (v.toList ++ st)) : fg_W Ω G pc L st0 := by
  obtain ⟨D, V, ⟨N, Z⟩, p, l, e, R, s, m, args, below, meth, c, tw, o0, G0⟩ := Ω
  obtain ⟨hx, hb, hml, hown, hts, hK, hN, hlk, hr, hfr, hlo, hnm, hst, htb⟩ := X
  intro H locs ls hP hV hR hS hl
  have hM := hM hst N Z
  refine fg_alloc hN (by rw [hP.2]; exact hR.1) hR.2 fun c1 s1 e1 e2 => ?_
  have hcw := va_cnB (R := R) (args := args) (own := own) (index := index) (rm := ({ frames := d', cells := G.2.2.2.1, slots := G.2.2.2.2, locals := 64 * d' } : Room)) (mc := G.2.2.2.1) (ms := G.2.2.2.2) n hts (lw_meth q5) rfl rfl rfl (hK.2.1 _ q1 rfl) (hts _ q4) hd ⟨by show d' + 1 ≤ R.frames; omega, by show 8 + (nL' + 11) + 64 * d' ≤ R.locals; omega⟩
  have hrun := va_runSN (p := p) (e := e) (below := below) (meth := meth) (H := H) (locs := locs) (cells := c1) (slots := s1) (As := As) (rest := st) (g := F0 m pc ls st0) ⟨hx, hb, hml, hown, hts⟩ hM ⟨hcw, hts _ q2, trivial⟩ ⟨fg_blind, fun U hU hW => ⟨rfl, by rw [hU]; exact hP, by rw [hU]; exact hR, by rw [hV]; exact hK.goes hS hU hW⟩⟩ rfl hn (hl.1.trans hml) hsk (by show 2 * 0 + _ ≤ 8; omega) hdg ⟨by omega, by omega⟩
  rw [hV] at hrun
  refine fg_after hrun hS fun H1 locs1 p1 p2 p3 p4 => ?_
  rw [e1, e2]
  exact kk H1 locs1 ls p1 p2 p3 p4 hl
theorem fg_callIN (X : fg_X Ω own nm cc nL ret d) {y : MethodName} {host : String} {code : ByteArray} {nL' d' n index : Nat} {As : List Value} {G1 : fg_H}
    (hM : fg_M Ω.2.2.2.2.1 Ω.1 y code nL' none d' (.ref a :: As) G (.returned none) G1) (q1 : Cond.methodLinkNest own index y host ∈ lw_tbl) (q2 : Cond.instanceMethod y ∈ lw_all) (q4 : Cond.initialized y.cls ∈ lw_all) (q5 : Cond.code y code nL' none ∈ lw_all) (hin : y.name = "<init>")
    (hd : y.cls ≠ "java/lang/invoke/MethodHandle" ∧ y.cls ≠ "java/lang/invoke/VarHandle" ∧ (parseMethodDescriptor y.desc).map (fun d => d.parameters.length) = some n)
    (hdd : d' + 1 ≤ d ∧ nL' ≤ 45) (hn : As.length = n) {st0 : List Value} (hsk : st0 = As.reverse ++ .ref a :: st) (hW : (st.map fun v => v.category).sum ≤ 8) (hdg : decode cc pc = .ok (.invokespecial index, 3))
    (kk : fg_W Ω G1 (pc + 3) L st) : fg_W Ω G pc L st0 := by
  obtain ⟨D, V, ⟨N, Z⟩, p, l, e, R, s, m, args, below, meth, c, tw, o0, G0⟩ := Ω
  obtain ⟨hx, hb, hml, hown, hts, hK, hN, hlk, hr, hfr, hlo, hnm, hst, htb⟩ := X
  intro H locs ls hP hV hR hS hl
  have hM := hM hst N Z
  refine fg_alloc hN (by rw [hP.2]; exact hR.1) hR.2 fun c1 s1 e1 e2 => ?_
  have hcw := va_cnB (R := R) (args := args) (own := own) (index := index) (rm := ({ frames := d', cells := G.2.2.2.1, slots := G.2.2.2.2, locals := 64 * d' } : Room)) (mc := G.2.2.2.1) (ms := G.2.2.2.2) n hts (lw_meth q5) rfl rfl rfl (hK.2.1 _ q1 rfl) (hts _ q4) hd ⟨by show d' + 1 ≤ R.frames; omega, by show 8 + (nL' + 11) + 64 * d' ≤ R.locals; omega⟩
  have hrun := va_runIN (p := p) (e := e) (below := below) (meth := meth) (H := H) (locs := locs) (cells := c1) (slots := s1) (b := a) (As := As) (rest := st) (g := F0 m pc ls st0) ⟨hx, hb, hml, hown, hts⟩ hM ⟨hcw, hin, hts _ q2⟩ ⟨fg_blind, fun U hU hW => ⟨rfl, by rw [hU]; exact hP, by rw [hU]; exact hR, by rw [hV]; exact hK.goes hS hU hW⟩⟩ rfl hn (hl.1.trans hml) hsk (by show 2 * 0 + _ ≤ 8; omega) hdg ⟨by omega, by omega⟩
  rw [hV] at hrun
  refine fg_after (v := none) hrun hS fun H1 locs1 p1 p2 p3 p4 => ?_
  rw [e1, e2]
  exact kk H1 locs1 ls p1 p2 p3 p4 hl
/-- getClass() of an array of objects -/
theorem fg_getC (X : fg_X Ω own nm cc nL ret d) {index r : Nat} (q1 : Cond.methodLink own index ⟨"java/lang/Object", "getClass", "()Ljava/lang/Class;"⟩ ∈ lw_all) (q2 : Cond.declares ⟨"java/lang/Object", "getClass", "()Ljava/lang/Class;"⟩ ∈ lw_tbl) (q3 : Cond.selects "[Ljava/lang/Object;" ⟨"java/lang/Object", "getClass", "()Ljava/lang/Class;"⟩ ⟨"java/lang/Object", "getClass", "()Ljava/lang/Class;"⟩ ∈ lw_all) (q4 : Cond.instanceMethod ⟨"java/lang/Object", "getClass", "()Ljava/lang/Class;"⟩ ∈ lw_all) (q5 : Cond.native ⟨"java/lang/Object", "getClass", "()Ljava/lang/Class;"⟩ ∈ lw_all)
    (ho : fg_cka G (some a) 4 = true) (h : G.1.2.2 52 = r) (hdd : 1 ≤ d) (hW : (st.map fun v => v.category).sum ≤ 8) (hdg : decode cc pc = .ok (.invokevirtual index, 3)) (kk : fg_W Ω G (pc + 3) L (.ref r :: st)) : fg_W Ω G pc L (.ref a :: st) := by
  obtain ⟨D, V, ⟨N, Z⟩, p, l, e, R, s, m, args, below, meth, c, tw, o0, G0⟩ := Ω
  obtain ⟨hx, hb, hml, hown, hts, hK, hN, hlk, hr, hfr, hlo, hnm, hst, htb⟩ := X
  intro H locs ls hP hV hR hS hl
  unfold fg_cka at ho
  dsimp only at ho
  split at ho
  · rename_i x hx0
    obtain ⟨k, y⟩ := x
    have hk : k = 4 := by simpa using ho
    subst hk
    have hc := fg_arr hP hx0 (by decide) 0 _ rfl
    have hn : s.vm.findClass "[Ljava/lang/Object;" = some (D.2 4) := va_nmO (hK.1.2 4 _ rfl).2 (by decide +kernel)
    have hcls : (vp_cell (D.2 4) y).cls = D.2 4 := by obtain ⟨n, f | f | f | f | f⟩ := y <;> rfl
    have hvm : (vp_cell (D.2 4) y).vm.isStatics = false := by obtain ⟨n, f | f | f | f | f⟩ := y <;> rfl
    subst h
    have hk2 := kk H locs ls hP hV hR hS hl
    rw [hV] at hk2
    exact va_getC hx hb hl.1.symm hown (hts _ q1) (va_Nw.use rfl (hK.2.1 _ q2 rfl)) (hts _ q3) (hts _ q4) (hts _ q5) hK.2.2.2.2.2.1 ⟨_, hc, hvm, by rw [hcls]; exact hn⟩ (by omega) (by omega) hdg hk2
  · cases ho
theorem fg_ldcM (X : fg_X Ω own nm cc nL ret d) {index r : Nat} (q : Cond.classLink own index "[Ljava/lang/Object;" ∈ lw_all) (h : G.1.2.2 52 = r) (hd : decode cc pc = .ok (.ldc index, 2)) (kk : fg_W Ω G (pc + 2) L (.ref r :: st)) : fg_W Ω G pc L st := by
  obtain ⟨D, V, ⟨N, Z⟩, p, l, e, R, s, m, args, below, meth, c, tw, o0, G0⟩ := Ω
  obtain ⟨hx, hb, hml, hown, hts, hK, hN, hlk, hr, hfr, hlo, hnm, hst, htb⟩ := X
  intro H locs ls hP hV hR hS hl
  subst h
  have hk2 := kk H locs ls hP hV hR hS hl
  rw [hV] at hk2
  exact va_ldcM hx hb hown (hts _ q) hK.2.2.2.2.2.1 hd hk2
theorem fg_acmp_eq (X : fg_X Ω own nm cc nL ret d) {rx ry : Option Nat} {off : Int} {tgt : Nat} (hd : decode cc pc = .ok (.if_acmp .eq off, 3)) (ht : (pc : Int) + off = (tgt : Int)) (kt : rx = ry → fg_W Ω G tgt L st) (kf : ¬ rx = ry → fg_W Ω G (pc + 3) L st) : fg_W Ω G pc L (va_rf ry :: va_rf rx :: st) := by
  obtain ⟨D, V, ⟨N, Z⟩, p, l, e, R, s, m, args, below, meth, c, tw, o0, G0⟩ := Ω
  obtain ⟨hx, hb, hml, hown, hts, hK, hN, hlk, hr, hfr, hlo, hnm, hst, htb⟩ := X
  intro H locs ls hP hV hR hS hl
  exact lv_acmp_eq hx hb hd ht (fun q => kt q H locs ls hP hV hR hS hl) (fun q => kf q H locs ls hP hV hR hS hl)
theorem fg_acmp_ne (X : fg_X Ω own nm cc nL ret d) {rx ry : Option Nat} {off : Int} {tgt : Nat} (hd : decode cc pc = .ok (.if_acmp .ne off, 3)) (ht : (pc : Int) + off = (tgt : Int)) (kt : ¬ rx = ry → fg_W Ω G tgt L st) (kf : rx = ry → fg_W Ω G (pc + 3) L st) : fg_W Ω G pc L (va_rf ry :: va_rf rx :: st) := by
  obtain ⟨D, V, ⟨N, Z⟩, p, l, e, R, s, m, args, below, meth, c, tw, o0, G0⟩ := Ω
  obtain ⟨hx, hb, hml, hown, hts, hK, hN, hlk, hr, hfr, hlo, hnm, hst, htb⟩ := X
  intro H locs ls hP hV hR hS hl
  exact lv_acmp_ne hx hb hd ht (fun q => kt q H locs ls hP hV hR hS hl) (fun q => kf q H locs ls hP hV hR hS hl)
/-- System.arraycopy -/
def fg_cpi (G : fg_H) (a0 : Nat) (sp : Int32) (a : Nat) (dp n : Int32) : Option fg_H := match G.2.1 a0, G.2.1 a with
  | some (.inl (k0, n0, .inl f)), some (.inl (k1, n1, .inl g)) => if k0 = 0 ∧ k1 = 0 ∧ ¬ sp < 0 ∧ ¬ dp < 0 ∧ ¬ n < 0 ∧ sp.toNatClampNeg + n.toNatClampNeg ≤ n0 ∧ dp.toNatClampNeg + n.toNatClampNeg ≤ n1 ∧ G.1.1 a = true then some (fg_wr G a (.inl (k1, n1, .inl (va_cpy f g sp.toNatClampNeg dp.toNatClampNeg n.toNatClampNeg)))) else none
  | _, _ => none
def fg_cpr (G : fg_H) (kd : Nat) (a0 : Nat) (sp : Int32) (a : Nat) (dp n : Int32) : Option fg_H := match G.2.1 a0, G.2.1 a with
  | some (.inl (k0, n0, .inr (.inr (.inr (.inr f))))), some (.inl (k1, n1, .inr (.inr (.inr (.inr g))))) => if k0 = kd ∧ k1 = kd ∧ ¬ sp < 0 ∧ ¬ dp < 0 ∧ ¬ n < 0 ∧ sp.toNatClampNeg + n.toNatClampNeg ≤ n0 ∧ dp.toNatClampNeg + n.toNatClampNeg ≤ n1 ∧ G.1.1 a = true ∧ (List.range n.toNatClampNeg).all (fun i => fg_el G kd (f (sp.toNatClampNeg + i))) = true then some (fg_wr G a (.inl (k1, n1, .inr (.inr (.inr (.inr (va_cpy f g sp.toNatClampNeg dp.toNatClampNeg n.toNatClampNeg))))))) else none
  | _, _ => none
theorem fg_nn (z : Int32) (hz : ¬ z < 0) : z.toInt = (z.toNatClampNeg : Int) := by
  have hz0 : (0 : Int) ≤ z.toInt := by
    have := Int32.not_lt.mp hz
    simpa using Int32.le_iff_toInt_le.mp this
  show z.toInt = ((z.toInt.toNat : Nat) : Int)
  omega
theorem fg_copyi (X : fg_X Ω own nm cc nL ret d) {index a0 : Nat} {sp dp n : Int32} (q1 : Cond.methodLink own index arraycopyName ∈ lw_all) (q2 : Cond.native arraycopyName ∈ lw_all) (q3 : Cond.static arraycopyName ∈ lw_all) (q4 : Cond.initialized "java/lang/System" ∈ lw_all) (hdd : 1 ≤ d) (h : fg_cpi G a0 sp a dp n = some G') (hW : (st.map fun v => v.category).sum ≤ 8) (hdg : decode cc pc = .ok (.invokestatic index, 3))
    (kk : fg_W Ω G' (pc + 3) L st) : fg_W Ω G pc L (.int n :: .int dp :: .ref a :: .int sp :: .ref a0 :: st) := by
  obtain ⟨D, V, ⟨N, Z⟩, p, l, e, R, s, m, args, below, meth, c, tw, o0, G0⟩ := Ω
  obtain ⟨hx, hb, hml, hown, hts, hK, hN, hlk, hr, hfr, hlo, hnm, hst, htb⟩ := X
  intro H locs ls hP hV hR hS hl
  unfold fg_cpi at h
  split at h
  · rename_i k0 n0 f k1 n1 g hG0 hG1
    split at h
    · rename_i hc
      cases h
      obtain ⟨rfl, rfl, h1, h2, h3, h4, h5, hA⟩ := hc
      have hc0 : H[a0]? = some (vp_cell (D.2 0) (n0, .inl f)) := fg_arr hP hG0 (by decide) 0 _ rfl
      have hc1 : H[a]? = some (vp_cell (D.2 0) (n1, .inl g)) := fg_arr hP hG1 (by decide) 0 _ rfl
      obtain ⟨-, k0, hk0, cm0, hkk0⟩ := (hK.1.2 0 _ rfl).1 n0 (fun j => .int (f j))
      obtain ⟨-, k1, hk1, cm1, hkk1⟩ := (hK.1.2 0 _ rfl).1 n1 (fun j => .int (g j))
      intro T hT X
      obtain ⟨vm', X', step⟩ := X.arraycopy hx hown (hts _ q1) (hts _ q2) (hts _ q3) (hts _ q4) (src := a0) (dst := a) (cs := vp_cell (D.2 0) (n0, .inl f)) (cd := vp_cell (D.2 0) (n1, .inl g)) (srcPos := sp) (destPos := dp) (n := n) (by rw [hT]; exact hc0) (by rw [hT]; exact hc1)
        (fun _ h => by cases h) (fun _ h => by cases h) (fun h => by cases h) (fun h => by cases h) hk0 hk1 hkk0 hkk1 (by simp [refKind, fg_ty]) h1 h2 h3
        (by rw [fg_nn sp h1, fg_nn n h3]; show ¬ _ > ((arrV (D.2 0) n0 (fun j => .int (f j))).slots.size : Int); rw [arrV_size]; omega)
        (by rw [fg_nn dp h2, fg_nn n h3]; show ¬ _ > ((arrV (D.2 0) n1 (fun j => .int (g j))).slots.size : Int); rw [arrV_size]; omega)
        (fun vm₁ _ i hi => by
          have e : (vp_cell (D.2 0) (n0, .inl f)).slots.getD (sp.toNatClampNeg + i) .null = .int (f (sp.toNatClampNeg + i)) := by
            show (arrV (D.2 0) n0 (fun j => .int (f j))).slots.getD _ _ = _
            rw [Array.getD_eq_getD_getElem?, arrV_read _ _ (by omega)]
            rfl
          refine ⟨?_, ?_⟩
          · rw [e]; rfl
          · rw [e]; exact trivial)
        (g := F0 m pc ls (.int n :: .int dp :: .ref a :: .int sp :: .ref a0 :: st)) rfl hl.1 (rest := st) rfl (by rw [hb]; exact hdg) (by omega) (by show 2 * 0 + _ + _ ≤ _; have : nativeFrameWords "java/lang/System" "arraycopy" 5 + 11 ≤ 50 := (by decide); omega)
      have e1 : copied (vp_cell (D.2 0) (n0, .inl f)) (vp_cell (D.2 0) (n1, .inl g)) sp dp n = vp_cell (D.2 0) (n1, .inl (va_cpy f g sp.toNatClampNeg dp.toNatClampNeg n.toNatClampNeg)) := va_copied (fun z => .int z) (D.2 0) (D.2 0) f g h4
      rw [e1] at X' step
      have hlt : a < H.size := (Array.getElem?_eq_some_iff.mp hc1).1
      have hheap : ((T.setVm vm').setCell a (vp_cell (D.2 0) (n1, .inl (va_cpy f g sp.toNatClampNeg dp.toNatClampNeg n.toNatClampNeg)))).heap = H.setIfInBounds a (vp_cell (D.2 0) (n1, .inl (va_cpy f g sp.toNatClampNeg dp.toNatClampNeg n.toNatClampNeg))) := by rw [← hT]; rfl
      generalize hH1 : H.setIfInBounds a (vp_cell (D.2 0) (n1, .inl (va_cpy f g sp.toNatClampNeg dp.toNatClampNeg n.toNatClampNeg))) = H1 at hheap
      have w1 : H1[a]? = some (vp_cell (D.2 0) (n1, .inl (va_cpy f g sp.toNatClampNeg dp.toNatClampNeg n.toNatClampNeg))) := by rw [← hH1]; simp [Array.getElem?_setIfInBounds, hlt]
      have wz : H1.size = H.size := by rw [← hH1]; simp
      have wo : ∀ q : Nat, q ≠ a → H1[q]? = H[q]? := fun q hq => by rw [← hH1]; simp [Array.getElem?_setIfInBounds, Ne.symm hq]
      obtain ⟨p1, p2, p3⟩ := fg_put (i := 0) (x := .inl (0, n1, .inl (va_cpy f g sp.toNatClampNeg dp.toNatClampNeg n.toNatClampNeg))) hP hR (by rw [hV]; exact hS) wz wo hc1 w1 (by show (arrV _ _ _).slots.size = (arrV _ _ _).slots.size; rw [arrV_size, arrV_size]) (Or.inl ⟨by decide, w1⟩) hA
      obtain ⟨t, a1, b1⟩ := kk H1 _ ls p1 hV p2 ⟨p3.1, by rw [← hV]; exact p3.2.1, fun q hq => by
          rcases List.mem_append.mp hq with h | h
          · exact hS.2.2 q h
          · obtain ⟨z, -, hz⟩ := List.mem_map.mp h
            rw [← hz]
            show V.1 a = true
            rw [← hV]
            exact hA⟩ hl _ hheap X'
      exact ⟨t, step t a1, b1⟩
    · cases h
  · cases h
theorem fg_copyq (X : fg_X Ω own nm cc nL ret d) {kd index a0 : Nat} (hkd : kd = 4 ∨ kd = 5 ∨ kd = 6 ∨ kd = 7) {sp dp n : Int32} (q1 : Cond.methodLink own index arraycopyName ∈ lw_all) (q2 : Cond.native arraycopyName ∈ lw_all) (q3 : Cond.static arraycopyName ∈ lw_all) (q4 : Cond.initialized "java/lang/System" ∈ lw_all) (hdd : 1 ≤ d) (h : fg_cpr G kd a0 sp a dp n = some G') (hW : (st.map fun v => v.category).sum ≤ 8) (hdg : decode cc pc = .ok (.invokestatic index, 3))
    (kk : fg_W Ω G' (pc + 3) L st) : fg_W Ω G pc L (.int n :: .int dp :: .ref a :: .int sp :: .ref a0 :: st) := by
  obtain ⟨D, V, ⟨N, Z⟩, p, l, e, R, s, m, args, below, meth, c, tw, o0, G0⟩ := Ω
  obtain ⟨hx, hb, hml, hown, hts, hK, hN, hlk, hr, hfr, hlo, hnm, hst, htb⟩ := X
  intro H locs ls hP hV hR hS hl
  unfold fg_cpr at h
  split at h
  · rename_i k0 n0 f k1 n1 g hG0 hG1
    split at h
    · rename_i hc
      cases h
      obtain ⟨rfl, rfl, h1, h2, h3, h4, h5, hA, hall⟩ := hc
      obtain ⟨g1, g2, C, g3⟩ := fg_kd4 (D := D) hkd
      rw [g3] at g2
      have hc0 : H[a0]? = some (vp_cell (D.2 k1) (n0, .inr (.inr (.inr (.inr f))))) := fg_arr hP hG0 g1 0 _ rfl
      have hc1 : H[a]? = some (vp_cell (D.2 k1) (n1, .inr (.inr (.inr (.inr g))))) := fg_arr hP hG1 g1 0 _ rfl
      obtain ⟨-, j0, hk0, cm0, hkk0⟩ := (hK.1.2 k1 _ g2).1 n0 (fun j => va_rf (f j))
      obtain ⟨-, j1, hk1, cm1, hkk1⟩ := (hK.1.2 k1 _ g2).1 n1 (fun j => va_rf (g j))
      intro T hT X
      obtain ⟨vm', X', step⟩ := X.arraycopy hx hown (hts _ q1) (hts _ q2) (hts _ q3) (hts _ q4) (src := a0) (dst := a) (cs := vp_cell (D.2 k1) (n0, .inr (.inr (.inr (.inr f))))) (cd := vp_cell (D.2 k1) (n1, .inr (.inr (.inr (.inr g))))) (srcPos := sp) (destPos := dp) (n := n) (by rw [hT]; exact hc0) (by rw [hT]; exact hc1)
        (fun _ h => by cases h) (fun _ h => by cases h) (fun h => by cases h) (fun h => by cases h) hk0 hk1 hkk0 hkk1 rfl h1 h2 h3
        (by rw [fg_nn sp h1, fg_nn n h3]; show ¬ _ > ((arrV (D.2 k1) n0 (fun j => va_rf (f j))).slots.size : Int); rw [arrV_size]; omega)
        (by rw [fg_nn dp h2, fg_nn n h3]; show ¬ _ > ((arrV (D.2 k1) n1 (fun j => va_rf (g j))).slots.size : Int); rw [arrV_size]; omega)
        (fun vm₁ hal i hi => by
          have e : (vp_cell (D.2 k1) (n0, .inr (.inr (.inr (.inr f))))).slots.getD (sp.toNatClampNeg + i) .null = va_rf (f (sp.toNatClampNeg + i)) := by
            show (arrV (D.2 k1) n0 (fun j => va_rf (f j))).slots.getD _ _ = _
            rw [Array.getD_eq_getD_getElem?, arrV_read _ _ (by omega)]
            rfl
          rw [e]
          have hel := List.all_eq_true.mp hall i (List.mem_range.mpr hi)
          cases hy : f (sp.toNatClampNeg + i) with
          | none => exact ⟨rfl, trivial⟩
          | some y =>
            rw [hy] at hel
            obtain ⟨kA, comp, r1, r2, r3, -⟩ := (hK.1.2 k1 _ g2).2
            cases hk1.symm.trans r1
            cases hkk1.symm.trans r2
            obtain ⟨cellV, E, v1, v2, v3, v4⟩ := fg_el_get hK hP hV hS g3 r3 hel
            obtain ⟨kC, hkC, -⟩ := Vm.findClass_spec v3
            obtain ⟨kE, hkE, -⟩ := Vm.findClass_spec r3
            obtain ⟨kC', hkC', -⟩ := hal.2.2 _ _ hkC
            obtain ⟨kE', hkE', -⟩ := hal.2.2 _ _ hkE
            refine ⟨rfl, cellV, (show T.heap[y]? = some cellV by rw [hT]; exact v1), (fun q h => by rw [h] at v2; cases v2), ⟨kC', hkC'⟩, ?_, ?_⟩
            · exact ⟨kE', hkE'⟩
            · show vm₁.assignable _ _ = true
              rw [hal.assignable]
              exact v4)
        (g := F0 m pc ls (.int n :: .int dp :: .ref a :: .int sp :: .ref a0 :: st)) rfl hl.1 (rest := st) rfl (by rw [hb]; exact hdg) (by omega) (by show 2 * 0 + _ + _ ≤ _; have : nativeFrameWords "java/lang/System" "arraycopy" 5 + 11 ≤ 50 := (by decide); omega)
      have e1 : copied (vp_cell (D.2 k1) (n0, .inr (.inr (.inr (.inr f))))) (vp_cell (D.2 k1) (n1, .inr (.inr (.inr (.inr g))))) sp dp n = vp_cell (D.2 k1) (n1, .inr (.inr (.inr (.inr (va_cpy f g sp.toNatClampNeg dp.toNatClampNeg n.toNatClampNeg))))) := by
        rw [vp_cell_q, vp_cell_q, vp_cell_q]
        exact va_copied (fun z => va_rf z) (D.2 k1) (D.2 k1) f g h4
      rw [e1] at X' step
      have hlt : a < H.size := (Array.getElem?_eq_some_iff.mp hc1).1
      have hheap : ((T.setVm vm').setCell a (vp_cell (D.2 k1) (n1, .inr (.inr (.inr (.inr (va_cpy f g sp.toNatClampNeg dp.toNatClampNeg n.toNatClampNeg))))))).heap = H.setIfInBounds a (vp_cell (D.2 k1) (n1, .inr (.inr (.inr (.inr (va_cpy f g sp.toNatClampNeg dp.toNatClampNeg n.toNatClampNeg)))))) := by rw [← hT]; rfl
      generalize hH1 : H.setIfInBounds a (vp_cell (D.2 k1) (n1, .inr (.inr (.inr (.inr (va_cpy f g sp.toNatClampNeg dp.toNatClampNeg n.toNatClampNeg)))))) = H1 at hheap
      have w1 : H1[a]? = some (vp_cell (D.2 k1) (n1, .inr (.inr (.inr (.inr (va_cpy f g sp.toNatClampNeg dp.toNatClampNeg n.toNatClampNeg)))))) := by rw [← hH1]; simp [Array.getElem?_setIfInBounds, hlt]
      have wz : H1.size = H.size := by rw [← hH1]; simp
      have wo : ∀ q : Nat, q ≠ a → H1[q]? = H[q]? := fun q hq => by rw [← hH1]; simp [Array.getElem?_setIfInBounds, Ne.symm hq]
      obtain ⟨p1, p2, p3⟩ := fg_put (i := 0) (x := .inl (k1, n1, .inr (.inr (.inr (.inr (va_cpy f g sp.toNatClampNeg dp.toNatClampNeg n.toNatClampNeg)))))) hP hR (by rw [hV]; exact hS) wz wo hc1 w1 (by show (arrV _ _ _).slots.size = (arrV _ _ _).slots.size; rw [arrV_size, arrV_size]) (Or.inl ⟨g1, w1⟩) hA
      obtain ⟨t, a1, b1⟩ := kk H1 _ ls p1 hV p2 ⟨p3.1, by rw [← hV]; exact p3.2.1, fun q hq => by
          rcases List.mem_append.mp hq with h | h
          · exact hS.2.2 q h
          · obtain ⟨z, -, hz⟩ := List.mem_map.mp h
            rw [← hz]
            show V.1 a = true
            rw [← hV]
            exact hA⟩ hl _ hheap X'
      exact ⟨t, step t a1, b1⟩
    · cases h
  · cases h
/-- a field that a class has from the class above, named through the class itself -/
theorem fg_getiS (X : fg_X Ω own nm cc nL ret d) {cs : List Nat} {k index : Nat} {ref of fn fd : String} {fin : Bool} {v : Int32} (hk : fg_fck cs k of fn fd fin = true) (q : Cond.fieldLink own index ref fn fd ∈ lw_all) (q2 : Cond.sameField ref of fn fd ∈ lw_all) (h : fg_gi G a cs k = some v) (hd : decode cc pc = .ok (.getfield index, 3))
    (kk : fg_W Ω G (pc + 3) L (.int v :: st)) : fg_W Ω G pc L (.ref a :: st) := by
  obtain ⟨D, V, ⟨N, Z⟩, p, l, e, R, s, m, args, below, meth, c, tw, o0, G0⟩ := Ω
  obtain ⟨hx, hb, hml, hown, hts, hK, hN, hlk, hr, hfr, hlo, hnm, hst, htb⟩ := X
  intro H locs ls hP hV hR hS hl
  obtain ⟨o, ho, hc, hv⟩ := fg_gv_get (fg_gi_get h)
  obtain ⟨h33, ⟨C, T, Nf⟩, hq, hkN, hT⟩ := fg_fck_get hk hc
  have hT : T k = (of, fn, fd, fin) := hT
  have hP1 : va_P D.1 fg_cl [(a, .inr o)] H := by
    intro j x hj
    have hj0 : j = 0 := by
      have := (List.getElem?_eq_some_iff.mp hj).1
      simp at this
      exact this
    subst hj0
    cases hj
    rcases hP.1 a _ ho with ⟨-, h2⟩ | ⟨h2, -⟩
    · exact h2
    · omega
  have hin := fg_in_all _ (List.mem_of_getElem? hq)
  exact va_get (own := own) (ref := ref) (C := C) (T := T) (N := Nf) (ci := o.1) (fs := o.2) (index := index) hx hb hts hin hown hK.1 hP1 0 rfl hq k hkN (by rw [hT]; exact hts _ q) (by rw [hT]; exact fun x hf => u_same (hts _ q2) x hf) hv hd (kk H locs ls hP hV hR hS hl)
theorem fg_putvS (X : fg_X Ω own nm cc nL ret d) {cs : List Nat} {k index : Nat} {ref of fn fd : String} {fin : Bool} {v : Value} {ty : FieldType} (hk : fg_fck cs k of fn fd fin = true) (q : Cond.fieldLink own index ref fn fd ∈ lw_all) (hsame : Cond.sameField ref of fn fd ∈ lw_all) (hfin : fin = false ∨ (nm = "<init>" ∧ of = own)) (hty : parseFieldDescriptor fd = some ty) (hn : narrow ty v = v) (hfit : fits ty v = true) (h : fg_pv G a cs k v = some G') (hd : decode cc pc = .ok (.putfield index, 3))
    (kk : fg_W Ω G' (pc + 3) L st) : fg_W Ω G pc L (v :: .ref a :: st) := by
  obtain ⟨D, V, ⟨N, Z⟩, p, l, e, R, s, m, args, below, meth, c, tw, o0, G0⟩ := Ω
  obtain ⟨hx, hb, hml, hown, hts, hK, hN, hlk, hr, hfr, hlo, hnm, hst, htb⟩ := X
  intro H locs ls hP hV hR hS hl
  obtain ⟨o, ho, hc, hlen, hA, rfl⟩ := fg_pv_get h
  obtain ⟨h33, ⟨C, T, Nf⟩, hq, hkN, hT⟩ := fg_fck_get hk hc
  have hT : T k = (of, fn, fd, fin) := hT
  have hkN : k < Nf := hkN
  have hin := fg_in_all _ (List.mem_of_getElem? hq)
  obtain ⟨ty0, hty0⟩ := fg_ty_all _ (List.mem_of_getElem? hq)
  have hnms := fg_nm_all _ (List.mem_of_getElem? hq)
  have hap := va_apart (own := own) hts hin ty0 hty0 hnms hK.1 hq
  obtain ⟨r, h1, cell, q1, q2, q3, q4⟩ : ∃ r : vw_C, fg_cl[o.1]? = some r ∧ t_OB a (D.1.1 o.1) r.2.2 (D.1.2 o.1) H (vp_V o.2) := by
    rcases hP.1 a _ ho with ⟨-, h2⟩ | ⟨h2, -⟩
    · exact h2
    · omega
  have hmo : fg_mo o.1 a H := by
    rcases hP.1 a _ ho with ⟨h2, -⟩ | ⟨h2, -⟩
    · exact h2.2
    · omega
  have hr' : r = (C, T, Nf) := Option.some.inj (h1.symm.trans hq)
  subst hr'
  obtain ⟨hSl, hfc, kC, hkC, hkind⟩ := hK.1.1 o.1 _ hq
  obtain ⟨cf, kf, fi, f, hi, hsl⟩ := hSl k hkN
  have hlay := hts _ (hin _ (u_in_lay hkN))
  unfold u_lay at hlay
  have hst := (u_facts hfc hkC (u_lays hts hin hkN) hi).1
  have hi' : s.fieldFound? ref fn fd = some (cf, kf, fi, f) := by
    have := hi
    dsimp only at this
    rw [hT] at this
    exact u_same (hts _ hsame) _ this
  have hd0 : parseFieldDescriptor (T k).2.2.1 = some ty := by rw [hT]; exact hty
  have hgo : ∀ H' : Heap, H'[a]? = some (cell.setSlot f.slot v) → H'.size = H.size → (∀ q, q ≠ a → H'[q]? = H[q]?) → W p l e R s m args below meth c H' (locs ++ [⟨a, f.slot⟩]) R.cells R.slots (fg_EE tw D N Z V o0 G0 below args s R.cells R.slots) { F0 m pc ls (v :: .ref a :: st) with pc := pc + 3, stack := st } := by
    intro H' e1 e2 e3
    have hobj : t_OB a (D.1.1 o.1) Nf (D.1.2 o.1) H' (vp_V (o.2.set k v)) := by
      rw [hsl] at e1
      exact t_OB.to (V := updV (vp_V o.2) k v) ⟨_, e1, q2, q3, t_set q4 hap hkN v⟩ (fun j _ => vp_updV_set hlen v j)
    obtain ⟨p1, p2, p3⟩ := fg_put (i := f.slot) (x := .inr (o.1, o.2.set k v)) hP hR (by rw [hV]; exact hS) e2 e3 q1 e1 (k2_slotsz _ _ _) (Or.inl ⟨⟨h33, fun h9 c9 hc9 => by rw [e1] at hc9; cases hc9; exact hmo h9 cell q1⟩, _, hq, hobj⟩) hA
    exact kk H' _ ls p1 hV p2 (by rw [hV] at p3; exact p3) hl
  have hslot : f.slot < cell.slots.size := by rw [hsl]; exact k2_hasslot (q4 k hkN)
  cases fin with
  | false =>
    rw [if_neg (by show ¬ ((T k).2.2.2 = true); rw [hT]; exact fun h => by cases h)] at hlay
    have h6 := u_store hfc hkC hkind hlay hi hd0 hn hfit
    exact W.putK hx hb (f := f) ⟨hown, hts _ q, ⟨_, _, _, hi'⟩, hst⟩ (by rw [q2]; exact h6) q1 q3 hslot rfl rfl hd hgo
  | true =>
    rw [if_pos (by show (T k).2.2.2 = true; rw [hT])] at hlay
    rcases hfin with hfin | ⟨hin2, hdecl⟩
    · cases hfin
    have hcf : m.cls = cf := by
      obtain ⟨_, _, c', _, _, _, -, -, hf', -, -, -, hown2, -⟩ := Cond.laysFinal_spec hlay
      have e1 : c' = cf := by have := hi.symm.trans hf'; simp at this; exact this.1.symm
      have hdecl' : (T k).1 = own := by rw [hT]; exact hdecl
      rw [hdecl'] at hown2
      rw [← e1]; exact Option.some.inj (hown.symm.trans hown2)
    have h6 := u_fits hfc hkC hkind (Or.inr hlay) hi hd0 hn hfit
    exact W.putFinK hx hb hown (hts _ q) hi' hst hcf (hnm.trans hin2) (by rw [q2]; exact h6) q1 q3 hslot rfl rfl hd hgo
end FGU

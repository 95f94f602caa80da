/-! rows for objects of several classes: references in arrays, statics, texts, casts, calls by the receiver's class -/
def fg_nr (ty : FieldType) (x : Int32) : Bool := match narrow ty (.int x) with
  | .int y => y == x
  | _ => false
theorem fg_nr_eq {ty : FieldType} {x : Int32} (h : fg_nr ty x = true) : narrow ty (.int x) = .int x := by
  unfold fg_nr at h
  split at h
  · rename_i y hy
    have : y = x := by simpa using h
    rw [hy, this]
  · cases h
theorem fg_nrf {ty : FieldType} (r : Option Nat) (hrt : (∃ n, ty = .object n) ∨ ∃ t, ty = .array t) : narrow ty (va_rf r) = va_rf r := by
  rcases hrt with ⟨n, rfl⟩ | ⟨t, rfl⟩ <;> cases r <;> rfl
theorem fg_frf {ty : FieldType} (r : Option Nat) (hrt : (∃ n, ty = .object n) ∨ ∃ t, ty = .array t) : fits ty (va_rf r) = true := by
  rcases hrt with ⟨n, rfl⟩ | ⟨t, rfl⟩ <;> cases r <;> rfl
/-- may r stand in an array of the kind kd -/
def fg_el (G : fg_H) (kd : Nat) (r : Option Nat) : Bool := match r with
  | none => true
  | some v => match G.2.1 v with
    | some (.inr o) => (kd == 4 && [16, 17, 18, 19, 20, 21, 22, 23, 24, 25, 26, 27, 28, 31].contains o.1) || (kd == 5 && [23, 24, 25, 26, 27, 28].contains o.1) || (kd == 6 && o.1 == 29) || (kd == 7 && o.1 == 33)
    | some (.inl x) => kd == 4 && x.1 == 0
    | none => false
def fg_sr (G : fg_H) (a kd : Nat) (i : Int32) (r : Option Nat) : Option fg_H := match G.2.1 a with
  | some (.inl (k, n, .inr (.inr (.inr (.inr f))))) => if k = kd ∧ ¬ (i < 0 ∨ n ≤ i.toNatClampNeg) ∧ G.1.1 a = true ∧ fg_el G kd r = true then some (fg_wr G a (.inl (k, n, .inr (.inr (.inr (.inr (va_up f i.toNatClampNeg r))))))) else none
  | _ => none
theorem fg_sr_get {G G' : fg_H} {a kd : Nat} {i : Int32} {r : Option Nat} (h : fg_sr G a kd i r = some G') : ∃ n f, G.2.1 a = some (.inl (kd, n, .inr (.inr (.inr (.inr f))))) ∧ vp_in i n ∧ G.1.1 a = true ∧ fg_el G kd r = true ∧ G' = fg_wr G a (.inl (kd, n, .inr (.inr (.inr (.inr (va_up f i.toNatClampNeg r)))))) := by
  unfold fg_sr at h
  split at h
  · rename_i k n f hG
    split at h
    · rename_i hc
      cases h
      obtain ⟨rfl, h2, h3, h4⟩ := hc
      exact ⟨n, f, hG, h2, h3, h4, rfl⟩
    · cases h
  · cases h
theorem fg_obj_castable : ∀ ci, [16, 17, 18, 19, 20, 21, 22, 23, 24, 25, 26, 27, 28, 31].contains ci = true → ∃ q : vw_C, fg_cl[ci]? = some q ∧ Cond.castable q.1 "java/lang/Object" ∈ lw_tbl := by
  intro ci h
  simp only [List.contains_cons, List.contains_nil, Bool.or_false, Bool.or_eq_true, beq_iff_eq] at h
  rcases h with h | h | h | h | h | h | h | h | h | h | h | h | h | h <;> subst h
  · exact ⟨_, rfl, q2078⟩
  · exact ⟨_, rfl, q2079⟩
  · exact ⟨_, rfl, q2080⟩
  · exact ⟨_, rfl, q2081⟩
  · exact ⟨_, rfl, q2082⟩
  · exact ⟨_, rfl, q2083⟩
  · exact ⟨_, rfl, q2084⟩
  · exact ⟨_, rfl, q2062⟩
  · exact ⟨_, rfl, q2086⟩
  · exact ⟨_, rfl, q2087⟩
  · exact ⟨_, rfl, q2088⟩
  · exact ⟨_, rfl, q2089⟩
  · exact ⟨_, rfl, q2090⟩
  · exact ⟨_, rfl, q2085⟩
theorem fg_net_castable : ∀ ci, [23, 24, 25, 26, 27, 28].contains ci = true → ∃ q : vw_C, fg_cl[ci]? = some q ∧ (q.1 = "FogNets$Net" ∨ Cond.castable q.1 "FogNets$Net" ∈ lw_tbl) := by
  intro ci h
  simp only [List.contains_cons, List.contains_nil, Bool.or_false, Bool.or_eq_true, beq_iff_eq] at h
  rcases h with h | h | h | h | h | h <;> subst h
  · exact ⟨_, rfl, Or.inl rfl⟩
  · exact ⟨_, rfl, Or.inr q2051⟩
  · exact ⟨_, rfl, Or.inr q2049⟩
  · exact ⟨_, rfl, Or.inr q2053⟩
  · exact ⟨_, rfl, Or.inr q2052⟩
  · exact ⟨_, rfl, Or.inr q2050⟩
theorem fg_link_castable : ∀ ci, [16, 17, 18, 19, 20, 21, 22].contains ci = true → ∃ q : vw_C, fg_cl[ci]? = some q ∧ (q.1 = "FogNets$Link" ∨ Cond.castable q.1 "FogNets$Link" ∈ lw_tbl) := by
  intro ci h
  simp only [List.contains_cons, List.contains_nil, Bool.or_false, Bool.or_eq_true, beq_iff_eq] at h
  rcases h with h | h | h | h | h | h | h <;> subst h
  · exact ⟨_, rfl, Or.inr q2060⟩
  · exact ⟨_, rfl, Or.inr q2058⟩
  · exact ⟨_, rfl, Or.inr q2056⟩
  · exact ⟨_, rfl, Or.inr q2055⟩
  · exact ⟨_, rfl, Or.inr q2059⟩
  · exact ⟨_, rfl, Or.inr q2054⟩
  · exact ⟨_, rfl, Or.inr q2057⟩
theorem fg_long_castable : ∀ ci, [31].contains ci = true → ∃ q : vw_C, fg_cl[ci]? = some q ∧ (q.1 = "java/lang/Long" ∨ Cond.castable q.1 "java/lang/Long" ∈ lw_tbl) := by
  intro ci h
  simp only [List.contains_cons, List.contains_nil, Bool.or_false, beq_iff_eq] at h
  subst h
  exact ⟨_, rfl, Or.inl rfl⟩
/-- what an element's cell is: its class, and that this class goes where the array's does -/
theorem fg_el_get {D : fg_D} {V : fg_V} {s : State} {G : fg_H} {H : Heap} {locs : List Loc} {kd v : Nat} {C : String} {comp : ClassId} (hK : fg_K D V s) (hP : fg_P D G H) (hV : G.1 = V) (hS : va_S (fg_A V) s.heap H locs) (hkd : fg_ty kd = .object C) (hcomp : s.vm.findClass C = some comp) (h : fg_el G kd (some v) = true) :
    ∃ (cv : Cell) (E : String), H[v]? = some cv ∧ cv.vm.isStatics = false ∧ s.vm.findClass E = some cv.cls ∧ s.vm.assignable cv.cls comp = true := by
  have hob : ∀ (o : Nat × List Value) (q : vw_C), G.2.1 v = some (.inr o) → o.1 < 33 → fg_cl[o.1]? = some q → ∃ cv : Cell, H[v]? = some cv ∧ cv.vm.isStatics = false ∧ s.vm.findClass q.1 = some cv.cls := by
    intro o q ho h33 hq
    rcases hP.1 v _ ho with ⟨-, r, h1, cell, g1, g2, g3, -⟩ | ⟨h1, -⟩
    · cases h1.symm.trans hq
      exact ⟨cell, g1, by rw [g3]; rfl, by rw [g2]; exact (hK.1.1 o.1 _ hq).2.1⟩
    · omega
  have hcast : ∀ (E : String) (cv : Cell), s.vm.findClass E = some cv.cls → Cond.castable E C ∈ lw_tbl → s.vm.assignable cv.cls comp = true := by
    intro E cv he hc
    obtain ⟨c0, t0, f1, f2, f3⟩ := Cond.castable_spec (va_Nw.use (A := #[]) rfl (hK.2.1 _ hc rfl))
    cases f1.symm.trans he
    cases f2.symm.trans hcomp
    exact f3
  have hself : ∀ (ci : Nat) (q : vw_C) (cv : Cell), fg_cl[ci]? = some q → s.vm.findClass q.1 = some cv.cls → q.1 = C → s.vm.assignable cv.cls comp = true := by
    intro ci q cv hq he hc
    have h1 := (hK.1.1 ci _ hq).2
    have e1 : D.1.1 ci = cv.cls := Option.some.inj (h1.1.symm.trans he)
    rw [hc] at he
    have e2 : cv.cls = comp := Option.some.inj (he.symm.trans hcomp)
    rw [← e2, ← e1]
    exact va_assign h1
  unfold fg_el at h
  dsimp only at h
  split at h
  · rename_i o ho
    simp only [Bool.or_eq_true, Bool.and_eq_true, beq_iff_eq] at h
    rcases h with ((⟨rfl, h⟩ | ⟨rfl, h⟩) | ⟨rfl, h⟩) | ⟨rfl, h⟩
    · obtain ⟨q, hq, hc⟩ := fg_obj_castable _ h
      cases hkd
      have h33 : o.1 < 33 := by have := (List.getElem?_eq_some_iff.mp hq).1; exact this
      obtain ⟨cv, g1, g2, g3⟩ := hob o q ho h33 hq
      exact ⟨cv, q.1, g1, g2, g3, hcast _ _ g3 hc⟩
    · obtain ⟨q, hq, hc⟩ := fg_net_castable _ h
      cases hkd
      have h33 : o.1 < 33 := by have := (List.getElem?_eq_some_iff.mp hq).1; exact this
      obtain ⟨cv, g1, g2, g3⟩ := hob o q ho h33 hq
      refine ⟨cv, q.1, g1, g2, g3, ?_⟩
      rcases hc with hc | hc
      · exact hself _ q cv hq g3 hc
      · exact hcast _ _ g3 hc
    · have hq : fg_cl[o.1]? = some (RX29, TX29, 6) := by rw [h]; rfl
      cases hkd
      obtain ⟨cv, g1, g2, g3⟩ := hob o _ ho (by omega) hq
      exact ⟨cv, RX29, g1, g2, g3, hself _ _ cv hq g3 rfl⟩
    · cases hkd
      rcases hP.1 v _ ho with ⟨⟨h1, -⟩, -⟩ | ⟨-, i, hi, hvi, -⟩
      · omega
      · rw [hV] at hvi
        subst hvi
        obtain ⟨cell, g1, g2, g3⟩ := vk_recv (A := fg_A V) hK.2.2.2.2.1.1 hi hS
        cases g3.symm.trans hcomp
        exact ⟨cell, _, g1, g2, g3, va_asg _ _⟩
  · rename_i x hx
    simp only [Bool.and_eq_true, beq_iff_eq] at h
    obtain ⟨rfl, h⟩ := h
    cases hkd
    obtain ⟨k, y⟩ := x
    have h : k = 0 := h
    subst h
    rcases hP.1 v _ hx with ⟨-, g1⟩ | ⟨g1, -⟩
    · have hn : s.vm.findClass "[I" = some (D.2 0) := va_nm_int (hK.1.2 0 _ rfl).2
      have hcls : (vp_cell (D.2 0) y).cls = D.2 0 := by obtain ⟨n, f | f | f | f | f⟩ := y <;> rfl
      have hvm : (vp_cell (D.2 0) y).vm.isStatics = false := by obtain ⟨n, f | f | f | f | f⟩ := y <;> rfl
      refine ⟨_, "[I", g1, hvm, by rw [hcls]; exact hn, ?_⟩
      exact hcast "[I" _ (by rw [hcls]; exact hn) q2099
    · cases g1
  · cases h
section FGS
variable {Ω : fg_O} {own nm : String} {cc : ByteArray} {nL d : Nat} {ret : Option FieldType} {G G' : fg_H} {pc a : Nat} {L L' : List (Nat × Value)} {st : List Value}
theorem fg_kd4 {D : fg_D} {kd : Nat} (h : kd = 4 ∨ kd = 5 ∨ kd = 6 ∨ kd = 7) : kd < 8 ∧ (fg_tys D)[kd]? = some (D.2 kd, fg_ty kd) ∧ ∃ C, fg_ty kd = .object C := by
  rcases h with h | h | h | h <;> subst h <;> exact ⟨by decide, rfl, _, rfl⟩
theorem fg_aald (X : fg_X Ω own nm cc nL ret d) {kd : Nat} (hkd : kd = 4 ∨ kd = 5 ∨ kd = 6 ∨ kd = 7) {i : Int32} {x : Option Nat} (h : fg_ar G a kd i = some x) (hd : decode cc pc = .ok (.aaload, 1)) (kk : fg_W Ω G (pc + 1) L (va_rf x :: st)) : fg_W Ω G pc L (.int i :: .ref a :: st) := by
  obtain ⟨D, V, ⟨N, Z⟩, p, l, e, R, s, m, args, below, meth, c, tw, o0, G0⟩ := Ω
  obtain ⟨hx, hb, hml, hown, hts, hK, hN, hlk, hr, hfr, hlo, hnm, hst, htb⟩ := X
  intro H locs ls hP hV hR hS hl
  obtain ⟨n, f, h1, h2, rfl⟩ := fg_ar_get h
  obtain ⟨g1, g2, C, g3⟩ := fg_kd4 (D := D) hkd
  rw [g3] at g2
  exact va_aldq hx hb hK.1 (fg_arr hP h1 g1) 0 kd rfl g2 h2 hd (kk H locs ls hP hV hR hS hl)
theorem fg_cellR (cA : ClassId) (n k : Nat) (f : Nat → Option Nat) (x : Option Nat) : (vp_cell cA (n, .inr (.inr (.inr (.inr f))))).setSlot k (va_rf x) = vp_cell cA (n, .inr (.inr (.inr (.inr (va_up f k x))))) := by
  rw [vp_cell_q, vp_cell_q, arrV_store]
  congr 1
  funext q
  by_cases hq : q = k
  · subst hq; simp [updV, va_up]
  · simp [updV, va_up, hq]
theorem fg_aast (X : fg_X Ω own nm cc nL ret d) {kd : Nat} (hkd : kd = 4 ∨ kd = 5 ∨ kd = 6 ∨ kd = 7) {i : Int32} {r : Option Nat} (h : fg_sr G a kd i r = some G') (hd : decode cc pc = .ok (.aastore, 1)) (kk : fg_W Ω G' (pc + 1) L st) : fg_W Ω G pc L (va_rf r :: .int i :: .ref a :: st) := by
  obtain ⟨D, V, ⟨N, Z⟩, p, l, e, R, s, m, args, below, meth, c, tw, o0, G0⟩ := Ω
  obtain ⟨hx, hb, hml, hown, hts, hK, hN, hlk, hr, hfr, hlo, hnm, hst, htb⟩ := X
  intro H locs ls hP hV hR hS hl
  obtain ⟨n, f, h1, h2, hA, hel, rfl⟩ := fg_sr_get h
  obtain ⟨g1, g2, C, g3⟩ := fg_kd4 (D := D) hkd
  rw [g3] at g2
  have hc0 : H[a]? = some (vp_cell (D.2 kd) (n, .inr (.inr (.inr (.inr f))))) := fg_arr hP h1 g1 0 _ rfl
  have hlt : i.toNatClampNeg < n := Nat.not_le.mp fun q => h2 (Or.inr q)
  have hi0 : ¬ i < 0 := fun q => h2 (Or.inl q)
  have hgo : ∀ H' : Heap, H'[a]? = some ((vp_cell (D.2 kd) (n, .inr (.inr (.inr (.inr f))))).setSlot i.toNatClampNeg (va_rf r)) → H'.size = H.size → (∀ q, q ≠ a → H'[q]? = H[q]?) → W p l e R s m args below meth c H' (locs ++ [⟨a, i.toNatClampNeg⟩]) R.cells R.slots (fg_EE tw D N Z V o0 G0 below args s R.cells R.slots) (F0 m (pc + 1) ls st) := by
    intro H1 e1 e2 e3
    obtain ⟨p1, p2, p3⟩ := fg_put (i := i.toNatClampNeg) (x := .inl (kd, n, .inr (.inr (.inr (.inr (va_up f i.toNatClampNeg r)))))) hP hR (by rw [hV]; exact hS) e2 e3 hc0 e1 (k2_slotsz _ _ _) (Or.inl ⟨g1, by rw [e1, fg_cellR]⟩) hA
    exact kk H1 _ ls p1 hV p2 (by rw [hV] at p3; exact p3) hl
  cases r with
  | none => exact va_WaastN (C := C) hx hb hc0 ((hK.1.2 kd _ g2).1 n (fun j => va_rf (f j))) (fun h => by cases h) (by show ¬ (i < 0 ∨ (arrV _ _ _).slots.size ≤ _); rw [arrV_size]; exact h2) rfl rfl hd hgo
  | some v =>
    obtain ⟨kA, comp, k1, k2, k3, -⟩ := (hK.1.2 kd _ g2).2
    obtain ⟨cv, E, v1, v2, v3, v4⟩ := fg_el_get hK hP hV hS g3 k3 hel
    obtain ⟨kv, hkv, -⟩ := Vm.findClass_spec v3
    obtain ⟨kc, hkc, -⟩ := Vm.findClass_spec k3
    exact W.aast hx hb hc0 (fun q h => by cases h) (fun h => by cases h) k1 k2 rfl hkc ⟨hi0, by show _ < (arrV _ _ _).slots.size; rw [arrV_size]; exact hlt⟩ v1 (fun q h => by rw [h] at v2; cases v2) hkv v4 rfl rfl hd hgo
theorem fg_alen (X : fg_X Ω own nm cc nL ret d) {x : Int32} (h : fg_ln G a = some x) (hd : decode cc pc = .ok (.arraylength, 1)) (kk : fg_W Ω G (pc + 1) L (.int x :: st)) : fg_W Ω G pc L (.ref a :: st) := by
  obtain ⟨D, V, ⟨N, Z⟩, p, l, e, R, s, m, args, below, meth, c, tw, o0, G0⟩ := Ω
  obtain ⟨hx, hb, hml, hown, hts, hK, hN, hlk, hr, hfr, hlo, hnm, hst, htb⟩ := X
  intro H locs ls hP hV hR hS hl
  unfold fg_ln at h
  split at h
  · rename_i k y hG
    split at h
    · rename_i hk
      cases h
      rcases hP.1 a _ hG with ⟨h8, -⟩ | ⟨h9, i, hi, ha, hy⟩
      · have ht : ∃ ty, (fg_tys D)[k]? = some (D.2 k, ty) := by
          rcases (show k = 0 ∨ k = 1 ∨ k = 2 ∨ k = 3 ∨ k = 4 ∨ k = 5 ∨ k = 6 ∨ k = 7 by omega) with h | h | h | h | h | h | h | h <;> subst h <;> exact ⟨_, rfl⟩
        obtain ⟨ty, ht⟩ := ht
        exact va_alen hx hb hK.1 (fg_arr hP hG h8) 0 k rfl ht rfl hd (kk H locs ls hP hV hR hS hl)
      · rw [hV] at ha
        subst ha
        obtain ⟨scr, w1, w2, w3, w4, w5, w6, w7⟩ := ((hK.2.2.2.2.1.1.1 i hi).2.2.2).kept hS.2.1
        refine W.alen (n := Int32.ofNat y.1) hx hb w1 w2 ?_ rfl rfl hd (kk H locs ls hP hV hR hS hl)
        rw [w5, hy]
        simp [hi]
    · cases h
  · cases h
theorem fg_tald (X : fg_X Ω own nm cc nL ret d) {i x : Int32} (h : fg_ai G a 9 i = some x) (hd : decode cc pc = .ok (.baload, 1)) (kk : fg_W Ω G (pc + 1) L (.int x :: st)) : fg_W Ω G pc L (.int i :: .ref a :: st) := by
  obtain ⟨D, V, ⟨N, Z⟩, p, l, e, R, s, m, args, below, meth, c, tw, o0, G0⟩ := Ω
  obtain ⟨hx, hb, hml, hown, hts, hK, hN, hlk, hr, hfr, hlo, hnm, hst, htb⟩ := X
  intro H locs ls hP hV hR hS hl
  obtain ⟨n, f, h1, h2, rfl⟩ := fg_ai_get h
  rcases hP.1 a _ h1 with ⟨h8, -⟩ | ⟨-, k, hk, ha, hy⟩
  · omega
  rw [hV] at ha
  subst ha
  cases hy
  obtain ⟨scr, w1, w2, w3, w4, w5, w6, w7⟩ := ((hK.2.2.2.2.1.1.1 k hk).2.2.2).kept hS.2.1
  have hlt : i.toNatClampNeg < (fg_txt k).2.length := Nat.not_le.mp fun q => h2 (Or.inr q)
  have hi0 : ¬ i < 0 := fun q => h2 (Or.inl q)
  have hlen : ((List.range 26).map fun i => (fg_txt i).2.length).getD k 0 = (fg_txt k).2.length := by simp [hk]
  rw [hlen] at w4 w6
  refine W.bald (v := .int (Int32.ofNat ((fg_txt k).2.getD i.toNatClampNeg 0))) hx hb w1 w2 w3 (by intro q; rcases q with q | q; exact hi0 q; omega) ?_ rfl rfl hd (kk H locs ls hP hV hR hS hl)
  rw [w6 _ hlt]
  simp [hk, List.getD, hlt]
/-- a String constant's own fields -/
theorem fg_getS (X : fg_X Ω own nm cc nL ret d) {k index : Nat} {fn fd : String} (q : Cond.fieldLink own index "java/lang/String" fn fd ∈ lw_all) (hf : (k = 0 ∧ fn = "value" ∧ fd = "[B") ∨ (k = 1 ∧ fn = "coder" ∧ fd = "B")) {v : Value} (h : fg_gv G a [33] k = some v) (hd : decode cc pc = .ok (.getfield index, 3))
    (kk : fg_W Ω G (pc + 3) L (v :: st)) : fg_W Ω G pc L (.ref a :: st) := by
  obtain ⟨D, V, ⟨N, Z⟩, p, l, e, R, s, m, args, below, meth, c, tw, o0, G0⟩ := Ω
  obtain ⟨hx, hb, hml, hown, hts, hK, hN, hlk, hr, hfr, hlo, hnm, hst, htb⟩ := X
  intro H locs ls hP hV hR hS hl
  obtain ⟨o, ho, hc, hv⟩ := fg_gv_get h
  have hc : o.1 = 33 := by simpa using hc
  rcases hP.1 a _ ho with ⟨⟨h33, -⟩, -⟩ | ⟨-, i, hi, ha, ho2⟩
  · omega
  rw [hV] at ha ho2
  subst ha
  rw [ho2] at hv
  have hsx := hK.2.2.2.2.1.1.1 i hi
  rcases hf with ⟨rfl, rfl, rfl⟩ | ⟨rfl, rfl, rfl⟩
  · cases hv
    exact vk_getf (o := "java/lang/String") (ref := "java/lang/String") hx hb hsx.2.2.1 hS hown (hts _ q) (fun _ hh => hh) hd (kk H locs ls hP hV hR hS hl)
  · cases hv
    exact vk_getf (o := "java/lang/String") (ref := "java/lang/String") hx hb hsx.2.1 hS hown (hts _ q) (fun _ hh => hh) hd (kk H locs ls hP hV hR hS hl)
theorem fg_ldcS (X : fg_X Ω own nm cc nL ret d) {i index : Nat} (hi : i < 26) (ho : own = "FogNets$Reader") (hx0 : (fg_txt i).1.1 = index) {r : Nat} (h : G.1.2.2 i = r) (hd : decode cc pc = .ok (.ldc index, 2)) (kk : fg_W Ω G (pc + 2) L (.ref r :: st)) : fg_W Ω G pc L st := by
  obtain ⟨D, V, ⟨N, Z⟩, p, l, e, R, s, m, args, below, meth, c, tw, o0, G0⟩ := Ω
  obtain ⟨hx, hb, hml, hown, hts, hK, hN, hlk, hr, hfr, hlo, hnm, hst, htb⟩ := X
  intro H locs ls hP hV hR hS hl
  subst ho; subst hx0; subst h
  have h1 := hK.2.2.2.2.1.2 i hi
  have hk := kk H locs ls hP hV hR hS hl
  rw [hV] at hk
  exact va_ldcS hx hb hown h1 hd hk
theorem fg_getsR (X : fg_X Ω own nm cc nL ret d) {i index : Nat} {C fn fd : String} (q : Cond.fieldLink own index C fn fd ∈ lw_all) (hi : ∀ V : fg_V, (fg_st V)[i]? = some (C, fn, fd, va_rf (V.2.1 i))) {r : Option Nat} (h : G.1.2.1 i = r) (hd : decode cc pc = .ok (.getstatic index, 3)) (kk : fg_W Ω G (pc + 3) L (va_rf r :: st)) : fg_W Ω G pc L st := by
  obtain ⟨D, V, ⟨N, Z⟩, p, l, e, R, s, m, args, below, meth, c, tw, o0, G0⟩ := Ω
  obtain ⟨hx, hb, hml, hown, hts, hK, hN, hlk, hr, hfr, hlo, hnm, hst, htb⟩ := X
  intro H locs ls hP hV hR hS hl
  subst h
  have hk := kk H locs ls hP hV hR hS hl
  rw [hV] at hk
  exact va_gets hx hb (hK.2.2.2.1 _ (List.mem_of_getElem? (hi V))) hS hown (hts _ q) (fun _ hh => hh) hd hk
theorem fg_getsI (X : fg_X Ω own nm cc nL ret d) {i index : Nat} {C fn fd : String} {v : Int32} (q : Cond.fieldLink own index C fn fd ∈ lw_all) (hi : ∀ V : fg_V, (fg_st V)[i]? = some (C, fn, fd, .int v)) (hd : decode cc pc = .ok (.getstatic index, 3)) (kk : fg_W Ω G (pc + 3) L (.int v :: st)) : fg_W Ω G pc L st := by
  obtain ⟨D, V, ⟨N, Z⟩, p, l, e, R, s, m, args, below, meth, c, tw, o0, G0⟩ := Ω
  obtain ⟨hx, hb, hml, hown, hts, hK, hN, hlk, hr, hfr, hlo, hnm, hst, htb⟩ := X
  intro H locs ls hP hV hR hS hl
  exact va_gets hx hb (hK.2.2.2.1 _ (List.mem_of_getElem? (hi V))) hS hown (hts _ q) (fun _ hh => hh) hd (kk H locs ls hP hV hR hS hl)
theorem fg_getvN (X : fg_X Ω own nm cc nL ret d) {cs : List Nat} {k index : Nat} {of fn fd host : String} {fin : Bool} {v : Value} (hk : fg_fck cs k of fn fd fin = true) (q : Cond.fieldLinkNest own index of fn fd host ∈ lw_tbl) (h : fg_gv G a cs k = some v) (hd : decode cc pc = .ok (.getfield index, 3))
    (kk : fg_W Ω G (pc + 3) L (v :: st)) : fg_W Ω G pc L (.ref a :: st) := by
  obtain ⟨D, V, ⟨N, Z⟩, p, l, e, R, s, m, args, below, meth, c, tw, o0, G0⟩ := Ω
  obtain ⟨hx, hb, hml, hown, hts, hK, hN, hlk, hr, hfr, hlo, hnm, hst, htb⟩ := X
  intro H locs ls hP hV hR hS hl
  obtain ⟨o, ho, hc, hv⟩ := fg_gv_get h
  obtain ⟨h33, ⟨C, T, Nf⟩, hq, hkN, hT⟩ := fg_fck_get hk hc
  have hT : T k = (of, fn, fd, fin) := hT
  have hP1 : va_P D.1 fg_cl [(a, .inr o)] H := by
    intro j x hj
    have hj0 : j = 0 := by
      have := (List.getElem?_eq_some_iff.mp hj).1
      simp at this
      exact this
    subst hj0
    cases hj
    rcases hP.1 a _ ho with ⟨-, h2⟩ | ⟨h2, -⟩
    · exact h2
    · omega
  have hin := fg_in_all _ (List.mem_of_getElem? hq)
  exact va_getN (own := own) (ref := of) (host := host) (C := C) (T := T) (N := Nf) (ci := o.1) (fs := o.2) (index := index) hx hb hts hin hown hK.1 hP1 0 rfl hq k hkN (by rw [hT]; exact va_Nw.use rfl (hK.2.1 _ q rfl)) (by rw [hT]; exact fun _ hf => hf) hv hd (kk H locs ls hP hV hR hS hl)
theorem fg_getiN (X : fg_X Ω own nm cc nL ret d) {cs : List Nat} {k index : Nat} {of fn fd host : String} {fin : Bool} {v : Int32} (hk : fg_fck cs k of fn fd fin = true) (q : Cond.fieldLinkNest own index of fn fd host ∈ lw_tbl) (h : fg_gi G a cs k = some v) (hd : decode cc pc = .ok (.getfield index, 3))
    (kk : fg_W Ω G (pc + 3) L (.int v :: st)) : fg_W Ω G pc L (.ref a :: st) := fg_getvN X hk q (fg_gi_get h) hd kk
theorem fg_getrN (X : fg_X Ω own nm cc nL ret d) {cs : List Nat} {k index : Nat} {of fn fd host : String} {fin : Bool} {v : Option Nat} (hk : fg_fck cs k of fn fd fin = true) (q : Cond.fieldLinkNest own index of fn fd host ∈ lw_tbl) (h : fg_gr G a cs k = some v) (hd : decode cc pc = .ok (.getfield index, 3))
    (kk : fg_W Ω G (pc + 3) L (va_rf v :: st)) : fg_W Ω G pc L (.ref a :: st) := fg_getvN X hk q (fg_gr_get h) hd kk
theorem fg_newq (X : fg_X Ω own nm cc nL ret d) {kd q index : Nat} {C : String} {n : Int32} (hkd : kd = 4 ∨ kd = 5 ∨ kd = 6 ∨ kd = 7) (hC : fg_ty kd = .object C) (q1 : Cond.classLink own index C ∈ lw_all) (h : fg_na G kd n = some (q, G')) (hd : decode cc pc = .ok (.anewarray index, 3))
    (kk : fg_W Ω G' (pc + 3) L (.ref q :: st)) : fg_W Ω G pc L (.int n :: st) := by
  obtain ⟨D, V, ⟨N, Z⟩, p, l, e, R, s, m, args, below, meth, c, tw, o0, G0⟩ := Ω
  obtain ⟨hx, hb, hml, hown, hts, hK, hN, hlk, hr, hfr, hlo, hnm, hst, htb⟩ := X
  intro H locs ls hP hV hR hS hl
  obtain ⟨⟨hn0, hn1, hc1, hc2⟩, rfl, rfl⟩ := fg_na_get h
  obtain ⟨g1, g2, -⟩ := fg_kd4 (D := D) hkd
  rw [hC] at g2
  have hAO : va_AO C s := by
    obtain ⟨a1, a2, a3, a4⟩ := hK.2.2.1
    rcases hkd with h | h | h | h <;> subst h <;> cases hC <;> assumption
  obtain ⟨kA0, comp0, r1, r2, r3, r4⟩ := (hK.1.2 kd _ g2).2
  refine fg_alloc hN (by rw [hP.2]; exact hR.1) hR.2 fun c1 s1 e1 e2 => ?_
  refine W.anew hx hb hown (hts _ q1) (va_AO.use hAO) rfl hd rfl hn0 (by omega) (by omega) (by omega) fun cA kA comp f1 f2 f3 f4 => ?_
  have hcA : cA = D.2 kd := Option.some.inj (f1.symm.trans r4)
  subst hcA
  generalize hH1 : H.push ({ cls := D.2 kd, slots := Array.replicate n.toNatClampNeg .null, vm := .none } : Cell) = H1
  have z1 : H1.size = H.size + 1 := by rw [← hH1, Array.size_push]
  have w1 : H1[H.size]? = some (arrV (D.2 kd) n.toNatClampNeg (fun _ => .null)) := by rw [← hH1, Array.getElem?_push_size, ← arrV_new]
  have o1 : ∀ q : Nat, q < H.size → H1[q]? = H[q]? := fun q hq => by rw [← hH1, Array.getElem?_push, if_neg (Nat.ne_of_lt hq)]
  have hz : fg_zero kd = .inr (.inr (.inr (.inr fun _ => none))) := by rcases hkd with h | h | h | h <;> subst h <;> rfl
  obtain ⟨p1, p2, p3⟩ := fg_push (k := n.toNatClampNeg) (x := .inl (kd, n.toNatClampNeg, fg_zero kd)) hP hR (by rw [hV]; exact hS) z1 o1 w1 (arrV_size _ _ _) (Or.inl ⟨g1, by rw [w1, hz]; rfl⟩) ⟨hc1, hc2⟩
  have hk2 := kk H1 locs ls p1 hV p2 (by rw [hV] at p3; exact p3) hl
  rw [← hP.2] at hk2
  exact W.widen (by omega) (by omega) hk2
/-- a cast that goes through -/
def fg_ck (G : fg_H) (r : Option Nat) (cs : List Nat) : Bool := match r with
  | none => true
  | some v => match G.2.1 v with
    | some (.inr o) => cs.contains o.1
    | _ => false
def fg_cka (G : fg_H) (r : Option Nat) (kd : Nat) : Bool := match r with
  | none => true
  | some v => match G.2.1 v with
    | some (.inl x) => x.1 == kd
    | _ => false
theorem fg_cast (X : fg_X Ω own nm cc nL ret d) {cs : List Nat} {index : Nat} {C : String} {r : Option Nat} (q : Cond.classLink own index C ∈ lw_all) (hcs : ∀ ci, cs.contains ci = true → ∃ q : vw_C, fg_cl[ci]? = some q ∧ (q.1 = C ∨ Cond.castable q.1 C ∈ lw_tbl)) (h : fg_ck G r cs = true) (hd : decode cc pc = .ok (.checkcast index, 3))
    (kk : fg_W Ω G (pc + 3) L (va_rf r :: st)) : fg_W Ω G pc L (va_rf r :: st) := by
  obtain ⟨D, V, ⟨N, Z⟩, p, l, e, R, s, m, args, below, meth, c, tw, o0, G0⟩ := Ω
  obtain ⟨hx, hb, hml, hown, hts, hK, hN, hlk, hr, hfr, hlo, hnm, hst, htb⟩ := X
  intro H locs ls hP hV hR hS hl
  cases r with
  | none => exact lv_castN hx hb hd (kk H locs ls hP hV hR hS hl)
  | some v =>
    unfold fg_ck at h
    dsimp only at h
    split at h
    · rename_i o ho
      obtain ⟨qq, hq, hc⟩ := hcs _ h
      have h33 : o.1 < 33 := by have := (List.getElem?_eq_some_iff.mp hq).1; exact this
      have hrv : ∃ cell : Cell, H[v]? = some cell ∧ cell.vm.isStatics = false ∧ s.vm.findClass qq.1 = some cell.cls := by
        rcases hP.1 v _ ho with ⟨-, r, h1, cell, g1, g2, g3, -⟩ | ⟨h1, -⟩
        · cases h1.symm.trans hq
          exact ⟨cell, g1, by rw [g3]; rfl, by rw [g2]; exact (hK.1.1 o.1 _ hq).2.1⟩
        · omega
      rcases hc with hc | hc
      · rw [hc] at hrv
        exact va_castS (cC := D.1.1 o.1) hx hb hown (hts _ q) (by rw [← hc]; exact (hK.1.1 o.1 _ hq).2) hrv hd (kk H locs ls hP hV hR hS hl)
      · exact va_castY hx hb hown (hts _ q) (hK.2.1 _ hc rfl) hrv hd (kk H locs ls hP hV hR hS hl)
    · cases h
theorem fg_castI (X : fg_X Ω own nm cc nL ret d) {index : Nat} {r : Option Nat} (q : Cond.classLink own index "[I" ∈ lw_all) (h : fg_cka G r 0 = true) (hd : decode cc pc = .ok (.checkcast index, 3))
    (kk : fg_W Ω G (pc + 3) L (va_rf r :: st)) : fg_W Ω G pc L (va_rf r :: st) := by
  obtain ⟨D, V, ⟨N, Z⟩, p, l, e, R, s, m, args, below, meth, c, tw, o0, G0⟩ := Ω
  obtain ⟨hx, hb, hml, hown, hts, hK, hN, hlk, hr, hfr, hlo, hnm, hst, htb⟩ := X
  intro H locs ls hP hV hR hS hl
  cases r with
  | none => exact lv_castN hx hb hd (kk H locs ls hP hV hR hS hl)
  | some v =>
    unfold fg_cka at h
    dsimp only at h
    split at h
    · rename_i x hx0
      have hk : x.1 = 0 := by simpa using h
      obtain ⟨k, y⟩ := x
      have hk : k = 0 := hk
      subst hk
      exact va_castA hx hb hown (hts _ q) (fg_arr hP hx0 (by decide)) 0 rfl (va_nm_int (hK.1.2 0 _ rfl).2) hd (kk H locs ls hP hV hR hS hl)
    · cases h
end FGS

/-! rows that read and write the heap -/
theorem fg_in_all : ∀ q ∈ fg_cl, ∀ w ∈ u_ws q.1 q.2.1 q.2.2, w ∈ lw_all := by
  unfold fg_cl
  exact List.forall_mem_cons.mpr ⟨in_X1, List.forall_mem_cons.mpr ⟨in_X1, List.forall_mem_cons.mpr ⟨in_X2, List.forall_mem_cons.mpr ⟨in_X3, List.forall_mem_cons.mpr ⟨in_X4, List.forall_mem_cons.mpr ⟨in_X5, List.forall_mem_cons.mpr ⟨in_X6, List.forall_mem_cons.mpr ⟨in_X7, List.forall_mem_cons.mpr ⟨in_X8, List.forall_mem_cons.mpr ⟨in_X9, List.forall_mem_cons.mpr ⟨in_X1, List.forall_mem_cons.mpr ⟨in_X11, List.forall_mem_cons.mpr ⟨in_X12, List.forall_mem_cons.mpr ⟨in_X13, List.forall_mem_cons.mpr ⟨in_X14, List.forall_mem_cons.mpr ⟨in_X1, List.forall_mem_cons.mpr ⟨in_X16, List.forall_mem_cons.mpr ⟨in_X17, List.forall_mem_cons.mpr ⟨in_X18, List.forall_mem_cons.mpr ⟨in_X19, List.forall_mem_cons.mpr ⟨in_X20, List.forall_mem_cons.mpr ⟨in_X21, List.forall_mem_cons.mpr ⟨in_X22, List.forall_mem_cons.mpr ⟨in_X23, List.forall_mem_cons.mpr ⟨in_X24, List.forall_mem_cons.mpr ⟨in_X25, List.forall_mem_cons.mpr ⟨in_X26, List.forall_mem_cons.mpr ⟨in_X27, List.forall_mem_cons.mpr ⟨in_X28, List.forall_mem_cons.mpr ⟨in_X29, List.forall_mem_cons.mpr ⟨in_J2, List.forall_mem_cons.mpr ⟨in_J15, List.forall_mem_cons.mpr ⟨in_J17, fun _ h => absurd h List.not_mem_nil⟩⟩⟩⟩⟩⟩⟩⟩⟩⟩⟩⟩⟩⟩⟩⟩⟩⟩⟩⟩⟩⟩⟩⟩⟩⟩⟩⟩⟩⟩⟩⟩⟩
theorem fg_nm_all : ∀ q ∈ fg_cl, ∀ a, a < q.2.2 → ∀ b, b < q.2.2 → a ≠ b → (q.2.1 a).2.1 ≠ (q.2.1 b).2.1 := by
  unfold fg_cl
  exact List.forall_mem_cons.mpr ⟨nmX1, List.forall_mem_cons.mpr ⟨nmX1, List.forall_mem_cons.mpr ⟨nmX2, List.forall_mem_cons.mpr ⟨nmX3, List.forall_mem_cons.mpr ⟨nmX4, List.forall_mem_cons.mpr ⟨nmX5, List.forall_mem_cons.mpr ⟨nmX6, List.forall_mem_cons.mpr ⟨nmX7, List.forall_mem_cons.mpr ⟨nmX8, List.forall_mem_cons.mpr ⟨nmX9, List.forall_mem_cons.mpr ⟨nmX1, List.forall_mem_cons.mpr ⟨nmX11, List.forall_mem_cons.mpr ⟨nmX12, List.forall_mem_cons.mpr ⟨nmX13, List.forall_mem_cons.mpr ⟨nmX14, List.forall_mem_cons.mpr ⟨nmX1, List.forall_mem_cons.mpr ⟨nmX16, List.forall_mem_cons.mpr ⟨nmX17, List.forall_mem_cons.mpr ⟨nmX18, List.forall_mem_cons.mpr ⟨nmX19, List.forall_mem_cons.mpr ⟨nmX20, List.forall_mem_cons.mpr ⟨nmX21, List.forall_mem_cons.mpr ⟨nmX22, List.forall_mem_cons.mpr ⟨nmX23, List.forall_mem_cons.mpr ⟨nmX24, List.forall_mem_cons.mpr ⟨nmX25, List.forall_mem_cons.mpr ⟨nmX26, List.forall_mem_cons.mpr ⟨nmX27, List.forall_mem_cons.mpr ⟨nmX28, List.forall_mem_cons.mpr ⟨nmX29, List.forall_mem_cons.mpr ⟨nmJ2, List.forall_mem_cons.mpr ⟨nmJ15, List.forall_mem_cons.mpr ⟨nmJ17, fun _ h => absurd h List.not_mem_nil⟩⟩⟩⟩⟩⟩⟩⟩⟩⟩⟩⟩⟩⟩⟩⟩⟩⟩⟩⟩⟩⟩⟩⟩⟩⟩⟩⟩⟩⟩⟩⟩⟩
theorem fg_ty_all : ∀ q ∈ fg_cl, ∃ ty : Nat → FieldType, ∀ k, k < q.2.2 → parseFieldDescriptor (q.2.1 k).2.2.1 = some (ty k) := by
  unfold fg_cl
  exact List.forall_mem_cons.mpr ⟨⟨_, tyX1_ok⟩, List.forall_mem_cons.mpr ⟨⟨_, tyX1_ok⟩, List.forall_mem_cons.mpr ⟨⟨_, tyX2_ok⟩, List.forall_mem_cons.mpr ⟨⟨_, tyX3_ok⟩, List.forall_mem_cons.mpr ⟨⟨_, tyX4_ok⟩, List.forall_mem_cons.mpr ⟨⟨_, tyX5_ok⟩, List.forall_mem_cons.mpr ⟨⟨_, tyX6_ok⟩, List.forall_mem_cons.mpr ⟨⟨_, tyX7_ok⟩, List.forall_mem_cons.mpr ⟨⟨_, tyX8_ok⟩, List.forall_mem_cons.mpr ⟨⟨_, tyX9_ok⟩, List.forall_mem_cons.mpr ⟨⟨_, tyX1_ok⟩, List.forall_mem_cons.mpr ⟨⟨_, tyX11_ok⟩, List.forall_mem_cons.mpr ⟨⟨_, tyX12_ok⟩, List.forall_mem_cons.mpr ⟨⟨_, tyX13_ok⟩, List.forall_mem_cons.mpr ⟨⟨_, tyX14_ok⟩, List.forall_mem_cons.mpr ⟨⟨_, tyX1_ok⟩, List.forall_mem_cons.mpr ⟨⟨_, tyX16_ok⟩, List.forall_mem_cons.mpr ⟨⟨_, tyX17_ok⟩, List.forall_mem_cons.mpr ⟨⟨_, tyX18_ok⟩, List.forall_mem_cons.mpr ⟨⟨_, tyX19_ok⟩, List.forall_mem_cons.mpr ⟨⟨_, tyX20_ok⟩, List.forall_mem_cons.mpr ⟨⟨_, tyX21_ok⟩, List.forall_mem_cons.mpr ⟨⟨_, tyX22_ok⟩, List.forall_mem_cons.mpr ⟨⟨_, tyX23_ok⟩, List.forall_mem_cons.mpr ⟨⟨_, tyX24_ok⟩, List.forall_mem_cons.mpr ⟨⟨_, tyX25_ok⟩, List.forall_mem_cons.mpr ⟨⟨_, tyX26_ok⟩, List.forall_mem_cons.mpr ⟨⟨_, tyX27_ok⟩, List.forall_mem_cons.mpr ⟨⟨_, tyX28_ok⟩, List.forall_mem_cons.mpr ⟨⟨_, tyX29_ok⟩, List.forall_mem_cons.mpr ⟨⟨_, tyJ2_ok⟩, List.forall_mem_cons.mpr ⟨⟨_, tyJ15_ok⟩, List.forall_mem_cons.mpr ⟨⟨_, tyJ17_ok⟩, fun _ h => absurd h List.not_mem_nil⟩⟩⟩⟩⟩⟩⟩⟩⟩⟩⟩⟩⟩⟩⟩⟩⟩⟩⟩⟩⟩⟩⟩⟩⟩⟩⟩⟩⟩⟩⟩⟩⟩
/-! sizes -/
theorem fg_tot_same {H H1 : Heap} (hz : H1.size = H.size) (h : ∀ q : Nat, (H1[q]?).map (fun c => c.slots.size) = (H[q]?).map (fun c => c.slots.size)) : fg_tot H1 = fg_tot H := by
  have e : H1.toList.map (fun c : Cell => c.slots.size) = H.toList.map (fun c : Cell => c.slots.size) := by
    apply List.ext_getElem?
    intro q
    rw [List.getElem?_map, List.getElem?_map, Array.getElem?_toList, Array.getElem?_toList]
    exact h q
  show (H1.toList.map (fun c : Cell => c.slots.size)).sum = (H.toList.map (fun c : Cell => c.slots.size)).sum
  rw [e]
theorem fg_tot_push {H H1 : Heap} {c0 : Cell} (hz : H1.size = H.size + 1) (h : ∀ q : Nat, q < H.size → H1[q]? = H[q]?) (hc : H1[H.size]? = some c0) : fg_tot H1 = fg_tot H + c0.slots.size := by
  have e : H1.toList = H.toList ++ [c0] := by
    apply List.ext_getElem?
    intro q
    rw [Array.getElem?_toList]
    by_cases hq : q < H.size
    · rw [h q hq, List.getElem?_append_left (by simpa using hq), Array.getElem?_toList]
    · rw [List.getElem?_append_right (by simpa using hq)]
      by_cases he : q = H.size
      · subst he
        rw [hc]
        simp
      · rw [Array.getElem?_eq_none (by omega)]
        rw [List.getElem?_eq_none (by simp; omega)]
  unfold fg_tot
  rw [e]
  simp
theorem fg_tot_base {p : Program} {l : Launch} {e : Env} {R : Room} {s : State} {m : MethodId} {args : Array Value} {below : List Frame} {meth : Method} {c : Code} {T : State} {locs : List Loc} {cells slots : Nat} (X : Stand p l e R s m args below meth c T locs cells slots) :
    fg_tot T.heap = fg_tot s.heap + ((T.heap.toList.drop s.heap.size).map (·.slots.size)).sum := by
  have hsz : s.heap.size ≤ T.heap.size := X.same.2.1
  have hk := X.same.2.2.2.2.2
  have e1 : (T.heap.toList.take s.heap.size).map (fun c : Cell => c.slots.size) = s.heap.toList.map (fun c : Cell => c.slots.size) := by
    apply List.ext_getElem?
    intro q
    rw [List.getElem?_map, List.getElem?_map, List.getElem?_take, Array.getElem?_toList, Array.getElem?_toList]
    by_cases hq : q < s.heap.size
    · rw [if_pos hq]
      obtain ⟨c0, hc0⟩ : ∃ c0, s.heap[q]? = some c0 := ⟨_, Array.getElem?_eq_getElem hq⟩
      obtain ⟨c1, hc1, -, h2, -⟩ := hk q c0 hc0
      have hc1 : T.heap[q]? = some c1 := hc1
      rw [hc0, hc1]
      simp [h2]
    · rw [if_neg hq, Array.getElem?_eq_none (by omega)]
  have e2 : T.heap.toList = T.heap.toList.take s.heap.size ++ T.heap.toList.drop s.heap.size := (List.take_append_drop _ _).symm
  show (T.heap.toList.map (fun c : Cell => c.slots.size)).sum = _
  conv => lhs; rw [e2]
  rw [List.map_append, List.sum_append, e1]
  rfl
theorem fg_tight {p : Program} {l : Launch} {e : Env} {R : Room} {s : State} {m : MethodId} {args : Array Value} {below : List Frame} {meth : Method} {c : Code} {T : State} {locs : List Loc} {cells slots c1 s1 : Nat} (X : Stand p l e R s m args below meth c T locs cells slots) (h1 : T.heap.size ≤ s.heap.size + c1) (h2 : fg_tot T.heap ≤ fg_tot s.heap + s1) : Stand p l e R s m args below meth c T locs c1 s1 := by
  have hb := fg_tot_base X
  exact { X with same := ⟨X.same.1, X.same.2.1, h1, X.same.2.2.2.1, by show ((T.heap.toList.drop s.heap.size).map (·.slots.size)).sum ≤ s1; omega, X.same.2.2.2.2.2⟩ }
theorem fg_alloc {p : Program} {l : Launch} {e : Env} {R : Room} {s : State} {m : MethodId} {args : Array Value} {below : List Frame} {meth : Method} {c : Code} {H : Heap} {locs : List Loc} {Q : State → Prop} {g : JFrame} {N Z rc rs : Nat} (hN : s.heap.size + R.cells = N ∧ fg_tot s.heap + R.slots = Z) (h1 : H.size + rc = N) (h2 : fg_tot H + rs = Z)
    (k : ∀ c1 s1, c1 + rc = R.cells → s1 + rs = R.slots → W p l e R s m args below meth c H locs c1 s1 Q g) : W p l e R s m args below meth c H locs R.cells R.slots Q g := by
  intro T hT X
  have h3 : s.heap.size ≤ T.heap.size := X.same.2.1
  have h4 := fg_tot_base X
  subst hT
  exact k (T.heap.size - s.heap.size) (fg_tot T.heap - fg_tot s.heap) (by omega) (by omega) T rfl (fg_tight X (by omega) (by omega))
/-! the picture, kept and moved -/
theorem fg_at.kept {D : fg_D} {V : fg_V} {a : Nat} {x : fg_E} {H H1 : Heap} (h : fg_at D V a x H) (hq : H1[a]? = H[a]?) : fg_at D V a x H1 := by
  cases x with
  | inl y =>
    rcases h with ⟨h1, h2⟩ | h
    · exact Or.inl ⟨h1, hq.trans h2⟩
    · exact Or.inr h
  | inr o =>
    rcases h with ⟨h1, r, h2, h3⟩ | h
    · exact Or.inl ⟨⟨h1.1, fun h9 cell hc => h1.2 h9 cell (hq.symm.trans hc)⟩, r, h2, h3.kept hq⟩
    · exact Or.inr h
theorem fg_up_self {α : Type} (f : Nat → α) (a : Nat) (v : α) : va_up f a v a = v := by simp [va_up]
theorem fg_up_ne {α : Type} (f : Nat → α) {a b : Nat} (v : α) (h : b ≠ a) : va_up f a v b = f b := by simp [va_up, h]
theorem fg_put {D : fg_D} {G : fg_H} {N Z : Nat} {s : State} {H H1 : Heap} {locs : List Loc} {a i : Nat} {x : fg_E} {c0 c1 : Cell} (hP : fg_P D G H) (hR : fg_R N Z G H) (hS : va_S (fg_A G.1) s.heap H locs) (hz : H1.size = H.size) (ho : ∀ q : Nat, q ≠ a → H1[q]? = H[q]?) (h0 : H[a]? = some c0) (h1 : H1[a]? = some c1) (hsz : c1.slots.size = c0.slots.size) (hx : fg_at D G.1 a x H1) (hA : G.1.1 a = true) :
    fg_P D (fg_wr G a x) H1 ∧ fg_R N Z (fg_wr G a x) H1 ∧ va_S (fg_A G.1) s.heap H1 (locs ++ [⟨a, i⟩]) := by
  refine ⟨⟨fun b y hb => ?_, by rw [hz]; exact hP.2⟩, ⟨hR.1, ?_⟩, hS.put hz ho hA⟩
  · by_cases hba : b = a
    · subst hba
      have e1 : va_up G.2.1 b (some x) b = some y := hb
      rw [fg_up_self] at e1
      cases e1
      exact hx
    · have e1 : va_up G.2.1 a (some x) b = some y := hb
      rw [fg_up_ne _ _ hba] at e1
      exact (hP.1 b y e1).kept (ho b hba)
  · have e : fg_tot H1 = fg_tot H := by
      refine fg_tot_same hz fun q => ?_
      by_cases hqa : q = a
      · subst hqa
        rw [h0, h1]
        simp [hsz]
      · rw [ho q hqa]
    rw [e]
    exact hR.2
theorem fg_push {D : fg_D} {G : fg_H} {N Z : Nat} {s : State} {H H1 : Heap} {locs : List Loc} {x : fg_E} {c0 : Cell} {k : Nat} (hP : fg_P D G H) (hR : fg_R N Z G H) (hS : va_S (fg_A G.1) s.heap H locs) (hz : H1.size = H.size + 1) (ho : ∀ q : Nat, q < H.size → H1[q]? = H[q]?) (h0 : H1[H.size]? = some c0) (hsz : c0.slots.size = k) (hx : fg_at D G.1 H.size x H1) (hk : 1 ≤ G.2.2.2.1 ∧ k ≤ G.2.2.2.2) :
    fg_P D (fg_bn G x k) H1 ∧ fg_R N Z (fg_bn G x k) H1 ∧ va_S (fg_A G.1) s.heap H1 locs := by
  have hn := hP.2
  have hlt : ∀ b y, G.2.1 b = some y → ∀ z, b ≠ H.size → H1[b]? = H[b]? ∨ fg_at D G.1 b y z := by
    intro b y hb z hne
    by_cases hq : b < H.size
    · exact Or.inl (ho b hq)
    · exact Or.inl (by rw [Array.getElem?_eq_none (by omega), Array.getElem?_eq_none (by omega)])
  refine ⟨⟨fun b y hb => ?_, by rw [hz, hn]; rfl⟩, ⟨?_, ?_⟩, ⟨Nat.le_trans hS.1 (by omega), fun q h1 h2 => (ho q (Nat.lt_of_lt_of_le h1 hS.1)).trans (hS.2.1 q h1 h2), hS.2.2⟩⟩
  · have e1 : va_up G.2.1 G.2.2.1 (some x) b = some y := hb
    by_cases hba : b = G.2.2.1
    · subst hba
      rw [fg_up_self] at e1
      cases e1
      rw [← hn]
      exact hx
    · rw [fg_up_ne _ _ hba] at e1
      rcases hlt b y e1 H1 (by rw [hn]; exact hba) with h | h
      · exact (hP.1 b y e1).kept h
      · exact h
  · show G.2.2.1 + 1 + (G.2.2.2.1 - 1) = N
    have := hR.1
    omega
  · show fg_tot H1 + (G.2.2.2.2 - k) = Z
    have e := fg_tot_push hz ho h0
    have := hR.2
    omega
theorem fg_nwk_on {w : Cond} (h : fg_nwk w = true) : w.onTables = true := by
  cases w <;> first | rfl | cases h
theorem fg_K.call {D : fg_D} {V : fg_V} {U : State} (g : JFrame) (mk : MethodId) (a : Array Value) (h : fg_K D V U) : fg_K D V (U.calling g mk a) := by
  obtain ⟨h1, h2, ⟨h3, h4, h5, h6⟩, h7, ⟨h8, h9⟩, h10, ⟨tc, h11, h12⟩, h13, h14⟩ := h
  refine ⟨va_K.moved (u := U) (U := U.calling g mk a) (Vm.Alike.refl U.vm) h1, fun w hw hk => va_Nw.same (fg_nwk_on hk) (u := U) (U := U.calling g mk a) rfl (h2 w hw hk), ⟨va_AO.moved (u := U) (U := U.calling g mk a) (Vm.Alike.refl U.vm) h3, va_AO.moved (u := U) (U := U.calling g mk a) (Vm.Alike.refl U.vm) h4, va_AO.moved (u := U) (U := U.calling g mk a) (Vm.Alike.refl U.vm) h5, va_AO.moved (u := U) (U := U.calling g mk a) (Vm.Alike.refl U.vm) h6⟩, fun q hq => va_Z.moved (u := U) (U := U.calling g mk a) (Vm.Alike.refl U.vm) (h7 q hq), ⟨vk_S.moved (u := U) (U := U.calling g mk a) (Vm.Alike.refl U.vm) h8, fun i hi => vk_R.same (u := U) (U := U.calling g mk a) rfl (h9 i hi)⟩, va_Mi.moved (u := U) (U := U.calling g mk a) (Vm.Alike.refl U.vm) h10, ⟨tc, h11, va_T.moved (u := U) (U := U.calling g mk a) (Vm.Alike.refl U.vm) h12⟩, vy_L.moved (u := U) (U := U.calling g mk a) (Vm.Alike.refl U.vm) h13, vy_L.moved (u := U) (U := U.calling g mk a) (Vm.Alike.refl U.vm) h14⟩
theorem fg_nw_warm {s U : State} (hW : s.WarmedH U.vm) : ∀ {w : Cond}, fg_nwk w = true → va_Nw w s → va_Nw w U := by
  intro w hk h
  cases w <;> first | exact va_Nw.warmC hW h | exact va_Nw.warmF hW h | exact va_Nw.warmM hW h | exact va_Nw.warmD hW h | cases hk
theorem fg_K.goes {D : fg_D} {V : fg_V} {s U : State} {H : Heap} {locs : List Loc} (h : fg_K D V s) (hS : va_S (fg_A V) s.heap H locs) (hU : U.heap = H) (hW : s.WarmedH U.vm) : fg_K D V U := by
  obtain ⟨h1, h2, ⟨h3, h4, h5, h6⟩, h7, ⟨h8, h9⟩, h10, ⟨tc, h11, h12⟩, h13, h14⟩ := h
  have hal := hW.alike
  refine ⟨va_K.moved hal h1, fun w hw hk => fg_nw_warm hW hk (h2 w hw hk), ⟨va_AO.moved hal h3, va_AO.moved hal h4, va_AO.moved hal h5, va_AO.moved hal h6⟩, fun q hq => ?_, ⟨?_, fun i hi => (h9 i hi).warm hW⟩, va_Mi.moved hal h10, ⟨tc, h11, by rw [hU]; exact (va_T.moved hal h12).kept hS.2.1⟩, by rw [hU]; exact (vy_L.moved hal h13).kept hS.2.1, by rw [hU]; exact (vy_L.moved hal h14).kept hS.2.1⟩
  · rw [hU]
    exact (va_Z.moved hal (h7 q hq)).kept hS.2.1
  · rw [hU]
    exact (vk_S.moved hal h8).kept hS.2.1
/-! the checks of a field: told once for each field -/
def fg_fck (cs : List Nat) (k : Nat) (own fn fd : String) (fin : Bool) : Bool := cs.all fun ci => decide (ci < 33) && ((fg_cl[ci]?.map fun q => (decide (k < q.2.2), q.2.1 k)) == some (true, own, fn, fd, fin))
theorem fg_fck_get {cs : List Nat} {k : Nat} {own fn fd : String} {fin : Bool} (h : fg_fck cs k own fn fd fin = true) {ci : Nat} (hc : cs.contains ci = true) : ci < 33 ∧ ∃ q : vw_C, fg_cl[ci]? = some q ∧ k < q.2.2 ∧ q.2.1 k = (own, fn, fd, fin) := by
  have h1 := List.all_eq_true.mp h ci (by simpa using hc)
  simp only [Bool.and_eq_true, decide_eq_true_eq, beq_iff_eq] at h1
  obtain ⟨h0, h1⟩ := h1
  cases hq : fg_cl[ci]? with
  | none => rw [hq] at h1; cases h1
  | some q =>
    rw [hq] at h1
    simp only [Option.map_some, Option.some.injEq, Prod.mk.injEq, decide_eq_true_eq] at h1
    exact ⟨h0, q, rfl, h1.1, h1.2⟩
theorem fg_gv_get {G : fg_H} {a k : Nat} {cs : List Nat} {v : Value} (h : fg_gv G a cs k = some v) : ∃ o : Nat × List Value, G.2.1 a = some (.inr o) ∧ cs.contains o.1 = true ∧ o.2[k]? = some v := by
  unfold fg_gv at h
  split at h
  · rename_i o ho
    split at h
    · rename_i hc
      exact ⟨o, ho, hc, h⟩
    · cases h
  · cases h
theorem fg_gi_get {G : fg_H} {a k : Nat} {cs : List Nat} {x : Int32} (h : fg_gi G a cs k = some x) : fg_gv G a cs k = some (.int x) := by
  unfold fg_gi at h
  split at h
  · rename_i y hy
    cases h
    exact hy
  · cases h
theorem fg_gl_get {G : fg_H} {a k : Nat} {cs : List Nat} {x : Int64} (h : fg_gl G a cs k = some x) : fg_gv G a cs k = some (.long x) := by
  unfold fg_gl at h
  split at h
  · rename_i y hy
    cases h
    exact hy
  · cases h
theorem fg_gr_get {G : fg_H} {a k : Nat} {cs : List Nat} {x : Option Nat} (h : fg_gr G a cs k = some x) : fg_gv G a cs k = some (va_rf x) := by
  unfold fg_gr at h
  split at h
  · rename_i y hy
    cases h
    exact hy
  · rename_i hy
    cases h
    exact hy
  · cases h
section FGH
variable {Ω : fg_O} {own nm : String} {cc : ByteArray} {nL d : Nat} {ret : Option FieldType} {G G' : fg_H} {pc a : Nat} {L L' : List (Nat × Value)} {st : List Value}
/-- getfield: hsame is told by the class that the instruction names -/
theorem fg_getv (X : fg_X Ω own nm cc nL ret d) {cs : List Nat} {k index : Nat} {ref of fn fd : String} {fin : Bool} {v : Value} (hk : fg_fck cs k of fn fd fin = true) (q : Cond.fieldLink own index ref fn fd ∈ lw_all) (hsame : ref = of) (h : fg_gv G a cs k = some v) (hd : decode cc pc = .ok (.getfield index, 3))
    (kk : fg_W Ω G (pc + 3) L (v :: st)) : fg_W Ω G pc L (.ref a :: st) := by
  obtain ⟨D, V, ⟨N, Z⟩, p, l, e, R, s, m, args, below, meth, c, tw, o0, G0⟩ := Ω
  obtain ⟨hx, hb, hml, hown, hts, hK, hN, hlk, hr, hfr, hlo, hnm, hst, htb⟩ := X
  intro H locs ls hP hV hR hS hl
  obtain ⟨o, ho, hc, hv⟩ := fg_gv_get h
  obtain ⟨h33, ⟨C, T, Nf⟩, hq, hkN, hT⟩ := fg_fck_get hk hc
  have hT : T k = (of, fn, fd, fin) := hT
  have hP1 : va_P D.1 fg_cl [(a, .inr o)] H := by
    intro j x hj
    have hj0 : j = 0 := by
      have := (List.getElem?_eq_some_iff.mp hj).1
      simp at this
      exact this
    subst hj0
    cases hj
    rcases hP.1 a _ ho with ⟨-, h2⟩ | ⟨h2, -⟩
    · exact h2
    · omega
  have hin := fg_in_all _ (List.mem_of_getElem? hq)
  subst hsame
  exact va_get (own := own) (ref := ref) (C := C) (T := T) (N := Nf) (ci := o.1) (fs := o.2) (index := index) hx hb hts hin hown hK.1 hP1 0 rfl hq k hkN (by rw [hT]; exact hts _ q) (by rw [hT]; exact fun _ hf => hf) hv hd (kk H locs ls hP hV hR hS hl)
theorem fg_geti (X : fg_X Ω own nm cc nL ret d) {cs : List Nat} {k index : Nat} {of fn fd : String} {fin : Bool} {v : Int32} (hk : fg_fck cs k of fn fd fin = true) (q : Cond.fieldLink own index of fn fd ∈ lw_all) (h : fg_gi G a cs k = some v) (hd : decode cc pc = .ok (.getfield index, 3))
    (kk : fg_W Ω G (pc + 3) L (.int v :: st)) : fg_W Ω G pc L (.ref a :: st) := fg_getv X hk q rfl (fg_gi_get h) hd kk
theorem fg_getl (X : fg_X Ω own nm cc nL ret d) {cs : List Nat} {k index : Nat} {of fn fd : String} {fin : Bool} {v : Int64} (hk : fg_fck cs k of fn fd fin = true) (q : Cond.fieldLink own index of fn fd ∈ lw_all) (h : fg_gl G a cs k = some v) (hd : decode cc pc = .ok (.getfield index, 3))
    (kk : fg_W Ω G (pc + 3) L (.long v :: st)) : fg_W Ω G pc L (.ref a :: st) := fg_getv X hk q rfl (fg_gl_get h) hd kk
theorem fg_getr (X : fg_X Ω own nm cc nL ret d) {cs : List Nat} {k index : Nat} {of fn fd : String} {fin : Bool} {v : Option Nat} (hk : fg_fck cs k of fn fd fin = true) (q : Cond.fieldLink own index of fn fd ∈ lw_all) (h : fg_gr G a cs k = some v) (hd : decode cc pc = .ok (.getfield index, 3))
    (kk : fg_W Ω G (pc + 3) L (va_rf v :: st)) : fg_W Ω G pc L (.ref a :: st) := fg_getv X hk q rfl (fg_gr_get h) hd kk
theorem fg_pv_get {G G' : fg_H} {a k : Nat} {cs : List Nat} {v : Value} (h : fg_pv G a cs k v = some G') : ∃ o : Nat × List Value, G.2.1 a = some (.inr o) ∧ cs.contains o.1 = true ∧ k < o.2.length ∧ G.1.1 a = true ∧ G' = fg_wr G a (.inr (o.1, o.2.set k v)) := by
  unfold fg_pv at h
  split at h
  · rename_i o ho
    split at h
    · rename_i hc
      cases h
      exact ⟨o, ho, hc.1, hc.2.1, hc.2.2, rfl⟩
    · cases h
  · cases h
theorem fg_putv (X : fg_X Ω own nm cc nL ret d) {cs : List Nat} {k index : Nat} {ref of fn fd : String} {fin : Bool} {v : Value} {ty : FieldType} (hk : fg_fck cs k of fn fd fin = true) (q : Cond.fieldLink own index ref fn fd ∈ lw_all) (hsame : ref = of) (hfin : fin = false ∨ (nm = "<init>" ∧ of = own)) (hty : parseFieldDescriptor fd = some ty) (hn : narrow ty v = v) (hfit : fits ty v = true) (h : fg_pv G a cs k v = some G') (hd : decode cc pc = .ok (.putfield index, 3))
    (kk : fg_W Ω G' (pc + 3) L st) : fg_W Ω G pc L (v :: .ref a :: st) := by
  obtain ⟨D, V, ⟨N, Z⟩, p, l, e, R, s, m, args, below, meth, c, tw, o0, G0⟩ := Ω
  obtain ⟨hx, hb, hml, hown, hts, hK, hN, hlk, hr, hfr, hlo, hnm, hst, htb⟩ := X
  intro H locs ls hP hV hR hS hl
  obtain ⟨o, ho, hc, hlen, hA, rfl⟩ := fg_pv_get h
  obtain ⟨h33, ⟨C, T, Nf⟩, hq, hkN, hT⟩ := fg_fck_get hk hc
  have hT : T k = (of, fn, fd, fin) := hT
  have hkN : k < Nf := hkN
  have hin := fg_in_all _ (List.mem_of_getElem? hq)
  obtain ⟨ty0, hty0⟩ := fg_ty_all _ (List.mem_of_getElem? hq)
  have hnms := fg_nm_all _ (List.mem_of_getElem? hq)
  have hap := va_apart (own := own) hts hin ty0 hty0 hnms hK.1 hq
  obtain ⟨r, h1, cell, q1, q2, q3, q4⟩ : ∃ r : vw_C, fg_cl[o.1]? = some r ∧ t_OB a (D.1.1 o.1) r.2.2 (D.1.2 o.1) H (vp_V o.2) := by
    rcases hP.1 a _ ho with ⟨-, h2⟩ | ⟨h2, -⟩
    · exact h2
    · omega
  have hmo : fg_mo o.1 a H := by
    rcases hP.1 a _ ho with ⟨h2, -⟩ | ⟨h2, -⟩
    · exact h2.2
    · omega
  have hr' : r = (C, T, Nf) := Option.some.inj (h1.symm.trans hq)
  subst hr'
  obtain ⟨hSl, hfc, kC, hkC, hkind⟩ := hK.1.1 o.1 _ hq
  obtain ⟨cf, kf, fi, f, hi, hsl⟩ := hSl k hkN
  have hlay := hts _ (hin _ (u_in_lay hkN))
  unfold u_lay at hlay
  have hst := (u_facts hfc hkC (u_lays hts hin hkN) hi).1
  subst hsame
  have hi' : s.fieldFound? ref fn fd = some (cf, kf, fi, f) := by
    have := hi
    dsimp only at this
    rw [hT] at this
    exact this
  have hd0 : parseFieldDescriptor (T k).2.2.1 = some ty := by rw [hT]; exact hty
  have hgo : ∀ H' : Heap, H'[a]? = some (cell.setSlot f.slot v) → H'.size = H.size → (∀ q, q ≠ a → H'[q]? = H[q]?) → W p l e R s m args below meth c H' (locs ++ [⟨a, f.slot⟩]) R.cells R.slots (fg_EE tw D N Z V o0 G0 below args s R.cells R.slots) { F0 m pc ls (v :: .ref a :: st) with pc := pc + 3, stack := st } := by
    intro H' e1 e2 e3
    have hobj : t_OB a (D.1.1 o.1) Nf (D.1.2 o.1) H' (vp_V (o.2.set k v)) := by
      rw [hsl] at e1
      exact t_OB.to (V := updV (vp_V o.2) k v) ⟨_, e1, q2, q3, t_set q4 hap hkN v⟩ (fun j _ => vp_updV_set hlen v j)
    obtain ⟨p1, p2, p3⟩ := fg_put (i := f.slot) (x := .inr (o.1, o.2.set k v)) hP hR (by rw [hV]; exact hS) e2 e3 q1 e1 (k2_slotsz _ _ _) (Or.inl ⟨⟨h33, fun h9 c9 hc9 => by rw [e1] at hc9; cases hc9; exact hmo h9 cell q1⟩, _, hq, hobj⟩) hA
    exact kk H' _ ls p1 hV p2 (by rw [hV] at p3; exact p3) hl
  have hslot : f.slot < cell.slots.size := by rw [hsl]; exact k2_hasslot (q4 k hkN)
  cases fin with
  | false =>
    rw [if_neg (by show ¬ ((T k).2.2.2 = true); rw [hT]; exact fun h => by cases h)] at hlay
    have h6 := u_store hfc hkC hkind hlay hi hd0 hn hfit
    exact W.putK hx hb (f := f) ⟨hown, hts _ q, ⟨_, _, _, hi'⟩, hst⟩ (by rw [q2]; exact h6) q1 q3 hslot rfl rfl hd hgo
  | true =>
    rw [if_pos (by show (T k).2.2.2 = true; rw [hT])] at hlay
    rcases hfin with hfin | ⟨hin2, hdecl⟩
    · cases hfin
    have hcf : m.cls = cf := by
      obtain ⟨_, _, c', _, _, _, -, -, hf', -, -, -, hown2, -⟩ := Cond.laysFinal_spec hlay
      have e1 : c' = cf := by have := hi.symm.trans hf'; simp at this; exact this.1.symm
      have hdecl' : (T k).1 = own := by rw [hT]; exact hdecl
      rw [hdecl'] at hown2
      rw [← e1]; exact Option.some.inj (hown.symm.trans hown2)
    have h6 := u_fits hfc hkC hkind (Or.inr hlay) hi hd0 hn hfit
    exact W.putFinK hx hb hown (hts _ q) hi' hst hcf (hnm.trans hin2) (by rw [q2]; exact h6) q1 q3 hslot rfl rfl hd hgo
theorem fg_arr {D : fg_D} {G : fg_H} {H : Heap} {k : Nat} {x : vp_A} (hP : fg_P D G H) (h : G.2.1 a = some (.inl (k, x))) (hk : k < 8) : va_P D.1 fg_cl [(a, .inl (D.2 k, x))] H := by
  intro j y hj
  have hj0 : j = 0 := by
    have := (List.getElem?_eq_some_iff.mp hj).1
    simp at this
    exact this
  subst hj0
  cases hj
  rcases hP.1 a _ h with ⟨-, h2⟩ | ⟨h2, -⟩
  · exact h2
  · omega
theorem fg_ai_get {G : fg_H} {kd : Nat} {i x : Int32} (h : fg_ai G a kd i = some x) : ∃ n f, G.2.1 a = some (.inl (kd, n, .inl f)) ∧ vp_in i n ∧ x = f i.toNatClampNeg := by
  unfold fg_ai at h
  split at h
  · rename_i k n f hG
    split at h
    · rename_i hc
      cases h
      exact ⟨n, f, by rw [hG, hc.1], hc.2, rfl⟩
    · cases h
  · cases h
theorem fg_al_get {G : fg_H} {i : Int32} {x : Int64} (h : fg_al G a i = some x) : ∃ n f, G.2.1 a = some (.inl (1, n, .inr (.inl f))) ∧ vp_in i n ∧ x = f i.toNatClampNeg := by
  unfold fg_al at h
  split at h
  · rename_i k n f hG
    split at h
    · rename_i hc
      cases h
      exact ⟨n, f, by rw [hG, hc.1], hc.2, rfl⟩
    · cases h
  · cases h
theorem fg_ar_get {G : fg_H} {kd : Nat} {i : Int32} {x : Option Nat} (h : fg_ar G a kd i = some x) : ∃ n f, G.2.1 a = some (.inl (kd, n, .inr (.inr (.inr (.inr f))))) ∧ vp_in i n ∧ x = f i.toNatClampNeg := by
  unfold fg_ar at h
  split at h
  · rename_i k n f hG
    split at h
    · rename_i hc
      cases h
      exact ⟨n, f, by rw [hG, hc.1], hc.2, rfl⟩
    · cases h
  · cases h
theorem fg_iald (X : fg_X Ω own nm cc nL ret d) {i x : Int32} (h : fg_ai G a 0 i = some x) (hd : decode cc pc = .ok (.iaload, 1)) (kk : fg_W Ω G (pc + 1) L (.int x :: st)) : fg_W Ω G pc L (.int i :: .ref a :: st) := by
  obtain ⟨D, V, ⟨N, Z⟩, p, l, e, R, s, m, args, below, meth, c, tw, o0, G0⟩ := Ω
  obtain ⟨hx, hb, hml, hown, hts, hK, hN, hlk, hr, hfr, hlo, hnm, hst, htb⟩ := X
  intro H locs ls hP hV hR hS hl
  obtain ⟨n, f, h1, h2, rfl⟩ := fg_ai_get h
  exact va_iald hx hb hK.1 (fg_arr hP h1 (by decide)) 0 0 rfl rfl h2 hd (kk H locs ls hP hV hR hS hl)
theorem fg_zald (X : fg_X Ω own nm cc nL ret d) {i x : Int32} (h : fg_ai G a 2 i = some x) (hd : decode cc pc = .ok (.baload, 1)) (kk : fg_W Ω G (pc + 1) L (.int x :: st)) : fg_W Ω G pc L (.int i :: .ref a :: st) := by
  obtain ⟨D, V, ⟨N, Z⟩, p, l, e, R, s, m, args, below, meth, c, tw, o0, G0⟩ := Ω
  obtain ⟨hx, hb, hml, hown, hts, hK, hN, hlk, hr, hfr, hlo, hnm, hst, htb⟩ := X
  intro H locs ls hP hV hR hS hl
  obtain ⟨n, f, h1, h2, rfl⟩ := fg_ai_get h
  exact va_zald hx hb hK.1 (fg_arr hP h1 (by decide)) 0 2 rfl rfl h2 hd (kk H locs ls hP hV hR hS hl)
theorem fg_lald (X : fg_X Ω own nm cc nL ret d) {i : Int32} {x : Int64} (h : fg_al G a i = some x) (hd : decode cc pc = .ok (.laload, 1)) (kk : fg_W Ω G (pc + 1) L (.long x :: st)) : fg_W Ω G pc L (.int i :: .ref a :: st) := by
  obtain ⟨D, V, ⟨N, Z⟩, p, l, e, R, s, m, args, below, meth, c, tw, o0, G0⟩ := Ω
  obtain ⟨hx, hb, hml, hown, hts, hK, hN, hlk, hr, hfr, hlo, hnm, hst, htb⟩ := X
  intro H locs ls hP hV hR hS hl
  obtain ⟨n, f, h1, h2, rfl⟩ := fg_al_get h
  exact va_lald hx hb hK.1 (fg_arr hP h1 (by decide)) 0 1 rfl rfl h2 hd (kk H locs ls hP hV hR hS hl)
theorem fg_si_get {G G' : fg_H} {kd : Nat} {i x : Int32} (h : fg_si G a kd i x = some G') : ∃ n f, G.2.1 a = some (.inl (kd, n, .inl f)) ∧ vp_in i n ∧ G.1.1 a = true ∧ G' = fg_wr G a (.inl (kd, n, .inl (upd f i.toNatClampNeg x))) := by
  unfold fg_si at h
  split at h
  · rename_i k n f hG
    split at h
    · rename_i hc
      cases h
      obtain ⟨rfl, h2, h3⟩ := hc
      exact ⟨n, f, hG, h2, h3, rfl⟩
    · cases h
  · cases h
theorem fg_sl_get {G G' : fg_H} {i : Int32} {x : Int64} (h : fg_sl G a i x = some G') : ∃ n f, G.2.1 a = some (.inl (1, n, .inr (.inl f))) ∧ vp_in i n ∧ G.1.1 a = true ∧ G' = fg_wr G a (.inl (1, n, .inr (.inl (vp_updL f i.toNatClampNeg x)))) := by
  unfold fg_sl at h
  split at h
  · rename_i k n f hG
    split at h
    · rename_i hc
      cases h
      obtain ⟨rfl, h2, h3⟩ := hc
      exact ⟨n, f, hG, h2, h3, rfl⟩
    · cases h
  · cases h
theorem fg_cellI (cA : ClassId) (n k : Nat) (f : Nat → Int32) (x : Int32) : (vp_cell cA (n, .inl f)).setSlot k (.int x) = vp_cell cA (n, .inl (upd f k x)) := by
  rw [vp_cell_i, vp_cell_i, arrV_store]
  congr 1
  funext q
  by_cases hq : q = k
  · subst hq; simp [updV, upd]
  · simp [updV, upd, hq]
theorem fg_cellL (cA : ClassId) (n k : Nat) (f : Nat → Int64) (x : Int64) : (vp_cell cA (n, .inr (.inl f))).setSlot k (.long x) = vp_cell cA (n, .inr (.inl (vp_updL f k x))) := by
  rw [vp_cell_l, vp_cell_l, arrV_store]
  congr 1
  funext q
  by_cases hq : q = k
  · subst hq; simp [updV, vp_updL]
  · simp [updV, vp_updL, hq]
theorem fg_iast (X : fg_X Ω own nm cc nL ret d) {i x : Int32} (h : fg_si G a 0 i x = some G') (hd : decode cc pc = .ok (.iastore, 1)) (kk : fg_W Ω G' (pc + 1) L st) : fg_W Ω G pc L (.int x :: .int i :: .ref a :: st) := by
  obtain ⟨D, V, ⟨N, Z⟩, p, l, e, R, s, m, args, below, meth, c, tw, o0, G0⟩ := Ω
  obtain ⟨hx, hb, hml, hown, hts, hK, hN, hlk, hr, hfr, hlo, hnm, hst, htb⟩ := X
  intro H locs ls hP hV hR hS hl
  obtain ⟨n, f, h1, h2, hA, rfl⟩ := fg_si_get h
  have hc0 : H[a]? = some (vp_cell (D.2 0) (n, .inl f)) := fg_arr hP h1 (by decide) 0 _ rfl
  refine W.iast hx hb hc0 ((hK.1.2 0 _ rfl).1 n (fun j => .int (f j))) (fun z => by cases z) (by show ¬ (i < 0 ∨ (arrV _ _ _).slots.size ≤ _); rw [arrV_size]; exact h2) rfl rfl hd fun H1 e1 e2 e3 => ?_
  obtain ⟨p1, p2, p3⟩ := fg_put (i := i.toNatClampNeg) (x := .inl (0, n, .inl (upd f i.toNatClampNeg x))) hP hR (by rw [hV]; exact hS) e2 e3 hc0 e1 (k2_slotsz _ _ _) (Or.inl ⟨by decide, by rw [e1, fg_cellI]⟩) hA
  exact kk H1 _ ls p1 hV p2 (by rw [hV] at p3; exact p3) hl
theorem fg_zast (X : fg_X Ω own nm cc nL ret d) {i x : Int32} (h : fg_si G a 2 i (vp_nar .boolean x) = some G') (hd : decode cc pc = .ok (.bastore, 1)) (kk : fg_W Ω G' (pc + 1) L st) : fg_W Ω G pc L (.int x :: .int i :: .ref a :: st) := by
  obtain ⟨D, V, ⟨N, Z⟩, p, l, e, R, s, m, args, below, meth, c, tw, o0, G0⟩ := Ω
  obtain ⟨hx, hb, hml, hown, hts, hK, hN, hlk, hr, hfr, hlo, hnm, hst, htb⟩ := X
  intro H locs ls hP hV hR hS hl
  obtain ⟨n, f, h1, h2, hA, rfl⟩ := fg_si_get h
  have hc0 : H[a]? = some (vp_cell (D.2 2) (n, .inl f)) := fg_arr hP h1 (by decide) 0 _ rfl
  refine W.zast hx hb hc0 ((hK.1.2 2 _ rfl).1 n (fun j => .int (f j))) (fun z => by cases z) (by show ¬ (i < 0 ∨ (arrV _ _ _).slots.size ≤ _); rw [arrV_size]; exact h2) rfl rfl hd fun H1 e1 e2 e3 => ?_
  have e1 : H1[a]? = some ((vp_cell (D.2 2) (n, .inl f)).setSlot i.toNatClampNeg (.int (vp_nar .boolean x))) := e1
  obtain ⟨p1, p2, p3⟩ := fg_put (i := i.toNatClampNeg) (x := .inl (2, n, .inl (upd f i.toNatClampNeg (vp_nar .boolean x)))) hP hR (by rw [hV]; exact hS) e2 e3 hc0 e1 (k2_slotsz _ _ _) (Or.inl ⟨by decide, by rw [e1, fg_cellI]⟩) hA
  exact kk H1 _ ls p1 hV p2 (by rw [hV] at p3; exact p3) hl
theorem fg_last (X : fg_X Ω own nm cc nL ret d) {i : Int32} {x : Int64} (h : fg_sl G a i x = some G') (hd : decode cc pc = .ok (.lastore, 1)) (kk : fg_W Ω G' (pc + 1) L st) : fg_W Ω G pc L (.long x :: .int i :: .ref a :: st) := by
  obtain ⟨D, V, ⟨N, Z⟩, p, l, e, R, s, m, args, below, meth, c, tw, o0, G0⟩ := Ω
  obtain ⟨hx, hb, hml, hown, hts, hK, hN, hlk, hr, hfr, hlo, hnm, hst, htb⟩ := X
  intro H locs ls hP hV hR hS hl
  obtain ⟨n, f, h1, h2, hA, rfl⟩ := fg_sl_get h
  have hc0 : H[a]? = some (vp_cell (D.2 1) (n, .inr (.inl f))) := fg_arr hP h1 (by decide) 0 _ rfl
  refine W.last hx hb hc0 ((hK.1.2 1 _ rfl).1 n (fun j => .long (f j))) (fun z => by cases z) (by show ¬ (i < 0 ∨ (arrV _ _ _).slots.size ≤ _); rw [arrV_size]; exact h2) rfl rfl hd fun H1 e1 e2 e3 => ?_
  obtain ⟨p1, p2, p3⟩ := fg_put (i := i.toNatClampNeg) (x := .inl (1, n, .inr (.inl (vp_updL f i.toNatClampNeg x)))) hP hR (by rw [hV]; exact hS) e2 e3 hc0 e1 (k2_slotsz _ _ _) (Or.inl ⟨by decide, by rw [e1, fg_cellL]⟩) hA
  exact kk H1 _ ls p1 hV p2 (by rw [hV] at p3; exact p3) hl
end FGH

/-! what the printed walks use beside the rows -/
def fg_rt {σ τ : Type} (x : Option τ) : Option (σ ⊕ τ) := match x with
  | none => none
  | some t => some (.inr t)
theorem fg_rt_some {σ τ : Type} {x : Option τ} {t : σ ⊕ τ} (h : fg_rt x = some t) : ∃ u, x = some u ∧ t = .inr u := by
  cases x with
  | none => cases h
  | some u => exact ⟨u, rfl, (Option.some.inj h).symm⟩
def fg_gd {β : Type} (b : Bool) (x : Option β) : Option β := if b = true then x else none
theorem fg_gd_some {β : Type} {b : Bool} {x : Option β} {t : β} (h : fg_gd b x = some t) : b = true ∧ x = some t := by
  unfold fg_gd at h
  split at h
  · rename_i hb
    exact ⟨hb, h⟩
  · cases h
def fg_rc (G : fg_H) (a ci : Nat) : Bool := match G.2.1 a with
  | some (.inr o) => o.1 == ci
  | _ => false
theorem fg_rc_get {G : fg_H} {a ci : Nat} (h : fg_rc G a ci = true) : ∃ fs, G.2.1 a = some (.inr (ci, fs)) := by
  unfold fg_rc at h
  split at h
  · rename_i o ho
    have : o.1 = ci := by simpa using h
    subst this
    exact ⟨o.2, ho⟩
  · cases h
def fg_b (x : Int32) : Bool := x == 0 || x == 1
theorem fg_b_or {x : Int32} (h : fg_b x = true) : x = 0 ∨ x = 1 := by simpa [fg_b] using h
theorem fg_nb {x : Int32} (h : fg_b x = true) : narrow .boolean (.int x) = .int x := by rcases fg_b_or h with h | h <;> subst h <;> rfl
theorem fg_fb {x : Int32} (h : fg_b x = true) : fits .boolean (.int x) = true := by rcases fg_b_or h with h | h <;> subst h <;> rfl
theorem fg_ne0 {x : Int32} (h : (!(x == 0)) = true) : ¬ x = 0 := by simpa using h
theorem fg_cat (r : Option Nat) : (va_rf r).category = 1 := by cases r <;> rfl
theorem fg_Teq {Ω : fg_O} {o : Outcome} {G : fg_H} {α : Type} {f : α × fg_H → Outcome} {v : α} {t : α × fg_H} (hT : fg_T Ω (f t) t.2) (h : (v, G) = t) (ho : o = f (v, G) := by rfl) : fg_T Ω o G := by
  subst h
  subst ho
  exact hT
section FGM
variable {Ω : fg_O} {own nm : String} {cc : ByteArray} {nL d : Nat} {ret : Option FieldType} {G G' : fg_H} {pc a : Nat} {L L' : List (Nat × Value)} {st : List Value}
theorem fg_topi {x y : Int32} (h : x = y) (k : fg_W Ω G pc L (.int y :: st)) : fg_W Ω G pc L (.int x :: st) := h ▸ k
theorem fg_topl {x y : Int64} (h : x = y) (k : fg_W Ω G pc L (.long y :: st)) : fg_W Ω G pc L (.long x :: st) := h ▸ k
end FGM

/-! 03: the abstract memory, the world that it is held against, contracts and blocks -/
/-- whole numbers of cells (fields of objects, places of rows), longs of rows, texts made on the way -/
abbrev Sg : Type := (Nat → Nat → Int32) × (Nat → Nat → Int64) × List (Nat × Nat × List Int32)
/-- a value: a cell by its id (from 1000 on: something outside), or a plain one -/
abbrev AV : Type := Nat ⊕ Value
abbrev Lo : Type := List (Option AV)
/-- where cell 0 lies, numbers of classes, places of fields, classes of rows, addresses of things outside -/
abbrev Wd : Type := Nat × (Nat → ClassId) × (Nat → Nat → Nat) × (Nat → ClassId) × (Nat → Nat)
def tyC (t : Nat) : FieldType := if t = 0 then .int else if t = 1 then .byte else if t = 2 then .long else if t = 3 then .short else .boolean
def adr (w : Wd) (k : Nat) : Nat := bif Nat.blt k 1000 then w.1 + k else w.2.2.2.2 (k - 1000)
def enc (w : Wd) : AV → Value
  | .inl k => .ref (adr w k)
  | .inr v => v
def objV (w : Wd) (σ : Sg) (k j c : Nat) : Value := if c < 10 then .int (σ.1 k j) else if c < 5000 then .ref (w.1 + (c - 10)) else if σ.1 k j = 0 then .null else .ref (w.1 + (c - 5000))
def ent (w : Wd) (σ : Sg) (k : Nat) : va_E := match kds[k]? with
  | some (.inl q) => .inr (q.1, q.2.mapIdx (fun j c => objV w σ k j c))
  | some (.inr q) => .inl (w.2.2.2.1 q.1, (q.2, if q.1 = 2 then .inr (.inl (σ.2.1 k)) else .inl (σ.1 k)))
  | none => .inr (0, [])
/-- a text that was made on the way: its object, its bytes -/
def sEnt (w : Wd) (q : Nat × Nat × List Int32) : va_W := [(q.1, .inr (16, [.ref q.2.1, .int 0, .int 0, .int 0])), (q.2.1, .inl (w.2.2.2.1 1, (q.2.2.length, .inl (fun i => q.2.2.getD i 0))))]
def wsA (w : Wd) (σ : Sg) : va_W := (List.range 134).map (fun k => (w.1 + k, ent w σ k))
def wsOf (w : Wd) (σ : Sg) : va_W := wsA w σ ++ σ.2.2.flatMap (sEnt w)
def up2 {α : Type} (f : Nat → Nat → α) (k j : Nat) (v : α) : Nat → Nat → α := fun a b => bif Nat.beq a k && Nat.beq b j then v else f a b
def wI (σ : Sg) (k j : Nat) (v : Int32) : Sg := (up2 σ.1 k j v, σ.2)
def wL (σ : Sg) (k j : Nat) (v : Int64) : Sg := (σ.1, up2 σ.2.1 k j v, σ.2.2)
def cpI (σ : Sg) (ks kd sp dp n : Nat) : Sg := (fun a b => bif Nat.beq a kd && (Nat.ble dp b && Nat.blt b (dp + n)) then σ.1 ks (sp + (b - dp)) else σ.1 a b, σ.2)
theorem up2_ne {α : Type} {f : Nat → Nat → α} {k j a : Nat} {v : α} (h : a ≠ k) : up2 f k j v a = f a := by
  funext b
  have : Nat.beq a k = false := by rw [Bool.eq_false_iff]; intro h2; exact h (Nat.eq_of_beq_eq_true h2)
  simp [up2, this]
theorem up2_row (f : Nat → Nat → Int32) (k j : Nat) (v : Int32) : up2 f k j v k = upd (f k) j v := by
  funext b
  unfold up2 upd
  by_cases h : b = j
  · subst h; simp
  · have : Nat.beq b j = false := by rw [Bool.eq_false_iff]; intro h2; exact h (Nat.eq_of_beq_eq_true h2)
    simp [this, h]
theorem up2_rowL (f : Nat → Nat → Int64) (k j : Nat) (v : Int64) : up2 f k j v k = vp_updL (f k) j v := by
  funext b
  unfold up2 vp_updL
  by_cases h : b = j
  · subst h; simp
  · have : Nat.beq b j = false := by rw [Bool.eq_false_iff]; intro h2; exact h (Nat.eq_of_beq_eq_true h2)
    simp [this, h]
theorem up2_at {α : Type} {f : Nat → Nat → α} {k j a b : Nat} {v : α} : up2 f k j v a b = if a = k ∧ b = j then v else f a b := by
  unfold up2
  by_cases h : a = k
  · by_cases h2 : b = j
    · subst h; subst h2; simp
    · have : Nat.beq b j = false := by rw [Bool.eq_false_iff]; intro h3; exact h2 (Nat.eq_of_beq_eq_true h3)
      simp [this, h2]
  · have : Nat.beq a k = false := by rw [Bool.eq_false_iff]; intro h3; exact h (Nat.eq_of_beq_eq_true h3)
    simp [this, h]
section
variable {w : Wd} {σ σ' : Sg}
theorem wsA_len : (wsA w σ).length = 134 := by simp [wsA]
theorem ws_get {k : Nat} (h : k < 134) : (wsOf w σ)[k]? = some (w.1 + k, ent w σ k) := by
  unfold wsOf
  rw [List.getElem?_append_left (by rw [wsA_len]; exact h)]
  simp [wsA, h]
theorem ws_set {k : Nat} {x : va_E} (hk : k < 134) (hx : x = ent w σ' k) (ho : ∀ j, j ≠ k → ent w σ' j = ent w σ j) (h2 : σ'.2.2 = σ.2.2) : (wsOf w σ).set k (w.1 + k, x) = wsOf w σ' := by
  subst hx
  unfold wsOf
  rw [List.set_append_left _ _ (by rw [wsA_len]; exact hk), h2]
  congr 1
  apply List.ext_getElem?
  intro j
  by_cases hj : j < 134
  · have g1 : (wsA w σ')[j]? = some (w.1 + j, ent w σ' j) := by simp [wsA, hj]
    have g2 : (wsA w σ)[j]? = some (w.1 + j, ent w σ j) := by simp [wsA, hj]
    rw [g1]
    by_cases e : k = j
    · subst e
      rw [List.getElem?_set_self (by rw [wsA_len]; exact hk)]
    · rw [List.getElem?_set_ne e, g2, ho j (Ne.symm e)]
  · rw [List.getElem?_eq_none (by rw [List.length_set, wsA_len]; omega), List.getElem?_eq_none (by rw [wsA_len]; omega)]
theorem ent_arr {k t n : Nat} (h : kds[k]? = some (.inr (t, n))) (ht : t ≠ 2) : ent w σ k = .inl (w.2.2.2.1 t, (n, .inl (σ.1 k))) := by
  unfold ent; rw [h]; simp [ht]
theorem ent_arrL {k n : Nat} (h : kds[k]? = some (.inr (2, n))) : ent w σ k = .inl (w.2.2.2.1 2, (n, .inr (.inl (σ.2.1 k)))) := by
  unfold ent; rw [h]; simp
theorem ent_obj {k ci : Nat} {fl : List Nat} (h : kds[k]? = some (.inl (ci, fl))) : ent w σ k = .inr (ci, fl.mapIdx (fun j c => objV w σ k j c)) := by
  unfold ent; rw [h]
theorem ent_wI {k j k' : Nat} {v : Int32} (h : k' ≠ k) : ent w (wI σ k j v) k' = ent w σ k' := by
  have e : (wI σ k j v).1 k' = σ.1 k' := up2_ne h
  have e2 : (wI σ k j v).2 = σ.2 := rfl
  unfold ent
  have e3 : ∀ a b : Nat, objV w (wI σ k j v) k' a b = objV w σ k' a b := fun a b => by unfold objV; rw [e]
  simp only [e, e2, e3]
theorem ent_wL {k j k' : Nat} {v : Int64} (h : k' ≠ k) : ent w (wL σ k j v) k' = ent w σ k' := by
  have e : (wL σ k j v).1 = σ.1 := rfl
  have e2 : (wL σ k j v).2.1 k' = σ.2.1 k' := up2_ne h
  have e3 : ∀ a b : Nat, objV w (wL σ k j v) k' a b = objV w σ k' a b := fun a b => rfl
  unfold ent
  simp only [e, e2, e3]
theorem ent_cp {ks kd sp dp n k' : Nat} (h : k' ≠ kd) : ent w (cpI σ ks kd sp dp n) k' = ent w σ k' := by
  have hb : Nat.beq k' kd = false := by rw [Bool.eq_false_iff]; intro h2; exact h (Nat.eq_of_beq_eq_true h2)
  have e : (cpI σ ks kd sp dp n).1 k' = σ.1 k' := by funext b; simp [cpI, hb]
  have e2 : (cpI σ ks kd sp dp n).2 = σ.2 := rfl
  have e3 : ∀ a b : Nat, objV w (cpI σ ks kd sp dp n) k' a b = objV w σ k' a b := fun a b => by unfold objV; rw [e]
  unfold ent
  simp only [e, e2, e3]
theorem ent_put {k j ci c : Nat} {fl : List Nat} {v : Int32} {x : Value} (h : kds[k]? = some (.inl (ci, fl))) (hj : fl[j]? = some c) (hx : x = objV w (wI σ k j v) k j c) :
    (.inr (ci, (fl.mapIdx (fun j c => objV w σ k j c)).set j x) : va_E) = ent w (wI σ k j v) k := by
  rw [ent_obj h]
  congr 2
  apply List.ext_getElem?
  intro i
  have hjl : j < fl.length := (List.getElem?_eq_some_iff.mp hj).1
  by_cases e : j = i
  · subst e
    rw [List.getElem?_set_self (by simpa using hjl), List.getElem?_mapIdx, hj, hx]; rfl
  · rw [List.getElem?_set_ne e, List.getElem?_mapIdx, List.getElem?_mapIdx]
    congr 1
    funext c
    have : (wI σ k j v).1 k i = σ.1 k i := by
      show up2 σ.1 k j v k i = _
      rw [up2_at]
      have : ¬ (k = k ∧ i = j) := fun q => e q.2.symm
      rw [if_neg this]
    unfold objV
    rw [this]
end
def Rel (w : Wd) (σ : Sg) (H : Heap) : Prop := va_P (w.2.1, w.2.2.1) classes (wsOf w σ) H ∧ va_D (fun q => w.1 ≤ q) (wsOf w σ) ∧ w.1 + 134 ≤ H.size
def tysW (w : Wd) : List (ClassId × FieldType) := [(w.2.2.2.1 0, .int), (w.2.2.2.1 1, .byte), (w.2.2.2.1 2, .long), (w.2.2.2.1 3, .short), (w.2.2.2.1 4, .boolean)]
abbrev AA (w : Wd) : Nat → Prop := fun q => w.1 ≤ q
def Kn (w : Wd) (U : State) : Prop := va_K (w.2.1, w.2.2.1) classes (tysW w) U ∧ (∀ q ∈ ntbl, va_Nw q U) ∧ w.1 + 134 ≤ U.heap.size ∧
  (∀ j x, extT[j]? = some x → va_Z x.1 x.2.1 (if x.2.2.1 = 1 then "[B" else "[I") (.ref (w.2.2.2.2 j)) (AA w) U U.heap ∧ va_T (tyC x.2.2.1) (w.2.2.2.2 j) x.2.2.2.length (fun i => .int (x.2.2.2.getD i 0)) (AA w) U U.heap) ∧
  (∀ j x, strT[j]? = some x → vk_R x.1 x.2.1 x.2.2.1 (w.2.2.2.2 (100 + j)) U) ∧
  vk_S strT.length (strT.map (fun x => x.2.2.2.1.length)) (strT.map (fun x => x.2.2.2.1)) (fun j => w.2.2.2.2 (100 + j)) (fun j => w.2.2.2.2 (200 + j)) (AA w) U U.heap
theorem ntbl_warm {s U : State} (hW : s.WarmedH U.vm) (h : ∀ q ∈ ntbl, va_Nw q s) : ∀ q ∈ ntbl, va_Nw q U := by
  intro q hq
  have h1 := h q hq
  have h2 : nsP q = true := (List.mem_filter.mp hq).2
  cases q <;> first | exact va_Nw.warmF hW h1 | exact va_Nw.warmM hW h1 | exact va_Nw.warmD hW h1 | (exfalso; exact absurd h2 (by decide)) | (exfalso; simp [nsP] at h2)
theorem ntbl_tab {q : Cond} (hq : q ∈ ntbl) : q.onTables = true := by
  have h2 : nsP q = true := (List.mem_filter.mp hq).2
  cases q <;> first | rfl | (exfalso; simp [nsP] at h2)
theorem Kn.call {w : Wd} {s U : State} {H : Heap} {locs : List Loc} (hK : Kn w s) (hS : va_S (AA w) s.heap H locs) (hU : U.heap = H) (hW : s.WarmedH U.vm) : Kn w U := by
  obtain ⟨k1, k2, k3, k4, k5, k6⟩ := hK
  have hq : ∀ a : Nat, a < s.heap.size → ¬ AA w a → U.heap[a]? = s.heap[a]? := fun a h1 h2 => by rw [hU]; exact hS.2.1 a h1 h2
  refine ⟨va_K.moved hW.alike k1, ntbl_warm hW k2, by rw [hU]; exact Nat.le_trans k3 hS.1, fun j x hx => ⟨((k4 j x hx).1.moved hW.alike).kept hq, ((k4 j x hx).2.moved hW.alike).kept hq⟩, fun j x hx => (k5 j x hx).warm hW, (k6.moved hW.alike).kept hq⟩
theorem Kn.same {w : Wd} {s U : State} (hv : U.vm = s.vm) (hh : U.heap = s.heap) (hK : Kn w s) : Kn w U := by
  obtain ⟨k1, k2, k3, k4, k5, k6⟩ := hK
  have ha : s.vm.Alike U.vm := by rw [hv]; exact Vm.Alike.refl _
  refine ⟨va_K.moved ha k1, fun q hq => (k2 q hq).same (ntbl_tab hq) hv.symm, by rw [hh]; exact k3, fun j x hx => ⟨by rw [hh]; exact (k4 j x hx).1.moved ha, by rw [hh]; exact (k4 j x hx).2.moved ha⟩, fun j x hx => (k5 j x hx).same hv, by rw [hh]; exact k6.moved ha⟩

/-! 032: each instruction's row, for blocks -/
def ln (nx pc n : Nat) : Bool := Nat.beq nx (pc + n)
theorem ln_eq {nx pc n : Nat} (h : ln nx pc n = true) : nx = pc + n := Nat.eq_of_beq_eq_true h
theorem asgF_mem {w : Wd} : ∀ (lo : Lo) (i0 i : Nat) (v : AV), lo[i]? = some (some v) → (i0 + i, enc w v) ∈ asgF w i0 lo := by
  intro lo
  induction lo with
  | nil => intro i0 i v h; simp at h
  | cons x r ih =>
    intro i0 i v h
    cases i with
    | zero =>
      simp at h
      subst h
      exact List.mem_cons_self
    | succ j =>
      have h' : r[j]? = some (some v) := by simpa using h
      have := ih (i0 + 1) j v h'
      have e : i0 + 1 + j = i0 + (j + 1) := by omega
      rw [e] at this
      cases x with
      | none => exact this
      | some u => exact List.mem_cons_of_mem _ this
theorem asgF_inv {w : Wd} : ∀ (lo : Lo) (i0 : Nat) (q : Nat × Value), q ∈ asgF w i0 lo → ∃ (j : Nat) (v : AV), q.1 = i0 + j ∧ lo[j]? = some (some v) ∧ q.2 = enc w v := by
  intro lo
  induction lo with
  | nil => intro i0 q h; simp [asgF] at h
  | cons x r ih =>
    intro i0 q h
    cases x with
    | none =>
      obtain ⟨j, v, h1, h2, h3⟩ := ih (i0 + 1) q h
      exact ⟨j + 1, v, by omega, by simpa using h2, h3⟩
    | some u =>
      rcases List.mem_cons.mp h with h | h
      · exact ⟨0, u, by rw [h]; rfl, by simp, by rw [h]⟩
      · obtain ⟨j, v, h1, h2, h3⟩ := ih (i0 + 1) q h
        exact ⟨j + 1, v, by omega, by simpa using h2, h3⟩
theorem asg_mem {w : Wd} {lo : Lo} {i : Nat} {v : AV} (h : lo[i]? = some (some v)) : (i, enc w v) ∈ asg w lo := by
  have := asgF_mem (w := w) lo 0 i v h
  rwa [Nat.zero_add] at this
theorem cat_enc {w : Wd} (v : AV) : (enc w v).category = catA v := by
  cases v <;> rfl
theorem has_mono {ls : Array Slot} {n : Nat} {l l' : List (Nat × Value)} (h : lv_has ls n l) (hs : ∀ q ∈ l', q ∈ l) : lv_has ls n l' := ⟨h.1, h.2.1, fun q hq => h.2.2 q (hs q hq)⟩
theorem kl_get {lo : Lo} {i j : Nat} {v : AV} (h : (kl lo i)[j]? = some (some v)) : lo[j]? = some (some v) ∧ ¬ (j + 1 = i ∧ catA v = 2) := by
  cases i with
  | zero => exact ⟨h, by omega⟩
  | succ i =>
    have e : kl lo (i + 1) = match lo[i]? with
      | some (some v) => bif Nat.beq (catA v) 2 then lo.set i none else lo
      | _ => lo := rfl
    rw [e] at h
    by_cases hj : j = i
    · subst hj
      cases hx : lo[j]? with
      | none => rw [hx] at h; simp [hx] at h
      | some x =>
        cases x with
        | none => rw [hx] at h; simp [hx] at h
        | some u =>
          rw [hx] at h
          by_cases hc : catA u = 2
          · have : Nat.beq (catA u) 2 = true := by rw [hc]; rfl
            simp only [this, cond_true] at h
            rw [List.getElem?_set_self (List.getElem?_eq_some_iff.mp hx).1] at h
            cases h
          · have : Nat.beq (catA u) 2 = false := by rw [Bool.eq_false_iff]; intro h3; exact hc (Nat.eq_of_beq_eq_true h3)
            simp only [this, cond_false] at h
            rw [hx] at h
            cases h
            exact ⟨rfl, fun q => hc q.2⟩
    · have : lo[j]? = some (some v) := by
        revert h
        cases lo[i]? with
        | none => exact id
        | some x =>
          cases x with
          | none => exact id
          | some u =>
            dsimp only
            cases Nat.beq (catA u) 2 with
            | false => exact id
            | true =>
              intro h
              have h : (lo.set i none)[j]? = some (some v) := h
              rwa [List.getElem?_set_ne (Ne.symm hj)] at h
      exact ⟨this, fun q => hj (by omega)⟩
theorem asg_sto1 {w : Wd} {lo : Lo} {i : Nat} {v : AV} : ∀ q ∈ asg w (sto1 lo i v), q ∈ (i, enc w v) :: (asg w lo).filter (fun q => !(q.1 == i) && !(q.1 + 1 == i && q.2.category == 2)) := by
  intro q hq
  obtain ⟨j, u, h1, h2, h3⟩ := asgF_inv _ _ _ hq
  rw [Nat.zero_add] at h1
  obtain ⟨q1, q2⟩ := q
  dsimp only at h1 h3
  subst h1; subst h3
  by_cases hj : q1 = i
  · subst hj
    have hlt : q1 < (kl lo q1).length := by
      have := (List.getElem?_eq_some_iff.mp h2).1
      simpa [sto1] using this
    have : (sto1 lo q1 v)[q1]? = some (some v) := List.getElem?_set_self hlt
    rw [this] at h2
    cases h2
    exact List.mem_cons_self
  · refine List.mem_cons_of_mem _ (List.mem_filter.mpr ?_)
    have h4 : (kl lo i)[q1]? = some (some u) := by
      have : (sto1 lo i v)[q1]? = (kl lo i)[q1]? := List.getElem?_set_ne (Ne.symm hj)
      rw [← this]; exact h2
    obtain ⟨h5, h6⟩ := kl_get h4
    refine ⟨asg_mem h5, ?_⟩
    simp only [cat_enc, Bool.and_eq_true, Bool.not_eq_true', beq_eq_false_iff_ne, ne_eq, Bool.and_eq_false_imp, beq_iff_eq]
    exact ⟨hj, fun a b => h6 ⟨a, by simpa using b⟩⟩
theorem asg_sto2 {w : Wd} {lo : Lo} {i : Nat} {v : AV} : ∀ q ∈ asg w (sto2 lo i v), q ∈ (i, enc w v) :: (asg w lo).filter (fun q => !(q.1 == i) && (!(q.1 == i + 1) && !(q.1 + 1 == i && q.2.category == 2))) := by
  intro q hq
  obtain ⟨j, u, h1, h2, h3⟩ := asgF_inv _ _ _ hq
  rw [Nat.zero_add] at h1
  obtain ⟨q1, q2⟩ := q
  dsimp only at h1 h3
  subst h1; subst h3
  by_cases hj1 : q1 = i + 1
  · subst hj1
    have hlt : i + 1 < ((kl lo i).set i (some v)).length := by
      have := (List.getElem?_eq_some_iff.mp h2).1
      simpa [sto2] using this
    have : (sto2 lo i v)[i + 1]? = some none := List.getElem?_set_self hlt
    rw [this] at h2
    cases h2
  · have h2' : (sto1 lo i v)[q1]? = some (some u) := by
      have : (sto2 lo i v)[q1]? = (sto1 lo i v)[q1]? := List.getElem?_set_ne (Ne.symm hj1)
      rw [← this]; exact h2
    rcases List.mem_cons.mp (asg_sto1 (w := w) _ (asg_mem h2')) with h | h
    · rw [h]; exact List.mem_cons_self
    · refine List.mem_cons_of_mem _ (List.mem_filter.mpr ⟨(List.mem_filter.mp h).1, ?_⟩)
      have h7 := (List.mem_filter.mp h).2
      simp only [Bool.and_eq_true] at h7 ⊢
      refine ⟨h7.1, ?_, h7.2⟩
      simpa using hj1
section
variable {w : Wd} {d k n e c0 s0 : Nat} {Q : Option AV → Sg → Prop} {mi : MI} {pc nx : Nat} {lo : Lo} {st : List AV} {σ : Sg}
theorem bk_row {st' : List AV} (hmi : mths[e]? = some mi) (h : Bk w d k n e c0 s0 Q nx lo st' σ)
    (row : ∀ (p : Program) (l : Launch) (ev : Env) (R : Room) (s : State) (m : MethodId) (args : Array Value) (below : List Frame) (meth : Method) (c : Code) (H : Heap) (locs : List Loc) (cells slots : Nat) (QQ : State → Prop) (ls : Array Slot), p.tables.exec = Jvm.exec → c.code = mi.2.1 → lv_has ls mi.2.2.1 (asg w lo) → s.vm.findClass mi.1.cls = some m.cls → (∀ q ∈ gtbl, q.before args s = true) → Kn w s → va_S (AA w) s.heap H locs → Rel w σ H →
      W p l ev R s m args below meth c H locs cells slots QQ (F0 m nx ls (st'.map (enc w))) → W p l ev R s m args below meth c H locs cells slots QQ (F0 m pc ls (st.map (enc w)))) : Bk w d k n e c0 s0 Q pc lo st σ := by
  intro hd1 hc1 hs1 mi' hmi' p l ev s m args below meth c H locs ls C hK hR hS hl
  cases hmi.symm.trans hmi'
  exact row p l ev _ s m args below meth c H locs _ _ _ ls C.1.1 C.1.2.1 hl C.1.2.2.2.1 C.1.2.2.2.2 hK hS hR (h hd1 hc1 hs1 mi hmi p l ev s m args below meth c H locs ls C hK hR hS hl)
theorem bk_sto {st' : List AV} {lo' : Lo} {lv' : List (Nat × Value)} (hmi : mths[e]? = some mi) (hsub : ∀ q ∈ asg w lo', q ∈ lv') (h : Bk w d k n e c0 s0 Q nx lo' st' σ)
    (row : ∀ (p : Program) (l : Launch) (ev : Env) (R : Room) (s : State) (m : MethodId) (args : Array Value) (below : List Frame) (meth : Method) (c : Code) (H : Heap) (locs : List Loc) (cells slots : Nat) (QQ : State → Prop) (ls : Array Slot), p.tables.exec = Jvm.exec → c.code = mi.2.1 → lv_has ls mi.2.2.1 (asg w lo) →
      (∀ ls' : Array Slot, lv_has ls' mi.2.2.1 lv' → W p l ev R s m args below meth c H locs cells slots QQ (F0 m nx ls' (st'.map (enc w)))) → W p l ev R s m args below meth c H locs cells slots QQ (F0 m pc ls (st.map (enc w)))) : Bk w d k n e c0 s0 Q pc lo st σ := by
  intro hd1 hc1 hs1 mi' hmi' p l ev s m args below meth c H locs ls C hK hR hS hl
  cases hmi.symm.trans hmi'
  exact row p l ev _ s m args below meth c H locs _ _ _ ls C.1.1 C.1.2.1 hl (fun ls' h' => h hd1 hc1 hs1 mi hmi p l ev s m args below meth c H locs ls' C hK hR hS (has_mono h' hsub))
end

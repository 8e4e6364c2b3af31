/-! 129: what holds of blocks and variables while a text is judged -/
abbrev gB (s : JS) (b : Nat) : BL := (jB s).getD b bl0
abbrev gR (s : JS) (v : Nat) : VR := (jV s).getD v vr0
def bSt (k : Int32) : Nat := if k = 3 then 960 else 0
/-- a variable of block b that is laid out -/
def VO (s : JS) (b : Nat) (x : VR) : Prop :=
  ((vS x = 0 ∨ vS x = 1) ∧ (vT x = 0 ∨ vT x = 1 ∨ vT x = 2) ∨ vS x = 2 ∧ ∃ j, j < 2 ^ 30 ∧ vT x = nI j ∧ (j < 9 ∨ 9 ≤ j ∧ j - 9 < b ∧ bK (gB s (j - 9)) = 2)) ∧
  (vE x = 0 ∨ vS x = 0 ∧ (vE x = 1 ∨ vE x = 2)) ∧
  (vP x = -1 ∧ bSt (bK (gB s b)) ≤ vC x ∨ ∃ a i, a < 6 ∧ i < (if a < 3 then 256 else 64) ∧ vP x = nI (256 * a + i) ∧ bK (gB s b) = 3 ∧ vS x = 0 ∧ vC x = plC (256 * a + i) ∧ vT x = (if a < 3 then 0 else 1)) ∧
  (vS x = 0 → vM x = 1) ∧ (vS x = 1 → 1 ≤ vM x ∧ vM x ≤ 256) ∧ (vS x = 2 → vM x = celT s (vT x)) ∧
  (vS x ≠ 2 → vT x = 0 → vK x = 0 ∨ vK x = 1)
/-- f variables at the end are not laid out yet -/
def JI (s : JS) (f : Nat) : Prop :=
  (jB s = [] → jV s = [] ∧ f = 0) ∧
  (∀ b, b < (jB s).length → (bK (gB s b) = 1 ∨ bK (gB s b) = 2 ∨ bK (gB s b) = 3) ∧ (b = 0 → bF (gB s b) = 0) ∧ bF (gB s b) ≤ vEnd s b ∧ vEnd s b ≤ (jV s).length ∧ (b + 1 < (jB s).length → bK (gB s b) ≠ 3 ∧ vEnd s b + f ≤ (jV s).length) ∧ (bK (gB s b) = 1 → bF (gB s b) < vEnd s b ∧ bF (gB s b) + f < (jV s).length ∧ vS (gR s (bF (gB s b))) = 0 ∧ vC (gR s (bF (gB s b))) = 0 ∧ vE (gR s (bF (gB s b))) = 0)) ∧
  (jB s ≠ [] → bF (gB s ((jB s).length - 1)) + f ≤ (jV s).length) ∧
  (∀ b v, b < (jB s).length → bF (gB s b) ≤ v → v < vEnd s b → v + f < (jV s).length → VO s b (gR s v)) ∧
  (∀ v, v < (jV s).length → (jV s).length ≤ v + f → vT (gR s v) = -1 ∧ vP (gR s v) = -1 ∧ vS (gR s v) = 0) ∧
  (∀ b v v', b < (jB s).length → bF (gB s b) ≤ v → v < v' → v' < vEnd s b → v' + f < (jV s).length → vP (gR s v) = -1 → vP (gR s v') = -1 → vC (gR s v) + vM (gR s v) ≤ vC (gR s v')) ∧
  (∀ b v v', b < (jB s).length → bF (gB s b) ≤ v → v < v' → v' < vEnd s b → v' + f < (jV s).length → vP (gR s v) ≠ -1 → vP (gR s v) ≠ vP (gR s v')) ∧
  (∀ b v, b < (jB s).length → bF (gB s b) ≤ v → v < vEnd s b → v + f < (jV s).length → vP (gR s v) = -1 → vC (gR s v) + vM (gR s v) ≤ bC (gB s b))
theorem gD_app {α : Type} {l m : List α} {i : Nat} {d : α} (h : i < l.length) : (l ++ m).getD i d = l.getD i d := by
  rw [List.getD_eq_getElem?_getD, List.getD_eq_getElem?_getD, List.getElem?_append_left h]
theorem gD_last {α : Type} {l : List α} {x d : α} : (l ++ [x]).getD l.length d = x := by simp
theorem gD_set {α : Type} {l : List α} {i j : Nat} {x d : α} (h : i < l.length) : (l.set i x).getD j d = if j = i then x else l.getD j d := by
  rw [List.getD_eq_getElem?_getD, List.getD_eq_getElem?_getD, List.getElem?_set]
  by_cases e : i = j
  · subst e; simp [h]
  · simp [e, Ne.symm e]
theorem cb_gB {s : JS} : cb s = gB s ((jB s).length - 1) := rfl
theorem vEnd_last {s : JS} {b : Nat} (h : ¬ b + 1 < (jB s).length) : vEnd s b = (jV s).length := by unfold vEnd; rw [if_neg h]
theorem vEnd_in {s : JS} {b : Nat} (h : b + 1 < (jB s).length) : vEnd s b = bF (gB s (b + 1)) := by unfold vEnd gB; rw [if_pos h]
theorem VO.to {s s' : JS} {b : Nat} {x : VR} (h : VO s b x) (hk : ∀ c, bK (gB s' c) = bK (gB s c)) (hc : ∀ c, c < b → bC (gB s' c) = bC (gB s c)) : VO s' b x := by
  obtain ⟨h1, h2, h3, h4, h5, h6, h7⟩ := h
  refine ⟨?_, h2, ?_, h4, h5, fun q => ?_, h7⟩
  · rcases h1 with h1 | ⟨h1, j, h0, e, hj⟩
    · exact Or.inl h1
    · refine Or.inr ⟨h1, j, h0, e, ?_⟩
      rcases hj with hj | ⟨ha, hj, hk2⟩
      · exact Or.inl hj
      · exact Or.inr ⟨ha, hj, by rw [hk]; exact hk2⟩
  · rw [hk]; exact h3
  · rw [h6 q]
    rcases h1 with ⟨h1, _⟩ | ⟨h1, j, h0, e, hj⟩
    · rw [q] at h1; rcases h1 with h1 | h1 <;> exact absurd h1 (by decide)
    · unfold celT
      split
      · rfl
      · rename_i q9
        rcases hj with hj | ⟨ha, hj, hk2⟩
        · exfalso
          apply q9
          rw [e, show (9 : Int32) = nI 9 from rfl, nI_ltI (by omega) (by decide)]; exact hj
        · rw [e, nI_clamp (by omega)]
          exact (hc _ hj).symm
theorem JI.addV {s : JS} {f : Nat} {x : VR} (h : JI s f) (hb : jB s ≠ []) (hx : vT x = -1 ∧ vP x = -1 ∧ vS x = 0) : JI (jB s, jV s ++ [x], s.2.2) (f + 1) := by
  obtain ⟨h1, h2, h3, h4, h5, h6, h7, h8⟩ := h
  have hlen : (jV ((jB s, jV s ++ [x], s.2.2) : JS)).length = (jV s).length + 1 := by show (jV s ++ [x]).length = _; simp
  have hR : ∀ v, v < (jV s).length → gR (jB s, jV s ++ [x], s.2.2) v = gR s v := fun v hv => gD_app hv
  have hE : ∀ b, vEnd (jB s, jV s ++ [x], s.2.2) b = if b + 1 < (jB s).length then vEnd s b else vEnd s b + 1 := by
    intro b
    by_cases q : b + 1 < (jB s).length
    · rw [if_pos q]; unfold vEnd; rw [if_pos q]; exact if_pos q
    · rw [if_neg q, vEnd_last q, vEnd_last (s := (jB s, jV s ++ [x], s.2.2)) q, hlen]
  have hpos := List.length_pos_iff.mpr hb
  have lt : ∀ b v, v + (f + 1) < (jV s).length + 1 → v < vEnd (jB s, jV s ++ [x], s.2.2) b → v < vEnd s b ∧ v < (jV s).length := by
    intro b v hv hq
    rw [hE] at hq
    split at hq
    · exact ⟨hq, by omega⟩
    · rename_i q; rw [vEnd_last q] at hq ⊢; exact ⟨by omega, by omega⟩
  refine ⟨fun q => absurd q hb, fun b hq => ?_, fun _ => ?_, fun b v hq h9 h10 h11 => ?_, fun v hv h9 => ?_, fun b v v' hq h9 h10 h11 h12 => ?_, fun b v v' hq h9 h10 h11 h12 => ?_, fun b v hq h9 h10 h11 => ?_⟩
  · obtain ⟨a1, a2, a3, a4, a5, a6⟩ := h2 b hq
    have a3 : bF (gB s b) ≤ vEnd s b := a3
    refine ⟨a1, a2, ?_, ?_, ?_, ?_⟩
    · show bF (gB s b) ≤ _; rw [hE]; split <;> omega
    · rw [hE, hlen]; split <;> omega
    · intro q
      have q : b + 1 < (jB s).length := q
      refine ⟨(a5 q).1, ?_⟩
      rw [hE, if_pos q, hlen]; have := (a5 q).2; omega
    · intro q
      obtain ⟨b1, b2, b3⟩ := a6 q
      have e : gR (jB s, jV s ++ [x], s.2.2) (bF (gB (jB s, jV s ++ [x], s.2.2) b)) = gR s (bF (gB s b)) := hR (bF (gB s b)) (by omega)
      refine ⟨by show bF (gB s b) < _; rw [hE]; split <;> omega, by rw [hlen]; show bF (gB s b) + (f + 1) < _; omega, ?_⟩
      rw [e]; exact b3
  · rw [hlen]; show bF (gB s ((jB s).length - 1)) + (f + 1) ≤ _; have := h3 hb; omega
  · rw [hlen] at h11
    have q := lt b v h11 h10
    rw [hR v q.2]; exact h4 b v hq h9 q.1 (by omega)
  · rw [hlen] at hv h9
    by_cases e : v = (jV s).length
    · subst e
      have e : gR (jB s, jV s ++ [x], s.2.2) (jV s).length = x := gD_last
      rw [e]; exact hx
    · rw [hR v (by omega)]; exact h5 v (by omega) (by omega)
  · rw [hlen] at h12
    have q := lt b v' h12 h11
    rw [hR v (by omega), hR v' q.2]; exact h6 b v v' hq h9 h10 q.1 (by omega)
  · rw [hlen] at h12
    have q := lt b v' h12 h11
    rw [hR v (by omega), hR v' q.2]; exact h7 b v v' hq h9 h10 q.1 (by omega)
  · rw [hlen] at h11
    have q := lt b v h11 h10
    rw [hR v q.2]; exact h8 b v hq h9 q.1 (by omega)
/-- cells are added to the block at hand -/
theorem addC_gB {s : JS} {n : Nat} (hb : jB s ≠ []) (b : Nat) : gB (addC s n) b = if b = (jB s).length - 1 then (bN (cb s), bA (cb s), bK (cb s), bF (cb s), bC (cb s) + n, bP (cb s)) else gB s b := gD_set (cb_lt hb)
theorem addC_len {s : JS} {n : Nat} : (jB (addC s n)).length = (jB s).length := List.length_set
theorem addC_K {s : JS} {n : Nat} (hb : jB s ≠ []) (b : Nat) : bK (gB (addC s n) b) = bK (gB s b) := by
  rw [addC_gB hb]; split
  · rename_i e; rw [e]; rfl
  · rfl
theorem addC_F {s : JS} {n : Nat} (hb : jB s ≠ []) (b : Nat) : bF (gB (addC s n) b) = bF (gB s b) := by
  rw [addC_gB hb]; split
  · rename_i e; rw [e]; rfl
  · rfl
theorem addC_C {s : JS} {n : Nat} (hb : jB s ≠ []) (b : Nat) : bC (gB (addC s n) b) = if b = (jB s).length - 1 then bC (gB s b) + n else bC (gB s b) := by
  rw [addC_gB hb]; split
  · rename_i e; rw [e]; rfl
  · rfl
theorem addC_E {s : JS} {n : Nat} (hb : jB s ≠ []) (b : Nat) : vEnd (addC s n) b = vEnd s b := by
  by_cases q : b + 1 < (jB s).length
  · rw [vEnd_in q, vEnd_in (by rw [addC_len]; exact q), addC_F hb]
  · rw [vEnd_last q, vEnd_last (by rw [addC_len]; exact q)]; rfl
theorem addC_cbC {s : JS} {n : Nat} (hb : jB s ≠ []) : bC (cb (addC s n)) = bC (cb s) + n := by
  rw [cb_gB, addC_len, addC_C hb, if_pos rfl]; rfl
theorem JI.grow {s : JS} {f n : Nat} (h : JI s f) (hb : jB s ≠ []) : JI (addC s n) f := by
  obtain ⟨h1, h2, h3, h4, h5, h6, h7, h8⟩ := h
  have hR : ∀ v, gR (addC s n) v = gR s v := fun v => rfl
  have hV : jV (addC s n) = jV s := rfl
  refine ⟨fun q => absurd (List.length_eq_zero_iff.mpr q) (by rw [addC_len]; have := List.length_pos_iff.mpr hb; omega), fun b hq => ?_, fun _ => ?_, fun b v hq h9 h10 h11 => ?_, h5, fun b v v' hq h9 h10 h11 => ?_, fun b v v' hq h9 h10 h11 => ?_, fun b v hq h9 h10 h11 h12 => ?_⟩
  · rw [addC_len] at hq
    have := h2 b hq
    rw [addC_K hb, addC_F hb, addC_E hb, addC_len, hR, hV]; exact this
  · rw [addC_len, addC_F hb, hV]; exact h3 hb
  · rw [addC_len] at hq; rw [addC_F hb] at h9; rw [addC_E hb] at h10
    exact (h4 b v hq h9 h10 h11).to (fun c => addC_K hb c) (fun c hc => by rw [addC_C hb, if_neg (by omega)])
  · rw [addC_len] at hq; rw [addC_F hb] at h9; rw [addC_E hb] at h11
    exact h6 b v v' hq h9 h10 h11
  · rw [addC_len] at hq; rw [addC_F hb] at h9; rw [addC_E hb] at h11
    exact h7 b v v' hq h9 h10 h11
  · rw [addC_len] at hq; rw [addC_F hb] at h9; rw [addC_E hb] at h10
    have := h8 b v hq h9 h10 h11 h12
    rw [addC_C hb, hR]; split <;> omega
/-- a variable is laid out -/
theorem JI.setL {s : JS} {f v : Nat} {x : VR} (h : JI s (f + 1)) (hb : jB s ≠ []) (hv : v + (f + 1) = (jV s).length) (hx : VO s ((jB s).length - 1) x)
    (ho : vP x = -1 → ∀ v', bF (cb s) ≤ v' → v' < v → vP (gR s v') = -1 → vC (gR s v') + vM (gR s v') ≤ vC x)
    (hp : ∀ v', bF (cb s) ≤ v' → v' < v → vP (gR s v') ≠ -1 → vP (gR s v') ≠ vP x) (hm : vP x = -1 → vC x + vM x ≤ bC (cb s)) : JI (setV s v x) f := by
  obtain ⟨h1, h2, h3, h4, h5, h6, h7, h8⟩ := h
  have hpos := List.length_pos_iff.mpr hb
  have hlen : (jV (setV s v x)).length = (jV s).length := List.length_set
  have hR : ∀ j, gR (setV s v x) j = if j = v then x else gR s j := fun j => gD_set (show v < (jV s).length by omega)
  have hE : ∀ b, vEnd (setV s v x) b = vEnd s b := by
    intro b; unfold vEnd; rw [hlen]; rfl
  have hB : ∀ b, gB (setV s v x) b = gB s b := fun b => rfl
  have last : ∀ b j, b < (jB s).length → j < vEnd s b → ¬ j + (f + 1) < (jV s).length → b = (jB s).length - 1 := by
    intro b j hq hj hn
    by_cases q : b + 1 < (jB s).length
    · have := ((h2 b hq).2.2.2.2.1 q).2; omega
    · omega
  refine ⟨fun q => absurd q hb, fun b hq => ?_, fun q => ?_, fun b j hq h9 h10 h11 => ?_, fun j hj h9 => ?_, fun b j j' hq h9 h10 h11 h12 => ?_, fun b j j' hq h9 h10 h11 h12 => ?_, fun b j hq h9 h10 h11 => ?_⟩
  · obtain ⟨a1, a2, a3, a4, a5, a6⟩ := h2 b hq
    rw [hB, hE, hlen]
    refine ⟨a1, a2, a3, a4, fun q => ⟨(a5 q).1, by have := (a5 q).2; omega⟩, fun q => ?_⟩
    obtain ⟨b1, b2, b3⟩ := a6 q
    rw [hR, if_neg (by omega)]
    exact ⟨b1, by omega, b3⟩
  · rw [hlen]; have := h3 hb; show bF (gB s ((jB s).length - 1)) + f ≤ _; omega
  · rw [hlen] at h11; rw [hE] at h10; rw [hB] at h9
    rw [hR]
    split
    · rename_i e
      rw [last b j hq h10 (by omega)]; exact hx
    · exact h4 b j hq h9 h10 (by omega)
  · rw [hlen] at hj h9
    rw [hR, if_neg (by omega)]; exact h5 j hj (by omega)
  · rw [hlen] at h12; rw [hE] at h11; rw [hB] at h9
    rw [hR, hR, if_neg (show ¬ j = v by omega)]
    split
    · rename_i e
      have eb := last b j' hq h11 (by omega)
      intro p1 p2
      exact ho p2 j (by rw [cb_gB, ← eb]; exact h9) (by omega) p1
    · exact h6 b j j' hq h9 h10 h11 (by omega)
  · rw [hlen] at h12; rw [hE] at h11; rw [hB] at h9
    rw [hR, hR, if_neg (show ¬ j = v by omega)]
    split
    · rename_i e
      have eb := last b j' hq h11 (by omega)
      exact fun p1 => hp j (by rw [cb_gB, ← eb]; exact h9) (by omega) p1
    · exact h7 b j j' hq h9 h10 h11 (by omega)
  · rw [hlen] at h11; rw [hE] at h10; rw [hB] at h9 ⊢
    rw [hR]
    split
    · rename_i e
      have eb := last b j hq h10 (by omega)
      intro p1
      rw [eb]; exact hm p1
    · exact h8 b j hq h9 h10 (by omega)
theorem JI.last {s : JS} {f v : Nat} (h : JI s f) (hb : jB s ≠ []) (h1 : bF (cb s) ≤ v) (h2 : v + f < (jV s).length) : VO s ((jB s).length - 1) (gR s v) ∧ (vP (gR s v) = -1 → vC (gR s v) + vM (gR s v) ≤ bC (cb s)) := by
  have hl := cb_lt hb
  have e : vEnd s ((jB s).length - 1) = (jV s).length := vEnd_last (by omega)
  exact ⟨h.2.2.2.1 ((jB s).length - 1) v hl h1 (by rw [e]; omega) h2, fun q => h.2.2.2.2.2.2.2 ((jB s).length - 1) v hl h1 (by rw [e]; omega) h2 q⟩
/-- a variable is laid out, its cells behind the others -/
theorem JI.lay {s : JS} {f v n : Nat} {x : VR} (h : JI s (f + 1)) (hb : jB s ≠ []) (hv : v + (f + 1) = (jV s).length) (hx : VO s ((jB s).length - 1) x) (hc : vP x = -1 → bC (cb s) ≤ vC x ∧ vC x + vM x ≤ bC (cb s) + n)
    (hp : ∀ v', bF (cb s) ≤ v' → v' < v → vP (gR s v') ≠ -1 → vP (gR s v') ≠ vP x) : JI (addC (setV s v x) n) f := by
  have e : addC (setV s v x) n = setV (addC s n) v x := rfl
  have hpos := List.length_pos_iff.mpr hb
  have hb' : jB (addC s n) ≠ [] := fun q => by have := addC_len (s := s) (n := n); rw [q] at this; simp at this; omega
  have hF : bF (cb (addC s n)) = bF (cb s) := by rw [cb_gB, addC_len, addC_F hb]; rfl
  rw [e]
  refine JI.setL (h.grow hb) hb' hv (by rw [addC_len]; exact hx.to (fun c => addC_K hb c) (fun c hc => by rw [addC_C hb, if_neg (by omega)])) (fun p1 v' q1 q2 p2 => ?_) (fun v' q1 q2 p2 => hp v' (by rw [← hF]; exact q1) q2 p2) (fun p1 => by rw [addC_cbC hb]; exact (hc p1).2)
  have := (h.last hb (v := v') (by rw [← hF]; exact q1) (by omega)).2 p2
  have := (hc p1).1
  show vC (gR s v') + vM (gR s v') ≤ _
  omega
/-- a block begins -/
theorem JI.beg {s : JS} {k : Nat} {a kk : Int32} (h : JI s 0) (hk : kk = 1 ∨ kk = 2 ∨ kk = 3) (hl : jB s = [] ∨ bK (cb s) ≠ 3) (x : VR) (hx : VO s (jB s).length x) (hx1 : vS x = 0 ∧ vC x = 0 ∧ vE x = 0 ∧ vM x = 1 ∧ vP x = -1) (F : Nat → Int32 × Int32 × Int32) :
    JI (jB s ++ [(k, a, kk, (jV s).length, if kk = 3 then 960 else if kk = 1 then 1 else 0, -1)], if kk = 1 then jV s ++ [x] else jV s, F) 0 := by
  obtain ⟨h1, h2, h3, h4, h5, h6, h7, h8⟩ := h
  generalize eB : ((k, a, kk, (jV s).length, if kk = 3 then 960 else if kk = 1 then 1 else 0, -1) : BL) = nb
  have nK : bK nb = kk := by rw [← eB]; rfl
  have nF : bF nb = (jV s).length := by rw [← eB]; rfl
  have nC : bC nb = if kk = 3 then 960 else if kk = 1 then 1 else 0 := by rw [← eB]; rfl
  generalize es : ((jB s ++ [nb], if kk = 1 then jV s ++ [x] else jV s, F) : JS) = s'
  have hBs : jB s' = jB s ++ [nb] := by rw [← es]; rfl
  have hVs : jV s' = if kk = 1 then jV s ++ [x] else jV s := by rw [← es]; rfl
  have hBl : (jB s').length = (jB s).length + 1 := by rw [hBs]; simp
  have hVl : (jV s').length = if kk = 1 then (jV s).length + 1 else (jV s).length := by rw [hVs]; split <;> simp
  have gBo : ∀ b, b < (jB s).length → gB s' b = gB s b := fun b hb => by unfold gB; rw [hBs]; exact gD_app hb
  have gBn : gB s' (jB s).length = nb := by unfold gB; rw [hBs]; exact gD_last
  have gRo : ∀ v, v < (jV s).length → gR s' v = gR s v := fun v hv => by
    unfold gR; rw [hVs]; split
    · exact gD_app hv
    · rfl
  have gRn : kk = 1 → gR s' (jV s).length = x := fun q => by unfold gR; rw [hVs, if_pos q]; exact gD_last
  have eEo : ∀ b, b < (jB s).length → vEnd s' b = vEnd s b := by
    intro b hb
    rw [vEnd_in (s := s') (by omega)]
    by_cases q : b + 1 < (jB s).length
    · rw [gBo _ q, vEnd_in q]
    · rw [show b + 1 = (jB s).length by omega, gBn, nF, vEnd_last q]
  have eEn : vEnd s' (jB s).length = (jV s').length := vEnd_last (by omega)
  have vo : ∀ b y, b < (jB s).length → VO s b y → VO s' b y := by
    intro b y hb hy
    obtain ⟨y1, y2, y3, y4, y5, y6, y7⟩ := hy
    have t : ∀ c, c < b → gB s' c = gB s c := fun c hc => gBo c (by omega)
    refine ⟨?_, y2, by rw [gBo b hb]; exact y3, y4, y5, fun q => ?_, y7⟩
    · rcases y1 with y1 | ⟨y1, j, j0, ej, hj⟩
      · exact Or.inl y1
      · refine Or.inr ⟨y1, j, j0, ej, ?_⟩
        rcases hj with hj | ⟨ha, hj, hk2⟩
        · exact Or.inl hj
        · exact Or.inr ⟨ha, hj, by rw [t _ hj]; exact hk2⟩
    · rw [y6 q]
      rcases y1 with ⟨y1, _⟩ | ⟨y1, j, j0, ej, hj⟩
      · rw [q] at y1; rcases y1 with y1 | y1 <;> exact absurd y1 (by decide)
      · unfold celT
        split
        · rfl
        · rename_i q9
          rcases hj with hj | ⟨ha, hj, hk2⟩
          · exfalso
            apply q9
            rw [ej, show (9 : Int32) = nI 9 from rfl, nI_ltI (by omega) (by decide)]; exact hj
          · rw [ej, nI_clamp (by omega)]
            show bC (gB s (j - 9)) = bC (gB s' (j - 9))
            rw [t _ hj]
  have von : kk = 1 → VO s' (jB s).length x := by
    intro q
    obtain ⟨y1, y2, y3, y4, y5, y6, y7⟩ := hx
    refine ⟨?_, y2, Or.inl ⟨hx1.2.2.2.2, by rw [gBn, nK, q]; exact Nat.zero_le _⟩, y4, y5, fun q => ?_, y7⟩
    · rcases y1 with y1 | ⟨y1, _⟩
      · exact Or.inl y1
      · rw [hx1.1] at y1; exact absurd y1 (by decide)
    · rw [hx1.1] at q; exact absurd q (by decide)
  have cs : ∀ b, b < (jB s').length → b < (jB s).length ∨ b = (jB s).length := fun b hb => by omega
  have inn : ∀ v, v < (jV s').length → ¬ v < (jV s).length → kk = 1 ∧ v = (jV s).length := fun v hv hn => by
    rw [hVl] at hv; split at hv
    · rename_i q; exact ⟨q, by omega⟩
    · omega
  have oe : ∀ b v, b < (jB s).length → v < vEnd s b → v < (jV s).length := fun b v hb hv => by have := (h2 b hb).2.2.2.1; omega
  refine ⟨fun q => absurd hBl (by rw [q]; simp), fun b hq => ?_, fun q => ?_, fun b v hq h9 h10 h11 => ?_, fun v hv h9 => absurd hv (by omega), fun b v v' hq h9 h10 h11 h12 => ?_, fun b v v' hq h9 h10 h11 h12 => ?_, fun b v hq h9 h10 h11 => ?_⟩
  · rcases cs b hq with hb | hb
    · obtain ⟨a1, a2, a3, a4, a5, a6⟩ := h2 b hb
      have hle : (jV s).length ≤ (jV s').length := by rw [hVl]; split <;> omega
      rw [gBo b hb, eEo b hb]
      refine ⟨a1, a2, a3, by omega, fun q => ⟨?_, by omega⟩, fun q => ?_⟩
      · by_cases q2 : b + 1 < (jB s).length
        · exact (a5 q2).1
        · rcases hl with hl | hl
          · rw [hl] at hb; exact absurd hb (by simp)
          · rw [cb_gB, show (jB s).length - 1 = b by omega] at hl; exact hl
      · obtain ⟨b1, b2, b3⟩ := a6 q
        rw [gRo _ (by omega)]; exact ⟨b1, by omega, b3⟩
    · subst hb
      rw [gBn, eEn, nF, nK]
      refine ⟨hk, fun q => ?_, by rw [hVl]; split <;> omega, Nat.le_refl _, fun q => absurd q (by omega), fun q => ?_⟩
      · have := (h1 (List.length_eq_zero_iff.mp q)).1; rw [this]; rfl
      · rw [gRn q, hVl, if_pos q]; exact ⟨by omega, by omega, hx1.1, hx1.2.1, hx1.2.2.1⟩
  · rw [hBl, Nat.add_sub_cancel, gBn, nF, hVl]; split <;> omega
  · rcases cs b hq with hb | hb
    · rw [gBo b hb] at h9; rw [eEo b hb] at h10
      have := oe b v hb h10
      rw [gRo v this]; exact vo b _ hb (h4 b v hb h9 h10 (by omega))
    · subst hb
      rw [gBn, nF] at h9
      obtain ⟨q, e⟩ := inn v (by omega) (by omega)
      subst e
      rw [gRn q]; exact von q
  · rcases cs b hq with hb | hb
    · rw [gBo b hb] at h9; rw [eEo b hb] at h11
      have := oe b v' hb h11
      rw [gRo v (by omega), gRo v' this]; exact h6 b v v' hb h9 h10 h11 (by omega)
    · subst hb
      rw [gBn, nF] at h9
      obtain ⟨q, e⟩ := inn v (by omega) (by omega)
      obtain ⟨_, e'⟩ := inn v' (by omega) (by omega)
      omega
  · rcases cs b hq with hb | hb
    · rw [gBo b hb] at h9; rw [eEo b hb] at h11
      have := oe b v' hb h11
      rw [gRo v (by omega), gRo v' this]; exact h7 b v v' hb h9 h10 h11 (by omega)
    · subst hb
      rw [gBn, nF] at h9
      obtain ⟨q, e⟩ := inn v (by omega) (by omega)
      obtain ⟨_, e'⟩ := inn v' (by omega) (by omega)
      omega
  · rcases cs b hq with hb | hb
    · rw [gBo b hb] at h9 ⊢; rw [eEo b hb] at h10
      have := oe b v hb h10
      rw [gRo v this]; exact h8 b v hb h9 h10 (by omega)
    · subst hb
      rw [gBn, nF] at h9
      obtain ⟨q, e⟩ := inn v (by omega) (by omega)
      subst e
      rw [gRn q, gBn, nC, hx1.2.1, hx1.2.2.2.1, if_neg (by rw [q]; decide), if_pos q]
      exact fun _ => Nat.le_refl _

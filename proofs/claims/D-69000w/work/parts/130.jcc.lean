/-! 130: the component judges: what leaving a node leaves; nodes of declarations -/
theorem jT_setT {s : JS} {k j : Nat} {t : Int32} : jT (setT s k t) j = if j = k then t else jT s j := by
  unfold setT setA; show (if j = k then _ else _ : Int32 × Int32 × Int32).1 = _; split <;> rfl
theorem jC_setT {s : JS} {k j : Nat} {t : Int32} : jC (setT s k t) j = jC s j := by
  unfold setT setA; show (if j = k then _ else _ : Int32 × Int32 × Int32).2.1 = _; split
  · rename_i e; rw [e]
  · rfl
theorem jM_setT {s : JS} {k j : Nat} {t : Int32} : jM (setT s k t) j = jM s j := by
  unfold setT setA; show (if j = k then _ else _ : Int32 × Int32 × Int32).2.2 = _; split
  · rename_i e; rw [e]
  · rfl
theorem jT_setC {s : JS} {k j : Nat} {t : Int32} : jT (setC s k t) j = jT s j := by
  unfold setC setA; show (if j = k then _ else _ : Int32 × Int32 × Int32).1 = _; split
  · rename_i e; rw [e]
  · rfl
theorem jC_setC {s : JS} {k j : Nat} {t : Int32} : jC (setC s k t) j = if j = k then t else jC s j := by
  unfold setC setA; show (if j = k then _ else _ : Int32 × Int32 × Int32).2.1 = _; split <;> rfl
theorem jM_setC {s : JS} {k j : Nat} {t : Int32} : jM (setC s k t) j = jM s j := by
  unfold setC setA; show (if j = k then _ else _ : Int32 × Int32 × Int32).2.2 = _; split
  · rename_i e; rw [e]
  · rfl
theorem jT_setM {s : JS} {k j : Nat} {t : Int32} : jT (setM s k t) j = jT s j := by
  unfold setM setA; show (if j = k then _ else _ : Int32 × Int32 × Int32).1 = _; split
  · rename_i e; rw [e]
  · rfl
theorem jC_setM {s : JS} {k j : Nat} {t : Int32} : jC (setM s k t) j = jC s j := by
  unfold setM setA; show (if j = k then _ else _ : Int32 × Int32 × Int32).2.1 = _; split
  · rename_i e; rw [e]
  · rfl
theorem jM_setM {s : JS} {k j : Nat} {t : Int32} : jM (setM s k t) j = if j = k then t else jM s j := by
  unfold setM setA; show (if j = k then _ else _ : Int32 × Int32 × Int32).2.2 = _; split <;> rfl
/-- what is left: the new state, or the fault -/
def JP (g : Nat → NI) (N : List (List Int32)) (M : Nat) (σ0 σ : Sg) (r : JR) (E : Nat) (tk : Nat → Bool) : Prop := match r with
  | .ok s => JW g N M σ0 σ s E tk ∧ FT σ none
  | .error e => Fr jcF σ0 σ ∧ FT σ (some e)
section
variable {w : Wd} {d : Nat} {g : Nat → NI} {N : List (List Int32)} {M : Nat} {σ0 σ : Sg} {s : JS} {E : Nat} {tk : Nat → Bool} {ft : Option JE}
theorem JP.of {f : Option JE} (hS : JW g N M σ0 σ s E tk) (hf : FT σ f) : JP g N M σ0 σ (toR f s) E tk := by
  cases f with
  | none => exact ⟨hS, hf⟩
  | some e => exact ⟨hS.1, hf⟩
theorem JW.a3 {τ : Sg} {s' : JS} {E' : Nat} (h : JW g N M σ0 σ s E tk) (e1 : s'.1 = s.1) (e2 : s'.2.1 = s.2.1) (hF : Fr jcF σ τ) (hk : ∀ a j, ¬ (25 ≤ a ∧ a ≤ 27) → ¬ (a = 21 ∧ (j = 2 ∨ j = 3 ∨ j = 26 ∨ j = 29)) → τ.1 a j = σ.1 a j) (ha : ∀ k, k < E' → τ.1 25 k = jT s' k ∧ τ.1 26 k = jC s' k ∧ τ.1 27 k = jM s' k) (hE : E' ≤ M) : JW g N M σ0 τ s' E' tk := by
  obtain ⟨sb, sv, sa⟩ := s
  obtain ⟨sb', sv', sa'⟩ := s'
  dsimp only at e1 e2
  subst e1 e2
  obtain ⟨h1, h2, h3, h4, h5, h6, h7, h8⟩ := h
  refine ⟨h1.trans hF, ⟨by rw [hk 21 22 (by omega) (by omega)]; exact h2.1, h2.2.1, fun b hb => ?_⟩, ⟨by rw [hk 21 17 (by omega) (by omega)]; exact h3.1, h3.2.1, fun v hv => ?_⟩, fun hb => ?_, ha, fun j hj => ?_, fun p hp => ?_, hE⟩
  · rw [hk 36 b (by omega) (by omega), hk 37 b (by omega) (by omega), hk 38 b (by omega) (by omega)]; exact h2.2.2 b hb
  · rw [hk 28 v (by omega) (by omega), hk 29 v (by omega) (by omega), hk 30 v (by omega) (by omega), hk 31 v (by omega) (by omega), hk 32 v (by omega) (by omega), hk 33 v (by omega) (by omega), hk 34 v (by omega) (by omega), hk 35 v (by omega) (by omega)]; exact h3.2.2 v hv
  · rw [hk 21 24 (by omega) (by omega), hk 21 25 (by omega) (by omega)]; exact h4 hb
  · rw [hk 23 j (by omega) (by omega), hk 24 j (by omega) (by omega)]; exact h6 j hj
  · rw [hk 22 p (by omega) (by omega)]; exact h7 p hp
theorem JW.wT {k : Nat} {v : Int32} (h : JW g N M σ0 σ s E tk) : JW g N M σ0 (wI σ 25 k v) (setT s k v) E tk := by
  refine h.a3 rfl rfl (Fr.rfl'.wI rfl) (fun a j q _ => by rw [wI_1, if_neg (by omega)]) (fun j hj => ?_) h.2.2.2.2.2.2.2
  have := h.2.2.2.2.1 j hj
  rw [jT_setT, jC_setT, jM_setT, wI_1, wI_1, wI_1, if_neg (show ¬ (26 = 25 ∧ j = k) by omega), if_neg (show ¬ (27 = 25 ∧ j = k) by omega)]
  refine ⟨?_, this.2⟩
  by_cases e : j = k
  · rw [if_pos ⟨rfl, e⟩, if_pos e]
  · rw [if_neg (fun q => e q.2), if_neg e]; exact this.1
theorem JW.wC {k : Nat} {v : Int32} (h : JW g N M σ0 σ s E tk) : JW g N M σ0 (wI σ 26 k v) (setC s k v) E tk := by
  refine h.a3 rfl rfl (Fr.rfl'.wI rfl) (fun a j q _ => by rw [wI_1, if_neg (by omega)]) (fun j hj => ?_) h.2.2.2.2.2.2.2
  have := h.2.2.2.2.1 j hj
  rw [jT_setC, jC_setC, jM_setC, wI_1, wI_1, wI_1, if_neg (show ¬ (25 = 26 ∧ j = k) by omega), if_neg (show ¬ (27 = 26 ∧ j = k) by omega)]
  refine ⟨this.1, ?_, this.2.2⟩
  by_cases e : j = k
  · rw [if_pos ⟨rfl, e⟩, if_pos e]
  · rw [if_neg (fun q => e q.2), if_neg e]; exact this.2.1
theorem JW.wM {k : Nat} {v : Int32} (h : JW g N M σ0 σ s E tk) : JW g N M σ0 (wI σ 27 k v) (setM s k v) E tk := by
  refine h.a3 rfl rfl (Fr.rfl'.wI rfl) (fun a j q _ => by rw [wI_1, if_neg (by omega)]) (fun j hj => ?_) h.2.2.2.2.2.2.2
  have := h.2.2.2.2.1 j hj
  rw [jT_setM, jC_setM, jM_setM, wI_1, wI_1, wI_1, if_neg (show ¬ (25 = 27 ∧ j = k) by omega), if_neg (show ¬ (26 = 27 ∧ j = k) by omega)]
  refine ⟨this.1, this.2.1, ?_⟩
  by_cases e : j = k
  · rw [if_pos ⟨rfl, e⟩, if_pos e]
  · rw [if_neg (fun q => e q.2), if_neg e]; exact this.2.2
theorem FT.wr {k j : Nat} {v : Int32} (h : FT σ ft) (hk : ¬ (k = 21 ∧ (j = 2 ∨ j = 3))) : FT (wI σ k j v) ft := by
  have a : (wI σ k j v).1 21 2 = σ.1 21 2 := by rw [wI_1, if_neg (by omega)]
  have b : (wI σ k j v).1 21 3 = σ.1 21 3 := by rw [wI_1, if_neg (by omega)]
  cases ft with
  | none => exact a.trans h
  | some e => exact ⟨a.trans h.1, h.2.1, b.trans h.2.2⟩
/-- a place that is told nothing of -/
theorem JW.w0 {v : Int32} (h : JW g N M σ0 σ s E tk) : JW g N M σ0 (wI σ 21 29 v) s E tk :=
  h.cg (Fr.rfl'.wI rfl) (fun k i hk => by rw [wI_1, if_neg (by omega)])
def kdO (g : Nat → NI) (o : Option Nat) : Int32 := match o with | none => -1 | some j => gK g j
theorem jr_kind {Q : Int32 → Sg → Prop} {o : Option Nat} {x1 : Int32} (hd : 1 ≤ d) (hG : StG g N M σ0) (hS : JW g N M σ0 σ s E tk) (ho : ∀ j, o = some j → j < M) (h1 : x1 = jO o) (h : Q (kdO g o) σ) : OkI w d m_Rules_kind [vR 21, vI x1] σ Q := by
  subst h1
  have hM := hG.2.2.1
  refine v_Rules_kind _ _ hd ?_
  cases o with
  | none => exact ⟨fun q => absurd rfl q, fun _ => h⟩
  | some j =>
    have hj := ho j rfl
    refine ⟨fun _ => ⟨vp_in_nI (by omega) (by omega), ?_⟩, fun q => absurd q (nI_nm1 (by omega))⟩
    rw [show jO (some j) = nI j from rfl, nI_clamp (by omega), (hS.tb hG hj).1]; exact h
theorem jr_parentKind {Q : Int32 → Sg → Prop} {k : Nat} {x1 : Int32} (hd : 2 ≤ d) (hG : StG g N M σ0) (hS : JW g N M σ0 σ s E tk) (hk : k < M) (h1 : x1 = nI k) (h : Q (kdO g (gU g k)) σ) : OkI w d m_Rules_parentKind [vR 21, vI x1] σ Q := by
  subst h1
  have hM := hG.2.2.1
  refine v_Rules_parentKind _ _ (by omega) ⟨vp_in_nI (by omega) (by omega), ?_⟩
  rw [nI_clamp (by omega), (hS.tb hG hk).2.2.2.1]
  exact jr_kind (by omega) hG hS (fun j hj => by have := (hG.2.1 k hk).1 j hj; omega) rfl h
theorem jr_isWithin {Q : Int32 → Sg → Prop} {k : Nat} {x1 t : Int32} (hd : 1 ≤ d) (hG : StG g N M σ0) (hS : JW g N M σ0 σ s E tk) (hk : k < M) (h1 : x1 = nI k) (h : Q (b2 (wthn g k t)) σ) : OkI w d m_Rules_isWithin [vR 21, vI x1, vI t] σ Q := by
  subst h1
  have hM := hG.2.2.1
  have hin : vp_in (nI k) 33500 := vp_in_nI (by omega) (by omega)
  refine v_Rules_isWithin _ _ _ hd ⟨hin, ?_⟩
  rw [nI_clamp (by omega), (hS.tb hG hk).1, (hS.tb hG hk).2.2.1]
  unfold wthn w16 at h
  refine ⟨fun q => ⟨Or.inl rfl, ?_⟩, fun q => ⟨fun q2 => ⟨Or.inr rfl, ?_⟩, fun q2 => ⟨hin, fun q3 => ⟨Or.inl rfl, ?_⟩, fun q3 => ⟨hin, fun q4 => ⟨Or.inl rfl, ?_⟩, fun q4 => ⟨Or.inr rfl, ?_⟩⟩⟩⟩⟩
  · rw [decide_eq_false q] at h; exact h
  · rw [decide_eq_true q, decide_eq_true q2] at h; exact h
  · rw [decide_eq_true q, decide_eq_false q2, decide_eq_false (Int32.not_le.mpr q3)] at h; exact h
  · rw [decide_eq_true q, decide_eq_false q2, decide_eq_false (Int32.not_le.mpr q4), Bool.and_false] at h; exact h
  · rw [decide_eq_true q, decide_eq_false q2, decide_eq_true (Int32.not_lt.mp q3), decide_eq_true (Int32.not_lt.mp q4)] at h; exact h
theorem i64_sub (x y : Int32) : (Int32.toInt64 x - Int32.toInt64 y).toInt = x.toInt - y.toInt := by
  have h1 := x.toInt_lt
  have h2 := x.le_toInt
  have h3 := y.toInt_lt
  have h4 := y.le_toInt
  rw [Int64.toInt_sub, Int32.toInt_toInt64, Int32.toInt_toInt64]
  exact Int.bmod_eq_of_le (by omega) (by omega)
theorem lvS_9 {k : Nat} (h : gK g k = 9) : lvS g N M k s = toR (rlF g (decide (bK (cb s) ≠ 1) && decide (gK g (kd g M k 0) = 30) && decide (gK g (kd g M k 1) = 30) && decide ((gV g (kd g M k 0)).toInt ≤ (gV g (kd g M k 1)).toInt) && decide ((gV g (kd g M k 1)).toInt - (gV g (kd g M k 0)).toInt < 256)) 16 k) s := by
  unfold lvS
  rw [h]
  exact rl_eq
theorem jr_leaveArray {Q : Sg → Prop} {k : Nat} {x1 : Int32} (hd : 3 ≤ d) (hG : StG g N M σ0) (hR : GrT g M) (hS : JW g N M σ0 σ s E tk) (hb : jB s ≠ []) (hf : FT σ none) (hk : k < M) (h9 : gK g k = 9) (h1 : x1 = nI k) (h : ∀ σ', JP g N M σ0 σ' (lvS g N M k s) E tk → Q σ') : OkV w d m_Rules_leaveArray [vR 21, vI x1] σ Q := by
  subst h1
  have hM := hG.2.2.1
  obtain ⟨L, f, hc, hr, hff, hL⟩ := hR k hk
  rw [h9] at hr
  obtain ⟨a, b, c, e, ka, kb, kc⟩ := row10 (L := L) (f := f) hr hff
  subst e
  have hkid := kid_of hG.2.1 hk hc
  have eF : gF g k = some a := hc.1
  have eX : gX g a = some b := hc.2.1
  have ha := (hL a (by simp)).2.1
  have hbM := (hL b (by simp)).2.1
  have k0 : kd g M k 0 = a := by unfold kd; rw [hkid]; rfl
  have k1 : kd g M k 1 = b := by unfold kd; rw [hkid]; rfl
  have ina : vp_in (nI a) 33500 := vp_in_nI (by omega) (by omega)
  have inb : vp_in (nI b) 33500 := vp_in_nI (by omega) (by omega)
  rw [lvS_9 h9, k0, k1] at h
  have T := hS.tb hG hk
  have Ta := hS.tb hG ha
  have Tb := hS.tb hG hbM
  have go : ∀ c : Bool, (decide (bK (cb s) ≠ 1) && decide (gK g a = 30) && decide (gK g b = 30) && decide ((gV g a).toInt ≤ (gV g b).toInt) && decide ((gV g b).toInt - (gV g a).toInt < 256)) = c → OkV w (d - 1) m_Rules_rule [vR 21, vI (b2 c), vI 16, vI (nI k)] σ Q := by
    intro c hc
    rw [hc] at h
    exact jr_rule (by omega) hG hS hf hk rfl rfl (by decide) (fun σ1 hS1 hf1 _ => h σ1 (JP.of hS1 hf1))
  have b52 : (gK g a = 30 ∧ gK g b = 30 → False) → Bk w d 0 0 m_Rules_leaveArray 0 0 (qv Q) 52 [oR 21, oI (nI k), oI (nI a), oI (nI b), none] [] σ := by
    intro hn
    have hc : (decide (bK (cb s) ≠ 1) && decide (gK g a = 30) && decide (gK g b = 30) && decide ((gV g a).toInt ≤ (gV g b).toInt) && decide ((gV g b).toInt - (gV g a).toInt < 256)) = false := by
      rw [Bool.eq_false_iff]; intro q
      simp only [Bool.and_eq_true, decide_eq_true_eq] at q
      exact hn ⟨q.1.1.1.2, q.1.1.2⟩
    refine v_Rules_leaveArray_52 _ _ _ _ (jr_blockKind (by omega) hG hS hb ⟨fun _ => go false hc, fun _ => ⟨fun _ => go false hc, fun q => absurd rfl q⟩⟩)
  refine v_Rules_leaveArray _ _ (by omega) ⟨vp_in_nI (by omega) (by omega), ?_⟩
  rw [nI_clamp (by omega), T.2.2.2.2.1, eF, show jO (some a) = nI a from rfl, nI_clamp (by omega), Ta.2.2.2.2.2, eX, show jO (some b) = nI b from rfl, nI_clamp (by omega), Ta.1, Tb.1]
  refine ⟨ina, ina, fun q => b52 (fun r => q r.1), fun q => ⟨inb, fun q2 => b52 (fun r => q2 r.2), fun q2 => jr_blockKind (by omega) hG hS hb ⟨fun q3 => go false ?_, fun q3 => ⟨fun q4 => absurd q4 (by decide), fun _ => ⟨ina, inb, ?_⟩⟩⟩⟩⟩
  · rw [decide_eq_false (fun r => r q3)]; rfl
  · rw [Ta.2.2.1, Tb.2.2.1]
    refine ⟨fun q4 => go false ?_, fun q4 => ⟨inb, ina, fun q5 => go false ?_, fun q5 => go true ?_⟩⟩
    · rw [decide_eq_false (p := (gV g a).toInt ≤ (gV g b).toInt) (by rw [Int32.lt_iff_toInt_lt] at q4; omega)]; simp
    · have := lg_lt (x := Int32.toInt64 (gV g b) - Int32.toInt64 (gV g a)) (y := 256)
      rw [← Int32.not_lt, this, Int64.lt_iff_toInt_lt, i64_sub] at q5
      rw [decide_eq_false (p := (gV g b).toInt - (gV g a).toInt < 256) (by simpa using q5)]; simp
    · have := lg_lt (x := Int32.toInt64 (gV g b) - Int32.toInt64 (gV g a)) (y := 256)
      rw [Int32.not_le, this, Int64.lt_iff_toInt_lt, i64_sub] at q5
      rw [decide_eq_true q3, decide_eq_true q, decide_eq_true q2, decide_eq_true (p := (gV g a).toInt ≤ (gV g b).toInt) (by rw [Int32.lt_iff_toInt_lt] at q4; omega), decide_eq_true (p := (gV g b).toInt - (gV g a).toInt < 256) (by simpa using q5)]; rfl
end

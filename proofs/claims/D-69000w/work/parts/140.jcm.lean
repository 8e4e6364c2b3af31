/-! 140: the component judges: declarations -/
section
variable {g : Nat → NI} {M : Nat}
theorem row9 {L : List Nat} {f : Nat} (h : RowG g 9 L f) : L = [] ∨ ∃ c, L = [c] ∧ (gK g c = 30 ∨ gK g c = 31) := by
  cases L with
  | nil => exact Or.inl rfl
  | cons c R =>
    obtain ⟨h1, h2⟩ := h.one (e0 := 0) (by rw [nx9]; decide)
    rw [nx9] at h2
    simp only [List.mem_cons, Prod.mk.injEq, List.not_mem_nil, or_false] at h2
    exact Or.inr ⟨c, by rw [h1.z.1], by grind⟩
theorem row8 {L : List Nat} {f : Nat} (h : RowG g 8 L f) (hf : fin f) : ∃ t cn, L = t :: cn ∧ (gK g t = 8 ∨ gK g t = 9 ∨ gK g t = 10) ∧ (cn = [] ∨ ∃ c, cn = [c] ∧ (gK g c = 30 ∨ gK g c = 31)) := by
  obtain ⟨t, R, e⟩ := h.nfin hf (by decide)
  subst e
  obtain ⟨h1, h2⟩ := h.one (e0 := 9) (by rw [nx8]; decide)
  rw [nx8] at h2
  simp only [List.mem_cons, Prod.mk.injEq, List.not_mem_nil, or_false] at h2
  exact ⟨t, R, rfl, by grind, row9 h1⟩
theorem row6 : ∀ {L : List Nat} {f : Nat}, RowG g 6 L f → fin f → ∃ ns pl t cn, L = ns ++ (pl ++ t :: cn) ∧ (∀ c, c ∈ ns → gK g c = 6) ∧ (pl = [] ∨ ∃ p, pl = [p] ∧ gK g p = 7) ∧ (gK g t = 8 ∨ gK g t = 9 ∨ gK g t = 10) ∧ (cn = [] ∨ ∃ c, cn = [c] ∧ (gK g c = 30 ∨ gK g c = 31)) := by
  intro L
  induction L with
  | nil => intro f h hf; have h : 6 = f := h; subst h; exact absurd hf (by decide)
  | cons x R ih =>
    intro f h hf
    obtain ⟨e, h1, h2⟩ := h
    rw [nx6] at h1
    simp only [List.mem_cons, Prod.mk.injEq, List.not_mem_nil, or_false] at h1
    rcases h1 with ⟨k, e1⟩ | ⟨k, e1⟩ | ⟨k, e1⟩ | ⟨k, e1⟩ | ⟨k, e1⟩
    · rw [e1] at h2
      obtain ⟨ns, pl, t, cn, e2, a1, a2, a3, a4⟩ := ih h2 hf
      refine ⟨x :: ns, pl, t, cn, by rw [e2]; rfl, fun c hc => ?_, a2, a3, a4⟩
      rcases List.mem_cons.mp hc with q | q
      · rw [q]; exact k
      · exact a1 c q
    · rw [e1] at h2
      obtain ⟨t, cn, e2, a3, a4⟩ := row8 h2 hf
      exact ⟨[], [x], t, cn, by rw [e2]; rfl, fun c hc => absurd hc (by simp), Or.inr ⟨x, rfl, k⟩, a3, a4⟩
    · rw [e1] at h2; exact ⟨[], [], x, R, rfl, fun c hc => absurd hc (by simp), Or.inl rfl, by grind, row9 h2⟩
    · rw [e1] at h2; exact ⟨[], [], x, R, rfl, fun c hc => absurd hc (by simp), Or.inl rfl, by grind, row9 h2⟩
    · rw [e1] at h2; exact ⟨[], [], x, R, rfl, fun c hc => absurd hc (by simp), Or.inl rfl, by grind, row9 h2⟩
theorem row5 {L : List Nat} {f : Nat} (h : RowG g 5 L f) (hf : fin f) : ∃ n0 ns pl t cn, L = (n0 :: ns) ++ (pl ++ t :: cn) ∧ (∀ c, c ∈ n0 :: ns → gK g c = 6) ∧ (pl = [] ∨ ∃ p, pl = [p] ∧ gK g p = 7) ∧ (gK g t = 8 ∨ gK g t = 9 ∨ gK g t = 10) ∧ (cn = [] ∨ ∃ c, cn = [c] ∧ (gK g c = 30 ∨ gK g c = 31)) := by
  obtain ⟨x, R, e⟩ := h.nfin hf (by decide)
  subst e
  obtain ⟨h1, h2⟩ := h.one (e0 := 6) (by rw [nx5]; decide)
  rw [nx5] at h2
  simp only [List.mem_cons, Prod.mk.injEq, List.not_mem_nil, or_false] at h2
  obtain ⟨ns, pl, t, cn, e2, a1, a2, a3, a4⟩ := row6 h1 hf
  refine ⟨x, ns, pl, t, cn, by rw [e2]; rfl, fun c hc => ?_, a2, a3, a4⟩
  rcases List.mem_cons.mp hc with q | q
  · rw [q]; exact h2.1
  · exact a1 c q
theorem namesL_eq : ∀ {ns : List Nat} {r : Nat} {R : List Nat} {o : Option Nat} {f : Nat}, Chn g o (ns ++ r :: R) → (∀ c, c ∈ ns → gK g c = 6) → gK g r ≠ 6 → ns.length < f → namesL g f o = (ns, some r) := by
  intro ns
  induction ns with
  | nil =>
    intro r R o f h _ hr hf
    have e : o = some r := h.1
    subst e
    cases f with
    | zero => simp at hf
    | succ f => rw [namesL, if_neg hr]
  | cons c ns ih =>
    intro r R o f h hn hr hf
    have e : o = some c := h.1
    subst e
    cases f with
    | zero => simp at hf
    | succ f => rw [namesL, if_pos (hn c List.mem_cons_self), ih h.2 (fun x hx => hn x (List.mem_cons_of_mem _ hx)) hr (by simp at hf; omega)]
theorem chn_drop : ∀ {A B : List Nat} {o : Option Nat}, Chn g o (A ++ B) → ∀ {r : Nat} {R : List Nat}, B = r :: R → ∃ o', o' = some r ∧ Chn g o' B := by
  intro A
  induction A with
  | nil => intro B o h r R e; exact ⟨o, by rw [e] at h; exact h.1, h⟩
  | cons a A ih => intro B o h r R e; exact ih h.2 e
/-- what a declaration is made of -/
theorem decl_of (hB : BdG g M) (hR : GrT g M) {k : Nat} (hk : k < M) (h5 : gK g k = 5) : ∃ n0 ns pl t cn, Chn g (gF g k) ((n0 :: ns) ++ (pl ++ t :: cn)) ∧ (∀ c, c ∈ n0 :: ns → gK g c = 6 ∧ c < M) ∧ declN g M k = n0 :: ns ∧ (n0 :: ns).length ≤ M ∧ declT g M k = t ∧ t < M ∧ gU g t = some k ∧ (gK g t = 8 ∨ gK g t = 9 ∨ gK g t = 10) ∧ ((cn = [] ∧ gX g t = none) ∨ ∃ c, cn = [c] ∧ gX g t = some c ∧ c < M ∧ (gK g c = 30 ∨ gK g c = 31)) ∧ ((pl = [] ∧ declP g M k = -1) ∨ ∃ p, pl = [p] ∧ gK g p = 7 ∧ p < M ∧ gX g p = some t ∧ declP g M k = gV g p) := by
  obtain ⟨L, f, hc, hr, hff, hL⟩ := hR k hk
  rw [h5] at hr
  obtain ⟨n0, ns, pl, t, cn, e, a1, a2, a3, a4⟩ := row5 (L := L) (f := f) hr hff
  subst e
  have hlen := Chn.len hB (k := k + 1) hc (fun c q => by have := (hB k hk).2.1 c q; omega) (by omega)
  simp only [List.length_append, List.length_cons] at hlen
  have ht := hL t (by simp)
  have hns : ∀ c, c ∈ n0 :: ns → gK g c = 6 ∧ c < M := fun c hc => ⟨a1 c hc, (hL c (List.mem_append_left _ hc)).2.1⟩
  have kt6 : gK g t ≠ 6 := by rcases a3 with q | q | q <;> rw [q] <;> decide
  have kt7 : gK g t ≠ 7 := by rcases a3 with q | q | q <;> rw [q] <;> decide
  have hX : ∀ {A : List Nat} {o : Option Nat}, Chn g o (A ++ (t :: cn)) → ((cn = [] ∧ gX g t = none) ∨ ∃ c, cn = [c] ∧ gX g t = some c ∧ c < M ∧ (gK g c = 30 ∨ gK g c = 31)) := by
    intro A o hA
    obtain ⟨o', e1, e2⟩ := chn_drop hA rfl
    rcases a4 with q | ⟨c, q, kc⟩
    · subst q; exact Or.inl ⟨rfl, e2.2⟩
    · subst q; exact Or.inr ⟨c, rfl, e2.2.1, (hL c (by simp)).2.1, kc⟩
  rcases a2 with q | ⟨p, q, kp⟩
  · subst q
    have eN := namesL_eq (f := M) hc a1 kt6 (by simp only [List.length_cons]; omega)
    refine ⟨n0, ns, [], t, cn, hc, hns, by unfold declN; rw [eN], by simp only [List.length_cons]; omega, ?_, ht.2.1, ht.2.2, a3, hX (A := n0 :: ns) hc, Or.inl ⟨rfl, ?_⟩⟩
    · unfold declT; rw [eN]; exact if_neg kt7
    · unfold declP; rw [eN]; exact if_neg kt7
  · subst q
    have kp6 : gK g p ≠ 6 := by rw [kp]; decide
    have eN := namesL_eq (f := M) (r := p) (R := t :: cn) hc a1 kp6 (by simp only [List.length_cons]; omega)
    obtain ⟨o', e1, e2⟩ := chn_drop (A := n0 :: ns) (B := p :: t :: cn) hc rfl
    have eX : gX g p = some t := e2.2.1
    refine ⟨n0, ns, [p], t, cn, hc, hns, by unfold declN; rw [eN], by simp only [List.length_cons]; omega, ?_, ht.2.1, ht.2.2, a3, hX (A := (n0 :: ns) ++ [p]) (by rw [List.append_assoc]; exact hc), Or.inr ⟨p, rfl, kp, (hL p (by simp)).2.1, eX, ?_⟩⟩
    · unfold declT; rw [eN]; show (if gK g p = 7 then (gX g p).getD 0 else p) = t; rw [if_pos kp, eX]; rfl
    · unfold declP; rw [eN]; exact if_pos kp
end
theorem sh8_all : (List.range 1536).all (fun p => decide ((nI p >>> (8 &&& 31) : Int32) = nI (p / 256) ∧ nI p &&& 255 = nI (p % 256))) = true := by decide +kernel
theorem sh8 {p : Nat} (h : p < 1536) : (nI p >>> (8 &&& 31) : Int32) = nI (p / 256) ∧ nI p &&& 255 = nI (p % 256) := of_decide_eq_true (List.all_eq_true.mp sh8_all p (List.mem_range.mpr h))
def plA : List Int32 := match extT[6]? with | some x => x.2.2.2 | none => []
theorem rd_pl {σ : Sg} {k : Nat} : rdI σ 1006 k = plA.getD k 0 := rfl
theorem pl_all : (List.range 1536).all (fun p => decide (plA.getD (p / 256) 0 + nI (p % 256) = nI (plC p))) = true := by decide +kernel
theorem pl_at {p : Nat} (h : p < 1536) : plA.getD (p / 256) 0 + nI (p % 256) = nI (plC p) := of_decide_eq_true (List.all_eq_true.mp pl_all p (List.mem_range.mpr h))
section
variable {w : Wd} {d : Nat} {g : Nat → NI} {N : List (List Int32)} {M : Nat} {σ0 σ : Sg} {s : JS} {E : Nat} {tk : Nat → Bool} {ft : Option JE}
theorem jr_cellsOf {Q : Int32 → Sg → Prop} {t : Nat} {x1 : Int32} (hd : 1 ≤ d) (hS : JW g N M σ0 σ s E tk) (ht : t < 9 ∨ 9 ≤ t ∧ t - 9 + 1 < (jB s).length) (ht0 : t < 2 ^ 30) (h1 : x1 = nI t) (h : Q (nI (celT s (nI t))) σ) : OkI w d m_Rules_cellsOf [vR 21, vI x1] σ Q := by
  subst h1
  have hl := hS.2.1.2.1
  refine v_Rules_cellsOf _ _ hd ?_
  unfold celT at h
  have c9 : nI t < 9 ↔ t < 9 := by rw [show (9 : Int32) = nI 9 from rfl, nI_ltI (by omega) (by decide)]
  have c5 : nI t < 5 ↔ t < 5 := by rw [show (5 : Int32) = nI 5 from rfl, nI_ltI (by omega) (by decide)]
  have c5' : 5 ≤ nI t ↔ 5 ≤ t := by rw [show (5 : Int32) = nI 5 from rfl, nI_leI (by decide) (by omega)]
  rw [c9, c5']
  by_cases h9 : t < 9
  · rw [if_pos (c9.mpr h9)] at h
    refine ⟨fun _ => ⟨fun q => ?_, fun q => ?_⟩, fun q => absurd h9 q⟩
    · rw [if_neg (fun r => by have := c5.mp r; omega)] at h; exact h
    · rw [if_pos (c5.mpr (by omega))] at h; exact h
  · obtain ⟨h9', hb⟩ := ht.resolve_left h9
    rw [if_neg (fun r => h9 (c9.mp r)), nI_clamp (by omega)] at h
    have es : nI t - 9 = nI (t - 9) := by
      rw [show t = t - 9 + 9 by omega, ← nI_add, show nI 9 = 9 from rfl, Int32.add_sub_cancel, Nat.add_sub_cancel]
    refine ⟨fun q => absurd q h9, fun _ => ?_⟩
    rw [es, nI_clamp (by omega), ((hS.2.1.2.2 (t - 9) (by omega)).2.2.2.2.2.2.1 hb).1]
    exact ⟨vp_in_nI (by omega) (by omega), h⟩
theorem jr_isRightConstant {Q : Int32 → Sg → Prop} {c : Nat} {x1 sh ty pl : Int32} (hd : 1 ≤ d) (hG : StG g N M σ0) (hS : JW g N M σ0 σ s E tk) (hc : c < M) (hp : pl = -1 ∨ ∃ p, p < 1536 ∧ pl = nI p) (h1 : x1 = nI c) (h : Q (b2 (rightC g c sh ty pl)) σ) : OkI w d m_Rules_isRightConstant [vR 21, vI x1, vI sh, vI ty, vI pl] σ Q := by
  subst h1
  have hM := hG.2.2.1
  have cin : vp_in (nI c) 33500 := vp_in_nI (by omega) (by omega)
  have T := hS.tb hG hc
  unfold rightC at h
  generalize hin : (decide (0 ≤ pl) && (decide (Int32.toNatClampNeg pl / 256 = 0) || decide (Int32.toNatClampNeg pl / 256 = 3))) = inp at h
  have b58 : ∀ tr : Bool, decide (gK g c = 31) = tr → inp = false → sh ≠ 2 → Bk w d 0 0 m_Rules_isRightConstant 0 0 (qi Q) 58 [oR 21, oI (nI c), none, oI ty, none, none] [vI (b2 tr)] σ := by
    intro tr htr hi hs
    rw [htr, hi, decide_eq_false hs, Bool.or_false, Bool.false_or] at h
    unfold w16 at h
    refine v_Rules_isRightConstant_58 _ _ _ _ ?_
    rw [nI_clamp (by omega), T.2.2.1]
    have yes : (decide (ty = 1) = true → False) ∨ (decide (-32768 ≤ gV g c) = true ∧ decide (gV g c ≤ 32767) = true) → (tr != decide (ty = 0)) = false → Q 1 σ := by
      intro q1 q2
      rw [q2] at h
      rcases q1 with q1 | ⟨q1, q3⟩
      · have : decide (ty ≠ 1) = true := decide_eq_true (fun r => q1 (decide_eq_true r))
        rw [this] at h; exact h
      · rw [q1, q3] at h; simp at h; exact h
    have no : (tr != decide (ty = 0)) = true ∨ (ty = 1 ∧ (decide (-32768 ≤ gV g c) = false ∨ decide (gV g c ≤ 32767) = false)) → Q 0 σ := by
      intro q
      rcases q with q | ⟨q1, q2⟩
      · rw [q] at h; exact h
      · rw [decide_eq_false (p := ty ≠ 1) (fun r => r q1)] at h
        rcases q2 with q2 | q2
        · rw [q2] at h; simp at h; exact h
        · rw [q2] at h; simp at h; exact h
    refine ⟨fun t0 => ⟨fun y0 => ⟨fun t1 => ⟨Or.inr rfl, yes (Or.inl (fun r => t1 (of_decide_eq_true r))) ?_⟩, fun t1 => ⟨cin, fun lo => ⟨Or.inl rfl, no (Or.inr ⟨t1, Or.inl (decide_eq_false (Int32.not_le.mpr lo))⟩)⟩, fun lo => ⟨cin, fun hi => ⟨Or.inl rfl, no (Or.inr ⟨t1, Or.inr (decide_eq_false (Int32.not_le.mpr hi))⟩)⟩, fun hi => ⟨Or.inr rfl, yes (Or.inr ⟨decide_eq_true (Int32.not_lt.mp lo), decide_eq_true (Int32.not_lt.mp hi)⟩) ?_⟩⟩⟩⟩, fun y0 => ⟨Or.inl rfl, no (Or.inl ?_)⟩⟩, fun t0 => ⟨fun y1 => ⟨fun t1 => ⟨Or.inr rfl, yes (Or.inl (fun r => t1 (of_decide_eq_true r))) ?_⟩, fun t1 => absurd (t0.symm.trans t1) (by decide)⟩, fun y1 => ⟨Or.inl rfl, no (Or.inl ?_)⟩⟩⟩
    · rw [b2_0.mp y0, decide_eq_false t0]; rfl
    · rw [b2_0.mp y0, decide_eq_false t0]; rfl
    · rw [b2_n0.mp y0, decide_eq_false t0]; rfl
    · have : tr = true := by cases tr; · exact absurd y1 (by decide)
                             · rfl
      rw [this, decide_eq_true t0]; rfl
    · have : tr = false := by cases tr; · rfl
                              · exact absurd rfl y1
      rw [this, decide_eq_true t0]; rfl
  have b27 : Bk w d 0 0 m_Rules_isRightConstant 0 0 (qi Q) 27 [oR 21, oI (nI c), oI sh, oI ty, none, none] [vI (b2 inp)] σ := by
    refine v_Rules_isRightConstant_27 _ _ _ _ _ ⟨fun q => ⟨Or.inl rfl, ?_⟩, fun q => ⟨fun q2 => ⟨Or.inl rfl, ?_⟩, fun q2 => ⟨cin, ?_⟩⟩⟩
    · rw [decide_eq_true q] at h; exact h
    · rw [b2_n0.mp q2, decide_eq_false q] at h; exact h
    · rw [nI_clamp (by omega), T.1]
      exact ⟨fun q3 => b58 false (decide_eq_false q3) (b2_0.mp q2) q, fun q3 => b58 true (decide_eq_true q3) (b2_0.mp q2) q⟩
  refine v_Rules_isRightConstant _ _ _ _ _ hd ?_
  rcases hp with hp | ⟨p, hp, e⟩
  · subst hp
    have : inp = false := by rw [← hin]; rfl
    rw [this] at b27
    exact ⟨fun _ => v_Rules_isRightConstant_26 _ _ _ _ b27, fun q => absurd (by decide) q⟩
  · subst e
    rw [(sh8 hp).1]
    have e0 : (decide (0 ≤ nI p)) = true := decide_eq_true (nI_pos' (by omega))
    rw [e0, nI_clamp (by omega), Bool.true_and] at hin
    have z0 : nI (p / 256) = 0 ↔ p / 256 = 0 := by rw [← nI_0, nI_eq (by omega) (by decide)]
    have z3 : nI (p / 256) = 3 ↔ p / 256 = 3 := by rw [show (3 : Int32) = nI 3 from rfl, nI_eq (by omega) (by decide)]
    rw [z0, z3]
    refine ⟨fun q => absurd q (nI_pos (by omega)), fun _ => ⟨fun q => ?_, fun q => ⟨fun q2 => ?_, fun q2 => ?_⟩⟩⟩
    · rw [decide_eq_true q] at hin
      have : inp = true := hin.symm
      rw [this] at b27
      exact v_Rules_isRightConstant_22 _ _ _ _ b27
    · rw [decide_eq_false q, decide_eq_false q2] at hin
      have : inp = false := hin.symm
      rw [this] at b27
      exact v_Rules_isRightConstant_26 _ _ _ _ b27
    · rw [decide_eq_true q2, Bool.or_true] at hin
      have : inp = true := hin.symm
      rw [this] at b27
      exact v_Rules_isRightConstant_22 _ _ _ _ b27
end

/-! 127: the component judges: types, chains, what may be assigned, rungs -/
def toR (f : Option JE) (s : JS) : JR := match f with | none => .ok s | some e => .error e
def rlF (g : Nat → NI) (c : Bool) (e : Int32) (k : Nat) : Option JE := if c = true then none else some (e, gP g k)
theorem rl_eq {g : Nat → NI} {c : Bool} {e : Int32} {k : Nat} {s : JS} : rl g c e k s = toR (rlF g c e k) s := by
  unfold rl rlF; cases c <;> rfl
theorem toR_bind {f h : Option JE} {s s' : JS} {G : JS → JR} (hG : G s = toR h s') : (toR f s).bind G = toR (orF f h) s' := by
  cases f with
  | none => exact hG
  | some e => rfl
section
variable {w : Wd} {d : Nat} {σ : Sg} {Q : Int32 → Sg → Prop}
theorem jr_isNumber {t : Int32} (hd : 1 ≤ d) (h : Q (b2 (isN t)) σ) : OkI w d m_Rules_isNumber [vI t] σ Q := by
  unfold isN at h
  refine v_Rules_isNumber _ _ hd ⟨fun q => ⟨Or.inr rfl, ?_⟩, fun q => ⟨fun q2 => ⟨Or.inl rfl, ?_⟩, fun q2 => ⟨Or.inr rfl, ?_⟩⟩⟩
  · rw [decide_eq_true q] at h; exact h
  · rw [decide_eq_false q, decide_eq_false q2] at h; exact h
  · rw [decide_eq_true q2, Bool.or_true] at h; exact h
theorem jr_wider {a b : Int32} (hd : 1 ≤ d) (h : Q (widT a b) σ) : OkI w d m_Rules_wider [vI a, vI b] σ Q := by
  unfold widT at h
  refine v_Rules_wider _ _ _ hd ⟨fun q => ?_, fun q => ⟨fun q2 => ?_, fun q2 => ?_⟩⟩
  · rw [if_pos (Or.inl q)] at h; exact h
  · rw [if_neg (fun r => r.elim q q2)] at h; exact h
  · rw [if_pos (Or.inr q2)] at h; exact h
theorem jr_fits {a b : Int32} (hd : 1 ≤ d) (h : Q (b2 (fitT a b)) σ) : OkI w d m_Rules_fits [vI a, vI b] σ Q := by
  unfold fitT at h
  refine v_Rules_fits _ _ _ hd ⟨fun q => ⟨Or.inr rfl, ?_⟩, fun q => ⟨fun q2 => ⟨Or.inl rfl, ?_⟩, fun q2 => ⟨fun q3 => ⟨Or.inl rfl, ?_⟩, fun q3 => ⟨Or.inr rfl, ?_⟩⟩⟩⟩
  · rw [decide_eq_true q] at h; exact h
  · rw [decide_eq_false q, decide_eq_false q2] at h; exact h
  · rw [decide_eq_false q, decide_eq_false q3, Bool.and_false] at h; exact h
  · rw [decide_eq_true q2, decide_eq_true q3, Bool.and_true, Bool.or_true] at h; exact h
theorem jr_both {a b : Int32} (hd : 2 ≤ d) (h : Q (botT a b) σ) : OkI w d m_Rules_both [vI a, vI b] σ Q := by
  have go : ¬ (a = 0 ∧ b = 0) → OkI w (d - 1) m_Rules_isNumber [vI a] σ (fun r1 s1 => ((r1 = 0 → Q ((-1)) s1) ∧ (¬ r1 = 0 → OkI w (d - 1) m_Rules_isNumber [vI b] s1 (fun r2 s2 => ((r2 = 0 → Q ((-1)) s2) ∧ (¬ r2 = 0 → OkI w (d - 1) m_Rules_wider [vI a, vI b] s2 (fun r3 s3 => Q r3 s3))))))) := by
    intro hn
    unfold botT at h
    rw [if_neg hn] at h
    refine jr_isNumber (by omega) ⟨fun q => ?_, fun q => jr_isNumber (by omega) ⟨fun q2 => ?_, fun q2 => jr_wider (by omega) ?_⟩⟩
    · rw [b2_0.mp q, Bool.false_and, if_neg (by decide)] at h; exact h
    · rw [b2_0.mp q2, Bool.and_false, if_neg (by decide)] at h; exact h
    · rw [b2_n0.mp q, b2_n0.mp q2, if_pos (by decide)] at h; exact h
  refine v_Rules_both _ _ _ (by omega) ⟨fun q => go (fun r => q r.1), fun q => ⟨fun q2 => go (fun r => q2 r.2), fun q2 => ?_⟩⟩
  unfold botT at h
  rw [if_pos ⟨q, q2⟩] at h; exact h
theorem jr_two {s a b : Int32} (hd : 3 ≤ d) (h : Q (twoT s a b) σ) : OkI w d m_Rules_two [vI s, vI a, vI b] σ Q := by
  unfold twoT at h
  have i3 : ∀ {x : Int32}, (3 ≤ x) → ¬ x < 3 := fun q r => absurd (Int32.not_le.mpr r) (fun z => z q)
  have nl : ∀ {x y : Int32}, x ≤ y → ¬ y < x := fun q r => absurd q (Int32.not_le.mpr r)
  have nl' : ∀ {x y : Int32}, ¬ x ≤ y → y < x := fun q => Int32.not_le.mp q
  have b24 : (isN a && isN b) = false → Bk w d 0 0 m_Rules_two 0 0 (qi Q) 24 [oI s, none, none, oI (botT a b), none] [] σ := by
    intro hn
    refine v_Rules_two_24 _ _ _ ⟨fun q => ⟨fun q2 => ⟨fun q3 => absurd rfl q3, fun _ => ?_⟩, fun q2 => ⟨fun q3 => ?_, fun q3 => ?_⟩⟩, fun q => ?_⟩
    · rw [if_neg (nl q), if_neg (nl q2), if_pos hn] at h; exact h
    · rw [if_neg (nl q), if_pos (nl' q2), if_neg q3] at h; exact h
    · rw [if_neg (nl q), if_pos (nl' q2), if_pos q3] at h; exact h
    · rw [if_pos (nl' q)] at h; exact h
  refine v_Rules_two _ _ _ _ (by omega) (jr_both (by omega) (jr_isNumber (by omega) ⟨fun q => b24 (by rw [b2_0.mp q, Bool.false_and]), fun q => jr_isNumber (by omega) ⟨fun q2 => b24 (by rw [b2_0.mp q2, Bool.and_false]), fun q2 => ?_⟩⟩))
  have hn : ¬ (isN a && isN b) = false := by rw [b2_n0.mp q, b2_n0.mp q2]; decide
  refine ⟨fun q => ⟨fun q2 => ⟨fun _ => ⟨fun q3 => ?_, fun q3 => ?_⟩, fun q3 => absurd q3 (by decide)⟩, fun q2 => ⟨fun q3 => ?_, fun q3 => ?_⟩⟩, fun q => ?_⟩
  · rw [if_neg (nl q), if_neg (nl q2), if_neg hn, if_neg (nl q3)] at h; exact h
  · rw [if_neg (nl q), if_neg (nl q2), if_neg hn, if_pos (nl' q3)] at h; exact h
  · rw [if_neg (nl q), if_pos (nl' q2), if_neg q3] at h; exact h
  · rw [if_neg (nl q), if_pos (nl' q2), if_pos q3] at h; exact h
  · rw [if_pos (nl' q)] at h; exact h
end
section
variable {w : Wd} {d : Nat} {g : Nat → NI} {N : List (List Int32)} {M : Nat} {σ0 σ : Sg} {s : JS} {E : Nat} {tk : Nat → Bool} {ft : Option JE}
/-- enough fuel for a chain -/
def Fu (M f : Nat) (o : Option Nat) : Prop := ∀ c, o = some c → c < M ∧ M ≤ c + f
theorem Fu.st {f c : Nat} (hB : BdG g M) (h : Fu M (f + 1) (some c)) : Fu M f (gX g c) := by
  intro e he
  have hc := h c rfl
  have := (hB c hc.1).2.2.1 e he
  exact ⟨this.2.1, by omega⟩
theorem Fu.up {f c : Nat} (hB : BdG g M) (hc : c < M) (h : c ≤ f) : ∀ p, gU g c = some p → p < M ∧ p + 1 ≤ f := by
  intro p hp
  have := (hB c hc).1 p hp
  exact ⟨by omega, by omega⟩
theorem Fu.kids {k : Nat} (hB : BdG g M) (hk : k < M) : Fu M M (gF g k) := by
  intro c hc
  have := (hB k hk).2.1 c hc
  exact ⟨this.2.1, by omega⟩
theorem jO_m1 {o : Option Nat} (h : ∀ j, o = some j → j < 2 ^ 31) : jO o = -1 ↔ o = none := by
  cases o with
  | none => exact ⟨fun _ => rfl, fun _ => rfl⟩
  | some j => exact ⟨fun q => absurd q (nI_nm1 (h j rfl)), fun q => by cases q⟩
theorem jr_children {Q : Int32 → Sg → Prop} {k : Nat} {x1 : Int32} (hd : 1 ≤ d) (hG : StG g N M σ0) (hS : JW g N M σ0 σ s E tk) (hk : k < M) (h1 : x1 = nI k) (h : Q (nI (kid g M k).length) σ) : OkI w d m_Nodes_children [vR 7, vI x1] σ Q := by
  subst h1
  have hM := hG.2.2.1
  have hB := hG.2.1
  have loop : ∀ (f : Nat) (o : Option Nat) (x : Nat), Fu M f o → x + f ≤ 2 * M → Q (nI (x + (chs g f o).length)) σ → Bk w d 0 0 m_Nodes_children 0 0 (qi Q) 9 [oR 7, none, oI (nI x), oI (jO o)] [] σ := by
    intro f
    induction f with
    | zero =>
      intro o x hF hx hQ
      cases o with
      | none => exact v_Nodes_children_9 _ _ _ ⟨fun _ => hQ, fun q => absurd rfl q⟩
      | some c => have := hF c rfl; omega
    | succ f ih =>
      intro o x hF hx hQ
      cases o with
      | none => exact v_Nodes_children_9 _ _ _ ⟨fun _ => hQ, fun q => absurd rfl q⟩
      | some c =>
        have hc := hF c rfl
        refine v_Nodes_children_9 _ _ _ ⟨fun q => absurd q (nI_nm1 (by omega)), fun _ => ⟨vp_in_nI (by omega) (by omega), ?_⟩⟩
        rw [show jO (some c) = nI c from rfl, nI_clamp (by omega), (hS.tb hG hc.1).2.2.2.2.2, nI_1]
        refine ih _ (x + 1) (hF.st hB) (by omega) ?_
        rw [chs, List.length_cons] at hQ
        rw [show x + 1 + (chs g f (gX g c)).length = x + ((chs g f (gX g c)).length + 1) by omega]; exact hQ
  refine v_Nodes_children _ _ hd ⟨vp_in_nI (by omega) (by omega), ?_⟩
  rw [nI_clamp (by omega), (hS.tb hG hk).2.2.2.2.1]
  exact loop M _ 0 (Fu.kids hB hk) (by omega) (by rw [Nat.zero_add]; exact h)
theorem jr_width {Q : Int32 → Sg → Prop} {k : Nat} {x1 : Int32} (hd : 1 ≤ d) (hG : StG g N M σ0) (hS : JW g N M σ0 σ s E tk) (hk : k < M) (h1 : x1 = nI k) (h : Q (nI (wdt g M k)) σ) : OkI w d m_Rules_width [vR 21, vI x1] σ Q := by
  subst h1
  have hM := hG.2.2.1
  have hB := hG.2.1
  have loop : ∀ (f : Nat) (o : Option Nat) (x : Nat), Fu M f o → x + f ≤ 2 * M → Q (nI (x + ((chs g f o).filter (fun c => decide (gK g c ≠ 29))).length)) σ → Bk w d 0 0 m_Rules_width 0 0 (qi Q) 12 [oR 21, none, oI (nI x), oI (jO o)] [] σ := by
    intro f
    induction f with
    | zero =>
      intro o x hF hx hQ
      cases o with
      | none => exact v_Rules_width_12 _ _ _ ⟨fun _ => hQ, fun q => absurd rfl q⟩
      | some c => have := hF c rfl; omega
    | succ f ih =>
      intro o x hF hx hQ
      cases o with
      | none => exact v_Rules_width_12 _ _ _ ⟨fun _ => hQ, fun q => absurd rfl q⟩
      | some c =>
        have hc := hF c rfl
        have hin : vp_in (nI c) 33500 := vp_in_nI (by omega) (by omega)
        refine v_Rules_width_12 _ _ _ ⟨fun q => absurd q (nI_nm1 (by omega)), fun _ => ⟨hin, ?_⟩⟩
        rw [show jO (some c) = nI c from rfl, nI_clamp (by omega), (hS.tb hG hc.1).2.2.2.2.2, (hS.tb hG hc.1).1, nI_1]
        rw [chs, List.filter_cons] at hQ
        refine ⟨fun q => ⟨hin, ih _ (x + 1) (hF.st hB) (by omega) ?_⟩, fun q => ⟨hin, ?_⟩⟩
        · rw [if_pos (decide_eq_true q), List.length_cons] at hQ
          rw [show x + 1 + ((chs g f (gX g c)).filter (fun c => decide (gK g c ≠ 29))).length = x + (((chs g f (gX g c)).filter (fun c => decide (gK g c ≠ 29))).length + 1) by omega]; exact hQ
        · rw [if_neg (by rw [decide_eq_false (fun r => r q)]; decide)] at hQ
          rw [Int32.add_zero]
          exact ih _ x (hF.st hB) (by omega) hQ
  refine v_Rules_width _ _ hd ⟨vp_in_nI (by omega) (by omega), ?_⟩
  rw [nI_clamp (by omega), (hS.tb hG hk).2.2.2.2.1]
  exact loop M _ 0 (Fu.kids hB hk) (by omega) (by rw [Nat.zero_add]; exact h)
theorem b2_or (a b : Bool) : b2 a ||| b2 b = b2 (a || b) := by cases a <;> cases b <;> decide
theorem jr_isIn {Q : Int32 → Sg → Prop} {k : Nat} {x1 name : Int32} (hd : 1 ≤ d) (hG : StG g N M σ0) (hS : JW g N M σ0 σ s E tk) (hk : k < M) (h1 : x1 = nI k) (h : Q (b2 ((anc' g M k).any (fun p => decide (gK g p = 19) && (decide (name = -1) || decide (gV g p = name))))) σ) : OkI w d m_Rules_isIn [vR 21, vI x1, vI name] σ Q := by
  subst h1
  have hM := hG.2.2.1
  have hB := hG.2.1
  have loop : ∀ (f : Nat) (o : Option Nat) (a : Bool), (∀ p, o = some p → p < M ∧ p + 1 ≤ f) → Q (b2 (a || (ups g f o).any (fun p => decide (gK g p = 19) && (decide (name = -1) || decide (gV g p = name))))) σ → Bk w d 0 0 m_Rules_isIn 0 0 (qi Q) 13 [oR 21, none, oI name, oI (b2 a), oI (jO o)] [] σ := by
    intro f
    induction f with
    | zero =>
      intro o a hF hQ
      cases o with
      | none => exact v_Rules_isIn_13 _ _ _ _ ⟨fun _ => ⟨by cases a <;> decide, by rw [ups, List.any_nil, Bool.or_false] at hQ; exact hQ⟩, fun q => absurd rfl q⟩
      | some c => have := hF c rfl; omega
    | succ f ih =>
      intro o a hF hQ
      cases o with
      | none => exact v_Rules_isIn_13 _ _ _ _ ⟨fun _ => ⟨by cases a <;> decide, by rw [ups, List.any_nil, Bool.or_false] at hQ; exact hQ⟩, fun q => absurd rfl q⟩
      | some c =>
        have hc := hF c rfl
        have hin : vp_in (nI c) 33500 := vp_in_nI (by omega) (by omega)
        have nx : ∀ p, gU g c = some p → p < M ∧ p + 1 ≤ f := Fu.up hB hc.1 (by omega)
        refine v_Rules_isIn_13 _ _ _ _ ⟨fun q => absurd q (nI_nm1 (by omega)), fun _ => ⟨hin, ?_⟩⟩
        rw [show jO (some c) = nI c from rfl, nI_clamp (by omega), (hS.tb hG hc.1).2.2.2.1, (hS.tb hG hc.1).1, (hS.tb hG hc.1).2.2.1]
        rw [ups, List.any_cons, ← Bool.or_assoc] at hQ
        have go : ∀ b : Bool, (decide (gK g c = 19) && (decide (name = -1) || decide (gV g c = name))) = b → Bk w d 0 0 m_Rules_isIn 0 0 (qi Q) 13 [oR 21, none, oI name, oI (b2 a ||| b2 b), oI (jO (gU g c))] [] σ := by
          intro b hb
          rw [hb] at hQ
          rw [b2_or]
          exact ih _ _ nx hQ
        refine ⟨fun q => ⟨hin, go false (by rw [decide_eq_false q]; rfl)⟩, fun q => ⟨fun q2 => ⟨hin, go true (by rw [decide_eq_true q, decide_eq_true q2]; rfl)⟩, fun q2 => ⟨hin, fun q3 => ⟨hin, go false (by rw [decide_eq_false q2, decide_eq_false q3]; simp)⟩, fun q3 => ⟨hin, go true (by rw [decide_eq_true q, decide_eq_true q3]; simp)⟩⟩⟩⟩
  refine v_Rules_isIn _ _ _ hd ⟨vp_in_nI (by omega) (by omega), ?_⟩
  rw [nI_clamp (by omega), (hS.tb hG hk).2.2.2.1]
  exact loop M _ false (Fu.up hB hk (by omega)) (by rw [Bool.false_or]; exact h)
/-- what of an assignment is a fault -/
def asgE (g : Nat → NI) (M k : Nat) (name : Int32) (s : JS) : Option JE := orF (rlF g (asgB s name) 29 k) (rlF g (!loopOf g M k name) 30 k)
theorem asgS_eq {k : Nat} {name : Int32} : asgS g M k name s = toR (asgE g M k name s) s := by
  unfold asgS asgE
  rw [rl_eq]
  exact toR_bind rl_eq
/-- every variable that can be found is laid out -/
def Laid (s : JS) : Prop := ∀ v, v < (jV s).length → bF (cb s) ≤ v → vT ((jV s).getD v vr0) ≠ -1 ∧ vP ((jV s).getD v vr0) < 1536 ∧ (0 ≤ vP ((jV s).getD v vr0) ∨ vP ((jV s).getD v vr0) = -1)
theorem img_eq {p : Int32} {j : Nat} (hp : p < 1536) (hj : j < 6) : imgI p = nI j ↔ 0 ≤ p ∧ Int32.toNatClampNeg p / 256 = j := by
  unfold imgI
  by_cases h : p < 0
  · rw [if_pos h]
    exact ⟨fun q => absurd q.symm (nI_nm1 (by omega)), fun q => absurd h (Int32.not_lt.mpr q.1)⟩
  · rw [if_neg h]
    obtain ⟨i, hi, e⟩ := nI_of (x := p) h
    subst e
    have z : (1536 : Int32) = nI 1536 := rfl
    rw [z, nI_ltI hi (by decide)] at hp
    rw [nI_clamp hi, nI_eq (by omega) (by omega)]
    exact ⟨fun q => ⟨Int32.not_lt.mp h, q⟩, fun q => q.2⟩
theorem jr_assigned {Q : Sg → Prop} {k t : Nat} {x1 x2 : Int32} (hd : 3 ≤ d) (hG : StG g N M σ0) (hS : JW g N M σ0 σ s E tk) (hb : jB s ≠ []) (hL : Laid s) (hf : FT σ ft) (hk : k < M) (ht : t < M) (h1 : x1 = nI k) (h2 : x2 = nI t) (hn : gV g t ≠ -1) (h : ∀ σ', JW g N M σ0 σ' s E tk → FT σ' (orF ft (asgE g M k (gV g t) s)) → (∀ k j, ¬ (k = 21 ∧ (j = 2 ∨ j = 3)) → σ'.1 k j = σ.1 k j) → Q σ') : OkV w d m_Rules_assigned [vR 21, vI x1, vI x2] σ Q := by
  subst h1 h2
  have hM := hG.2.2.1
  have hvl := hS.2.2.1.2.1
  have hin : vp_in (nI t) 33500 := vp_in_nI (by omega) (by omega)
  have tail : ∀ (c : Bool) σ1, asgB s (gV g t) = c → JW g N M σ0 σ1 s E tk → FT σ1 (orF ft (rlF g c 29 k)) → (∀ k j, ¬ (k = 21 ∧ (j = 2 ∨ j = 3)) → σ1.1 k j = σ.1 k j) → (vp_in (nI t) 33500 ∧ OkI w (d - 1) m_Rules_isIn [vR 21, vI (nI k), vI (σ1.1 10 (Int32.toNatClampNeg (nI t)))] σ1 (fun r2 s2 => ((¬ r2 = 0 → OkV w (d - 1) m_Rules_rule [vR 21, vI (0), vI (30), vI (nI k)] s2 (fun s3 => Q s3)) ∧ (r2 = 0 → OkV w (d - 1) m_Rules_rule [vR 21, vI (1), vI (30), vI (nI k)] s2 (fun s4 => Q s4))))) := by
    intro c σ1 hc hS1 hf1 k1
    refine ⟨hin, ?_⟩
    rw [nI_clamp (by omega), (hS1.tb hG ht).2.2.1]
    refine jr_isIn (by omega) hG hS1 hk rfl ?_
    have e : ((anc' g M k).any (fun p => decide (gK g p = 19) && (decide (gV g t = -1) || decide (gV g p = gV g t)))) = loopOf g M k (gV g t) := by
      unfold loopOf; rw [decide_eq_false hn]; simp only [Bool.false_or]
    rw [e]
    have fini : ∀ b : Bool, loopOf g M k (gV g t) = b → OkV w (d - 1) m_Rules_rule [vR 21, vI (b2 (!b)), vI (30), vI (nI k)] σ1 (fun s3 => Q s3) := by
      intro b hb'
      refine jr_rule (by omega) hG hS1 hf1 hk rfl rfl (by decide) (fun σ2 hS2 hf2 k2 => h σ2 hS2 ?_ (fun k j hk => by rw [k2 k j hk, k1 k j hk]))
      unfold asgE
      rw [hb', hc]
      cases ft with
      | none => cases c <;> cases b <;> exact hf2
      | some e => exact hf2
    exact ⟨fun q => fini true (b2_n0.mp q), fun q => fini false (b2_0.mp q)⟩
  refine v_Rules_assigned _ _ _ (by omega) ⟨hin, ?_⟩
  rw [nI_clamp (by omega), (hS.tb hG ht).2.2.1]
  refine jr_variable (by omega) hS hb ?_
  cases hv : vlk s (gV g t) with
  | none =>
    refine ⟨fun _ => jr_rule (c := true) (by omega) hG hS hf hk rfl rfl (by decide) (fun σ1 hS1 hf1 k1 => ?_), fun q => absurd (show jO none < 0 by decide) q⟩
    have := tail true σ1 (by unfold asgB; rw [hv]) hS1 hf1 k1
    rw [nI_clamp (by omega)] at this
    exact this
  | some v =>
    have hvlt := (vlk_lt hv).1
    refine ⟨fun q => absurd q (nI_pos (by omega)), fun _ => ⟨vp_in_nI (by omega) (by omega), ?_⟩⟩
    rw [show jO (some v) = nI v from rfl, nI_clamp (by omega)]
    have V := hS.2.2.1.2.2 v hvlt
    have L := hL v hvlt (vlk_lt hv).2.1
    have V2 := V.2.2.2.2 L.1
    rw [V2.1, V.2.2.2.1]
    have i0 : imgI (vP ((jV s).getD v vr0)) = 0 ↔ _ := img_eq (j := 0) L.2.1 (by decide)
    have i3 : imgI (vP ((jV s).getD v vr0)) = 3 ↔ _ := img_eq (j := 3) L.2.1 (by decide)
    have b52 : asgB s (gV g t) = false → Bk w d 0 0 m_Rules_assigned 0 0 (qv Q) 52 [oR 21, oI (nI k), oI (nI t), none] [vR 21] σ := by
      intro hc
      refine v_Rules_assigned_52 _ _ _ (jr_rule (c := false) (by omega) hG hS hf hk rfl rfl (by decide) (fun σ1 hS1 hf1 k1 => ?_))
      exact tail false σ1 hc hS1 hf1 k1
    have vin : vp_in (nI v) 16384 := vp_in_nI (by omega) (by omega)
    refine ⟨fun q => b52 ?_, fun q => ⟨vin, fun q2 => b52 ?_, fun q2 => ⟨vin, fun q3 => b52 ?_, fun q3 => ?_⟩⟩⟩
    · unfold asgB; rw [hv]; dsimp only; rw [decide_eq_false (fun r => r q)]; rfl
    · unfold asgB; rw [hv]; dsimp only
      have := i0.mp q2
      rw [decide_eq_true this.1, decide_eq_true this.2]; simp
    · unfold asgB; rw [hv]; dsimp only
      have := i3.mp q3
      rw [decide_eq_true this.1, decide_eq_true this.2]; simp
    · refine jr_rule (c := true) (by omega) hG hS hf hk rfl rfl (by decide) (fun σ1 hS1 hf1 k1 => ?_)
      have := tail true σ1 ?_ hS1 hf1 k1
      · rw [nI_clamp (by omega)] at this
        exact this
      · unfold asgB; rw [hv]; dsimp only
        rw [decide_eq_true q]
        by_cases hp : 0 ≤ vP ((jV s).getD v vr0)
        · rw [decide_eq_true hp, decide_eq_false (fun r => q2 (i0.mpr ⟨hp, r⟩)), decide_eq_false (fun r => q3 (i3.mpr ⟨hp, r⟩))]; rfl
        · rw [decide_eq_false hp]; rfl
end

/-! 141: the component judges: declarations are laid out -/
/-- one variable is laid out -/
def lay1 (sh ty se : Int32) (many : Nat) (low pl con : Int32) (c v : Nat) (s : JS) : JS := setC (addC (setV s v (vN (gR s v), sh, ty, se, (if pl < 0 then bC (cb s) else plC (Int32.toNatClampNeg pl)), low, many, pl, con)) (if pl < 0 then many else 0)) c (nI (if pl < 0 then bC (cb s) else plC (Int32.toNatClampNeg pl)))
theorem layS_cons {sh ty se : Int32} {many : Nat} {low pl con : Int32} {c : Nat} {R : List Nat} {v : Nat} {s : JS} : layS sh ty se many low pl con (c :: R) v s = layS sh ty se many low pl con R (v + 1) (lay1 sh ty se many low pl con c v s) := rfl
theorem lay1_ne {sh ty se : Int32} {many : Nat} {low pl con : Int32} {c v : Nat} {s : JS} (hb : jB s ≠ []) : jB (lay1 sh ty se many low pl con c v s) ≠ [] := by
  intro q
  have : (jB (lay1 sh ty se many low pl con c v s)).length = (jB s).length := List.length_set
  rw [q] at this
  exact hb (List.length_eq_zero_iff.mp this.symm)
theorem lay1_C {sh ty se : Int32} {many : Nat} {low pl con : Int32} {c v : Nat} {s : JS} (hb : jB s ≠ []) : bC (cb (lay1 sh ty se many low pl con c v s)) = bC (cb s) + (if pl < 0 then many else 0) := addC_cbC (s := setV s v _) hb
theorem lay1_len {sh ty se : Int32} {many : Nat} {low pl con : Int32} {c v : Nat} {s : JS} : (jV (lay1 sh ty se many low pl con c v s)).length = (jV s).length := List.length_set
theorem layS_ne {sh ty se : Int32} {many : Nat} {low pl con : Int32} : ∀ {R : List Nat} {v : Nat} {s : JS}, jB s ≠ [] → jB (layS sh ty se many low pl con R v s) ≠ [] ∧ bC (cb s) ≤ bC (cb (layS sh ty se many low pl con R v s)) := by
  intro R
  induction R with
  | nil => intro v s h; exact ⟨h, Nat.le_refl _⟩
  | cons c R ih =>
    intro v s h
    rw [layS_cons]
    have := ih (v := v + 1) (lay1_ne (sh := sh) (ty := ty) (se := se) (many := many) (low := low) (pl := pl) (con := con) (c := c) (v := v) h)
    rw [lay1_C h] at this
    exact ⟨this.1, by omega⟩
section
variable {w : Wd} {d : Nat} {g : Nat → NI} {N : List (List Int32)} {M : Nat} {σ0 σ : Sg} {s : JS} {E : Nat} {tk : Nat → Bool} {ft : Option JE}
def layM (σ : Sg) (v c : Nat) (sh ty se low ma im ce nx : Int32) : Sg := wI (wI (wI (wI (wI (wI (wI (wI (wI σ 29 v sh) 30 v ty) 31 v se) 33 v low) 34 v ma) 35 v im) 32 v ce) 21 25 nx) 26 c ce
theorem layM_o {v c : Nat} {sh ty se low ma im ce nx : Int32} {a j : Nat} (h : ¬ ((29 ≤ a ∧ a ≤ 35) ∧ j = v)) (h2 : ¬ (a = 21 ∧ j = 25)) (h3 : ¬ (a = 26 ∧ j = c)) : (layM σ v c sh ty se low ma im ce nx).1 a j = σ.1 a j := by
  unfold layM
  simp only [wI_1]
  repeat rw [if_neg (by omega)]
theorem layM_v {v c : Nat} {sh ty se low ma im ce nx : Int32} : (layM σ v c sh ty se low ma im ce nx).1 29 v = sh ∧ (layM σ v c sh ty se low ma im ce nx).1 30 v = ty ∧ (layM σ v c sh ty se low ma im ce nx).1 31 v = se ∧ (layM σ v c sh ty se low ma im ce nx).1 32 v = ce ∧ (layM σ v c sh ty se low ma im ce nx).1 33 v = low ∧ (layM σ v c sh ty se low ma im ce nx).1 34 v = ma ∧ (layM σ v c sh ty se low ma im ce nx).1 35 v = im ∧ (layM σ v c sh ty se low ma im ce nx).1 21 25 = nx ∧ (layM σ v c sh ty se low ma im ce nx).1 26 c = ce := by
  unfold layM
  simp [wI_1]
theorem JW.lay {v c : Nat} {sh ty se low pl con : Int32} {many : Nat} (hS : JW g N M σ0 σ s E tk) (hb : jB s ≠ []) (hv : v < (jV s).length) (hC : bC (cb s) + many ≤ 20000) : JW g N M σ0 (layM σ v c sh ty se low (nI many) (imgI pl) (nI (if pl < 0 then bC (cb s) else plC (Int32.toNatClampNeg pl))) (nI (bC (cb s) + (if pl < 0 then many else 0)))) (lay1 sh ty se many low pl con c v s) E tk := by
  obtain ⟨h1, h2, h3, h4, h5, h6, h7, h8⟩ := hS
  generalize ece : (if pl < 0 then bC (cb s) else plC (Int32.toNatClampNeg pl)) = ce
  generalize enx : (if pl < 0 then many else 0) = nx
  have hnx : nx ≤ many := by rw [← enx]; split <;> omega
  have X := layM_v (σ := σ) (v := v) (c := c) (sh := sh) (ty := ty) (se := se) (low := low) (ma := nI many) (im := imgI pl) (ce := nI ce) (nx := nI (bC (cb s) + nx))
  have O := fun a j => layM_o (σ := σ) (v := v) (c := c) (sh := sh) (ty := ty) (se := se) (low := low) (ma := nI many) (im := imgI pl) (ce := nI ce) (nx := nI (bC (cb s) + nx)) (a := a) (j := j)
  have es : lay1 sh ty se many low pl con c v s = setC (addC (setV s v (vN (gR s v), sh, ty, se, ce, low, many, pl, con)) nx) c (nI ce) := by unfold lay1; rw [ece, enx]
  have eV : jV (lay1 sh ty se many low pl con c v s) = (jV s).set v (vN (gR s v), sh, ty, se, ce, low, many, pl, con) := by rw [es]; rfl
  have eBl : (jB (lay1 sh ty se many low pl con c v s)).length = (jB s).length := List.length_set
  have eg : ∀ b, (jB (lay1 sh ty se many low pl con c v s)).getD b bl0 = gB (addC (setV s v (vN (gR s v), sh, ty, se, ce, low, many, pl, con)) nx) b := fun b => by rw [es]; rfl
  have eK : ∀ b, bK ((jB (lay1 sh ty se many low pl con c v s)).getD b bl0) = bK ((jB s).getD b bl0) := fun b => by rw [eg, addC_K (s := setV s v _) hb]; rfl
  have eF : ∀ b, bF ((jB (lay1 sh ty se many low pl con c v s)).getD b bl0) = bF ((jB s).getD b bl0) := fun b => by rw [eg, addC_F (s := setV s v _) hb]; rfl
  have eN : ∀ b, bN ((jB (lay1 sh ty se many low pl con c v s)).getD b bl0) = bN ((jB s).getD b bl0) ∧ bA ((jB (lay1 sh ty se many low pl con c v s)).getD b bl0) = bA ((jB s).getD b bl0) := fun b => by
    rw [eg, addC_gB (s := setV s v _) hb]
    split
    · rename_i e; rw [e]; exact ⟨rfl, rfl⟩
    · exact ⟨rfl, rfl⟩
  have eC : ∀ b, bC ((jB (lay1 sh ty se many low pl con c v s)).getD b bl0) = if b = (jB s).length - 1 then bC ((jB s).getD b bl0) + nx else bC ((jB s).getD b bl0) := fun b => by rw [eg, addC_C (s := setV s v _) hb]; rfl
  have eR : ∀ u, isRes s u → isRes (lay1 sh ty se many low pl con c v s) u := fun u ⟨b, q1, q2, q3⟩ => ⟨b, by rw [eBl]; exact q1, by rw [eK]; exact q2, by rw [eF]; exact q3⟩
  have hVl : (jV (lay1 sh ty se many low pl con c v s)).length = (jV s).length := by rw [eV, List.length_set]
  refine ⟨h1.trans ?_, ⟨?_, ?_, fun b hq => ?_⟩, ⟨?_, ?_, fun u hu => ?_⟩, fun _ => ?_, fun k hk => ?_, fun j hj => ?_, fun p hp => ?_, h8⟩
  · unfold layM; exact ((((((((Fr.rfl'.wI rfl).wI rfl).wI rfl).wI rfl).wI rfl).wI rfl).wI rfl).wI rfl).wI rfl
  · rw [O 21 22 (by omega) (by omega) (by omega), eBl]; exact h2.1
  · rw [eBl]; exact h2.2.1
  · rw [eBl] at hq
    obtain ⟨a1, a2, a3, a4, a5, a6, a7, a8⟩ := h2.2.2 b hq
    rw [O 36 b (by omega) (by omega) (by omega), O 37 b (by omega) (by omega) (by omega), O 38 b (by omega) (by omega) (by omega), (eN b).1, (eN b).2, eK, eF, eF, eBl, hVl, eC]
    refine ⟨a1, a2, a3, a4, a5, a6, fun q => ?_, ?_⟩
    · rw [if_neg (by omega)]; exact a7 q
    · split
      · rename_i e
        have : bC ((jB s).getD b bl0) = bC (cb s) := by rw [e]; rfl
        omega
      · exact a8
  · rw [O 21 17 (by omega) (by omega) (by omega), hVl]; exact h3.1
  · rw [hVl]; exact h3.2.1
  · rw [hVl] at hu
    have hu0 := h3.2.2 u hu
    rw [eV, gD_set hv, O 28 u (by omega) (by omega) (by omega)]
    by_cases e : u = v
    · subst e
      rw [if_pos rfl, X.1, X.2.1, X.2.2.1, X.2.2.2.1, X.2.2.2.2.1, X.2.2.2.2.2.1, X.2.2.2.2.2.2.1]
      exact ⟨hu0.1, rfl, rfl, rfl, fun _ => ⟨rfl, rfl, Or.inr ⟨rfl, rfl⟩⟩⟩
    · rw [if_neg e, O 29 u (by omega) (by omega) (by omega), O 30 u (by omega) (by omega) (by omega), O 31 u (by omega) (by omega) (by omega), O 32 u (by omega) (by omega) (by omega), O 33 u (by omega) (by omega) (by omega), O 34 u (by omega) (by omega) (by omega), O 35 u (by omega) (by omega) (by omega)]
      refine ⟨hu0.1, hu0.2.1, hu0.2.2.1, hu0.2.2.2.1, fun q => ?_⟩
      have := hu0.2.2.2.2 q
      exact ⟨this.1, this.2.1, this.2.2.elim (fun r => Or.inl (eR u r)) Or.inr⟩
  · rw [O 21 24 (by omega) (by omega) (by omega), X.2.2.2.2.2.2.2.1, eBl, lay1_C hb, enx]
    exact ⟨(h4 hb).1, rfl⟩
  · have := h5 k hk
    rw [O 25 k (by omega) (by omega) (by omega), O 27 k (by omega) (by omega) (by omega)]
    rw [es, jT_setC, jC_setC, jM_setC]
    refine ⟨this.1, ?_, this.2.2⟩
    by_cases e : k = c
    · rw [if_pos e, e]; exact X.2.2.2.2.2.2.2.2
    · rw [if_neg e, O 26 k (by omega) (by omega) (by omega)]; exact this.2.1
  · rw [O 23 j (by omega) (by omega) (by omega), O 24 j (by omega) (by omega) (by omega)]; exact h6 j hj
  · rw [O 22 p (by omega) (by omega) (by omega)]; exact h7 p hp
theorem jr_decl_loop {Q : Sg → Prop} {k many : Nat} {sh ty se low pl con : Int32} (hd : 3 ≤ d) (hG : StG g N M σ0) (hk : k < M) (hm : many ≤ 11000) (hpl : pl = -1 ∨ ∃ p, p < 1536 ∧ pl = nI p) : ∀ (R : List Nat) (v : Nat) (o : Option Nat) (s : JS) (σ : Sg) (r : Nat) (T : List Nat), Chn g o (R ++ r :: T) → (∀ c, c ∈ R → c < M) → JW g N M σ0 σ s E tk → jB s ≠ [] → FT σ none → v + R.length = (jV s).length → bC (cb s) ≤ 4096 →
    (∀ σ', JP g N M σ0 σ' (rl g (decide (bC (cb (layS sh ty se many low pl con R v s)) ≤ 4096)) 19 k (layS sh ty se many low pl con R v s)) E tk → Q σ') →
    Bk w d 0 0 m_Rules_leaveDeclaration 0 0 (qv Q) 452 [oR 21, oI (nI k), none, oI pl, oI sh, oI ty, oI se, oI (nI many), oI low, oI (jO o), oI (nI v)] [] σ := by
  have hM := hG.2.2.1
  intro R
  induction R with
  | nil =>
    intro v o s σ r T _ _ hS _ hf hv hC hQ
    have hvl := hS.2.2.1.2.1
    simp only [List.length_nil, Nat.add_zero] at hv
    refine v_Rules_leaveDeclaration_452 _ _ _ _ _ _ _ _ _ _ ?_
    rw [hS.2.2.1.1, nI_leI (by omega) (by omega)]
    refine ⟨fun _ => hQ σ ?_, fun q => absurd (by omega) q⟩
    show JP g N M σ0 σ (rl g (decide (bC (cb s) ≤ 4096)) 19 k s) E tk
    rw [decide_eq_true hC]; exact ⟨hS, hf⟩
  | cons c R ih =>
    intro v o s σ r T hco hR hS hb hf hv hC hQ
    have hvl := hS.2.2.1.2.1
    simp only [List.length_cons] at hv
    have eo : o = some c := hco.1
    have hc := hR c List.mem_cons_self
    subst eo
    have vin : vp_in (nI v) 16384 := vp_in_nI (by omega) (by omega)
    have cin : vp_in (nI c) 33500 := vp_in_nI (by omega) (by omega)
    have h25 := (hS.2.2.2.1 hb).2
    rw [layS_cons] at hQ
    generalize es1 : lay1 sh ty se many low pl con c v s = s1 at hQ
    have hS1 : JW g N M σ0 (layM σ v c sh ty se low (nI many) (imgI pl) (nI (if pl < 0 then bC (cb s) else plC (Int32.toNatClampNeg pl))) (nI (bC (cb s) + (if pl < 0 then many else 0)))) s1 E tk := by rw [← es1]; exact hS.lay hb (by omega) (by omega)
    have hb1 : jB s1 ≠ [] := by rw [← es1]; exact lay1_ne hb
    have eC1 : bC (cb s1) = bC (cb s) + (if pl < 0 then many else 0) := by rw [← es1]; exact lay1_C hb
    have hl1 : (jV s1).length = (jV s).length := by rw [← es1]; exact lay1_len
    have hf1 : FT (layM σ v c sh ty se low (nI many) (imgI pl) (nI (if pl < 0 then bC (cb s) else plC (Int32.toNatClampNeg pl))) (nI (bC (cb s) + (if pl < 0 then many else 0)))) none := by
      show _ = (0 : Int32)
      rw [layM_o (by omega) (by omega) (by omega)]; exact hf
    generalize eσ : layM σ v c sh ty se low (nI many) (imgI pl) (nI (if pl < 0 then bC (cb s) else plC (Int32.toNatClampNeg pl))) (nI (bC (cb s) + (if pl < 0 then many else 0))) = σ1 at hS1 hf1
    have gX1 : σ.1 14 c = jO (gX g c) := (hS.tb hG hc).2.2.2.2.2
    have rest : ∀ cc : Bool, decide (bC (cb s1) ≤ 4096) = cc → OkV w (d - 1) m_Rules_rule [vR 21, vI (b2 cc), vI (19), vI (nI k)] σ1 (fun s1 => Bk w d 0 0 m_Rules_leaveDeclaration 0 0 (qv Q) 452 [oR 21, oI (nI k), none, oI pl, oI sh, oI ty, oI se, oI (nI many), oI low, oI (jO (gX g c)), oI (nI (v + 1))] [] s1) := by
      intro cc hcc
      refine jr_rule (by omega) hG hS1 hf1 hk rfl rfl (by decide) (fun σ2 hS2 hf2 _ => ?_)
      cases cc with
      | true =>
        exact ih (v + 1) _ s1 σ2 r T hco.2 (fun x hx => hR x (List.mem_cons_of_mem _ hx)) hS2 hb1 hf2 (by omega) (of_decide_eq_true hcc) hQ
      | false =>
        have big : ¬ bC (cb s1) ≤ 4096 := of_decide_eq_false hcc
        have mono := (layS_ne (sh := sh) (ty := ty) (se := se) (many := many) (low := low) (pl := pl) (con := con) (R := R) (v := v + 1) hb1).2
        have hQ : Q σ2 := by
          refine hQ σ2 ?_
          rw [decide_eq_false (by omega)]
          exact ⟨hS2.1, hf2⟩
        refine v_Rules_leaveDeclaration_452 _ _ _ _ _ _ _ _ _ _ ⟨fun _ => hQ, fun _ => ⟨fun _ => hQ, fun q => ?_⟩⟩
        have := hf2.none_iff.mp q
        cases this
    refine v_Rules_leaveDeclaration_452 _ _ _ _ _ _ _ _ _ _ ?_
    rw [hS.2.2.1.1, nI_leI (by omega) (by omega), hf.none_iff, nI_clamp (by omega)]
    refine ⟨fun q => absurd q (by omega), fun _ => ⟨fun q => absurd rfl q, fun _ => ⟨vin, vin, vin, vin, vin, ?_⟩⟩⟩
    generalize eτ : wI (wI (wI (wI (wI σ 29 v sh) 30 v ty) 31 v se) 33 v low) 34 v (nI many) = τ
    have t25 : τ.1 21 25 = nI (bC (cb s)) := by rw [← eτ]; simp only [wI_1]; repeat rw [if_neg (by omega)]
                                                exact h25
    have t14 : τ.1 14 c = jO (gX g c) := by rw [← eτ]; simp only [wI_1]; repeat rw [if_neg (by omega)]
                                            exact gX1
    rcases hpl with hpl | ⟨p, hp, ep⟩
    · subst hpl
      refine ⟨fun q => absurd q (by decide), fun _ => v_Rules_leaveDeclaration_531 _ _ _ _ _ _ _ _ _ _ _ _ ⟨vin, fun q => absurd q (by decide), fun _ => ⟨vin, fun q => absurd q (by decide), fun _ => ⟨vin, cin, cin, ?_⟩⟩⟩⟩
      rw [t25, nI_add, show jO (some c) = nI c from rfl, nI_clamp (by omega), nI_clamp (by omega), t14, nI_1, wI_1, if_pos ⟨rfl, rfl⟩]
      have e1 : wI (wI (wI (wI τ 35 v (-1)) 32 v (nI (bC (cb s)))) 21 25 (nI (bC (cb s) + many))) 26 c (nI (bC (cb s))) = σ1 := by
        rw [← eσ, ← eτ, if_pos (by decide), if_pos (by decide)]; rfl
      rw [e1, show (4096 : Int32) = nI 4096 from rfl, nI_ltI (by decide) (by omega)]
      rw [if_pos (by decide)] at eC1
      exact ⟨fun q => rest false (decide_eq_false (by omega)), fun q => rest true (decide_eq_true (by omega))⟩
    · subst ep
      have p0 : 0 ≤ nI p := nI_pos' (by omega)
      have pn : ¬ nI p < 0 := nI_pos (by omega)
      have pin : vp_in (nI (p / 256)) 6 := vp_in_nI (by omega) (by decide)
      rw [(sh8 hp).1]
      refine ⟨fun _ => v_Rules_leaveDeclaration_531 _ _ _ _ _ _ _ _ _ _ _ _ ⟨vin, fun _ => ?_, fun q => absurd p0 q⟩, fun q => absurd p0 q⟩
      rw [(sh8 hp).1, (sh8 hp).2]
      refine ⟨pin, vin, fun _ => ⟨vin, cin, cin, ?_⟩, fun q => absurd p0 q⟩
      rw [t25, Int32.add_zero, show jO (some c) = nI c from rfl, nI_clamp (by omega), nI_clamp (by omega), nI_clamp (by omega), t14, nI_1, wI_1, if_pos ⟨rfl, rfl⟩, rd_pl, pl_at hp]
      have e1 : wI (wI (wI (wI τ 35 v (nI (p / 256))) 32 v (nI (plC p))) 21 25 (nI (bC (cb s)))) 26 c (nI (plC p)) = σ1 := by
        rw [← eσ, ← eτ, if_neg pn, if_neg pn, nI_clamp (by omega), Nat.add_zero]
        unfold layM imgI
        rw [if_neg pn, nI_clamp (by omega)]
      rw [e1, show (4096 : Int32) = nI 4096 from rfl, nI_ltI (by decide) (by omega)]
      rw [if_neg pn] at eC1
      exact ⟨fun q => rest false (decide_eq_false (by omega)), fun q => rest true (decide_eq_true (by omega))⟩
end

/-! 138: the component judges: statements -/
section
variable {w : Wd} {d : Nat} {g : Nat → NI} {N : List (List Int32)} {M : Nat} {σ0 σ : Sg} {s : JS} {E : Nat} {tk : Nat → Bool} {ft : Option JE}
theorem jr_leaveStatement {Q : Sg → Prop} {k : Nat} {q : Int32} {x1 : Int32} (hd : 6 ≤ d) (hG : StG g N M σ0) (hR : GrT g M) (hK : KdG g M) (hS : JW g N M σ0 σ s E tk) (hI : JI s 0) (hN : JN N s) (hb : jB s ≠ []) (hf : FT σ none) (hk : k < M) (hE : ∀ c, c < M → gU g c = some k → c < E) (hU : ∃ p, gU g k = some p) (hq : gK g k = q) (hqs : q ∈ [(11 : Int32), 12, 13, 14, 15, 16, 17, 18, 19, 20, 21, 22, 23, 24, 25, 26, 27, 28, 29, 30, 31, 32, 33, 34, 35, 36]) (h1 : x1 = nI k) (h : ∀ σ', JP g N M σ0 σ' (lvS g N M k s) E tk → Q σ') : OkV w d m_Rules_leaveStatement [vR 21, vI x1] σ Q := by
  subst h1
  have hM := hG.2.2.1
  have hin : vp_in (nI k) 33500 := vp_in_nI (by omega) (by omega)
  obtain ⟨L, f, hc, hr, hff, hL⟩ := hR k hk
  have hkid := kid_of hG.2.1 hk hc
  have T := hS.tb hG hk
  have hNl := hG.2.2.2.2.1
  have hvl := hS.2.2.1.2.1
  refine v_Rules_leaveStatement _ _ (by omega) ⟨hin, ?_⟩
  rw [nI_clamp (by omega), T.1, T.2.2.2.2.1, hq]
  refine ⟨fun e => ⟨hin, ?_⟩, fun n12 => ⟨fun e => ?_, fun n13 => ⟨fun e => jr_leaveParameter (by omega) hG hR hK hS hI hN hb hf hk hE (hq.trans e) hU rfl h, fun n14 => ⟨fun e => ⟨hin, ?_⟩, fun n15 => ⟨fun e => ⟨hin, ?_⟩, fun n16 => ⟨fun e => jr_leaveExpression (by omega) hG hR hS hI hN hb hf hk hE hU hq (by rw [e]; decide) rfl h, fun n17 => ⟨fun e => ⟨hin, ?_⟩, fun n18 => ⟨fun e => jr_leaveFor (by omega) hG hR hS hI hb hf hk (hq.trans e) rfl h, fun n19 => ⟨fun e => ?_, fun n20 => jr_leaveExpression (by omega) hG hR hS hI hN hb hf hk hE hU hq ?_ rfl h⟩⟩⟩⟩⟩⟩⟩⟩⟩
  · -- an assignment
    subst e
    rw [lvS_st hq (by decide)] at h
    rw [hq] at hr
    obtain ⟨a, b, eL, ka, _⟩ := row13 (L := L) (f := f) hr hff
    have eF : gF g k = some a := by rw [eL] at hc; exact hc.1
    have eX : gX g a = some b := by rw [eL] at hc; exact hc.2.1
    have k0 : kd g M k 0 = a := by unfold kd; rw [hkid, eL]; rfl
    have kb : kd g M k 1 = b := by unfold kd; rw [hkid, eL]; rfl
    have ha := hL a (by rw [eL]; simp)
    have hbb := hL b (by rw [eL]; simp)
    obtain ⟨nj, hnj, en⟩ := hG.nm ha.2.1 (by rcases ka with r | r <;> rw [r] <;> decide)
    have ain : vp_in (nI a) 33500 := vp_in_nI (by omega) (by omega)
    unfold lvStat at h
    rw [hq, if_pos rfl, k0, kb, asgS_eq, toR_bind (h := rlF g (fitT (jT s b) (jT s a)) 31 k) (s' := s) (by exact rl_eq)] at h
    rw [eF, show jO (some a) = nI a from rfl]
    refine jr_assigned (by omega) hG hS hb (hI.laid hb) hf hk ha.2.1 rfl rfl (by rw [en]; exact nI_nm1 (by omega)) (fun σ1 hS1 hf1 _ => ⟨ain, ?_⟩)
    rw [nI_clamp (by omega), (hS1.tb hG ha.2.1).2.2.2.2.2, eX, show jO (some b) = nI b from rfl, nI_clamp (by omega), (hS1.an (hE a ha.2.1 ha.2.2)).1, (hS1.an (hE b hbb.2.1 hbb.2.2)).1]
    exact ⟨vp_in_nI (by omega) (by omega), ain, jr_fits (by omega) (jr_rule (by omega) hG hS1 hf1 hk rfl rfl (by decide) (fun σ2 hS2 hf2 _ => h σ2 (JP.of hS2 hf2)))⟩
  · -- an invocation
    subst e
    rw [lvS_st hq (by decide)] at h
    unfold lvStat at h
    rw [hq, if_neg (by decide), if_pos rfl, nmd_toR] at h
    refine jr_named (by omega) hG hS hb hf hk rfl (fun σ1 r hS1 hf1 r0 r1 k1 => ?_)
    cases e : nmdF g k 2 s with
    | some x =>
      rw [e] at h hf1 r1
      rw [r1 (by simp [orF])]
      exact ⟨fun _ => h σ1 ⟨hS1.1, hf1⟩, fun r => absurd (by decide) r⟩
    | none =>
      rw [e] at h hf1 r0
      obtain ⟨v, hv, hs0⟩ := nmd_v e
      rw [hv] at h r0
      rw [r0 rfl]
      have W := hS1.var hI hb hv
      have vin : vp_in (jO (some v)) 16384 := vp_in_nI (by omega) (by omega)
      refine ⟨fun r => absurd r (nI_pos (by omega)), fun _ => ⟨vin, hin, vin, ?_⟩⟩
      rw [show jO (some v) = nI v from rfl, nI_clamp (by omega), W.2.2.2.1, W.2.2.2.2.2.1]
      have vin : vp_in (nI v) 16384 := vp_in_nI (by omega) (by omega)
      refine ⟨fun r => ⟨vin, hin, h _ ?_⟩, fun r => ⟨vin, hin, h _ ?_⟩⟩
      · have r' : ¬ vT ((jV s).getD v vr0) < 9 := Int32.not_lt.mpr r
        dsimp only
        rw [if_neg r']; exact ⟨hS1.wC.wM, (hf1.wr (by omega)).wr (by omega)⟩
      · have r' : vT ((jV s).getD v vr0) < 9 := Int32.not_le.mp r
        dsimp only
        rw [if_pos r']; exact ⟨hS1.wC.wM, (hf1.wr (by omega)).wr (by omega)⟩
  · -- IF
    subst e
    rw [lvS_st hq (by decide)] at h
    unfold lvStat at h
    rw [hq, if_neg (by decide), if_neg (by decide), if_neg (by decide), if_pos rfl, hkid, rl_eq] at h
    have loop : ∀ (R : List Nat) (o : Option Nat) (σ1 : Sg) (ft1 : Option JE), Chn g o R → (∀ c, c ∈ R → c < M ∧ gU g c = some k) → JW g N M σ0 σ1 s E tk → FT σ1 ft1 → (∀ σ2, JP g N M σ0 σ2 (toR (orF ft1 (rlF g (R.all (fun c => decide (gK g c = 11) || decide (jT s c = 0))) 34 k)) s) E tk → Q σ2) → Bk w d 0 0 m_Rules_leaveStatement 0 0 (qv Q) 192 [oR 21, oI (nI k), none, none, oI (jO o), none] [] σ1 := by
      intro R
      induction R with
      | nil =>
        intro o σ1 ft1 hco ho hS1 hf1 hQ
        have eo : o = none := hco
        subst eo
        refine v_Rules_leaveStatement_192 _ _ _ ⟨fun _ => hQ σ1 ?_, fun r => absurd rfl r⟩
        rw [List.all_nil, rlF_t]
        cases ft1 with
        | none => exact ⟨hS1, hf1⟩
        | some e => exact ⟨hS1.1, hf1⟩
      | cons x R ih =>
        intro o σ1 ft1 hco ho hS1 hf1 hQ
        have eo : o = some x := hco.1
        have hx := ho x List.mem_cons_self
        subst eo
        have xin : vp_in (nI x) 33500 := vp_in_nI (by omega) (by omega)
        have step : ∀ c : Bool, (decide (gK g x = 11) || decide (jT s x = 0)) = c → OkV w (d - 1) m_Rules_rule [vR 21, vI (b2 c), vI 34, vI (nI k)] σ1 (fun s5 => (vp_in (nI x) 33500 ∧ Bk w d 0 0 m_Rules_leaveStatement 0 0 (qv Q) 192 [oR 21, oI (nI k), none, none, oI (s5.1 14 x), none] [] s5)) := by
          intro c hcx
          refine jr_rule (by omega) hG hS1 hf1 hk rfl rfl (by decide) (fun σ2 hS2 hf2 k2 => ⟨xin, ?_⟩)
          rw [(hS2.tb hG hx.1).2.2.2.2.2]
          refine ih _ σ2 _ hco.2 (fun e he => ho e (List.mem_cons_of_mem _ he)) hS2 hf2 (fun σ3 h3 => hQ σ3 ?_)
          rw [List.all_cons, orF_rl, hcx]
          rw [orF_as] at h3
          exact h3
        refine v_Rules_leaveStatement_192 _ _ _ ⟨fun r => absurd r (nI_nm1 (by omega)), fun _ => ⟨xin, ?_⟩⟩
        rw [show jO (some x) = nI x from rfl, nI_clamp (by omega), (hS1.tb hG hx.1).1, (hS1.an (hE x hx.1 hx.2)).1]
        exact ⟨fun r => step true (by rw [decide_eq_true r]; rfl), fun r => ⟨xin, fun r2 => step false (by rw [decide_eq_false r, decide_eq_false r2]; rfl), fun r2 => step true (by rw [decide_eq_true r2, Bool.or_true])⟩⟩
    exact loop L _ σ none hc (fun c r => (hL c r).2) hS hf h
  · -- CASE
    subst e
    rw [lvS_st hq (by decide)] at h
    rw [hq] at hr
    obtain ⟨a, R, eL⟩ := RowG.nfin (g := g) (a := 18) (L := L) hr hff (by decide)
    have eF : gF g k = some a := by rw [eL] at hc; exact hc.1
    have k0 : kd g M k 0 = a := by unfold kd; rw [hkid, eL]; rfl
    have ha := hL a (by rw [eL]; simp)
    unfold lvStat at h
    rw [hq, if_neg (by decide), if_neg (by decide), if_neg (by decide), if_neg (by decide), if_pos rfl, k0, rl_eq] at h
    rw [eF, show jO (some a) = nI a from rfl, nI_clamp (by omega), (hS.an (hE a ha.2.1 ha.2.2)).1]
    exact ⟨vp_in_nI (by omega) (by omega), jr_isNumber (by omega) (jr_rule (by omega) hG hS hf hk rfl rfl (by decide) (fun σ2 hS2 hf2 _ => h σ2 (JP.of hS2 hf2)))⟩
  · -- a range
    subst e
    rw [lvS_st hq (by decide)] at h
    rw [hq] at hr
    obtain ⟨a, ka, hab⟩ := row22 (L := L) (f := f) hr hff
    unfold lvStat at h
    rw [hq, if_neg (by decide), if_neg (by decide), if_neg (by decide), if_neg (by decide), if_neg (by decide), if_pos rfl, rl_eq] at h
    have eF : gF g k = some a := by rcases hab with e | ⟨b, e, _⟩ <;> rw [e] at hc <;> exact hc.1
    have k0 : kd g M k 0 = a := by unfold kd; rw [hkid]; rcases hab with e | ⟨b, e, _⟩ <;> rw [e] <;> rfl
    have ha := hL a (by rcases hab with e | ⟨b, e, _⟩ <;> rw [e] <;> simp)
    have ain : vp_in (nI a) 33500 := vp_in_nI (by omega) (by omega)
    rw [k0] at h
    rw [eF, show jO (some a) = nI a from rfl, nI_clamp (by omega), (hS.tb hG ha.2.1).2.2.2.2.2, (hS.tb hG ha.2.1).1, (hS.tb hG ha.2.1).2.2.1]
    have hlast : ∀ b, L.getLast? = some b → gL g k = some b := fun b hbL => by rw [(hK k hk).2 L hc]; exact hbL
    have fin : ∀ (b : Nat) (c : Bool), gL g k = some b → (decide (gK g a = 30) && decide (gK g b = 30) && decide (gV g a ≤ gV g b)) = c → OkV w (d - 1) m_Rules_rule [vR 21, vI (b2 c), vI 35, vI (nI k)] σ (fun s2 => Q s2) := by
      intro b c hbL hc2
      rw [hbL] at h
      have h : ∀ σ', JP g N M σ0 σ' (toR (rlF g (decide (gK g a = 30) && decide (gK g b = 30) && decide (gV g a ≤ gV g b)) 35 k) s) E tk → Q σ' := h
      rw [hc2] at h
      exact jr_rule (by omega) hG hS hf hk rfl rfl (by decide) (fun σ2 hS2 hf2 _ => h σ2 (JP.of hS2 hf2))
    refine ⟨ain, ?_⟩
    rcases hab with e | ⟨b, e, kb⟩
    · have eX : gX g a = none := by rw [e] at hc; exact hc.2
      have eG := hlast a (by rw [e]; rfl)
      rw [eX]
      refine ⟨fun r => absurd rfl r, fun _ => ⟨ain, fun r => fin a false eG (by rw [decide_eq_false r]; rfl), fun r => ⟨ain, fun r2 => absurd r r2, fun _ => ⟨ain, ain, fun r2 => absurd r2 (Int32.not_lt.mpr (Int32.le_refl _)), fun _ => fin a true eG ?_⟩⟩⟩⟩
      rw [decide_eq_true r, decide_eq_true (Int32.le_refl _)]; rfl
    · have eX : gX g a = some b := by rw [e] at hc; exact hc.2.1
      have hbb := hL b (by rw [e]; simp)
      have eG := hlast b (by rw [e]; rfl)
      have bin : vp_in (nI b) 33500 := vp_in_nI (by omega) (by omega)
      rw [eX, show jO (some b) = nI b from rfl, nI_clamp (by omega), (hS.tb hG hbb.2.1).1, (hS.tb hG hbb.2.1).2.2.1]
      refine ⟨fun _ => ⟨ain, ain, fun r => fin b false eG (by rw [decide_eq_false r]; rfl), fun r => ⟨bin, fun r2 => fin b false eG (by rw [decide_eq_false r2, Bool.and_false]; rfl), fun r2 => ⟨ain, bin, fun r3 => fin b false eG (by rw [decide_eq_false (Int32.not_le.mpr r3), Bool.and_false]), fun r3 => fin b true eG ?_⟩⟩⟩, fun r => absurd r (nI_nm1 (by omega))⟩
      rw [decide_eq_true r, decide_eq_true r2, decide_eq_true (Int32.not_lt.mp r3)]; rfl
  · -- EXIT
    subst e
    rw [lvS_st hq (by decide)] at h
    unfold lvStat at h
    rw [hq, if_neg (by decide), if_neg (by decide), if_neg (by decide), if_neg (by decide), if_neg (by decide), if_neg (by decide), if_neg (by decide), if_pos rfl, rl_eq] at h
    refine jr_isIn (by omega) hG hS hk rfl (jr_rule (by omega) hG hS hf hk rfl rfl (by decide) (fun σ2 hS2 hf2 _ => h σ2 ?_))
    have e : (fun p => decide (gK g p = 19) && (decide ((-1 : Int32) = -1) || decide (gV g p = -1))) = fun p => decide (gK g p = 19) := by
      funext p; rw [decide_eq_true (p := (-1 : Int32) = -1) rfl]; simp
    rw [e] at hf2
    exact JP.of hS2 hf2
  · simp only [List.mem_cons, List.not_mem_nil, or_false] at hqs ⊢
    grind
end

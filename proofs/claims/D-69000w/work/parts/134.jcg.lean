/-! 134: the component judges: parameters, statements -/
theorem orF_as {a b c : Option JE} : orF (orF a b) c = orF a (orF b c) := by cases a <;> rfl
theorem orF_n {a : Option JE} : orF none a = a := rfl
theorem orF_rl {g : Nat → NI} {a b : Bool} {e : Int32} {k : Nat} : rlF g (a && b) e k = orF (rlF g a e k) (rlF g b e k) := by
  unfold rlF; cases a <;> cases b <;> rfl
theorem rlF_t {g : Nat → NI} {e : Int32} {k : Nat} : rlF g true e k = none := rfl
section
variable {w : Wd} {d : Nat} {g : Nat → NI} {N : List (List Int32)} {M : Nat} {σ0 σ : Sg} {s : JS} {E : Nat} {tk : Nat → Bool} {ft : Option JE}
theorem JW.an (hS : JW g N M σ0 σ s E tk) {k : Nat} (hk : k < E) : σ.1 25 k = jT s k ∧ σ.1 26 k = jC s k ∧ σ.1 27 k = jM s k := hS.2.2.2.2.1 k hk
/-- a variable's type, as a type of an instance -/
theorem VO.inst {b : Nat} {x : VR} (h : VO s b x) (hs : vS x = 2) (hb : b < (jB s).length) : ∃ j, j < 2 ^ 30 ∧ vT x = nI j ∧ (j < 9 ∨ 9 ≤ j ∧ j - 9 + 1 < (jB s).length) := by
  rcases h.1 with ⟨h1, _⟩ | ⟨_, j, h0, e, hj⟩
  · rw [hs] at h1; rcases h1 with h1 | h1 <;> exact absurd h1 (by decide)
  · refine ⟨j, h0, e, ?_⟩
    rcases hj with hj | ⟨ha, hj, _⟩
    · exact Or.inl hj
    · exact Or.inr ⟨ha, by omega⟩
theorem lvS_14 {k : Nat} (h : gK g k = 14) : lvS g N M k s = lvPar g N M k s := by
  rw [lvS_st h (by decide)]; unfold lvStat; rw [h]; rfl
theorem jr_leaveParameter {Q : Sg → Prop} {k : Nat} {x1 : Int32} (hd : 4 ≤ d) (hG : StG g N M σ0) (hR : GrT g M) (hK : KdG g M) (hS : JW g N M σ0 σ s E tk) (hI : JI s 0) (hN : JN N s) (hb : jB s ≠ []) (hf : FT σ none) (hk : k < M) (hE : ∀ c, c < M → gU g c = some k → c < E) (h14 : gK g k = 14) (hU : ∃ p, gU g k = some p) (h1 : x1 = nI k) (h : ∀ σ', JP g N M σ0 σ' (lvS g N M k s) E tk → Q σ') : OkV w d m_Rules_leaveParameter [vR 21, vI x1] σ Q := by
  subst h1
  have hM := hG.2.2.1
  rw [lvS_14 h14] at h
  obtain ⟨p, hp⟩ := hU
  obtain ⟨hpM, L, hc, hkL⟩ := (hK k hk).1 p hp
  obtain ⟨R, P, eL⟩ := List.append_of_mem hkL
  have hkid := kid_of hG.2.1 hpM hc
  subst eL
  have hlt := chn_lt hG.2.1 hc (fun c q => ((hG.2.1 p hpM).2.1 c q).2.1)
  have etw : (kid g M p).takeWhile (fun c => decide (c ≠ k)) = R := by
    rw [hkid, List.takeWhile_append_of_pos (fun c q => decide_eq_true (by have := hlt c q; omega)), List.takeWhile_cons_of_neg (by simp), List.append_nil]
  -- the row below
  obtain ⟨L2, f2, hc2, hr2, hf2, hL2⟩ := hR k hk
  rw [h14] at hr2
  obtain ⟨a, ea, _⟩ := row14 (L := L2) (f := f2) hr2 hf2
  subst ea
  have k0 : kd g M k 0 = a := by unfold kd; rw [kid_of hG.2.1 hk hc2]; rfl
  have haM := (hL2 a (by simp)).2.1
  have eFk : gF g k = some a := hc2.1
  have haE : a < E := hE a haM (hL2 a (by simp)).2.2
  have hin : vp_in (nI k) 33500 := vp_in_nI (by omega) (by omega)
  obtain ⟨nj, hnj, en⟩ := hG.nm hk (by rw [h14]; decide)
  unfold lvPar at h
  rw [hp] at h
  have gp : (some p : Option Nat).getD 0 = p := rfl
  rw [gp, etw, k0] at h
  refine v_Rules_leaveParameter _ _ (by omega) ⟨hin, ?_⟩
  rw [nI_clamp (by omega), (hS.tb hG hk).2.2.2.1, hp, show jO (some p) = nI p from rfl, nI_clamp (by omega), (hS.tb hG hpM).2.2.1]
  refine ⟨vp_in_nI (by omega) (by omega), jr_variable (by omega) hS hb ?_⟩
  cases hv : vlk s (gV g p) with
  | none =>
    rw [hv] at h
    exact ⟨fun _ => h σ ⟨hS, hf⟩, fun q => absurd (by decide) q⟩
  | some v =>
    rw [hv] at h
    dsimp only at h
    have W := hS.var hI hb hv
    have vin : vp_in (jO (some v)) 16384 := vp_in_nI (by omega) (by omega)
    refine ⟨fun q => absurd q (nI_pos (by omega)), fun _ => ⟨vin, ?_⟩⟩
    rw [show jO (some v) = nI v from rfl, nI_clamp (by omega), W.2.2.1, W.2.2.2.1, (hS.tb hG hk).2.2.1]
    refine ⟨fun q2 => ⟨vp_in_nI (by omega) (by omega), hin, ?_⟩, fun q2 => ?_⟩
    · have h : ∀ σ', JP g N M σ0 σ' (match pinS N s (vT (gR s v)) (gV g k) true with | none => .error (32, gP g k) | some p => (rl g (R.all (fun c => decide (gV g c ≠ gV g k))) 33 k s).bind fun s => rl g (fitT (jT s a) p.1) 31 k (setC s k (nI (vC ((jV s).getD v vr0) + p.2)))) E tk → Q σ' := by
        have q2' : ¬ (vS ((jV s).getD v vr0) ≠ 2) := fun r => r q2
        rw [if_neg q2'] at h
        exact h
      obtain ⟨j, hj0, ej, hj⟩ := W.2.2.2.2.2.2.inst q2 (cb_lt hb)
      rw [ej] at h ⊢
      -- the loop over what comes before, and the end
      have loop : ∀ (R : List Nat) (o : Option Nat) (σ1 : Sg) (ft1 : Option JE) (r2 : Int32) (pt : Int32), Chn g o (R ++ k :: P) → (∀ c, o = some c → c < M) → JW g N M σ0 σ1 s E tk → FT σ1 ft1 → σ1.1 21 29 = pt → (∀ σ2, JP g N M σ0 σ2 (toR (orF ft1 (orF (rlF g (R.all (fun c => decide (gV g c ≠ gV g k))) 33 k) (rlF g (fitT (jT s a) pt) 31 k))) (setC s k (nI (vC (gR s v)) + r2))) E tk → Q σ2) → Bk w d 0 0 m_Rules_leaveParameter 0 0 (qv Q) 89 [oR 21, oI (nI k), none, oI (nI v), oI r2, oI (jO o)] [] σ1 := by
        intro R
        induction R with
        | nil =>
          intro o σ1 ft1 r2 pt hco ho hS1 hf1 hpt hQ
          have eo : o = some k := hco.1
          subst eo
          refine v_Rules_leaveParameter_89 _ _ _ _ _ ⟨fun _ => ?_, fun q => absurd rfl q⟩
          have W1 := hS1.var hI hb hv
          have hQ : ∀ σ2, JP g N M σ0 σ2 (toR (orF ft1 (rlF g (fitT (jT s a) pt) 31 k)) (setC s k (nI (vC (gR s v)) + r2))) E tk → Q σ2 := hQ
          have fin : ∀ (σ2 : Sg) (ft2 : Option JE), JW g N M σ0 σ2 s E tk → FT σ2 ft2 → ft2 = orF ft1 (rlF g (fitT (jT s a) pt) 31 k) → (vp_in (nI v) 16384 ∧ (vp_in (nI k) 33500 ∧ Q (wI σ2 26 (Int32.toNatClampNeg (nI k)) ((σ2.1 32 (Int32.toNatClampNeg (nI v))) + r2)))) := by
            intro σ2 ft2 hS2 hf2 e2
            have W2 := hS2.var hI hb hv
            refine ⟨vp_in_nI (by omega) (by omega), hin, ?_⟩
            rw [nI_clamp (by omega), nI_clamp (by omega), W2.2.2.2.2.2.1]
            refine hQ _ ?_
            rw [← e2]
            exact JP.of hS2.wC (hf2.wr (by omega))
          rw [hf1.none_iff]
          refine ⟨fun q => jr_rule (c := true) (by omega) hG hS1 hf1 hk rfl rfl (by decide) (fun σ2 hS2 hf2 _ => fin σ2 _ hS2 hf2 ?_), fun q => ⟨hin, ?_⟩⟩
          · cases ft1 with
            | none => exact absurd rfl q
            | some e => rfl
          · subst q
            rw [nI_clamp (by omega), (hS1.tb hG hk).2.2.2.2.1, eFk, show jO (some a) = nI a from rfl, nI_clamp (by omega), (hS1.an haE).1, hpt]
            refine ⟨vp_in_nI (by omega) (by omega), jr_fits (by omega) ⟨fun q => ?_, fun q => ?_⟩⟩
            · refine jr_rule (c := false) (by omega) hG hS1 hf1 hk rfl rfl (by decide) (fun σ2 hS2 hf2 _ => ?_)
              have := fin σ2 _ hS2 hf2 (by rw [b2_0.mp q]; rfl)
              rw [nI_clamp (by omega)] at this
              exact this
            · refine jr_rule (c := true) (by omega) hG hS1 hf1 hk rfl rfl (by decide) (fun σ2 hS2 hf2 _ => ?_)
              have := fin σ2 _ hS2 hf2 (by rw [b2_n0.mp q]; rfl)
              rw [nI_clamp (by omega)] at this
              exact this
        | cons x R ih =>
          intro o σ1 ft1 r2 pt hco ho hS1 hf1 hpt hQ
          have eo : o = some x := hco.1
          have hx := ho x eo
          have hxk : x < k := chn_lt hG.2.1 hco ho x (by simp)
          subst eo
          have xin : vp_in (nI x) 33500 := vp_in_nI (by omega) (by omega)
          refine v_Rules_leaveParameter_89 _ _ _ _ _ ⟨fun q => absurd ((nI_eq (by omega) (by omega)).mp q) (by omega), fun _ => ⟨xin, hin, ?_⟩⟩
          rw [show jO (some x) = nI x from rfl, nI_clamp (by omega), nI_clamp (by omega), (hS1.tb hG hx).2.2.1, (hS1.tb hG hk).2.2.1]
          have step : ∀ c : Bool, decide (gV g x ≠ gV g k) = c → OkV w (d - 1) m_Rules_rule [vR 21, vI (b2 c), vI 33, vI (nI k)] σ1 (fun s5 => (vp_in (nI x) 33500 ∧ Bk w d 0 0 m_Rules_leaveParameter 0 0 (qv Q) 89 [oR 21, oI (nI k), none, oI (nI v), oI r2, oI (s5.1 14 x)] [] s5)) := by
            intro c hcx
            refine jr_rule (by omega) hG hS1 hf1 hk rfl rfl (by decide) (fun σ2 hS2 hf2 k2 => ⟨xin, ?_⟩)
            rw [(hS2.tb hG hx).2.2.2.2.2]
            refine ih _ σ2 _ r2 pt hco.2 (fun e he => ((hG.2.1 x hx).2.2.1 e he).2.1) hS2 hf2 (by rw [k2 21 29 (by omega)]; exact hpt) (fun σ3 h3 => hQ σ3 ?_)
            rw [List.all_cons, orF_rl, hcx]
            rw [orF_as] at h3
            rw [orF_as]
            exact h3
          exact ⟨fun q => step false (decide_eq_false (fun r => r q)), fun q => step true (decide_eq_true q)⟩
      refine jr_part (i := true) (by omega) hS hf hI hN hj ⟨nj, hnj, en⟩ hG.2.2.2.2.1 rfl rfl (fun σ1 r2 hS1 hf1 pn ps k1 => ?_)
      have ho : ∀ c, gF g p = some c → c < M := fun c q => ((hG.2.1 p hpM).2.1 c q).2.1
      have pin : vp_in (nI p) 33500 := vp_in_nI (by omega) (by omega)
      cases hpin : pinS N s (nI j) (gV g k) true with
      | none =>
        rw [hpin] at h pn
        rw [pn rfl]
        refine ⟨fun _ => jr_rule (c := false) (by omega) hG hS1 hf1 hk rfl rfl (by decide) (fun σ2 hS2 hf2 _ => ⟨pin, ?_⟩), fun q => absurd (by decide) q⟩
        rw [(hS2.tb hG hpM).2.2.2.2.1]
        exact loop R _ σ2 _ _ _ hc ho hS2 hf2 rfl (fun σ3 h3 => h σ3 h3)
      | some pp =>
        rw [hpin] at h ps
        obtain ⟨e1, e2⟩ := ps pp rfl
        have hpp : pp.2 < 2 ^ 31 := by
          have := pin_lt hI (fun b q => (hS.2.1.2.2 b q).2.2.2.2.2.2.2) hj0 hj hpin
          omega
        rw [e1]
        refine ⟨fun q => absurd q (nI_pos hpp), fun _ => jr_rule (c := true) (by omega) hG hS1 hf1 hk rfl rfl (by decide) (fun σ2 hS2 hf2 k2 => ⟨pin, ?_⟩)⟩
        rw [(hS2.tb hG hpM).2.2.2.2.1]
        refine loop R _ σ2 _ _ pp.1 hc ho hS2 hf2 (by rw [k2 21 29 (by omega)]; exact e2) (fun σ3 h3 => h σ3 ?_)
        dsimp only
        rw [rl_eq, toR_bind (h := rlF g (fitT (jT s a) pp.1) 31 k) (s' := setC s k (nI (vC (gR s v) + pp.2))) (by exact rl_eq)]
        rw [nI_add] at h3
        exact h3
    · have q2' : vS ((jV s).getD v vr0) ≠ 2 := q2
      rw [if_pos q2'] at h
      exact h σ ⟨hS, hf⟩
end

/-! 147: the component judges: the text is left -/
theorem plcS_app : ∀ (A B : List BL) (a : Nat), plcS (A ++ B) a = ((plcS A a).1 ++ (plcS B (plcS A a).2).1, (plcS B (plcS A a).2).2) := by
  intro A
  induction A with
  | nil => intro B a; rfl
  | cons x A ih =>
    intro B a
    rw [List.cons_append, plcS, plcS]
    split
    · rw [ih]; rfl
    · rw [ih]; rfl
theorem plcS_len : ∀ (A : List BL) (a : Nat), (plcS A a).1.length = A.length := by
  intro A
  induction A with
  | nil => intro a; rfl
  | cons x A ih => intro a; rw [plcS]; split <;> simp [ih]
theorem plcS_get : ∀ (A : List BL) (a j : Nat), bN ((plcS A a).1.getD j bl0) = bN (A.getD j bl0) ∧ bA ((plcS A a).1.getD j bl0) = bA (A.getD j bl0) ∧ bK ((plcS A a).1.getD j bl0) = bK (A.getD j bl0) ∧ bF ((plcS A a).1.getD j bl0) = bF (A.getD j bl0) ∧ bC ((plcS A a).1.getD j bl0) = bC (A.getD j bl0) := by
  intro A
  induction A with
  | nil => intro a j; exact ⟨rfl, rfl, rfl, rfl, rfl⟩
  | cons x A ih =>
    intro a j
    rw [plcS]
    cases j with
    | zero => split <;> exact ⟨rfl, rfl, rfl, rfl, rfl⟩
    | succ j =>
      split
      · rw [List.getD_cons_succ, List.getD_cons_succ]; exact ih _ j
      · rw [List.getD_cons_succ, List.getD_cons_succ]; exact ih _ j
theorem plcS_le : ∀ (A : List BL) (a C : Nat), (∀ x, x ∈ A → bC x ≤ C) → (plcS A a).2 ≤ a + A.length * C := by
  intro A
  induction A with
  | nil => intro a C _; simp [plcS]
  | cons x A ih =>
    intro a C h
    have hx := h x List.mem_cons_self
    rw [plcS, List.length_cons, Nat.add_mul, Nat.one_mul]
    split
    · have := ih (a + bC x) C (fun y hy => h y (List.mem_cons_of_mem _ hy)); simp only; omega
    · have := ih a C (fun y hy => h y (List.mem_cons_of_mem _ hy)); simp only; omega
/-- all that judging tells, as the component's memory has it -/
def JFc (g : Nat → NI) (N : List (List Int32)) (M : Nat) (σ : Sg) (s : JS) : Prop :=
  σ.1 21 22 = nI (jB s).length ∧ (jB s).length ≤ 700 ∧ (∀ b, b < (jB s).length → σ.1 36 b = nI (bN (gB s b)) ∧ σ.1 37 b = nI (bF (gB s b)) ∧ σ.1 38 b = nI (bC (gB s b)) ∧ σ.1 39 b = bP (gB s b) ∧ bN (gB s b) < M ∧ gV g (bN (gB s b)) = bA (gB s b) ∧ gK g (bN (gB s b)) = bK (gB s b)) ∧
  σ.1 37 (jB s).length = nI (jV s).length ∧ σ.1 21 23 = nI (plcS (jB s) (bC (cb s))).2 ∧ JVm σ s ∧ (∀ k, k < M → σ.1 25 k = jT s k ∧ σ.1 26 k = jC s k ∧ σ.1 27 k = jM s k) ∧ (∀ j, j < N.length → σ.1 23 j = sdI N (nI j) ∧ σ.1 24 j = ptI N (nI j))
theorem plcS_bC : ∀ (A : List BL) (a : Nat), (plcS (plcS A a).1 a).2 = (plcS A a).2 := by
  intro A
  induction A with
  | nil => intro a; rfl
  | cons x A ih =>
    intro a
    by_cases h : bK x = 1
    · have e : plcS (x :: A) a = ((bN x, bA x, bK x, bF x, bC x, nI a) :: (plcS A (a + bC x)).1, (plcS A (a + bC x)).2) := by rw [plcS, if_pos h]
      rw [e]
      show (plcS ((bN x, bA x, bK x, bF x, bC x, nI a) :: (plcS A (a + bC x)).1) a).2 = _
      rw [plcS, if_pos (show bK (bN x, bA x, bK x, bF x, bC x, nI a) = 1 from h)]
      exact ih _
    · have e : plcS (x :: A) a = ((bN x, bA x, bK x, bF x, bC x, if bK x = 3 then 0 else -1) :: (plcS A a).1, (plcS A a).2) := by rw [plcS, if_neg h]
      rw [e]
      show (plcS ((bN x, bA x, bK x, bF x, bC x, if bK x = 3 then 0 else -1) :: (plcS A a).1) a).2 = _
      rw [plcS, if_neg (show ¬ bK (bN x, bA x, bK x, bF x, bC x, if bK x = 3 then 0 else -1) = 1 from h)]
      exact ih _
section
variable {w : Wd} {d : Nat} {g : Nat → NI} {N : List (List Int32)} {M : Nat} {σ0 σ : Sg} {s : JS} {tk : Nat → Bool}
def JPF (g : Nat → NI) (N : List (List Int32)) (M : Nat) (σ0 σ : Sg) (r : JR) : Prop := match r with
  | .ok s => Fr jcF σ0 σ ∧ JFc g N M σ s ∧ FT σ none
  | .error e => Fr jcF σ0 σ ∧ FT σ (some e)
theorem JVm.cg {τ : Sg} {s' : JS} (h : JVm σ s) (hk : ∀ a j, (28 ≤ a ∧ a ≤ 35) ∨ (a = 21 ∧ j = 17) → τ.1 a j = σ.1 a j) (hV : jV s' = jV s) (hR : ∀ v, isRes s v → isRes s' v) : JVm τ s' := by
  refine ⟨by rw [hk 21 17 (by omega), hV]; exact h.1, by rw [hV]; exact h.2.1, fun v hv => ?_⟩
  rw [hV] at hv ⊢
  rw [hk 28 v (by omega), hk 29 v (by omega), hk 30 v (by omega), hk 31 v (by omega), hk 32 v (by omega), hk 33 v (by omega), hk 34 v (by omega), hk 35 v (by omega)]
  have z := h.2.2 v hv
  refine ⟨z.1, z.2.1, z.2.2.1, z.2.2.2.1, fun q => ?_⟩
  have y := z.2.2.2.2 q
  exact ⟨y.1, y.2.1, y.2.2.imp (hR v) id⟩
theorem jr_leaveText {Q : Sg → Prop} (hd : 3 ≤ d) (hG : StG g N M σ0) (hS : JW0 g N M σ0 σ s M tk) (hI : JI s 0) (hf : FT σ none) (hM0 : 0 < M) (h : ∀ σ', JPF g N M σ0 σ' (lvText g s) → Q σ') : OkV w d m_Rules_leaveText [vR 21, vI 0] σ Q := by
  have hM := hG.2.2.1
  obtain ⟨hF0, hB, hBc, hVm, hAn, hNm, hTk, hEM⟩ := hS
  have hl := hB.2.1
  have hvl := hVm.2.1
  generalize eσ : wI σ 37 (jB s).length (nI (jV s).length) = σ1
  have O1 : ∀ a j, ¬ (a = 37 ∧ j = (jB s).length) → σ1.1 a j = σ.1 a j := fun a j q => by rw [← eσ, wI_1, if_neg q]
  have hF1 : Fr jcF σ0 σ1 := by rw [← eσ]; exact hF0.wI rfl
  have hf1 : FT σ1 none := by rw [← eσ]; exact hf.wr (by omega)
  refine v_Rules_leaveText _ _ (by omega) ?_
  rw [hB.1, nI_clamp (by omega), hVm.1, eσ]
  refine ⟨vp_in_nI (by omega) (by omega), ?_⟩
  have bad : (decide (jB s ≠ []) && decide (bK (cb s) = 3)) = false → ∀ (P : Sg → Prop), (∀ σ', Fr jcF σ0 σ' → ¬ σ'.1 21 2 = 0 → Q σ' → P σ') → OkV w (d - 1) m_Rules_rule [vR 21, vI 0, vI 10, vI 0] σ1 P := by
    intro hc P hP
    have hl : lvText g s = .error (10, gP g 0) := by unfold lvText; rw [hc]; rfl
    rw [hl] at h
    refine jr_rule0 (c := false) (k := 0) (by omega) hG hF1 hf1 hM0 rfl rfl (by decide) (fun σ2 hF2 hf2 _ => hP σ2 hF2 (fun q => ?_) (h σ2 ⟨hF2, hf2⟩))
    have := hf2.none_iff.mp q
    cases this
  rw [show (0 : Int32) = nI 0 from rfl, nI_leI (by omega) (by decide)]
  refine ⟨fun q => bad ?_ _ (fun σ2 _ q2 hQ => ⟨fun r => absurd r q2, fun _ => hQ⟩), fun q => ?_⟩
  · have : jB s = [] := List.length_eq_zero_iff.mp (by omega)
    rw [this]; rfl
  · have hb : jB s ≠ [] := fun r => by rw [r] at q; exact q (Nat.zero_le _)
    have hlt := cb_lt hb
    have Bl := hB.2.2 _ hlt
    have esub : nI (jB s).length - 1 = nI ((jB s).length - 1) := by rw [show (jB s).length = (jB s).length - 1 + 1 by omega, nI_pred]; rfl
    rw [esub, nI_clamp (by omega), Bl.1, nI_clamp (by omega), (JW0.tb hG hF0 Bl.2.2.1).1, Bl.2.2.2.2.1]
    have b1in : vp_in (nI ((jB s).length - 1)) 800 := vp_in_nI (by omega) (by omega)
    refine ⟨b1in, vp_in_nI (by omega) (by omega), fun n3 => bad ?_ _ (fun σ2 _ q2 hQ => ⟨fun r => absurd r q2, fun _ => hQ⟩), fun e3 => ?_⟩
    · have n3 : ¬ bK (cb s) = 3 := n3
      rw [decide_eq_false n3, Bool.and_false]
    · have e3 : bK (cb s) = 3 := e3
      refine jr_rule0 (c := true) (k := 0) (by omega) hG hF1 hf1 hM0 rfl rfl (by decide) (fun σ2 hF2 hf2 k2 => ?_)
      have hf2 : FT σ2 none := hf2
      refine ⟨fun _ => ?_, fun r => absurd (hf2 : σ2.1 21 2 = 0) r⟩
      have O2 : ∀ a j, ¬ (a = 37 ∧ j = (jB s).length) → ¬ (a = 21 ∧ (j = 2 ∨ j = 3)) → σ2.1 a j = σ.1 a j := fun a j q1 q2 => by rw [k2 a j q2, O1 a j q1]
      have s22 : σ2.1 21 22 = nI (jB s).length := by rw [O2 21 22 (by omega) (by omega)]; exact hB.1
      have ecb : σ.1 38 ((jB s).length - 1) = nI (bC (cb s)) := hBc _ hlt
      rw [s22, esub, nI_clamp (by omega), O2 38 _ (by omega) (by omega), ecb]
      refine ⟨b1in, b1in, ?_⟩
      have h : ∀ σ', JPF g N M σ0 σ' (toR (rlF g (decide ((plcS (jB s) (bC (cb s))).2 ≤ 8192)) 42 0) ((plcS (jB s) (bC (cb s))).1, s.2.1, s.2.2)) → Q σ' := by
        intro σ' hJ
        refine h σ' ?_
        unfold lvText
        rw [decide_eq_true hb, decide_eq_true e3]
        show JPF g N M σ0 σ' (rl g _ 42 0 _)
        rw [rl_eq]; exact hJ
      -- the loop
      have hCle : ∀ x, x ∈ jB s → bC x ≤ 20000 := by
        intro x hx
        obtain ⟨j, hj, e⟩ := List.mem_iff_getElem.mp hx
        have := (hB.2.2 j hj).2.2.2.2.2.2.2
        rw [List.getD_eq_getElem?_getD, List.getElem?_eq_getElem hj] at this
        rw [← e]; exact this
      have hcbC : bC (cb s) ≤ 20000 := Bl.2.2.2.2.2.2.2
      have loop : ∀ (suf pre : List BL) (τ : Sg), jB s = pre ++ suf → suf ≠ [] → Fr jcF σ0 τ → FT τ none → τ.1 21 23 = nI (plcS pre (bC (cb s))).2 → (∀ j, j < pre.length → τ.1 39 j = bP ((plcS pre (bC (cb s))).1.getD j bl0)) → τ.1 39 ((jB s).length - 1) = 0 → (∀ a j, a ≠ 39 → ¬ (a = 21 ∧ (j = 2 ∨ j = 3 ∨ j = 23)) → τ.1 a j = σ2.1 a j) → Bk w d 0 0 m_Rules_leaveText 0 0 (qv Q) 92 [oR 21, oI 0, oI (nI pre.length), none] [] τ := by
        intro suf
        induction suf with
        | nil => intro pre τ _ q; exact absurd rfl q
        | cons x suf ih =>
          intro pre τ eB _ hFt hft r23 r39 r39l Ot
          have lB : (jB s).length = pre.length + (suf.length + 1) := by rw [eB]; simp
          have t22 : τ.1 21 22 = nI (jB s).length := by rw [Ot 21 22 (by omega) (by omega)]; exact s22
          have ex : (jB s).getD pre.length bl0 = x := by rw [eB]; simp
          have hpl := plcS_le pre (bC (cb s)) 20000 (fun y hy => hCle y (by rw [eB]; exact List.mem_append_left _ hy))
          have hpl2 : pre.length * 20000 ≤ 700 * 20000 := Nat.mul_le_mul_right _ (by omega)
          cases suf with
          | nil =>
            -- the end
            have el : (jB s).length - 1 = pre.length := by rw [lB]; simp
            have ecx : cb s = x := by rw [cb_gB, el]; exact ex
            have kx : bK x = 3 := by rw [← ecx]; exact e3
            have eP : plcS (jB s) (bC (cb s)) = ((plcS pre (bC (cb s))).1 ++ [(bN x, bA x, bK x, bF x, bC x, 0)], (plcS pre (bC (cb s))).2) := by
              rw [eB, plcS_app]
              have : plcS [x] (plcS pre (bC (cb s))).2 = ([(bN x, bA x, bK x, bF x, bC x, 0)], (plcS pre (bC (cb s))).2) := by
                rw [plcS, if_neg (by rw [kx]; decide), if_pos kx]; rfl
              rw [this]
            refine v_Rules_leaveText_92 _ _ _ ?_
            rw [t22, esub, nI_leI (by omega) (by omega), r23, show (8192 : Int32) = nI 8192 from rfl, nI_ltI (by decide) (by omega)]
            have fin : ∀ c : Bool, decide ((plcS (jB s) (bC (cb s))).2 ≤ 8192) = c → OkV w (d - 1) m_Rules_rule [vR 21, vI (b2 c), vI 42, vI 0] τ (fun s1 => Q s1) := by
              intro c hc
              rw [hc] at h
              refine jr_rule0 (k := 0) (by omega) hG hFt hft hM0 rfl rfl (by decide) (fun σ3 hF3 hf3 k3 => h σ3 ?_)
              have hf3 : FT σ3 (rlF g c 42 0) := hf3
              have O3 : ∀ a j, a ≠ 39 → ¬ (a = 21 ∧ (j = 2 ∨ j = 3 ∨ j = 23)) → ¬ (a = 37 ∧ j = (jB s).length) → σ3.1 a j = σ.1 a j := fun a j q1 q2 q3 => by rw [k3 a j (by omega), Ot a j q1 q2, O2 a j q3 (by omega)]
              cases hrl : rlF g c 42 0 with
              | some e => rw [hrl] at hf3; exact ⟨hF3, hf3⟩
              | none =>
                rw [hrl] at hf3
                refine ⟨hF3, ?_, hf3⟩
                have lP : ((plcS (jB s) (bC (cb s))).1).length = (jB s).length := plcS_len _ _
                have gP' : ∀ b, gB (((plcS (jB s) (bC (cb s))).1, s.2.1, s.2.2) : JS) b = (plcS (jB s) (bC (cb s))).1.getD b bl0 := fun b => rfl
                have ecb' : bC (cb (((plcS (jB s) (bC (cb s))).1, s.2.1, s.2.2) : JS)) = bC (cb s) := by
                  rw [cb_gB, gP']
                  show bC ((plcS (jB s) (bC (cb s))).1.getD ((plcS (jB s) (bC (cb s))).1.length - 1) bl0) = _
                  rw [(plcS_get _ _ _).2.2.2.2, lP]; rfl
                refine ⟨?_, ?_, fun b hb' => ?_, ?_, ?_, hVm.cg (fun a j q => O3 a j (by omega) (by omega) (by omega)) rfl (fun v ⟨b, q1, q2, q3⟩ => ⟨b, ?_, ?_, ?_⟩), fun k hk => ?_, fun j hj => ?_⟩
                · show _ = nI (plcS (jB s) (bC (cb s))).1.length; rw [lP, O3 21 22 (by omega) (by omega) (by omega)]; exact hB.1
                · show (plcS (jB s) (bC (cb s))).1.length ≤ 700; rw [lP]; exact hl
                · have hb' : b < (plcS (jB s) (bC (cb s))).1.length := hb'
                  rw [lP] at hb'
                  have z := plcS_get (jB s) (bC (cb s)) b
                  have y := hB.2.2 b hb'
                  rw [gP', z.1, z.2.1, z.2.2.1, z.2.2.2.1, z.2.2.2.2, O3 36 b (by omega) (by omega) (by omega), O3 37 b (by omega) (by omega) (by omega), O3 38 b (by omega) (by omega) (by omega)]
                  refine ⟨y.1, y.2.1, hBc b hb', ?_, y.2.2.1, y.2.2.2.1, y.2.2.2.2.1⟩
                  rw [k3 39 b (by omega), eP]
                  by_cases e : b < pre.length
                  · rw [r39 b e, gD_app (by rw [plcS_len]; exact e)]
                  · have : b = (plcS pre (bC (cb s))).1.length := by rw [plcS_len]; omega
                    rw [this, gD_last, plcS_len, ← el, r39l]; rfl
                · show σ3.1 37 (plcS (jB s) (bC (cb s))).1.length = nI (jV s).length
                  rw [lP, k3 37 _ (by omega), Ot 37 _ (by omega) (by omega), k2 37 _ (by omega), ← eσ, wI_1, if_pos ⟨rfl, rfl⟩]
                · rw [ecb']
                  show _ = nI (plcS (plcS (jB s) (bC (cb s))).1 (bC (cb s))).2
                  rw [plcS_bC, k3 21 23 (by omega), r23, eP]
                · show b < (plcS (jB s) (bC (cb s))).1.length; rw [lP]; exact q1
                · show bK ((plcS (jB s) (bC (cb s))).1.getD b bl0) = 1; rw [(plcS_get _ _ _).2.2.1]; exact q2
                · show bF ((plcS (jB s) (bC (cb s))).1.getD b bl0) = v; rw [(plcS_get _ _ _).2.2.2.1]; exact q3
                · rw [O3 25 k (by omega) (by omega) (by omega), O3 26 k (by omega) (by omega) (by omega), O3 27 k (by omega) (by omega) (by omega)]; exact hAn k hk
                · rw [O3 23 j (by omega) (by omega) (by omega), O3 24 j (by omega) (by omega) (by omega)]; exact hNm j hj
            rw [eP] at fin
            exact ⟨fun _ => ⟨fun r => fin false (decide_eq_false (by simp only; omega)), fun r => fin true (decide_eq_true (by simp only; omega))⟩, fun r => absurd (by omega) r⟩
          | cons y suf =>
            have hpb : pre.length < (jB s).length - 1 := by simp only [List.length_cons] at lB; omega
            have hpb' : pre.length < (jB s).length := by omega
            have Y := hB.2.2 pre.length hpb'
            have Ic := hI.2.1 pre.length hpb'
            have kx3 : bK x ≠ 3 := by have := (Ic.2.2.2.2.1 (by omega)).1; unfold gB at this; rw [ex] at this; exact this
            rw [ex] at Y
            have pin : vp_in (nI pre.length) 800 := vp_in_nI (by omega) (by omega)
            have eP1 : plcS (pre ++ [x]) (bC (cb s)) = ((plcS pre (bC (cb s))).1 ++ [(bN x, bA x, bK x, bF x, bC x, if bK x = 1 then nI (plcS pre (bC (cb s))).2 else -1)], (plcS pre (bC (cb s))).2 + (if bK x = 1 then bC x else 0)) := by
              rw [plcS_app]
              by_cases h1 : bK x = 1
              · rw [if_pos h1, if_pos h1, plcS, if_pos h1]; rfl
              · rw [if_neg h1, if_neg h1, plcS, if_neg h1, if_neg kx3]; rfl
            have t38 : τ.1 38 pre.length = nI (bC x) := by
              rw [Ot 38 _ (by omega) (by omega), O2 38 _ (by omega) (by omega), hBc _ hpb']; unfold gB; rw [ex]
            have next : ∀ (v r : Int32), v = (if bK x = 1 then nI (plcS pre (bC (cb s))).2 else -1) → r = nI ((plcS pre (bC (cb s))).2 + (if bK x = 1 then bC x else 0)) → Bk w d 0 0 m_Rules_leaveText 0 0 (qv Q) 92 [oR 21, oI 0, oI (nI (pre.length + 1)), none] [] (wI (wI τ 39 pre.length v) 21 23 r) := by
              intro v r hv hr
              have := ih (pre ++ [x]) (wI (wI τ 39 pre.length v) 21 23 r) (by rw [eB]; simp) (by simp) ((hFt.wI rfl).wI rfl) ((hft.wr (by omega)).wr (by omega)) (by rw [wI_1, if_pos ⟨rfl, rfl⟩, hr, eP1]) (fun j hj => ?_) ?_ (fun a j q1 q2 => ?_)
              · rw [List.length_append, List.length_singleton] at this; exact this
              · rw [List.length_append, List.length_singleton] at hj
                rw [wI_1, if_neg (by omega), wI_1, eP1]
                by_cases e : j = pre.length
                · rw [if_pos ⟨rfl, e⟩, e, hv]
                  have : pre.length = (plcS pre (bC (cb s))).1.length := (plcS_len _ _).symm
                  rw [this, gD_last]; rfl
                · rw [if_neg (fun q => e q.2), gD_app (by rw [plcS_len]; omega)]; exact r39 j (by omega)
              · rw [wI_1, if_neg (by omega), wI_1, if_neg (by omega)]; exact r39l
              · rw [wI_1, if_neg (by omega), wI_1, if_neg (by omega)]; exact Ot a j q1 q2
            refine v_Rules_leaveText_92 _ _ _ ?_
            have t36 : τ.1 36 pre.length = nI (bN x) := by
              rw [Ot 36 _ (by omega) (by omega), O2 36 _ (by omega) (by omega)]; exact Y.1
            rw [t22, esub, nI_leI (by omega) (by omega), nI_clamp (n := pre.length) (by omega), t36, nI_clamp (by omega), (JW0.tb hG hFt Y.2.2.1).1, Y.2.2.2.2.1]
            refine ⟨fun r => absurd r (by omega), fun _ => ⟨pin, vp_in_nI (by omega) (by omega), fun n1 => ?_, fun e1 => ?_⟩⟩
            · refine v_Rules_leaveText_125 _ _ _ _ ⟨fun _ => ⟨pin, fun _ => ?_, fun r => absurd rfl r⟩, fun r => absurd rfl r⟩
              rw [nI_clamp (by omega), nI_1, r23]
              exact next _ _ (by rw [if_neg n1]) (by rw [if_neg n1]; exact Int32.add_zero _)
            · refine v_Rules_leaveText_125 _ _ _ _ ⟨fun r => absurd r (by decide), fun _ => ⟨pin, fun r => absurd r (by decide), fun _ => ⟨pin, ?_⟩⟩⟩
              rw [nI_clamp (by omega), nI_1, r23, t38, nI_add]
              exact next _ _ (by rw [if_pos e1]) (by rw [if_pos e1])
      refine loop (jB s) [] _ rfl hb ((hF2.wI rfl).wI rfl) ((hf2.wr (by omega)).wr (by omega)) ?_ (fun j hj => absurd hj (by simp)) (by rw [wI_1, if_pos ⟨rfl, rfl⟩]; rfl) (fun a j q1 q2 => ?_)
      · rw [wI_1, if_neg (by omega), wI_1, if_pos ⟨rfl, rfl⟩]; rfl
      · rw [wI_1, if_neg (by omega), wI_1, if_neg (by omega)]
end

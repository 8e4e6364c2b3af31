/-! 126: the component judges: its state, its small methods -/
def jcF (k j : Nat) : Bool := (Nat.ble 22 k && Nat.ble k 39) || (Nat.beq k 21 && (Nat.beq j 2 || Nat.beq j 3 || Nat.beq j 17 || (Nat.ble 22 j && Nat.ble j 25) || Nat.beq j 29))
/-- what is given: the tree's table, its names -/
def StG (g : Nat → NI) (N : List (List Int32)) (M : Nat) (σ0 : Sg) : Prop := TbX σ0 8 (fun j => j) g M ∧ BdG g M ∧ M ≤ 6000 ∧ (∀ k, k < M → vOK N.length (gK g k) (gV g k)) ∧ N.length ≤ 1400 ∧ σ0.1 7 9 = nI M
def imgI (p : Int32) : Int32 := if p < 0 then -1 else nI (Int32.toNatClampNeg p / 256)
/-- the result of a function -/
def isRes (s : JS) (v : Nat) : Prop := ∃ b, b < (jB s).length ∧ bK ((jB s).getD b bl0) = 1 ∧ bF ((jB s).getD b bl0) = v
/-- blocks as the memory has them -/
def JB (g : Nat → NI) (M : Nat) (σ : Sg) (s : JS) : Prop := σ.1 21 22 = nI (jB s).length ∧ (jB s).length ≤ 700 ∧ ∀ b, b < (jB s).length → σ.1 36 b = nI (bN ((jB s).getD b bl0)) ∧ σ.1 37 b = nI (bF ((jB s).getD b bl0)) ∧ bN ((jB s).getD b bl0) < M ∧ gV g (bN ((jB s).getD b bl0)) = bA ((jB s).getD b bl0) ∧ gK g (bN ((jB s).getD b bl0)) = bK ((jB s).getD b bl0) ∧ bF ((jB s).getD b bl0) ≤ (jV s).length ∧ (b + 1 < (jB s).length → σ.1 38 b = nI (bC ((jB s).getD b bl0)) ∧ bF ((jB s).getD b bl0) ≤ bF ((jB s).getD (b + 1) bl0)) ∧ bC ((jB s).getD b bl0) ≤ 20000
def JVm (σ : Sg) (s : JS) : Prop := σ.1 21 17 = nI (jV s).length ∧ (jV s).length ≤ 7000 ∧ ∀ v, v < (jV s).length → σ.1 28 v = vN ((jV s).getD v vr0) ∧ σ.1 29 v = vS ((jV s).getD v vr0) ∧ σ.1 30 v = vT ((jV s).getD v vr0) ∧ σ.1 35 v = imgI (vP ((jV s).getD v vr0)) ∧ (vT ((jV s).getD v vr0) ≠ -1 → σ.1 31 v = vE ((jV s).getD v vr0) ∧ σ.1 32 v = nI (vC ((jV s).getD v vr0)) ∧ (isRes s v ∨ (σ.1 33 v = vW ((jV s).getD v vr0) ∧ σ.1 34 v = nI (vM ((jV s).getD v vr0)))))
def JW (g : Nat → NI) (N : List (List Int32)) (M : Nat) (σ0 σ : Sg) (s : JS) (E : Nat) (tk : Nat → Bool) : Prop := Fr jcF σ0 σ ∧ JB g M σ s ∧ JVm σ s ∧ (jB s ≠ [] → σ.1 21 24 = nI ((jB s).length - 1) ∧ σ.1 21 25 = nI (bC (cb s))) ∧ (∀ k, k < E → σ.1 25 k = jT s k ∧ σ.1 26 k = jC s k ∧ σ.1 27 k = jM s k) ∧ (∀ j, j < N.length → σ.1 23 j = sdI N (nI j) ∧ σ.1 24 j = ptI N (nI j)) ∧ (∀ p, p < 1536 → σ.1 22 p = b2 (tk p)) ∧ E ≤ M
/-- the fault, if there is one -/
def FT (σ : Sg) (f : Option JE) : Prop := match f with
  | none => σ.1 21 2 = 0
  | some e => σ.1 21 2 = e.1 ∧ e.1 ≠ 0 ∧ σ.1 21 3 = e.2
def orF (a b : Option JE) : Option JE := match a with | none => b | some e => some e
section
variable {w : Wd} {d : Nat} {g : Nat → NI} {N : List (List Int32)} {M : Nat} {σ0 σ : Sg} {s : JS} {E : Nat} {tk : Nat → Bool} {ft : Option JE}
theorem FT.none_iff (h : FT σ ft) : σ.1 21 2 = 0 ↔ ft = none := by
  cases ft with
  | none => exact ⟨fun _ => rfl, fun _ => h⟩
  | some e => exact ⟨fun q => absurd (h.1.symm.trans q) h.2.1, fun q => by cases q⟩
theorem JW.cg {τ : Sg} (h : JW g N M σ0 σ s E tk) (hF : Fr jcF σ τ) (hk : ∀ k j, ¬ (k = 21 ∧ (j = 2 ∨ j = 3 ∨ j = 26 ∨ j = 29)) → τ.1 k j = σ.1 k j) : JW g N M σ0 τ s E tk := by
  obtain ⟨h1, h2, h3, h4, h5, h6, h7, h8⟩ := h
  refine ⟨h1.trans hF, ⟨by rw [hk 21 22 (by omega)]; exact h2.1, h2.2.1, fun b hb => ?_⟩, ⟨by rw [hk 21 17 (by omega)]; exact h3.1, h3.2.1, fun v hv => ?_⟩, fun hb => ?_, fun k hk' => ?_, fun j hj => ?_, fun p hp => ?_, h8⟩
  · rw [hk 36 b (by omega), hk 37 b (by omega), hk 38 b (by omega)]; exact h2.2.2 b hb
  · rw [hk 28 v (by omega), hk 29 v (by omega), hk 30 v (by omega), hk 31 v (by omega), hk 32 v (by omega), hk 33 v (by omega), hk 34 v (by omega), hk 35 v (by omega)]; exact h3.2.2 v hv
  · rw [hk 21 24 (by omega), hk 21 25 (by omega)]; exact h4 hb
  · rw [hk 25 k (by omega), hk 26 k (by omega), hk 27 k (by omega)]; exact h5 k hk'
  · rw [hk 23 j (by omega), hk 24 j (by omega)]; exact h6 j hj
  · rw [hk 22 p (by omega)]; exact h7 p hp
/-- the table in the memory at hand -/
theorem JW.tb (hG : StG g N M σ0) (h : JW g N M σ0 σ s E tk) {k : Nat} (hk : k < M) : σ.1 8 k = gK g k ∧ σ.1 9 k = gP g k ∧ σ.1 10 k = gV g k ∧ σ.1 11 k = jO (gU g k) ∧ σ.1 12 k = jO (gF g k) ∧ σ.1 14 k = jO (gX g k) := by
  have e : ∀ o, oN (fun j => j) o = jO o := fun o => by cases o <;> rfl
  have := hG.1 k hk
  rw [e, e, e] at this
  rw [h.1.1 8 k rfl, h.1.1 9 k rfl, h.1.1 10 k rfl, h.1.1 11 k rfl, h.1.1 12 k rfl, h.1.1 14 k rfl]
  exact this
theorem jr_rule {Q : Sg → Prop} {c : Bool} {x1 x3 : Int32} {k : Nat} {e : Int32} (hd : 2 ≤ d) (hG : StG g N M σ0) (hS : JW g N M σ0 σ s E tk) (hf : FT σ ft) (hk : k < M) (h1 : x1 = b2 c) (h3 : x3 = nI k) (he : e ≠ 0) (h : ∀ σ', JW g N M σ0 σ' s E tk → FT σ' (orF ft (if c = true then none else some (e, gP g k))) → (∀ k j, ¬ (k = 21 ∧ (j = 2 ∨ j = 3)) → σ'.1 k j = σ.1 k j) → Q σ') : OkV w d m_Rules_rule [vR 21, vI x1, vI e, vI x3] σ Q := by
  subst h1 h3
  have hM := hG.2.2.1
  refine v_Rules_rule _ _ _ _ (by omega) ⟨fun q => ?_, fun q => ?_⟩
  · have q := b2_n0.mp q
    subst q
    refine h σ hS ?_ (fun _ _ _ => rfl)
    cases ft with
    | none => exact hf
    | some e => exact hf
  · have q := b2_0.mp q
    subst q
    refine v_Rules_fail _ _ _ (by omega) ?_
    rw [hf.none_iff]
    cases ft with
    | some e => exact ⟨fun _ => h σ hS hf (fun _ _ _ => rfl), fun q => by cases q⟩
    | none =>
      refine ⟨fun q => absurd rfl q, fun _ => ⟨vp_in_nI (by omega) (by omega), ?_⟩⟩
      rw [nI_clamp (by omega), (hS.tb hG hk).2.1]
      refine h _ (hS.cg ((Fr.rfl'.wI rfl).wI rfl) (fun k j hk => by simp only [wI_1]; rw [if_neg (by omega), if_neg (by omega)])) ⟨by simp [wI_1], he, by simp [wI_1]⟩ (fun k j hk => by simp only [wI_1]; rw [if_neg (by omega), if_neg (by omega)])
theorem cb_lt (h : jB s ≠ []) : (jB s).length - 1 < (jB s).length := by
  have := List.length_pos_iff.mpr h
  omega
theorem jr_blockKind {Q : Int32 → Sg → Prop} (hd : 1 ≤ d) (hG : StG g N M σ0) (hS : JW g N M σ0 σ s E tk) (hb : jB s ≠ []) (h : Q (bK (cb s)) σ) : OkI w d m_Rules_blockKind [vR 21] σ Q := by
  have hM := hG.2.2.1
  have h24 := (hS.2.2.2.1 hb).1
  have hl := hS.2.1.2.1
  have B := hS.2.1.2.2 _ (cb_lt hb)
  refine v_Rules_blockKind _ hd ?_
  rw [h24, nI_clamp (by omega), B.1, nI_clamp (by omega), (hS.tb hG B.2.2.1).1, B.2.2.2.2.1]
  exact ⟨vp_in_nI (by omega) (by omega), vp_in_nI (by omega) (by omega), h⟩
theorem jr_blockNamed {Q : Int32 → Sg → Prop} {name kind : Int32} {m : Nat} (hd : 1 ≤ d) (hG : StG g N M σ0) (hF : Fr jcF σ0 σ) (hB : JB g M σ s) (hm : σ.1 21 24 = nI m) (hm2 : m ≤ (jB s).length) (h : Q (jO (bfd name kind ((jB s).take m) 0)) σ) : OkI w d m_Rules_blockNamed [vR 21, vI name, vI kind] σ Q := by
  have hM := hG.2.2.1
  have hl := hB.2.1
  have tb : ∀ k, k < M → σ.1 8 k = gK g k ∧ σ.1 10 k = gV g k := fun k hk => by
    have := hG.1 k hk
    rw [hF.1 8 k rfl, hF.1 10 k rfl]; exact ⟨this.1, this.2.2.1⟩
  have loop : ∀ (f b : Nat), b + f = m → Q (jO (bfd name kind (((jB s).take m).drop b) b)) σ → Bk w d 0 0 m_Rules_blockNamed 0 0 (qi Q) 2 [oR 21, oI name, oI kind, oI (nI b), none] [] σ := by
    intro f
    induction f with
    | zero =>
      intro b hb hQ
      refine v_Rules_blockNamed_2 _ _ _ _ ?_
      rw [hm, nI_leI (by omega) (by omega)]
      refine ⟨fun _ => ?_, fun q => absurd (by omega) q⟩
      rw [List.drop_eq_nil_of_le (by rw [List.length_take]; omega)] at hQ
      exact hQ
    | succ f ih =>
      intro b hb hQ
      have hbl : b < (jB s).length := by omega
      have B := hB.2.2 b hbl
      refine v_Rules_blockNamed_2 _ _ _ _ ?_
      rw [hm, nI_leI (by omega) (by omega)]
      refine ⟨fun q => absurd q (by omega), fun _ => ⟨vp_in_nI (by omega) (by omega), ?_⟩⟩
      rw [nI_clamp (by omega), B.1, nI_clamp (by omega), (tb _ B.2.2.1).1, (tb _ B.2.2.1).2, B.2.2.2.1, B.2.2.2.2.1, nI_1]
      have ed : ((jB s).take m).drop b = (jB s).getD b bl0 :: ((jB s).take m).drop (b + 1) := by
        rw [List.drop_eq_getElem_cons (by rw [List.length_take]; omega), List.getElem_take, List.getD_eq_getElem?_getD, List.getElem?_eq_getElem hbl]; rfl
      rw [ed] at hQ
      rw [bfd] at hQ
      have hin : vp_in (nI (bN ((jB s).getD b bl0))) 33500 := vp_in_nI (by omega) (by omega)
      refine ⟨hin, fun q => ih (b + 1) (by omega) ?_, fun q => ⟨fun q2 => ?_, fun q2 => ⟨hin, fun q3 => ih (b + 1) (by omega) ?_, fun q3 => ?_⟩⟩⟩
      · rw [if_neg (fun r => q r.1)] at hQ; exact hQ
      · rw [if_pos ⟨q, Or.inl q2⟩] at hQ; exact hQ
      · rw [if_neg (fun r => r.2.elim q2 q3)] at hQ; exact hQ
      · rw [if_pos ⟨q, Or.inr q3⟩] at hQ; exact hQ
  exact v_Rules_blockNamed _ _ _ hd (loop m 0 (by omega) h)
theorem jr_variable {Q : Int32 → Sg → Prop} {name : Int32} (hd : 1 ≤ d) (hS : JW g N M σ0 σ s E tk) (hb : jB s ≠ []) (h : Q (jO (vlk s name)) σ) : OkI w d m_Rules_variable [vR 21, vI name] σ Q := by
  have h24 := (hS.2.2.2.1 hb).1
  have hl := hS.2.1.2.1
  have B := hS.2.1.2.2 _ (cb_lt hb)
  have hV := hS.2.2.1
  have hvl := hV.2.1
  have hcb : bF (cb s) ≤ (jV s).length := B.2.2.2.2.2.1
  have loop : ∀ (f v : Nat), v + f = (jV s).length → Q (jO (vfd (jV s) name f v)) σ → Bk w d 0 0 m_Rules_variable 0 0 (qi Q) 10 [oR 21, oI name, oI (nI v)] [] σ := by
    intro f
    induction f with
    | zero =>
      intro v hv hQ
      refine v_Rules_variable_10 _ _ _ ?_
      rw [hV.1, nI_leI (by omega) (by omega)]
      exact ⟨fun _ => hQ, fun q => absurd (by omega) q⟩
    | succ f ih =>
      intro v hv hQ
      refine v_Rules_variable_10 _ _ _ ?_
      rw [hV.1, nI_leI (by omega) (by omega)]
      refine ⟨fun q => absurd q (by omega), fun _ => ⟨vp_in_nI (by omega) (by omega), ?_⟩⟩
      rw [nI_clamp (by omega), (hV.2.2 v (by omega)).1, nI_1]
      rw [vfd] at hQ
      refine ⟨fun q => ih (v + 1) (by omega) ?_, fun q => ?_⟩
      · rw [if_neg q] at hQ; exact hQ
      · rw [if_pos q] at hQ; exact hQ
  refine v_Rules_variable _ _ hd ?_
  rw [h24, nI_clamp (by omega), B.2.1]
  exact ⟨vp_in_nI (by omega) (by omega), loop ((jV s).length - bF (cb s)) (bF (cb s)) (by omega) h⟩
theorem vfd_lt {va : List VR} {name : Int32} : ∀ {f v j : Nat}, vfd va name f v = some j → v ≤ j ∧ j < v + f ∧ vN (va.getD j vr0) = name := by
  intro f
  induction f with
  | zero => intro v j h; cases h
  | succ f ih =>
    intro v j h
    rw [vfd] at h
    split at h
    · rename_i q; cases h; exact ⟨Nat.le_refl _, by omega, q⟩
    · have := ih h; exact ⟨by omega, by omega, this.2.2⟩
theorem vlk_lt {name : Int32} {v : Nat} (h : vlk s name = some v) : v < (jV s).length ∧ bF (cb s) ≤ v ∧ vN ((jV s).getD v vr0) = name := by
  have := vfd_lt h
  exact ⟨by omega, this.1, this.2.2⟩
theorem jO_neg {o : Option Nat} (h : ∀ j, o = some j → j < 2 ^ 31) : jO o < 0 ↔ o = none := by
  cases o with
  | none => exact ⟨fun _ => rfl, fun _ => show (-1 : Int32) < 0 by decide⟩
  | some j => exact ⟨fun q => absurd q (nI_pos (h j rfl)), fun q => by cases q⟩
theorem jO_ge {o : Option Nat} (h : ∀ j, o = some j → j < 2 ^ 31) : 0 ≤ jO o ↔ o ≠ none := by
  rw [← Int32.not_lt, jO_neg h]
/-- a name's variable, of a shape: what is left of a fault -/
def nmdF (g : Nat → NI) (k : Nat) (shape : Int32) (s : JS) : Option JE := match vlk s (gV g k) with
  | none => some (20, gP g k)
  | some v => if vS ((jV s).getD v vr0) = shape then none else some (21, gP g k)
theorem jr_named {Q : Int32 → Sg → Prop} {k : Nat} {x1 shape : Int32} (hd : 3 ≤ d) (hG : StG g N M σ0) (hS : JW g N M σ0 σ s E tk) (hb : jB s ≠ []) (hf : FT σ ft) (hk : k < M) (h1 : x1 = nI k) (h : ∀ σ' r, JW g N M σ0 σ' s E tk → FT σ' (orF ft (nmdF g k shape s)) → (orF ft (nmdF g k shape s) = none → r = jO (vlk s (gV g k))) → (orF ft (nmdF g k shape s) ≠ none → r = -1) → (∀ k j, ¬ (k = 21 ∧ (j = 2 ∨ j = 3)) → σ'.1 k j = σ.1 k j) → Q r σ') : OkI w d m_Rules_named [vR 21, vI x1, vI shape] σ Q := by
  subst h1
  have hM := hG.2.2.1
  have hvl := hS.2.2.1.2.1
  refine v_Rules_named _ _ _ (by omega) ⟨vp_in_nI (by omega) (by omega), ?_⟩
  rw [nI_clamp (by omega), (hS.tb hG hk).2.2.1]
  refine jr_variable (by omega) hS hb ?_
  have hlt : ∀ j, vlk s (gV g k) = some j → j < 2 ^ 31 := fun j hj => by have := (vlk_lt hj).1; omega
  rw [jO_neg hlt]
  have go : ∀ c : Bool, (c = true ↔ vlk s (gV g k) ≠ none) → Bk w d 0 0 m_Rules_named 0 0 (qi Q) 24 [oR 21, oI (nI k), oI shape, oI (jO (vlk s (gV g k)))] [vI (b2 c), vR 21] σ := by
    intro c hc
    refine v_Rules_named_24 _ _ _ _ _ (jr_rule (by omega) hG hS hf hk rfl rfl (by decide) (fun σ1 hS1 hf1 k1 => ?_))
    rw [jO_neg hlt]
    have last : ∀ (c2 : Bool) σ2, FT σ2 (orF (orF ft (if c = true then none else some (20, gP g k))) (if c2 = true then none else some (21, gP g k))) → JW g N M σ0 σ2 s E tk → (∀ k j, ¬ (k = 21 ∧ (j = 2 ∨ j = 3)) → σ2.1 k j = σ1.1 k j) → orF (orF ft (if c = true then none else some (20, gP g k))) (if c2 = true then none else some (21, gP g k)) = orF ft (nmdF g k shape s) → ((¬ (σ2.1 21 2) = 0 → Q ((-1)) σ2) ∧ ((σ2.1 21 2) = 0 → Q (jO (vlk s (gV g k))) σ2)) := by
      intro c2 σ2 hf2 hS2 k2 e
      rw [e] at hf2
      have k3 : ∀ k j, ¬ (k = 21 ∧ (j = 2 ∨ j = 3)) → σ2.1 k j = σ.1 k j := fun k j hk => by rw [k2 k j hk, k1 k j hk]
      rw [hf2.none_iff]
      exact ⟨fun q => h σ2 _ hS2 hf2 (fun r => absurd r q) (fun _ => rfl) k3, fun q => h σ2 _ hS2 hf2 (fun _ => rfl) (fun r => absurd q r) k3⟩
    refine ⟨fun q => ?_, fun q => ?_⟩
    · have c0 : c = false := by
        rw [Bool.eq_false_iff]; exact fun r => hc.mp r q
      subst c0
      refine jr_rule (c := true) (by omega) hG hS1 hf1 hk rfl rfl (by decide) (fun σ2 hS2 hf2 k2 => last true σ2 hf2 hS2 k2 ?_)
      unfold nmdF; rw [q]
      cases ft <;> rfl
    · have c1 : c = true := hc.mpr q
      subst c1
      obtain ⟨v, hv⟩ : ∃ v, vlk s (gV g k) = some v := by
        cases hq : vlk s (gV g k) with
        | none => exact absurd hq q
        | some v => exact ⟨v, rfl⟩
      have hvlt := (vlk_lt hv).1
      rw [hv]
      have e29 : σ1.1 29 v = vS ((jV s).getD v vr0) := (hS1.2.2.1.2.2 v hvlt).2.1
      show (vp_in (nI v) 16384 ∧ _)
      rw [show jO (some v) = nI v from rfl, nI_clamp (by omega), e29]
      refine ⟨vp_in_nI (by omega) (by omega), fun q2 => ?_, fun q2 => ?_⟩
      · refine jr_rule (c := false) (by omega) hG hS1 hf1 hk rfl rfl (by decide) (fun σ2 hS2 hf2 k2 => ?_)
        have := last false σ2 hf2 hS2 k2 (by unfold nmdF; rw [hv]; dsimp only; rw [if_neg q2]; cases ft <;> rfl)
        rw [hv] at this; exact this
      · refine jr_rule (c := true) (by omega) hG hS1 hf1 hk rfl rfl (by decide) (fun σ2 hS2 hf2 k2 => ?_)
        have := last true σ2 hf2 hS2 k2 (by unfold nmdF; rw [hv]; dsimp only; rw [if_pos q2]; cases ft <;> rfl)
        rw [hv] at this; exact this
  refine ⟨fun q => go false ⟨fun r => (by cases r), fun r => absurd q r⟩, fun q => go true ⟨fun _ => q, fun _ => rfl⟩⟩
end

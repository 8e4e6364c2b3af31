/-! 110: the reference reads operands: indexes, arguments, what is kept -/
section
variable {w : Wd} {d n F : Nat} {tx : Nat → Int32} {σ0 σ : Sg} {x : RS} {s : NS} {op : List Kp} {a b b' p : Nat} {x1 : Int32}
def HM (F : Nat) (x : RS) (op : List Kp) : Prop := ∀ q, x = .ok q → 60 ≤ F + sD q ∧ op.length ≤ sD q + sS q + 1 ∧ sS q ≤ sD q + 1
theorem HM.ex {y : RS} (h : HM F x op) (hi : ∀ q, x = .ok q → InvS n q) (hm : MO n (opR x) y) : ∀ q, y = .ok q → 61 ≤ F + sD q ∧ op.length ≤ sD q + sS q ∧ sS q ≤ sD q := by
  intro q hq
  cases x with
  | error e => rw [hm.1 e rfl] at hq; cases hq
  | ok r =>
    have h := h r rfl
    cases ho : opR (.ok r) with
    | error e => rw [hm.1 e ho] at hq; cases hq
    | ok u =>
      have m1 := MO.op.2 r u rfl ho (hi r rfl)
      have m := hm.2 u q ho hq m1.1
      have eu : sD u = sD r + 1 ∧ sS u = sS r := by
        unfold opR at ho
        dsimp only at ho
        split at ho
        · cases ho
        · cases ho; exact ⟨rfl, rfl⟩
      omega
theorem wt_op {k : Int32} (h : isS x k = true) : wtR tx n (isS (opR x) k) (opR x) = nxR tx n (opR x) := by
  cases x with
  | error e => exact absurd h (show ¬ false = true by decide)
  | ok q =>
    have e : opR (.ok q) = (if sD q = 60 then .error (7, sF q) else .ok (sDS q (sD q + 1) (sS q))) := rfl
    rw [e]
    split
    · rfl
    · have : isS (.ok (sDS q (sD q + 1) (sS q))) k = isS (.ok q) k := rfl
      rw [this, h]; rfl
theorem rm_element {Q : Sg → Prop} (hE : ExM w tx n σ0 F) (hd : 6 * F + 93 ≤ d) (hS : StM tx n σ0 σ x s op a b) (hab : a ≤ b) (hb : b ≤ b') (hb2 : a + 10 * d + 2 ≤ b') (hb' : b' ≤ 32000) (h1 : x1 = nI p) (hp : Liv s p) (hI : HM F x op) (hop : op.length ≤ 149) (hx : isS x 91 = true) (h : ∀ σ', PoM tx n σ0 s op p (ixP tx n (exP tx n (opdP tx n F)) x) a b' σ' → Q σ') : OkV w d m_M_element [vR 81, vI x1] σ Q := by
  subst h1
  unfold ixP at h
  refine v_M_element _ _ (by omega) (rm_open (by omega) hS hab (fun σ1 hS1 => rm_sign (a' := a) (by omega) hS1 hab (by omega) (fun σ2 hS2 => ?_)))
  rw [wt_op hx] at hS2
  refine hE (d - 1) σ2 _ s op a b b' p _ (by omega) (hI.ex hS.invs MO.nx) hop hS2 hab hb (by omega) hb' hp (fun σ3 hσ3 => ?_)
  obtain ⟨s3, hS3, f3⟩ := hσ3.m
  refine rm_sign (a' := a) (by omega) hS3 (by omega) (by omega) (fun σ4 hS4 => h _ ⟨s3, hS4.close (cl_dep hS.invs (((MO.nx (tx := tx)).trans MO.exp').trans MO.wt)), f3.weak (fun o => MO.o MO.wt (cl_o o))⟩)
theorem arl_err {E : RS → RS × Tr} (hE : ∀ e, E (.error e) = (.error e, .leaf)) (f : Nat) (e : Int32 × Nat) : arlP tx n E f (.error e) = (.error e, .leaf) := by
  cases f with
  | zero => rfl
  | succ f =>
    show (if isS (E (.error e)).1 44 = true then _ else E (.error e)) = _
    rw [hE e]
    rfl
theorem rm_call {Q : Sg → Prop} (hE : ExM w tx n σ0 F) (hd : 6 * F + 93 ≤ d) (hS : StM tx n σ0 σ x s op a b) (hab : a ≤ b) (hb : b ≤ b') (hb2 : a + 10 * d + 2 ≤ b') (hb' : b' ≤ 32000) (h1 : x1 = nI p) (hp : Liv s p) (hI : HM F x op) (hop : op.length ≤ 149) (hx : isS x 40 = true) (h : ∀ σ', PoM tx n σ0 s op p (agP tx n (exP tx n (opdP tx n F)) x) a b' σ' → Q σ') : OkV w d m_M_call [vR 81, vI x1] σ Q := by
  subst h1
  unfold agP at h
  dsimp only at h
  refine v_M_call _ _ (by omega) (rm_open (by omega) hS hab (fun σ1 hS1 => rm_sign (a' := a) (by omega) hS1 hab (by omega) (fun σ2 hS2 => ?_)))
  rw [wt_op hx] at hS2
  -- the end
  have stop : ∀ (y : RS) (τ : Sg) (s1 : NS) (t : Tr), MO n (opR x) y → StM tx n σ0 τ y s1 op a b' → Fst s p (isO y) t s1 → (∀ σ', PoM tx n σ0 s op p (clR (wtR tx n (isS y 41) y), t) a b' σ' → Q σ') → Bk w d 0 0 m_M_call 0 0 (qv Q) 32 [oR 81, oI (nI p), oI 0] [] τ := by
    intro y τ s1 t hmo hT hf hh
    refine v_M_call_32 _ _ _ ⟨fun _ => ?_, fun c => absurd rfl c⟩
    exact rm_sign (a' := a) (by omega) hT (by omega) (by omega) (fun σ4 hS4 => hh _ ⟨s1, hS4.close (cl_dep hS.invs (hmo.trans MO.wt)), hf.weak (fun o => MO.o MO.wt (cl_o o))⟩)
  have loop : ∀ (f : Nat) (y : RS) (τ : Sg) (s1 : NS) (t : Tr), (∀ q, y = .ok q → n + 1 ≤ sF q + f) → isO y = true → MO n (opR x) y → StM tx n σ0 τ y s1 op a b → Fst s p (isO y) t s1 → (∀ σ', PoM tx n σ0 s op p (clR (wtR tx n (isS (arlP tx n (exP tx n (opdP tx n F)) f y).1 41) (arlP tx n (exP tx n (opdP tx n F)) f y).1), tap t (arlP tx n (exP tx n (opdP tx n F)) f y).2) a b' σ' → Q σ') → Bk w d 0 0 m_M_call 0 0 (qv Q) 32 [oR 81, oI (nI p), oI 1] [] τ := by
    intro f
    induction f with
    | zero =>
      intro y τ s1 t hfu hoy hmo hT hf hh
      cases y with
      | ok q => have := hfu q rfl; have := hT.inv.1; omega
      | error e => exact absurd hoy (show ¬ false = true by decide)
    | succ f ih =>
      intro y τ s1 t hfu hoy hmo hT hf hh
      have hm2 := hf.liv hp hp.1
      have eN : arlP tx n (exP tx n (opdP tx n F)) (f + 1) y = if isS (exP tx n (opdP tx n F) y).1 44 = true then ((arlP tx n (exP tx n (opdP tx n F)) f (nxR tx n (exP tx n (opdP tx n F) y).1)).1, tap (exP tx n (opdP tx n F) y).2 (arlP tx n (exP tx n (opdP tx n F)) f (nxR tx n (exP tx n (opdP tx n F) y).1)).2) else exP tx n (opdP tx n F) y := rfl
      rw [eN] at hh
      refine v_M_call_32 _ _ _ ⟨fun c => absurd c (by decide), fun _ => hE (d - 1) τ _ s1 op a b b' p _ (by omega) (hI.ex hS.invs hmo) hop hT hab hb (by omega) hb' hm2 (fun σ3 hσ3 => ?_)⟩
      obtain ⟨s3, hS3, f3⟩ := hσ3.m
      have f5 := Fst.cat hp.1 hf f3 (fun o => MO.o MO.exp' o)
      refine rm_isS (by omega) hS3 ⟨fun r => ?_, fun r => ?_⟩
      · have r' := b2_0.mp r
        rw [if_neg (by rw [r']; decide)] at hh
        rw [r']
        exact stop _ σ3 s3 _ (hmo.trans MO.exp') hS3 f5 hh
      · have r' := b2_n0.mp r
        rw [if_pos r'] at hh
        rw [r']
        refine rm_next (a' := a) (by omega) (hS3.okb (b' := b) (isS_o r')) hab (fun q e => ⟨by omega, fun _ => Nat.le_refl _⟩) (fun σ5 hS5 => ?_)
        by_cases ho : isO (nxR tx n (exP tx n (opdP tx n F) y).1) = true
        · refine ih _ σ5 _ _ (nx_fuel (isK_0 (isS_k r').1 (by decide)).1 hS3.invs (mo_fuel MO.exp' hT.invs hfu)) ho ((hmo.trans MO.exp').trans MO.nx) hS5 (f5.weak (fun o => MO.o MO.nx o)) (fun σ' hσ' => hh σ' (by rw [tap_assoc] at hσ'; exact hσ'))
        · obtain ⟨e, he⟩ : ∃ e, nxR tx n (exP tx n (opdP tx n F) y).1 = .error e := by
            cases hq : nxR tx n (exP tx n (opdP tx n F) y).1 with
            | ok q => rw [hq] at ho; exact absurd rfl ho
            | error e => exact ⟨e, rfl⟩
          rw [he] at hS5 hh
          have hx0 : ∀ e, exP tx n (opdP tx n F) (.error e) = (.error e, .leaf) := fun e => rfl
          rw [arl_err hx0] at hh
          -- more is still true: the expression does nothing
          refine v_M_call_32 _ _ _ ⟨fun c => absurd c (by decide), fun _ => hE (d - 1) σ5 _ s3 op a b b' p _ (by omega) (fun q hq => by cases hq) hop hS5 hab hb (by omega) hb' (f3.liv hm2 hm2.1) (fun σ6 hσ6 => ?_)⟩
          obtain ⟨s6, hS6, f6⟩ := hσ6.m
          rw [hx0] at hS6 f6
          have f7 : Fst s p (isO (.error e)) (tap t (tap (exP tx n (opdP tx n F) y).2 .leaf)) s6 := (Fst.cat (o1 := false) hp.1 (f5.weak (o' := false) (fun o => absurd o (by decide))) (f6.weak (o' := false) (fun o => absurd o (by decide))) (fun o => o) : Fst s p false _ s6).any rfl
          refine rm_isS (by omega) hS6 ⟨fun r => ?_, fun r => absurd rfl r⟩
          exact stop (.error e) σ6 s6 _ (((hmo.trans MO.exp').trans MO.nx).trans ⟨fun e' h' => by rw [he] at h'; exact h', fun s q h' hq => by cases hq⟩) hS6 f7 hh
  rw [hS2.flt]
  refine ⟨fun c => ?_, fun c => rm_isS (by omega) hS2 ⟨fun r => ?_, fun r => ?_⟩⟩
  · obtain ⟨e, he⟩ : ∃ e, nxR tx n (opR x) = .error e := by
      cases hq : nxR tx n (opR x) with
      | ok q => rw [hq] at c; exact absurd rfl c
      | error e => exact ⟨e, rfl⟩
    have hmo : MO n (opR x) (nxR tx n (opR x)) := MO.nx
    rw [he] at hS2 h hmo
    have hx0 : ∀ e, exP tx n (opdP tx n F) (.error e) = (.error e, .leaf) := fun e => rfl
    rw [if_neg (show ¬ isS (.error e) 41 = true from fun q => absurd q (show ¬ false = true by decide)), arl_err hx0] at h
    exact stop (.error e) σ2 s .leaf hmo (hS2.weak (Nat.le_refl _) hb) Fst.nil h
  · have r' := b2_n0.mp r
    rw [if_pos r'] at h
    exact stop _ σ2 s .leaf MO.nx (hS2.weak (Nat.le_refl _) hb) Fst.nil h
  · have r' := b2_0.mp r
    rw [if_neg (by rw [r']; decide)] at h
    exact loop (n + 1) _ σ2 s .leaf (fun q _ => by omega) c MO.nx hS2 Fst.nil h
/-- an operand's node is kept -/
theorem rm_keepE {Q : Sg → Prop} {z : RS} {s2 : NS} {c : Nat} {t : Tr} (hd : 1 ≤ d) (hS : StM tx n σ0 σ z s2 op a b') (hl : op.length ≤ 150) (hE : Exn s c (isO z) t s2) (ho : isO z = true → ∀ c, c ∈ op.map (fun q => q.1) → c < s.1) (h : ∀ σ', PoK tx n σ0 s op (z, t) a b' σ' → Q σ') : OkV w d m_M_keep [vR 81, vI (nI c)] σ Q := by
  refine rm_keep hd hS (by omega) rfl (fun o => ⟨hE.2.1, hE.2.2.2.1, fun q => by have := ho o c q; have := hE.1; omega⟩) (fun σ' g hσ' _ => h σ' ⟨s2, _, hσ', hE.le, hE.2.2.1, by simp, by simp, fun o => ⟨c, g, rfl, ?_⟩⟩)
  exact hE.weak (fun _ => o)
theorem StM.pop {q : Kp} (hS : StM tx n σ0 σ x s (op ++ [q]) a b) : StM tx n σ0 (wI σ 81 25 (nI op.length)) x s op a b := by
  have := hS.re (τ := wI σ 81 25 (nI op.length)) (s' := s) (op' := op) (j := 0) (Fr.rfl'.wI rfl) (fun k i hk => by rw [wI_1, if_neg (by omega)]) (hS.2.2.2.1.cong (fun i hi j _ => by rw [wI_1, if_neg (by omega)])) (by rw [wI_1, if_neg (by omega)]; exact hS.2.2.2.2.1) (by simp [wI_1]) (fun o => ?_) (Nat.le_refl _)
  · exact this
  · obtain ⟨k1, k2, k3⟩ := hS.2.2.2.2.2.2.1 o
    rw [List.map_append, List.nodup_append] at k3
    refine ⟨fun i hi => ?_, fun c hc => k2 c (by rw [List.map_append, List.mem_append]; exact Or.inl hc), k3.1⟩
    have := k1 i (by rw [List.length_append]; omega)
    have e : (op ++ [q]).getD i (0, 0, 0) = op.getD i (0, 0, 0) := by rw [List.getD_eq_getElem?_getD, List.getElem?_append_left hi, ← List.getD_eq_getElem?_getD]
    rw [e] at this
    rw [wI_1, if_neg (by omega), wI_1, if_neg (by omega), wI_1, if_neg (by omega)]
    exact this
end

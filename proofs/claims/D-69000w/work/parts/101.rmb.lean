/-! 101: the reference's reader: what may come, nodes -/
section
variable {w : Wd} {d n : Nat} {tx : Nat → Int32} {σ0 σ : Sg} {x : RS} {s : NS} {op : List Kp} {a b : Nat}
theorem rm_wrong {Q : Sg → Prop} (hd : 2 ≤ d) (hS : StM tx n σ0 σ x s op a b) (hab : a ≤ b) (h : ∀ σ', StM tx n σ0 σ' (flR 6 x) s op a b → Q σ') : OkV w d m_M_wrong [vR 81] σ Q :=
  v_M_wrong _ (by omega) (rm_fail (by omega) hS hab (by decide) (fun o => hS.fro o) (fun σ' _ h' => h σ' h'))
theorem rm_want {Q : Sg → Prop} {c : Bool} {y : Int32} {a' : Nat} (hd : 11 ≤ d) (hS : StM tx n σ0 σ x s op a b) (hab : a ≤ b) (ha : a ≤ a' + 4) (hy : isO x = true → y = b2 c) (hk : c = true → isK x 0 = false) (h : ∀ σ', StM tx n σ0 σ' (wtR tx n c x) s op a' b → Q σ') : OkV w d m_M_want [vR 81, vI y] σ Q := by
  refine v_M_want _ _ (by omega) ?_
  rw [hS.flt]
  cases x with
  | error e =>
    refine ⟨fun _ => h σ ?_, fun o => absurd o (show ¬ false = true by decide)⟩
    have : wtR tx n c (.error e) = .error e := by unfold wtR; split <;> rfl
    rw [this]
    exact hS.erra rfl
  | ok q =>
    have hy := hy rfl
    subst hy
    refine ⟨fun o => absurd rfl o, fun _ => ⟨fun r => ?_, fun r => ?_⟩⟩
    · have r := b2_0.mp r
      subst r
      exact rm_wrong (by omega) hS hab (fun σ' h' => h σ' (h'.erra rfl))
    · have r := b2_n0.mp r
      subst r
      exact rm_next (by omega) hS hab (fun q' e => ⟨ha, fun k0 => by cases e; exact absurd k0 (of_decide_eq_false (hk rfl))⟩) h
theorem rm_word {Q : Sg → Prop} {k : Int32} {a' : Nat} (hd : 12 ≤ d) (hS : StM tx n σ0 σ x s op a b) (hab : a ≤ b) (ha : a ≤ a' + 4) (h : ∀ σ', StM tx n σ0 σ' (wtR tx n (isW x k) x) s op a' b → Q σ') : OkV w d m_M_wantWord [vR 81, vI k] σ Q :=
  v_M_wantWord _ _ (by omega) (rm_isW (by omega) hS (rm_want (by omega) hS hab ha (fun _ => rfl) (fun c => (isK_0 (isW_k c).1 (by decide)).1) h))
theorem rm_sign {Q : Sg → Prop} {k : Int32} {a' : Nat} (hd : 12 ≤ d) (hS : StM tx n σ0 σ x s op a b) (hab : a ≤ b) (ha : a ≤ a' + 4) (h : ∀ σ', StM tx n σ0 σ' (wtR tx n (isS x k) x) s op a' b → Q σ') : OkV w d m_M_wantSign [vR 81, vI k] σ Q :=
  v_M_wantSign _ _ (by omega) (rm_isS (by omega) hS (rm_want (by omega) hS hab ha (fun _ => rfl) (fun c => (isK_0 (isS_k c).1 (by decide)).1) h))
/-- a kind that must come -/
theorem rm_wantK {K : Sg → Prop} {k : Int32} {a' : Nat} (hd : 11 ≤ d) (hk : k ≠ 0) (hS : StM tx n σ0 σ x s op a b) (hab : a ≤ b) (ha : a ≤ a' + 4) (h : ∀ σ', StM tx n σ0 σ' (wtR tx n (isK x k) x) s op a' b → K σ') : (¬ (σ.1 81 6) = k → OkV w d m_M_want [vR 81, vI 0] σ (fun s1 => K s1)) ∧ ((σ.1 81 6) = k → OkV w d m_M_want [vR 81, vI 1] σ (fun s1 => K s1)) := by
  refine ⟨fun c => rm_want hd hS hab ha (fun o => ?_) (fun c => (isK_0 c hk).1) h, fun c => rm_want hd hS hab ha (fun o => ?_) (fun c => (isK_0 c hk).1) h⟩
  · have : isK x k = false := by
      rw [Bool.eq_false_iff]
      exact fun q => c ((hS.knd o).mpr q)
    rw [this]; rfl
  · rw [(hS.knd o).mp c]; rfl
theorem rm_name {Q : Int32 → Sg → Prop} {a' : Nat} (hd : 12 ≤ d) (hS : StM tx n σ0 σ x s op a b) (hab : a ≤ b) (ha : a ≤ a' + 4) (h : ∀ σ' v, (isK x 1 = true → v = vaI x) → StM tx n σ0 σ' (wtR tx n (isK x 1) x) s op a' b → Q v σ') : OkI w d m_M_name [vR 81] σ Q :=
  v_M_name _ (by omega) (rm_wantK (K := fun s1 => Q (σ.1 81 9) s1) (by omega) (by decide) hS hab ha (fun σ' hσ' => h σ' _ (fun q => hS.val q (by decide)) hσ'))
/-- depth and nesting told anew -/
theorem StM.dn {τ : Sg} {y : RS} (h : StM tx n σ0 σ x s op a b) (hF : Fr mrF σ τ) (g : ∀ k j, ¬ (k = 81 ∧ (j = 12 ∨ j = 13)) → τ.1 k j = σ.1 k j) (hy : ∀ e, x = .error e → y = x) (hy' : ∀ q, x = .ok q → ∃ k m, y = .ok (sDS q k m) ∧ τ.1 81 12 = nI k ∧ τ.1 81 13 = nI m ∧ k ≤ 60) : StM tx n σ0 τ y s op a b := by
  obtain ⟨g1, g2, g3, g4, g5, g6, g7, g9⟩ := h
  have cg : ∀ {N}, NmM σ N → NmM τ N := fun h => h.cg (g 81 3 (by omega)) (fun j => g 83 j (by omega)) (fun j => g 84 j (by omega))
  refine ⟨g1.trans hF, ⟨g2.1, by rw [g 81 1 (by omega)]; exact g2.2.1, fun i hi => by rw [g 82 i (by omega)]; exact g2.2.2 i hi⟩, g3, g4.cong (fun i hi j _ => g _ _ (by omega)), by rw [g 81 14 (by omega)]; exact g5, by rw [g 81 25 (by omega)]; exact g6, fun o => ?_, ?_⟩
  · have ox : isO x = true := by
      cases x with
      | ok q => rfl
      | error e => rw [hy e rfl] at o; exact o
    obtain ⟨k1, k2⟩ := g7 ox
    exact ⟨fun i hi => by rw [g 94 i (by omega), g 95 i (by omega), g 96 i (by omega)]; exact k1 i hi, k2⟩
  · cases x with
    | error e =>
      rw [hy e rfl]
      obtain ⟨i1, i2, i3, i4, ⟨c, c1, c2⟩, N, n1, n2⟩ := g9
      exact ⟨by rw [g 81 10 (by omega)]; exact i1, i2, by rw [g 81 11 (by omega)]; exact i3, i4, ⟨c, c1, by rw [g 81 8 (by omega)]; exact c2⟩, N, cg n1, n2⟩
    | ok q =>
      obtain ⟨k, m, e1, e2, e3, e4⟩ := hy' q rfl
      subst e1
      obtain ⟨i1, i2, i3, i4, i5, i6, i7, i8, i9, i10, i11⟩ := g9
      obtain ⟨j1, j2, j3, j4, j5, j6, j7⟩ := i10
      exact ⟨by rw [g 81 10 (by omega)]; exact i1, by rw [g 81 7 (by omega)]; exact i2, by rw [g 81 6 (by omega)]; exact i3, fun r => by rw [g 81 9 (by omega)]; exact i4 r, by rw [g 81 8 (by omega)]; exact i5, cg i6, i7, e2, e3, ⟨j1, j2, j3, j4, j5, j6, e4⟩, i11⟩
theorem StM.close (h : StM tx n σ0 σ x s op a b) (hd : ∀ q, x = .ok q → 1 ≤ sD q) : StM tx n σ0 (wI σ 81 12 (σ.1 81 12 - 1)) (clR x) s op a b := by
  refine h.dn (Fr.rfl'.wI rfl) (fun k j hk => by rw [wI_1, if_neg (by omega)]) (fun e he => by rw [he]; rfl) (fun q hq => ?_)
  have := hd q hq
  subst hq
  have h9 := h.2.2.2.2.2.2.2
  obtain ⟨i1, i2, i3, i4, i5, i6, i7, i8, i9, i10, i11⟩ := h9
  refine ⟨sD q - 1, sS q, rfl, ?_, by rw [wI_1, if_neg (by omega)]; exact i9, by have := i10.2.2.2.2.2.2; omega⟩
  rw [wI_1, if_pos ⟨rfl, rfl⟩, i8]
  have e : nI (sD q) = nI (sD q - 1 + 1) := by congr 1; omega
  rw [e, nI_pred]
theorem rm_open {Q : Sg → Prop} (hd : 2 ≤ d) (hS : StM tx n σ0 σ x s op a b) (hab : a ≤ b) (h : ∀ σ', StM tx n σ0 σ' (opR x) s op a b → Q σ') : OkV w d m_M_open [vR 81] σ Q := by
  refine v_M_open _ (by omega) ?_
  rw [hS.flt]
  cases x with
  | error e => exact ⟨fun _ => h _ (hS.dn (Fr.rfl'.wI rfl) (fun k j hk => by rw [wI_1, if_neg (by omega)]) (fun _ _ => rfl) (fun q hq => by cases hq)), fun o => absurd o (show ¬ false = true by decide)⟩
  | ok q =>
    have h9 := hS.2.2.2.2.2.2.2
    obtain ⟨i1, i2, i3, i4, i5, i6, i7, i8, i9, i10, i11⟩ := h9
    have hd60 := i10.2.2.2.2.2.2
    refine ⟨fun o => absurd rfl o, fun _ => ?_⟩
    rw [i8]
    have z : (60 : Int32) = nI 60 := rfl
    rw [z, nI_eq (by omega) (by decide), nI_1]
    unfold opR at h
    dsimp only at h
    refine ⟨fun r => ?_, fun r => ?_⟩
    · rw [if_neg r] at h
      refine h _ (hS.dn (Fr.rfl'.wI rfl) (fun k j hk => by rw [wI_1, if_neg (by omega)]) (fun e he => by cases he) (fun q' hq => ?_))
      cases hq
      exact ⟨sD q + 1, sS q, rfl, by rw [wI_1, if_pos ⟨rfl, rfl⟩], by rw [wI_1, if_neg (by omega)]; exact i9, by omega⟩
    · rw [if_pos r] at h
      refine rm_fail (by omega) hS hab (by decide) (fun _ => i2) (fun σ1 _ hS1 => h _ ?_)
      exact hS1.dn (Fr.rfl'.wI rfl) (fun k j hk => by rw [wI_1, if_neg (by omega)]) (fun _ _ => rfl) (fun q hq => by cases hq)
theorem OrM.add {k p v : Int32} (h : OrM s op) : OrM (addN s k p v) op := ⟨fun c hc => ⟨Nat.lt_succ_of_lt (h.1 c hc).1, by rw [addN_lt (h.1 c hc).1]; exact (h.1 c hc).2⟩, h.2⟩
theorem rm_node {Q : Int32 → Sg → Prop} {k p v : Int32} (hd : 1 ≤ d) (hS : StM tx n σ0 σ x s op a b) (hab : a ≤ b) (hb : b < 33500) (h : ∀ σ', StM tx n σ0 σ' x (addN s k p v) op (a + 1) (b + 1) → Q (nI s.1) σ') : OkI w d m_M_node [vR 81, vI k, vI p, vI v] σ Q := by
  have hm := hS.many hab
  have hS' := hS
  obtain ⟨g1, g2, g3, g4, g5, g6, g7, g9⟩ := hS
  refine v_M_node _ _ _ _ hd ?_
  rw [g5, nI_clamp (by omega), nI_1]
  have hin : vp_in (nI s.1) 33500 := vp_in_nI (by omega) (by omega)
  refine ⟨hin, hin, hin, hin, hin, hin, hin, h _ ?_⟩
  refine hS'.re ((((((((Fr.rfl'.wI rfl).wI rfl).wI rfl).wI rfl).wI rfl).wI rfl).wI rfl).wI rfl) (fun k i hk => ?_) ?_ (by simp [wI_1]; rfl) (by simp [wI_1, g6]) (fun o => ?_) (Nat.le_refl _)
  · simp only [wI_1]
    rw [if_neg (by omega), if_neg (by omega), if_neg (by omega), if_neg (by omega), if_neg (by omega), if_neg (by omega), if_neg (by omega), if_neg (by omega)]
  · refine g4.add (by omega) (by simp [wI_1]) (by simp [wI_1]) (by simp [wI_1]) (by simp [wI_1]) (by simp [wI_1]) (by simp [wI_1]) (by simp [wI_1]) (fun i hi j hj => ?_)
    simp only [wI_1]
    rw [if_neg (by omega), if_neg (by omega), if_neg (by omega), if_neg (by omega), if_neg (by omega), if_neg (by omega), if_neg (by omega), if_neg (by omega)]
  · obtain ⟨k1, k2⟩ := g7 o
    exact ⟨fun i hi => by simp [wI_1]; exact k1 i hi, k2.add⟩
theorem hdI_ge {l : List Nat} (h : ∀ c, c ∈ l → c < 2 ^ 31) : 0 ≤ hdI l ↔ l ≠ [] := by
  cases l with
  | nil => exact ⟨fun q => absurd q (show ¬ (0 : Int32) ≤ -1 by decide), fun q => absurd rfl q⟩
  | cons c l => exact ⟨fun _ => by simp, fun _ => Int32.not_lt.mp (nI_pos (h c (by simp)))⟩
theorem rm_hang {Q : Sg → Prop} {p c : Nat} {x1 x2 : Int32} (hd : 1 ≤ d) (hS : StM tx n σ0 σ x s op a b) (hab : a ≤ b) (hb : b ≤ 33500) (h1 : x1 = nI p) (h2 : x2 = nI c) (hp : Liv s p) (hc : c < s.1) (hpc : p ≠ c) (hco : rp (s.2 c) = -1) (hop : isO x = true → c ∉ op.map (fun q => q.1)) (h : ∀ σ', StM tx n σ0 σ' x (putN s p c) op a b → Q σ') : OkV w d m_M_hang [vR 81, vI x2, vI x1] σ Q := by
  subst h1 h2
  have hm := hS.many hab
  have hS' := hS
  obtain ⟨g1, g2, g3, g4, g5, g6, g7, g9⟩ := hS
  have hpl := hp.2
  have hp := hp.1
  refine v_M_hang _ _ _ hd ?_
  rw [nI_clamp (by omega), nI_clamp (by omega)]
  obtain ⟨p0, p1, p2, p3, p4, p5, p6, p7, p8, p9⟩ := g4 p hp hpl
  have hinp : vp_in (nI p) 33500 := vp_in_nI (by omega) (by omega)
  have hinc : vp_in (nI c) 33500 := vp_in_nI (by omega) (by omega)
  have e89 : σ.1 89 p = hdI (rc (s.2 p)) := p4
  have e90 : σ.1 90 p = laI (rc (s.2 p)) := p5
  have hge : 0 ≤ hdI (rc (s.2 p)) ↔ rc (s.2 p) ≠ [] := hdI_ge (fun e he => by have := (p8 e he).1; omega)
  rw [e89, e90, hge]
  have fin : ∀ τ, Fr mrF σ τ → (∀ k j, ¬ (k = 88 ∨ k = 89 ∨ k = 90 ∨ k = 91) → τ.1 k j = σ.1 k j) → NM τ 85 (putN s p c) → Q τ := by
    intro τ f1 f2 f3
    have := hS'.re (τ := τ) (s' := putN s p c) (op' := op) (j := 0) f1 (fun k i hk => f2 k i (by omega)) f3 (by rw [f2 81 14 (by omega)]; exact g5) (by rw [f2 81 25 (by omega)]; exact g6) (fun o => ?_) (Nat.le_refl _)
    · exact h τ this
    · obtain ⟨k1, k2⟩ := g7 o
      refine ⟨fun i hi => by rw [f2 94 i (by omega), f2 95 i (by omega), f2 96 i (by omega)]; exact k1 i hi, fun e he => ⟨(k2.1 e he).1, ?_⟩, k2.2⟩
      rw [putN_rp (by intro q; exact hop o (q ▸ he))]; exact (k2.1 e he).2
  refine ⟨hinp, fun hne => ⟨hinp, ?_, hinp, hinc, ?_⟩, fun he => ⟨hinp, hinp, hinc, ?_⟩⟩
  · obtain ⟨l, hl, el⟩ := laI_mem hne
    have := (p8 l hl).1
    rw [el]; exact vp_in_nI (by omega) (by omega)
  · obtain ⟨l, hl, el⟩ := laI_mem hne
    have hlm := (p8 l hl).1
    rw [el, nI_clamp (by omega)]
    refine fin _ (((Fr.rfl'.wI rfl).wI rfl).wI rfl) (fun k j hk => by simp only [wI_1]; rw [if_neg (by omega), if_neg (by omega), if_neg (by omega)]) ?_
    have hiff : ∀ e, e < s.1 → (nI e = laI (rc (s.2 p)) ↔ e = l) := fun e he => by rw [el]; exact nI_eq (by omega) (by omega)
    refine g4.put (by omega) hp hc hpc hpl hco (by simp [wI_1]) (by simp [wI_1, hne]; exact e89) (by simp [wI_1]) (fun e he hes => ?_) (fun j _ => by simp [wI_1]) (fun j _ => by simp [wI_1]) (fun j _ => by simp [wI_1]) (fun j _ hj => by simp [wI_1, hj]) (fun j _ hj => by simp [wI_1, hj]) (fun j _ hj => by simp [wI_1, hj]) (fun e hes he => ?_)
    · rw [(hiff e hes).mp he]; simp [wI_1]
    · have : ¬ e = l := fun q => he ((hiff e hes).mpr q)
      simp [wI_1, this]
  · have he := Classical.not_not.mp he
    refine fin _ (((Fr.rfl'.wI rfl).wI rfl).wI rfl) (fun k j hk => by simp only [wI_1]; rw [if_neg (by omega), if_neg (by omega), if_neg (by omega)]) ?_
    refine g4.put (by omega) hp hc hpc hpl hco (by simp [wI_1]) (by simp [wI_1, he]) (by simp [wI_1]) (fun e hq hes => ?_) (fun j _ => by simp [wI_1]) (fun j _ => by simp [wI_1]) (fun j _ => by simp [wI_1]) (fun j _ hj => by simp [wI_1, hj]) (fun j _ hj => by simp [wI_1, hj]) (fun j _ hj => by simp [wI_1, hj]) (fun e hes hq => by simp [wI_1])
    rw [he] at hq
    exact absurd hq (nI_nm1 (by omega))
theorem StM.opl (hS : StM tx n σ0 σ x s op a b) (o : isO x = true) : ∀ c, c ∈ op.map (fun q => q.1) → c < s.1 := fun c hc => ((hS.2.2.2.2.2.2.1 o).2.1 c hc).1
/-- a new node below p -/
theorem rm_add {Q : Int32 → Sg → Prop} {k pl v : Int32} {p : Nat} {x1 : Int32} (hd : 2 ≤ d) (hS : StM tx n σ0 σ x s op a b) (hab : a ≤ b) (hb : b < 33500) (h1 : x1 = nI p) (hp : Liv s p) (h : ∀ σ', StM tx n σ0 σ' x (putN (addN s k pl v) p s.1) op (a + 1) (b + 1) → Q (nI s.1) σ') : OkI w d m_M_add [vR 81, vI x1, vI k, vI pl, vI v] σ Q := by
  refine v_M_add _ _ _ _ _ (by omega) (rm_node (by omega) hS hab hb (fun σ1 hS1 => ?_))
  exact rm_hang (by omega) hS1 (by omega) (by omega) h1 rfl ⟨Nat.lt_succ_of_lt hp.1, by rw [addN_lt hp.1]; exact hp.2⟩ (Nat.lt_succ_self _) (by have := hp.1; omega) (by rw [addN_top]; rfl) (fun o r => by have := hS.opl o _ r; omega) (fun σ2 hS2 => h σ2 hS2)
theorem StM.set {τ : Sg} {m : Nat} {q : Nd} (hS : StM tx n σ0 σ x s op a b) (hm : m < s.1) (hF : Fr mrF σ τ) (h0 : τ.1 85 m = q.1) (h1 : τ.1 86 m = q.2.1) (h2 : τ.1 87 m = q.2.2) (g : ∀ k j, ¬ ((k = 86 ∨ k = 87) ∧ j = m) → τ.1 k j = σ.1 k j) : StM tx n σ0 τ x (setN s m q) op a b := by
  have g4 := hS.2.2.2.1
  have := hS.re (τ := τ) (s' := setN s m q) (op' := op) (j := 0) hF (fun k i hk => g k i (by omega)) (g4.set hm h0 h1 h2 (fun j _ hj => g _ _ (by omega)) (fun j _ hj => g _ _ (by omega)) (fun j _ hj => g _ _ (by omega)) (fun i h3 h6 j _ => g _ _ (by omega))) (by rw [g 81 14 (by omega)]; exact hS.2.2.2.2.1) (by rw [g 81 25 (by omega)]; exact hS.2.2.2.2.2.1) (fun o => ?_) (Nat.le_refl _)
  · exact this
  · obtain ⟨k1, k2⟩ := hS.2.2.2.2.2.2.1 o
    exact ⟨fun i hi => by rw [g 94 i (by omega), g 95 i (by omega), g 96 i (by omega)]; exact k1 i hi, fun e he => ⟨(k2.1 e he).1, by rw [setN_rp]; exact (k2.1 e he).2⟩, k2.2⟩
theorem StM.setV {m : Nat} {k p v u : Int32} (hS : StM tx n σ0 σ x s op a b) (hm : Liv s m) (hk : rk (s.2 m) = (k, p, u)) : StM tx n σ0 (wI σ 87 m v) x (setN s m (k, p, v)) op a b := by
  obtain ⟨p0, p1, p2, p3, p4, p5, p6, p7, p8, p9⟩ := hS.2.2.2.1 m hm.1 hm.2
  unfold rk at hk
  simp only [Prod.mk.injEq] at hk
  refine hS.set hm.1 (Fr.rfl'.wI rfl) ?_ ?_ ?_ (fun k j h => ?_)
  · rw [wI_1, if_neg (by omega)]; exact p0.trans hk.1
  · rw [wI_1, if_neg (by omega)]; exact p1.trans hk.2.1
  · rw [wI_1, if_pos ⟨rfl, rfl⟩]
  · rw [wI_1, if_neg (by omega)]
theorem StM.setP {m : Nat} {k p v u : Int32} (hS : StM tx n σ0 σ x s op a b) (hm : Liv s m) (hk : rk (s.2 m) = (k, u, v)) : StM tx n σ0 (wI σ 86 m p) x (setN s m (k, p, v)) op a b := by
  obtain ⟨p0, p1, p2, p3, p4, p5, p6, p7, p8, p9⟩ := hS.2.2.2.1 m hm.1 hm.2
  unfold rk at hk
  simp only [Prod.mk.injEq] at hk
  refine hS.set hm.1 (Fr.rfl'.wI rfl) ?_ ?_ ?_ (fun k j h => ?_)
  · rw [wI_1, if_neg (by omega)]; exact p0.trans hk.1
  · rw [wI_1, if_pos ⟨rfl, rfl⟩]
  · rw [wI_1, if_neg (by omega)]; exact p2.trans hk.2.2
  · rw [wI_1, if_neg (by omega)]
/-- what a method leaves that puts nodes below p -/
def PoM (tx : Nat → Int32) (n : Nat) (σ0 : Sg) (s : NS) (op : List Kp) (p : Nat) (r : RS × Tr) (a b : Nat) (σ' : Sg) : Prop := ∃ s', StM tx n σ0 σ' r.1 s' op a b ∧ Fst s p (isO r.1) r.2 s'
theorem PoM.nil {p : Nat} {y : RS} {a' : Nat} (hS : StM tx n σ0 σ y s op a' b) : PoM tx n σ0 s op p (y, .leaf) a' b σ := ⟨s, hS, Fst.nil⟩
end

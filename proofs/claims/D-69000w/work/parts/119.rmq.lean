/-! 119: the reference numbers its nodes, and reads a text -/
theorem PoT_cong {σ τ : Sg} {B : Nat} {ν : Nat → Nat} (h : ∀ i, i ≤ 6 → ∀ j, τ.1 (B + i) j = σ.1 (B + i) j) : ∀ (t : Tr) (k : Nat) (p : Int32), PoT σ B ν t k p → PoT τ B ν t k p := by
  intro t
  induction t with
  | leaf => intro k p _; trivial
  | inner z q v l r ihl ihr =>
    intro k p ⟨h0, h1, h2, h3, h4, h6, hl, hr⟩
    exact ⟨(h 0 (by omega) _).trans h0, (h 1 (by omega) _).trans h1, (h 2 (by omega) _).trans h2, (h 3 (by omega) _).trans h3, (h 4 (by omega) _).trans h4, (h 6 (by omega) _).trans h6, ihl _ _ hl, ihr _ _ hr⟩
/-- the last of those below -/
def laT (ν : Nat → Nat) : Tr → Nat → Int32
  | .leaf, _ => -1
  | .inner _ _ _ l r, k => match r with
    | .leaf => nI (ν k)
    | .inner a b c x y => laT ν (.inner a b c x y) (k + 1 + sz l)
def LaT (σ : Sg) (B : Nat) (ν : Nat → Nat) : Tr → Nat → Prop
  | .leaf, _ => True
  | .inner _ _ _ l r, k => σ.1 (B + 5) (ν k) = laT ν l (k + 1) ∧ LaT σ B ν l (k + 1) ∧ LaT σ B ν r (k + 1 + sz l)
theorem LaT_cong {σ τ : Sg} {B : Nat} {ν : Nat → Nat} (h : ∀ j, τ.1 (B + 5) j = σ.1 (B + 5) j) : ∀ (t : Tr) (k : Nat), LaT σ B ν t k → LaT τ B ν t k := by
  intro t
  induction t with
  | leaf => intro k _; trivial
  | inner z q v l r ihl ihr =>
    intro k ⟨h5, hl, hr⟩
    exact ⟨(h _).trans h5, ihl _ hl, ihr _ hr⟩
theorem laI_of {f : Nat → Rc} {lo hi : Nat} {ν : Nat → Nat} : ∀ {t : Tr} {L : List Nat} (k : Nat), FoN f lo hi t L → (∀ i, i < sz t → ν (k + i) = (prL f t L).getD i 0) → laI L = laT ν t k := by
  intro t
  induction t with
  | leaf => intro L k h _; have h : L = [] := h; subst h; rfl
  | inner z q v l r ihl ihr =>
    rintro L k ⟨c, cs, e, a, b, eq, fl, fr⟩ hν
    subst e
    have ll := prL_len fl
    cases r with
    | leaf =>
      have fr : cs = [] := fr
      subst fr
      have := hν 0 (by simp only [sz]; omega)
      rw [Nat.add_zero] at this
      show nI c = nI (ν k)
      rw [this]; rfl
    | inner z1 q1 v1 l1 r1 =>
      have e2 : cs ≠ [] := by
        obtain ⟨d, ds, e1, _⟩ := fr
        rw [e1]; simp
      have e3 : laI (c :: cs) = laI cs := by
        cases cs with
        | nil => exact absurd rfl e2
        | cons d ds => rfl
      rw [e3]
      refine ihr (k + 1 + sz l) fr (fun i hi => ?_)
      have := hν (1 + (sz l + i)) (by simp only [sz] at hi ⊢; omega)
      rw [show k + 1 + sz l + i = k + (1 + (sz l + i)) by omega, this]
      simp only [prL]
      rw [Nat.add_comm 1 (sz l + i), List.getD_cons_succ, List.getD_eq_getElem?_getD, List.getD_eq_getElem?_getD, List.getElem?_append_right (by omega), ll]
      congr 2; omega
theorem LaT_of {σ : Sg} {B : Nat} {s : NS} (hN : NM σ B s) {lo hi : Nat} (hhi : hi ≤ s.1) (hs : s.1 < 2 ^ 30) {ν : Nat → Nat} : ∀ {t : Tr} {L : List Nat} (k : Nat) (p : Int32), FoN s.2 lo hi t L → p ≠ -2 → (∀ c, c ∈ L → rp (s.2 c) = p) → (∀ i, i < sz t → ν (k + i) = (prL s.2 t L).getD i 0) → LaT σ B ν t k := by
  intro t
  induction t with
  | leaf => intro L k p _ _ _ _; trivial
  | inner z q v l r ihl ihr =>
    rintro L k p ⟨c, cs, e, a, b, eq, fl, fr⟩ hp hL hν
    subst e
    have hc := hL c List.mem_cons_self
    obtain ⟨p0, p1, p2, p3, p4, p5, p6, p7, p8, p9⟩ := hN c (by omega) (by rw [hc]; exact hp)
    have ν0 : ν k = c := by
      have := hν 0 (by simp only [sz]; omega)
      rw [Nat.add_zero] at this
      rw [this]; rfl
    have ll := prL_len fl
    have νl : ∀ i, i < sz l → ν (k + 1 + i) = (prL s.2 l (rc (s.2 c))).getD i 0 := by
      intro i hi
      have := hν (1 + i) (by simp only [sz]; omega)
      rw [show k + 1 + i = k + (1 + i) by omega, this]
      simp only [prL]
      rw [Nat.add_comm 1 i, List.getD_cons_succ, List.getD_eq_getElem?_getD, List.getD_eq_getElem?_getD, List.getElem?_append_left (by omega)]
    have νr : ∀ i, i < sz r → ν (k + 1 + sz l + i) = (prL s.2 r cs).getD i 0 := by
      intro i hi
      have := hν (1 + (sz l + i)) (by simp only [sz]; omega)
      rw [show k + 1 + sz l + i = k + (1 + (sz l + i)) by omega, this]
      simp only [prL]
      rw [Nat.add_comm 1 (sz l + i), List.getD_cons_succ, List.getD_eq_getElem?_getD, List.getD_eq_getElem?_getD, List.getElem?_append_right (by omega), ll]
      congr 2; omega
    exact ⟨by rw [ν0, p5]; exact laI_of (k + 1) fl νl, ihl (k + 1) _ fl (by exact nI_nm2 (by omega)) (fun y hy => (p8 y hy).2) νl, ihr (k + 1 + sz l) p fr hp (fun y hy => hL y (List.mem_cons_of_mem _ hy)) νr⟩
section
variable {w : Wd} {d n : Nat}
/-- where the walk goes on from a node whose subtree is done: to v -/
def CM (w : Wd) (d : Nat) (σ : Sg) (k v : Int32) : Prop := ∀ (Q : Sg → Prop) (x1 : Int32) (τ : Sg), (∀ j, τ.1 88 j = σ.1 88 j ∧ τ.1 91 j = σ.1 91 j) → Bk w d 0 0 m_M_number 0 0 (qv Q) 4 [oR 81, oI x1, oI v] [] τ → Bk w d 0 0 m_M_number 0 0 (qv Q) 44 [oR 81, oI x1, oI k] [] τ
theorem CM.top {σ : Sg} : CM w d σ (-1) (-1) := fun Q x1 τ _ hq => v_M_number_44 _ _ _ ⟨fun _ => ⟨fun c => absurd c (by decide), fun _ => hq⟩, fun c => absurd (by decide) c⟩
theorem CM.side {σ : Sg} {c e : Nat} (hc : c < 33500) (he : e < 33500) (h : σ.1 91 c = nI e) : CM w d σ (nI c) (nI e) := by
  intro Q x1 τ ht hq
  have hin : vp_in (nI c) 33500 := vp_in_nI hc (by omega)
  refine v_M_number_44 _ _ _ ⟨fun q => absurd q (nI_pos (by omega)), fun _ => ⟨hin, ?_⟩⟩
  rw [nI_clamp (by omega), (ht c).2, h]
  exact ⟨fun _ => ⟨fun _ => ⟨hin, hq⟩, fun q => absurd (Int32.not_lt.mp (nI_pos (by omega))) q⟩, fun q => absurd (Int32.not_lt.mp (nI_pos (by omega))) q⟩
theorem CM.above {σ : Sg} {c : Nat} {v p : Int32} (hc : c < 33500) (h : σ.1 91 c = -1) (hp : σ.1 88 c = p) (hv : CM w d σ p v) : CM w d σ (nI c) v := by
  intro Q x1 τ ht hq
  have hin : vp_in (nI c) 33500 := vp_in_nI hc (by omega)
  refine v_M_number_44 _ _ _ ⟨fun q => absurd q (nI_pos (by omega)), fun _ => ⟨hin, ?_⟩⟩
  rw [nI_clamp (by omega), (ht c).2, (ht c).1, h, hp]
  exact ⟨fun q => absurd q (by decide), fun _ => ⟨hin, hv Q x1 τ ht hq⟩⟩
def Wm (τ : Sg) (ν : Nat → Nat) (m : Nat) : Prop := ∀ i, i < m → τ.1 92 i = nI (ν i) ∧ τ.1 93 (ν i) = nI i
def nuF (k _j : Nat) : Bool := Nat.beq k 92 || Nat.beq k 93
theorem nm_walk {Q : Sg → Prop} {σ : Sg} {ν : Nat → Nat} {M : Nat} (hM : M ≤ 33500) (hν : ∀ i, i < M → ν i < 33500) (hinj : ∀ i j, i < M → j < M → ν i = ν j → i = j) : ∀ (t : Tr) (k : Nat) (p up : Int32) (τ : Sg), k + sz t ≤ M → PoT σ 85 ν t k p → Fr nuF σ τ → Wm τ ν k → CM w d σ p up →
    (∀ τ', Fr nuF σ τ' → Wm τ' ν (k + sz t) → Bk w d 0 0 m_M_number 0 0 (qv Q) 4 [oR 81, oI (nI (k + sz t)), oI up] [] τ') → t ≠ .leaf →
    Bk w d 0 0 m_M_number 0 0 (qv Q) 4 [oR 81, oI (nI k), oI (nI (ν k))] [] τ := by
  intro t
  induction t with
  | leaf => intro k p up τ _ _ _ _ _ _ h; exact absurd rfl h
  | inner z q v l r ihl ihr =>
    intro k p up τ hk hP hF hW hC hQ _
    simp only [sz] at hk
    obtain ⟨q0, q1, q2, q3, q4, q6, ql, qr⟩ := hP
    have hc : ν k < 33500 := hν k (by omega)
    have up2 : CM w d σ (nI (ν k)) (upT ν r (k + 1 + sz l) up) := by
      cases r with
      | leaf => exact CM.above hc q6 q3 hC
      | inner z1 k1 v1 l1 r1 => exact CM.side hc (hν (k + 1 + sz l) (by simp only [sz] at hk; omega)) q6
    have tail : ∀ τ', Fr nuF σ τ' → Wm τ' ν (k + 1 + sz l) → Bk w d 0 0 m_M_number 0 0 (qv Q) 4 [oR 81, oI (nI (k + 1 + sz l)), oI (upT ν r (k + 1 + sz l) up)] [] τ' := by
      intro τ' hF' hW'
      cases r with
      | leaf =>
        show Bk w d 0 0 m_M_number 0 0 (qv Q) 4 [oR 81, oI (nI (k + 1 + sz l)), oI up] [] τ'
        have e : k + sz (.inner z q v l .leaf) = k + 1 + sz l := by simp only [sz]; omega
        have := hQ τ' hF' (by rw [e]; exact hW')
        rw [e] at this
        exact this
      | inner z1 k1 v1 l1 r1 =>
        refine ihr (k + 1 + sz l) p up τ' (by omega) qr hF' hW' hC (fun τ'' f w => ?_) (by simp)
        have e : k + sz (.inner z q v l (.inner z1 k1 v1 l1 r1)) = k + 1 + sz l + sz (.inner z1 k1 v1 l1 r1) := by simp only [sz]; omega
        have := hQ τ'' f (by rw [e]; exact w)
        rw [e] at this
        exact this
    refine v_M_number_4 _ _ _ ⟨fun c => absurd c (nI_pos (by omega)), fun _ => ⟨vp_in_nI (by omega) (by omega), vp_in_nI hc (by omega), vp_in_nI hc (by omega), ?_⟩⟩
    rw [nI_clamp (n := k) (by omega), nI_clamp (n := ν k) (by omega), nI_1]
    have hF1 : Fr nuF σ (wI (wI τ 92 k (nI (ν k))) 93 (ν k) (nI k)) := (hF.wI rfl).wI rfl
    have hW1 : Wm (wI (wI τ 92 k (nI (ν k))) 93 (ν k) (nI k)) ν (k + 1) := by
      intro i hi
      simp only [wI_1]
      by_cases e : i = k
      · subst e
        simp
      · have w := hW i (by omega)
        have hn : ¬ ν i = ν k := fun r => e (hinj i k (by omega) (by omega) r)
        rw [if_neg (by omega), if_neg (by omega), if_neg (by omega), if_neg (by omega)]
        exact w
    have e89 : τ.1 89 (ν k) = hdT ν l (k + 1) := by rw [hF.1 89 _ rfl]; exact q4
    rw [e89]
    generalize wI (wI τ 92 k (nI (ν k))) 93 (ν k) (nI k) = τ1 at hF1 hW1
    have hag : ∀ j, τ1.1 88 j = σ.1 88 j ∧ τ1.1 91 j = σ.1 91 j := fun j => ⟨hF1.1 88 j rfl, hF1.1 91 j rfl⟩
    by_cases hl : l = .leaf
    · subst hl
      exact ⟨fun _ => up2 _ _ τ1 hag (tail τ1 hF1 hW1), fun c => absurd (show (-1 : Int32) < 0 by decide) c⟩
    · obtain ⟨z1, k1, v1, l1, r1, el⟩ : ∃ z1 k1 v1 l1 r1, l = .inner z1 k1 v1 l1 r1 := by
        cases l with
        | leaf => exact absurd rfl hl
        | inner z1 k1 v1 l1 r1 => exact ⟨z1, k1, v1, l1, r1, rfl⟩
      have eh : hdT ν l (k + 1) = nI (ν (k + 1)) := by rw [el]; rfl
      rw [eh]
      have hsl : 0 < sz l := by rw [el]; simp only [sz]; omega
      have hc1 : ν (k + 1) < 33500 := hν (k + 1) (by omega)
      refine ⟨fun c => absurd c (nI_pos (by omega)), fun _ => ⟨vp_in_nI hc (by omega), ?_⟩⟩
      exact ihl (k + 1) (nI (ν k)) _ τ1 (by omega) ql hF1 hW1 up2 tail hl
theorem rm_number {Q : Sg → Prop} {σ : Sg} {ν : Nat → Nat} {t : Tr} (hd : 1 ≤ d) (hM : sz t ≤ 33500) (hν : ∀ i, i < sz t → ν i < 33500) (hinj : ∀ i j, i < sz t → j < sz t → ν i = ν j → i = j) (hP : PoT σ 85 ν t 0 (-1)) (ht : t ≠ .leaf) (h0 : ν 0 = 0) (h : ∀ τ, Fr nuF σ τ → Wm τ ν (sz t) → Q τ) : OkV w d m_M_number [vR 81] σ Q := by
  refine v_M_number _ hd ?_
  have := nm_walk (w := w) (d := d) (Q := Q) hM hν hinj t 0 (-1) (-1) σ (by omega) hP Fr.rfl' (fun i hi => absurd hi (by omega)) CM.top (fun τ f m => v_M_number_4 _ _ _ ⟨fun _ => h τ f (by rw [Nat.zero_add] at m; exact m), fun c => absurd (by decide) c⟩) ht
  rw [h0] at this
  exact this
/-- what reading leaves: a fault and its place, or the tree and the names -/
def RdM (tx : Nat → Int32) (n : Nat) (σ σ' : Sg) (v : Int32) : Prop := Fr mrF σ σ' ∧ match (txtP tx n).1 with
  | .ok q => v = 0 ∧ σ'.1 81 10 = 0 ∧ σ'.1 81 22 = 1 ∧ NmM σ' (sN q) ∧ sz (txtP tx n).2 ≤ 6000 ∧ ∃ (ν : Nat → Nat) (m : Nat), σ'.1 81 14 = nI m ∧ m ≤ 32000 ∧ LaT σ' 85 ν (txtP tx n).2 0 ∧ ν 0 = 0 ∧ (∀ i, i < sz (txtP tx n).2 → ν i < m) ∧ (∀ i j, i < sz (txtP tx n).2 → j < sz (txtP tx n).2 → ν i = ν j → i = j) ∧ PoT σ' 85 ν (txtP tx n).2 0 (-1) ∧ Wm σ' ν (sz (txtP tx n).2)
  | .error e => v = e.1 ∧ 0 < e.1 ∧ σ'.1 81 10 = e.1 ∧ σ'.1 81 11 = nI e.2 ∧ σ'.1 81 22 = 0 ∧ σ'.1 81 3 = 0
section
variable {tx : Nat → Int32} {σ0 σ : Sg} {s : NS} {op : List Kp} {b : Nat}
theorem rm_next0 {Q : Sg → Prop} {q : PS} {a' : Nat} (hd : 10 ≤ d) (g1 : Fr mrF σ0 σ) (g2 : MX σ tx n) (g3 : n ≤ 1300) (g4 : NM σ 85 s) (g5 : σ.1 81 14 = nI s.1) (g6 : σ.1 81 25 = nI op.length) (g7 : SkM σ op ∧ OrM s op) (i1 : σ.1 81 10 = 0) (i5 : σ.1 81 8 = nI (sB q)) (i6 : NmM σ (sN q)) (i7 : NmK tx n (sN q)) (i8 : σ.1 81 12 = nI (sD q)) (i9 : σ.1 81 13 = nI (sS q)) (i10 : InvS n q) (hm : s.1 ≤ b) (ha : ∀ r, nxS tx n q = .ok r → s.1 + 4 * (n - sF r) ≤ a') (h : ∀ σ', StM tx n σ0 σ' (nxS tx n q) s op a' b → Q σ') : OkV w d m_M_next [vR 81] σ Q := by
  have hlen := i7.len
  refine mk_next hd g2 i6 i1 (by omega) i5 i10.2.2.1 (fun υ ⟨t1, t2, t3, t4, t5⟩ => ?_)
  have hnk := i7.lex (a := sB q) g2.1 i10.2.2.1
  have hP : ∀ k j, myF k j = true → k = 83 ∨ k = 84 ∨ (k = 81 ∧ (j = 3 ∨ (6 ≤ j ∧ j ≤ 11))) := by
    intro k j hq
    unfold myF mxF mkF mnF at hq
    simp only [Bool.or_eq_true, Bool.and_eq_true, Nat.beq_eq] at hq
    omega
  have hk : ∀ k j, ¬ (k = 83 ∨ k = 84 ∨ (k = 81 ∧ (j = 3 ∨ (6 ≤ j ∧ j ≤ 11)))) → υ.1 k j = σ.1 k j := fun k j hn => t5.1 k j (by
    cases hq : myF k j with
    | false => rfl
    | true => exact absurd (hP k j hq) hn)
  have base : ∀ y, PsM tx n υ y s.1 a' b → StM tx n σ0 υ y s op a' b := by
    intro y hy
    refine ⟨g1.trans (t5.mono (fun k j hk2 => ?_)), ⟨g2.1, by rw [hk 81 1 (by omega)]; exact g2.2.1, fun i hi => by rw [hk 82 i (by omega)]; exact g2.2.2 i hi⟩, g3, g4.cong (fun i hi j _ => hk _ _ (by omega)), by rw [hk 81 14 (by omega)]; exact g5, by rw [hk 81 25 (by omega)]; exact g6, fun o => ⟨fun i hi => ?_, g7.2⟩, hy⟩
    · cases hq : myF k j with
      | false => rfl
      | true =>
        exfalso
        rcases hP k j hq with e | e | ⟨e, e2⟩
        · subst e; exact absurd hk2 (show ¬ true = false by decide)
        · subst e; exact absurd hk2 (show ¬ true = false by decide)
        · subst e
          have : mrF 81 j = true := by
            rcases e2 with e2 | e2
            · subst e2; rfl
            · rcases (by omega : j = 6 ∨ j = 7 ∨ j = 8 ∨ j = 9 ∨ j = 10 ∨ j = 11) with r | r | r | r | r | r <;> subst r <;> rfl
          rw [this] at hk2; exact absurd hk2 (by decide)
    · rw [hk 94 i (by omega), hk 95 i (by omega), hk 96 i (by omega)]
      exact g7.1 i hi
  by_cases h0 : (lexS tx n (sB q) (sN q)).2.1.1 = 0
  · have e1 : nxS tx n q = .ok ((lexS tx n (sB q) (sN q)).1, (lexS tx n (sB q) (sN q)).2.1.2.1, (lexS tx n (sB q) (sN q)).2.1.2.2.1, (lexS tx n (sB q) (sN q)).2.1.2.2.2, (lexS tx n (sB q) (sN q)).2.2, sD q, sS q) := by unfold nxS; rw [if_pos h0]
    have o := nx_ok e1 i10
    have hA := ha _ e1
    rw [e1] at h
    obtain ⟨t31, t32, t33, t34⟩ := t3 h0
    exact h υ (base _ ⟨by rw [t1]; exact h0, t31, t32, t33, t34, t4, hnk, by rw [t5.1 81 12 rfl]; exact i8, by rw [t5.1 81 13 rfl]; exact i9, o.1, hA⟩)
  · have e1 : nxS tx n q = .error ((lexS tx n (sB q) (sN q)).2.1.1, (lexS tx n (sB q) (sN q)).1) := by unfold nxS; rw [if_neg h0]
    rw [e1] at h
    exact h υ (base _ ⟨t1, lex_fp.resolve_left h0, (t2 h0).1, hm, (t2 h0).2, (lexS tx n (sB q) (sN q)).2.2, t4, hnk⟩)
end
theorem rm_read {Q : Int32 → Sg → Prop} {tx : Nat → Int32} {σ : Sg} (hd : 803 ≤ d) (hd2 : d ≤ 1400) (hn : n ≤ 1300) (hX : MX σ tx n) (h : ∀ σ' v, RdM tx n σ σ' v → Q v σ') : OkI w d m_M_readText [vR 81] σ Q := by
  refine v_M_readText _ (by omega) ⟨Or.inl rfl, ?_⟩
  generalize es : wI (wI (wI (wI (wI (wI (wI (wI (wI σ 81 10 0) 81 11 ((-1))) 81 14 0) 81 3 0) 81 25 0) 81 13 0) 81 12 0) 81 8 0) 81 22 0 = σ1
  have F1 : Fr mrF σ σ1 := by
    rw [← es]
    exact ((((((((Fr.rfl'.wI rfl).wI rfl).wI rfl).wI rfl).wI rfl).wI rfl).wI rfl).wI rfl).wI rfl
  have hS0 : ∀ σ', StM tx n σ σ' (nxS tx n (0, 0, 0, 0, [], 0, 0)) (0, fun _ => (0, 0, 0, -1, [])) [] 5200 5200 → OkI w (d - 1) m_M_node [vR 81, vI 0, vI 0, vI 0] σ' (fun r4 s4 => Bk w d 0 0 m_M_readText 0 0 (qi Q) 57 [oR 81, oI r4] [] s4) := by
    intro σ2 hS
    refine rm_node (by omega) hS (Nat.le_refl _) (by omega) (fun σ3 hS3 => ?_)
    have hr : Liv (addN (0, fun _ => (0, 0, 0, -1, [])) 0 0 0) 0 := ⟨Nat.lt_succ_self _, by rw [addN_top]; show (-1 : Int32) ≠ -2; decide⟩
    have hinv0 : InvS n (0, 0, 0, 0, [], 0, 0) := ⟨Nat.zero_le _, Nat.le_refl _, Nat.zero_le _, fun q => absurd rfl q, Nat.le_refl _, Nat.le_refl _, by decide⟩
    have hH0 : H0 (nxS tx n (0, 0, 0, 0, [], 0, 0)) := fun q hq => by
      have := nx_ok hq hinv0
      rw [this.2.2.1]; rfl
    generalize ey : nxS tx n (0, 0, 0, 0, [], 0, 0) = y0 at hS3 hH0
    have eT : txtP tx n = ((bklP tx n (n + 1) y0).1, tN (0, 0, 0) (bklP tx n (n + 1) y0).2 .leaf) := by rw [← ey]; rfl
    generalize es0 : addN (0, fun _ => ((0, 0, 0, -1, []) : Rc)) 0 0 0 = s0 at hS3 hr
    have hs0 : s0.1 = 1 := by rw [← es0]; rfl
    -- at the end
    have fin : ∀ (y : RS) (τ : Sg) (s1 : NS) (t : Tr) (B : Nat), StM tx n σ τ y s1 [] 5201 B → B ≤ 32000 → Fst s0 0 (isO y) t s1 → (bklP tx n (n + 1) y0).1 = y → (isO y = true → (bklP tx n (n + 1) y0).2 = t) →
        ((¬ (τ.1 81 10) = 0 → ((0 = (0 : Int32) ∨ 0 = (1 : Int32)) ∧ (((0 : Int32) = 0 → Q (τ.1 81 10) (wI (wI (wI τ 81 22 0) 81 14 0) 81 3 0)) ∧ (¬ (0 : Int32) = 0 → OkV w (d - 1) m_M_number [vR 81] (wI τ 81 22 0) (fun s1 => Q (s1.1 81 10) s1))))) ∧ ((τ.1 81 10) = 0 → ((1 = (0 : Int32) ∨ 1 = (1 : Int32)) ∧ (((1 : Int32) = 0 → Q (τ.1 81 10) (wI (wI (wI τ 81 22 1) 81 14 0) 81 3 0)) ∧ (¬ (1 : Int32) = 0 → OkV w (d - 1) m_M_number [vR 81] (wI τ 81 22 1) (fun s2 => Q (s2.1 81 10) s2)))))) := by
      intro y τ s1 t B hT1 hB hf e1 e2
      cases y with
      | error e =>
        have h9 := hT1.2.2.2.2.2.2.2
        refine ⟨fun _ => ⟨Or.inl rfl, fun _ => h _ _ ⟨((hT1.1.wI rfl).wI rfl).wI rfl, ?_⟩, fun q => absurd rfl q⟩, fun c => absurd (hT1.flt.mp c) (show ¬ false = true by decide)⟩
        rw [eT]
        dsimp only
        rw [e1]
        exact ⟨h9.1, h9.2.1, by simp [wI_1]; exact h9.1, by simp [wI_1]; exact h9.2.2.1, by simp [wI_1], by simp [wI_1]⟩
      | ok q =>
        refine ⟨fun c => absurd (hT1.flt.mpr rfl) c, fun _ => ⟨Or.inr rfl, fun q => absurd q (by decide), fun _ => ?_⟩⟩
        have e2 := e2 rfl
        obtain ⟨L, q1, q2⟩ := hf
        have q2 := q2 rfl
        have h9 := hT1.2.2.2.2.2.2.2
        obtain ⟨i1, i2, i3, i4, i5, i6, i7, i8, i9, i10, i11⟩ := h9
        have hs1 : 1 ≤ s1.1 := by have := q1.1; omega
        have r0 : s1.2 0 = (0, 0, 0, -1, L) := by
          rw [q1.2.2, ← es0, addN_top]
          rfl
        have NM1 := hT1.2.2.2.1
        have fT : FoN s1.2 0 s1.1 (tN (0, 0, 0) t .leaf) [0] := by
          refine ⟨0, [], rfl, Nat.le_refl _, by omega, by rw [r0]; rfl, ?_, rfl⟩
          rw [r0]
          exact q2.mono (Nat.zero_le _) (Nat.le_refl _) (fun k _ _ => ⟨rfl, rfl⟩)
        have nd := prL_nodup NM1 (by omega) (Nat.le_refl _) 0 fT (fun c hc => by
          rw [List.mem_singleton] at hc
          subst hc
          exact ⟨⟨by show rp (s1.2 0) = -1; rw [r0]; rfl, fun j hj => absurd hj (by omega)⟩, by rw [r0]; show (-1 : Int32) ≠ -2; decide⟩) (by simp)
        have ln := prL_len fT
        have mem := prL_mem fT
        have hsz : sz (tN (0, 0, 0) t .leaf) ≤ s1.1 := by
          rw [← ln]
          have := List.Nodup.length_le_of_subset nd (l₂ := List.range s1.1) (fun c hc => List.mem_range.mpr (mem c hc).2)
          rw [List.length_range] at this
          exact this
        have NM2 : NM (wI τ 81 22 1) 85 s1 := NM1.cong (fun i hi j _ => by rw [wI_1, if_neg (by omega)])
        have P0 := PoT_of (ν := fun i => (prL s1.2 (tN (0, 0, 0) t .leaf) [0]).getD i 0) NM2 (Nat.le_refl _) (by omega) 0 (-1) fT (by decide) (fun c hc => by
          rw [List.mem_singleton] at hc
          subst hc
          rw [r0]; rfl) ((NM2 0 (by omega) (by rw [r0]; show (-1 : Int32) ≠ -2; decide)).2.2.2.2.2.2.2.1 (by rw [r0]; rfl)) (fun i _ => by rw [Nat.zero_add])
        have La := LaT_of (ν := fun i => (prL s1.2 (tN (0, 0, 0) t .leaf) [0]).getD i 0) NM2 (Nat.le_refl _) (by omega) 0 (-1) fT (by decide) (fun c hc => by
          rw [List.mem_singleton] at hc
          subst hc
          rw [r0]; rfl) (fun i _ => by rw [Nat.zero_add])
        have hν : ∀ i, i < sz (tN (0, 0, 0) t .leaf) → (fun i => (prL s1.2 (tN (0, 0, 0) t .leaf) [0]).getD i 0) i < s1.1 := by
          intro i hi
          have : (prL s1.2 (tN (0, 0, 0) t .leaf) [0]).getD i 0 ∈ prL s1.2 (tN (0, 0, 0) t .leaf) [0] := by
            rw [List.getD_eq_getElem?_getD, List.getElem?_eq_getElem (by omega)]
            exact List.getElem_mem _
          have := (mem _ this).2
          exact this
        have hinj : ∀ i j, i < sz (tN (0, 0, 0) t .leaf) → j < sz (tN (0, 0, 0) t .leaf) → (fun i => (prL s1.2 (tN (0, 0, 0) t .leaf) [0]).getD i 0) i = (fun i => (prL s1.2 (tN (0, 0, 0) t .leaf) [0]).getD i 0) j → i = j := by
          intro i j hi hj e
          dsimp only at e
          rw [List.getD_eq_getElem?_getD, List.getD_eq_getElem?_getD, List.getElem?_eq_getElem (by omega), List.getElem?_eq_getElem (by omega)] at e
          simp only [Option.getD_some] at e
          refine (List.getElem?_inj (l := prL s1.2 (tN (0, 0, 0) t .leaf) [0]) (by omega) nd).mp ?_
          rw [List.getElem?_eq_getElem (by omega), List.getElem?_eq_getElem (by omega), e]
        have h0 : (fun i => (prL s1.2 (tN (0, 0, 0) t .leaf) [0]).getD i 0) 0 = 0 := rfl
        generalize (fun i => (prL s1.2 (tN (0, 0, 0) t .leaf) [0]).getD i 0) = ν at P0 La hν hinj h0
        have hs14 : τ.1 81 14 = nI s1.1 := hT1.2.2.2.2.1
        refine rm_number (by omega) (by omega) (fun i hi => by have := hν i hi; omega) hinj P0 (by simp [tN]) h0 (fun τ' F' W' => h τ' _ ⟨?_, ?_⟩)
        · refine (hT1.1.wI rfl).trans (F'.mono (fun k j hk => ?_))
          cases hq : nuF k j with
          | false => rfl
          | true =>
            exfalso
            unfold nuF at hq
            rw [Bool.or_eq_true, Nat.beq_eq, Nat.beq_eq] at hq
            rcases hq with e | e <;> subst e <;> exact absurd hk (show ¬ true = false by decide)
        · rw [eT]
          dsimp only
          rw [e1, e2]
          have f10 : τ'.1 81 10 = 0 := by rw [F'.1 81 10 rfl, wI_1, if_neg (by omega)]; exact i1
          refine ⟨f10, f10, by rw [F'.1 81 22 rfl, wI_1, if_pos ⟨rfl, rfl⟩], i6.cg (by rw [F'.1 81 3 rfl, wI_1, if_neg (by omega)]) (fun j => by rw [F'.1 83 j rfl, wI_1, if_neg (by omega)]) (fun j => by rw [F'.1 84 j rfl, wI_1, if_neg (by omega)]), by omega, ν, s1.1, by rw [F'.1 81 14 rfl, wI_1, if_neg (by omega)]; exact hs14, by omega, LaT_cong (fun j => F'.1 90 j rfl) _ _ La, h0, hν, hinj, ?_, W'⟩
          exact PoT_cong (fun i hi j => F'.1 _ j (by
            rcases (by omega : i = 0 ∨ i = 1 ∨ i = 2 ∨ i = 3 ∨ i = 4 ∨ i = 5 ∨ i = 6) with e | e | e | e | e | e | e <;> subst e <;> rfl)) _ _ _ P0
    have loop : ∀ (f : Nat) (y : RS) (τ : Sg) (s1 : NS) (t : Tr) (B : Nat), (∀ q, y = .ok q → n + 1 ≤ sF q + f) → H0 y → StM tx n σ τ y s1 [] 5201 B → B ≤ 32000 → Fst s0 0 (isO y) t s1 → (bklP tx n (n + 1) y0).1 = (bklP tx n f y).1 → (isO (bklP tx n f y).1 = true → (bklP tx n (n + 1) y0).2 = tap t (bklP tx n f y).2) →
        Bk w d 0 0 m_M_readText 0 0 (qi Q) 57 [oR 81, oI (nI 0)] [] τ := by
      intro f
      induction f with
      | zero =>
        intro y τ s1 t B hfu hH hT1 hB hf e1 e2
        cases y with
        | ok q => have := hfu q rfl; have := hT1.inv.1; omega
        | error e =>
          have := fin _ τ s1 t B hT1 hB hf e1 (fun o => absurd o (show ¬ false = true by decide))
          exact v_M_readText_57 _ _ ⟨fun _ => this, fun c => absurd (hT1.flt.mp c) (show ¬ false = true by decide)⟩
      | succ f ih =>
        intro y τ s1 t B hfu hH hT1 hB hf e1 e2
        have eN : bklP tx n (f + 1) y = if isO y = true ∧ isK y 0 = false then ((bklP tx n f (blkP tx n y).1).1, tap (blkP tx n y).2 (bklP tx n f (blkP tx n y).1).2) else (y, .leaf) := rfl
        rw [eN] at e1 e2
        have stop : ¬ (isO y = true ∧ isK y 0 = false) → ((¬ (τ.1 81 10) = 0 → ((0 = (0 : Int32) ∨ 0 = (1 : Int32)) ∧ (((0 : Int32) = 0 → Q (τ.1 81 10) (wI (wI (wI τ 81 22 0) 81 14 0) 81 3 0)) ∧ (¬ (0 : Int32) = 0 → OkV w (d - 1) m_M_number [vR 81] (wI τ 81 22 0) (fun s1 => Q (s1.1 81 10) s1))))) ∧ ((τ.1 81 10) = 0 → ((1 = (0 : Int32) ∨ 1 = (1 : Int32)) ∧ (((1 : Int32) = 0 → Q (τ.1 81 10) (wI (wI (wI τ 81 22 1) 81 14 0) 81 3 0)) ∧ (¬ (1 : Int32) = 0 → OkV w (d - 1) m_M_number [vR 81] (wI τ 81 22 1) (fun s2 => Q (s2.1 81 10) s2)))))) := by
          intro c
          rw [if_neg c] at e1 e2
          refine fin y τ s1 t B hT1 hB hf e1 (fun o => ?_)
          have := e2 o
          rw [tap_leaf] at this
          exact this
        refine v_M_readText_57 _ _ ⟨fun c => stop (fun q => c (hT1.flt.mpr q.1)), fun c => ⟨fun c2 => stop (fun q => ?_), fun c2 => ?_⟩⟩
        · have ho := hT1.flt.mp c
          rw [(hT1.knd ho).mp c2] at q
          exact absurd q.2 (by decide)
        · have ho := hT1.flt.mp c
          have hk0 : isK y 0 = false := Bool.eq_false_iff.mpr (fun q => c2 ((hT1.knd ho).mpr q))
          rw [if_pos ⟨ho, hk0⟩] at e1 e2
          refine rm_block (b' := 32000) (by omega) hT1 ho (by omega) (Nat.le_refl _) rfl (hf.liv hr hr.1) hH hk0 (fun τ2 ⟨s2, hT2, f2⟩ => ?_)
          refine ih _ τ2 s2 _ 32000 (SL.blk.fuel MO.blk hT1.invs hfu) (hH.mo hT1.invs MO.blk) hT2 (Nat.le_refl _) (Fst.cat hr.1 hf f2 (fun o => MO.o MO.blk o)) e1 (fun o => ?_)
          rw [tap_assoc]
          exact e2 o
    exact loop (n + 1) y0 σ3 s0 .leaf 5201 (fun q _ => by omega) hH0 hS3 (by omega) Fst.nil rfl (fun _ => rfl)
  refine rm_next0 (q := (0, 0, 0, 0, [], 0, 0)) (by omega) F1 ⟨hX.1, by rw [← es]; simp [wI_1]; exact hX.2.1, fun i hi => by rw [F1.1 82 i rfl]; exact hX.2.2 i hi⟩ hn (fun k hk => absurd hk (by omega)) (by rw [← es]; simp [wI_1]; rfl) (by rw [← es]; simp [wI_1]; rfl) ⟨fun i hi => absurd hi (by simp), fun c hc => absurd hc (by simp), by simp⟩ (by rw [← es]; simp [wI_1]) (by rw [← es]; simp [wI_1]; rfl) ?_ ?_ (by rw [← es]; simp [wI_1]; rfl) (by rw [← es]; simp [wI_1]; rfl) ⟨Nat.zero_le _, Nat.le_refl _, Nat.zero_le _, fun q => absurd rfl q, Nat.le_refl _, Nat.le_refl _, by decide⟩ (Nat.zero_le _) (fun r hr => ?_) hS0
  · refine ⟨by rw [← es]; simp [wI_1]; rfl, fun k hk => absurd hk (by simp [sN]), by simp [sN]⟩
  · exact ⟨by simp [sN], fun r hr => absurd hr (by simp [sN])⟩
  · show 0 + 4 * (n - sF r) ≤ 5200
    omega
end

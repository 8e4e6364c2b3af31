/-! 0781: the reference's tokens behind a fault: they are read on, the fault stays; names come from the text -/
/-- names that stand in the text, none twice -/
def NmK (tx : Nat → Int32) (n : Nat) (N : List (List Int32)) : Prop := N.Nodup ∧ ∀ r, r ∈ N → ∃ a, a ≤ n ∧ r = rowS tx a (ptE tx n (n + 1) a - a)
theorem NmK.len {tx : Nat → Int32} {n : Nat} {N : List (List Int32)} (h : NmK tx n N) : N.length ≤ n + 1 := by
  have := List.Nodup.length_le_of_subset h.1 (l₂ := (List.range (n + 1)).map (fun a => rowS tx a (ptE tx n (n + 1) a - a))) (fun r hr => by
    obtain ⟨a, ha, e⟩ := h.2 r hr
    exact List.mem_map.mpr ⟨a, List.mem_range.mpr (by omega), e.symm⟩)
  rw [List.length_map, List.length_range] at this
  exact this
theorem idxW_mem {r : List Int32} : ∀ (N : List (List Int32)) (k : Nat), k + N.length < 2 ^ 31 → (idxW r N k < 0 ↔ r ∉ N) := by
  intro N
  induction N with
  | nil => intro k _; exact ⟨fun _ => by simp, fun _ => (show (-1 : Int32) < 0 by decide)⟩
  | cons w N ih =>
    intro k hk
    rw [List.length_cons] at hk
    rw [idxW]
    split
    · rename_i e
      exact ⟨fun q => absurd q (nI_pos (by omega)), fun q => absurd (by rw [e]; exact List.mem_cons_self) q⟩
    · rename_i e
      rw [ih (k + 1) (by omega), List.mem_cons]
      exact ⟨fun q r => q (r.resolve_left (fun z => e z.symm)), fun q r => q (Or.inr r)⟩
theorem NmK.add {tx : Nat → Int32} {n a : Nat} {N : List (List Int32)} (h : NmK tx n N) (hn : n ≤ 16384) (ha : a ≤ n) : NmK tx n (nmS N (rowS tx a (ptE tx n (n + 1) a - a))).2 := by
  have hl := h.len
  unfold nmS
  split
  · rename_i q
    rw [idxW_mem N 0 (by omega)] at q
    refine ⟨?_, fun r hr => ?_⟩
    · show (N ++ [_]).Nodup
      rw [List.nodup_append]
      refine ⟨h.1, by simp, fun x hx y hy => ?_⟩
      rw [List.mem_singleton] at hy
      subst hy
      exact fun e => q (e ▸ hx)
    · have hr : r ∈ N ++ [_] := hr
      rw [List.mem_append, List.mem_singleton] at hr
      rcases hr with hr | hr
      · exact h.2 r hr
      · exact ⟨a, ha, hr⟩
  · exact h
theorem NmK.lex {tx : Nat → Int32} {n a : Nat} {N : List (List Int32)} (h : NmK tx n N) (hn : n ≤ 16384) (ha : a ≤ n) : NmK tx n (lexS tx n a N).2.2 := by
  have hp := skE_le (tx := tx) (n := n) (n + 1) a ha
  unfold lexS
  generalize (skE tx n (n + 1) a).1 = p at hp ⊢
  split
  · exact h
  · dsimp only
    split
    · exact h
    · split
      · exact h
      · split
        · unfold namS
          split
          · exact h
          · split
            · exact h
            · exact h.add hn hp
        · split
          · exact h
          · split
            · exact h
            · exact h
theorem me_fail {w : Wd} {d : Nat} {σ : Sg} {x y : Int32} {Q : Sg → Prop} (hd : 1 ≤ d) (h0 : ¬ σ.1 81 10 = 0) (h : Q σ) : OkV w d m_M_fail [vR 81, vI x, vI y] σ Q := v_M_fail _ _ _ hd ⟨fun _ => h, fun q => absurd q h0⟩
theorem me_skip_69 {w : Wd} {d : Nat} {Q : Int32 → Sg → Prop} {tx : Nat → Int32} {n i : Nat} {σ : Sg} (hd : 2 ≤ d) (hT : MX σ tx n) (hi : i ≤ n) (h0 : ¬ σ.1 81 10 = 0) : ∀ (f a : Nat), n + 3 ≤ a + f → a ≤ n + 3 →
    (rmE tx n f a < n → Bk w d 0 0 m_M_skip 0 0 (qi Q) 2 [oR 81, none, oI (nI (rmE tx n f a + 2)), none, none] [] σ) → (¬ rmE tx n f a < n → Q (-1) σ) →
    Bk w d 0 0 m_M_skip 0 0 (qi Q) 69 [oR 81, none, oI (nI i), none, oI (nI a)] [] σ := by
  have hn := hT.1
  intro f
  induction f with
  | zero =>
    intro a hf hal h1 h2
    have e : rmE tx n 0 a = a := rfl
    rw [e] at h2
    refine v_M_skip_69 _ _ _ ?_
    rw [hT.2.1, nI_leI (by omega) (by omega), nI_ltI (by omega) (by omega)]
    exact ⟨fun _ => ⟨fun q => absurd q (by omega), fun _ => me_fail (by omega) h0 (h2 (by omega))⟩, fun q => absurd (by omega) q⟩
  | succ f ih =>
    intro a hf hal h1 h2
    refine v_M_skip_69 _ _ _ ?_
    rw [hT.2.1, nI_leI (by omega) (by omega), nI_ltI (by omega) (by omega), nI_1, nI_a2]
    have bad : n ≤ a → OkV w (d - 1) m_M_fail [vR 81, vI 2, vI (nI i)] σ (fun s1 => Q (-1) s1) := fun q => by
      have e : rmE tx n (f + 1) a = a := by rw [rmE, if_pos q]
      rw [e] at h2
      exact me_fail (by omega) h0 (h2 (by omega))
    refine ⟨fun q => ⟨fun r => absurd r (by omega), fun _ => bad q⟩, fun q => mk_byteOf (by omega) hT rfl (by omega) ?_⟩
    have ep : pk tx n a = tx a := by unfold pk; rw [if_pos (by omega)]
    rw [ep]
    have go : ¬ (tx a = 42 ∧ pk tx n (a + 1) = 41) → Bk w d 0 0 m_M_skip 0 0 (qi Q) 69 [oR 81, none, oI (nI i), none, oI (nI (a + 1))] [] σ := fun r => by
      have e : rmE tx n (f + 1) a = rmE tx n f (a + 1) := by rw [rmE, if_neg q, if_neg r]
      rw [e] at h1 h2
      exact ih (a + 1) (by omega) (by omega) h1 h2
    refine ⟨fun r => go (fun t => r t.1), fun r => mk_byteOf (by omega) hT rfl (by omega) ⟨fun t => ?_, fun t => go (fun u => t u.2)⟩⟩
    have e : rmE tx n (f + 1) a = a := by rw [rmE, if_neg q, if_pos ⟨r, t⟩]
    rw [e] at h1
    rw [hT.2.1, nI_ltI (by omega) (by omega)]
    exact ⟨fun _ => h1 (by omega), fun u => absurd (by omega) u⟩
theorem me_skip_2 {w : Wd} {d : Nat} {Q : Int32 → Sg → Prop} {tx : Nat → Int32} {n : Nat} {σ : Sg} (hd : 2 ≤ d) (hT : MX σ tx n) (h0 : ¬ σ.1 81 10 = 0) : ∀ (f a : Nat), n + 1 ≤ a + f → a ≤ n →
    (if (skE tx n f a).2 = true then Q (nI (skE tx n f a).1) σ else Q (-1) σ) →
    Bk w d 0 0 m_M_skip 0 0 (qi Q) 2 [oR 81, none, oI (nI a), none, none] [] σ := by
  have hn := hT.1
  intro f
  induction f with
  | zero => intro a hf hal; omega
  | succ f ih =>
    intro a hf hal h
    refine v_M_skip_2 _ _ ?_
    rw [hT.2.1, nI_leI (by omega) (by omega), nI_1, nI_a2]
    have stop : skE tx n (f + 1) a = (a, true) → Q (nI a) σ := fun e => by rw [e, if_pos rfl] at h; exact h
    refine ⟨fun q => ?_, fun q => mk_byteOf (by omega) hT rfl (by omega) ?_⟩
    · have e : a = n := by omega
      subst e
      refine stop ?_
      have ep : pk tx a a = -1 := by unfold pk; rw [if_neg (by omega)]
      rw [skE, ep, if_neg (by decide), if_neg (fun t => absurd t.1 (by decide))]
    have go : (pk tx n a = 32 ∨ pk tx n a = 9 ∨ pk tx n a = 10 ∨ pk tx n a = 13) → Bk w d 0 0 m_M_skip 0 0 (qi Q) 2 [oR 81, none, oI (nI (a + 1)), none, none] [] σ := fun r => by
      have e : skE tx n (f + 1) a = skE tx n f (a + 1) := by rw [skE, if_pos r]
      rw [e] at h
      exact ih (a + 1) (by omega) (by omega) h
    refine ⟨fun c1 => go (Or.inr (Or.inl c1)), fun c1 => ⟨fun c2 => go (Or.inr (Or.inr (Or.inl c2))), fun c2 => ⟨fun c3 => go (Or.inr (Or.inr (Or.inr c3))), fun c3 => ⟨fun c4 => ?_, fun c4 => go (Or.inl c4)⟩⟩⟩⟩
    have hnb : ¬ (pk tx n a = 32 ∨ pk tx n a = 9 ∨ pk tx n a = 10 ∨ pk tx n a = 13) := by grind
    refine ⟨fun c5 => stop (by rw [skE, if_neg hnb, if_neg (fun t => c5 t.1)]), fun c5 => mk_byteOf (by omega) hT rfl (by omega) ⟨fun c6 => stop (by rw [skE, if_neg hnb, if_neg (fun t => c6 t.2)]), fun c6 => me_skip_69 hd hT hal h0 (n + 3) (a + 2) (by omega) (by omega) (fun r => ?_) (fun r => ?_)⟩⟩
    · have e : skE tx n (f + 1) a = skE tx n f (rmE tx n (n + 3) (a + 2) + 2) := by rw [skE, if_neg hnb, if_pos ⟨c5, c6⟩, if_pos r]
      rw [e] at h
      have hge := rmE_ge (tx := tx) (n := n) (n + 3) (a + 2)
      have hlt2 : rmE tx n (n + 3) (a + 2) + 1 < n := lx_pk_lt (rmE_hit (n + 3) (a + 2) (by omega) r) (by decide)
      exact ih _ (by omega) (by omega) h
    · have e : skE tx n (f + 1) a = (a, false) := by rw [skE, if_neg hnb, if_pos ⟨c5, c6⟩, if_neg r]
      rw [e, if_neg Bool.false_ne_true] at h
      exact h
theorem me_skip {w : Wd} {d : Nat} {Q : Int32 → Sg → Prop} {tx : Nat → Int32} {n a : Nat} {σ : Sg} {x : Int32} (hd : 2 ≤ d) (hT : MX σ tx n) (hx : x = nI a) (hal : a ≤ n) (h0 : ¬ σ.1 81 10 = 0)
    (h : if (skE tx n (n + 1) a).2 = true then Q (nI (skE tx n (n + 1) a).1) σ else Q (-1) σ) : OkI w d m_M_skip [vR 81, vI x] σ Q := by
  subst hx
  exact v_M_skip _ _ (by omega) (me_skip_2 hd hT h0 (n + 1) a (by omega) hal h)
def meT (k j : Nat) : Bool := Nat.beq k 81 && (Nat.beq j 6 || Nat.beq j 8 || Nat.beq j 9)
/-- what a token behind a fault may leave -/
def MeP (n : Nat) (σ υ : Sg) : Prop := Fr meT σ υ ∧ ∃ b, b ≤ n ∧ υ.1 81 8 = nI b
theorem me_settle {w : Wd} {d : Nat} {Q : Sg → Prop} {tx : Nat → Int32} {n e : Nat} {σ τ : Sg} {x : Int64} (hd : 4 ≤ d) (hT : MX τ tx n) (h0 : ¬ τ.1 81 10 = 0) (he : τ.1 81 8 = nI e) (hel : e ≤ n) (hF : Fr meT σ τ) (h : ∀ υ, MeP n σ υ → Q υ) : OkV w d m_M_settle [vR 81, vL x] τ Q := by
  have hn := hT.1
  have no : Q τ := h τ ⟨hF, e, hel, he⟩
  refine v_M_settle _ _ (by omega) ⟨fun _ => me_fail (by omega) h0 no, fun _ => ⟨fun _ => me_fail (by omega) h0 no, fun _ => mk_goesOn (by omega) hT he (by omega) ⟨fun _ => h _ ⟨(hF.wI rfl).wI rfl, e, hel, by simp [wI_1, he]⟩, fun _ => me_fail (by omega) h0 no⟩⟩⟩
theorem me_readNumber {w : Wd} {d : Nat} {Q : Sg → Prop} {tx : Nat → Int32} {n a : Nat} {σ : Sg} (hd : 5 ≤ d) (hT : MX σ tx n) (h0 : ¬ σ.1 81 10 = 0) (ha : σ.1 81 7 = nI a) (hal : a ≤ n) (h : ∀ υ, MeP n σ υ → Q υ) : OkV w d m_M_readNumber [vR 81] σ Q := by
  have hn := hT.1
  have hle := dgN_le (tx := tx) (n := n) (b := 10) (by decide) (n + 1) a 0 hal
  refine v_M_readNumber _ (by omega) (mk_digits (b := 10) ha rfl (by omega) (by decide) (by decide) hT hal ?_)
  have hT1 : MX (wI σ 81 8 (nI (dgN tx n 10 (n + 1) a 0).2)) tx n := hT.w (by decide)
  have hA1 : (wI σ 81 8 (nI (dgN tx n 10 (n + 1) a 0).2)).1 81 8 = nI (dgN tx n 10 (n + 1) a 0).2 := by rw [wI_1, if_pos ⟨rfl, rfl⟩]
  have h01 : ∀ x, ¬ (wI σ 81 8 x).1 81 10 = 0 := fun x => by rw [wI_1, if_neg (by omega)]; exact h0
  have sett : ∀ x, OkV w (d - 1) m_M_settle [vR 81, vL x] (wI σ 81 8 (nI (dgN tx n 10 (n + 1) a 0).2)) (fun s => Q s) := fun x => me_settle (by omega) hT1 (h01 _) hA1 hle (Fr.rfl'.wI rfl) h
  refine mk_byteOf (by omega) hT1 hA1 (by omega) ⟨fun _ => sett _, fun h1 => ?_⟩
  have hlt : (dgN tx n 10 (n + 1) a 0).2 < n := lx_pk_lt h1 (by decide)
  have e16 : (16 : Int64) = lN 16 := rfl
  have e2 : (2 : Int64) = lN 2 := rfl
  rw [hA1, nI_1, lg_eq, lg_eq, e16, e2, dgM_eq (by decide), dgM_eq (by decide)]
  have fin : ∀ b, b ≤ 16 → 1 ≤ b → (¬ (dgN tx n 10 (n + 1) a 0).2 = a ∧ (dgN tx n 10 (n + 1) a 0).1 = b) →
      OkL w (d - 1) m_M_digits [vR 81, vI (nI ((dgN tx n 10 (n + 1) a 0).2 + 1)), vI (dgM a (dgN tx n 10 (n + 1) a 0).1 (dgN tx n 10 (n + 1) a 0).2).toInt32] (wI σ 81 8 (nI (dgN tx n 10 (n + 1) a 0).2)) (fun r s => OkV w (d - 1) m_M_settle [vR 81, vL r] s (fun s3 => Q s3)) := by
    intro b hb hb1 hq
    have hle2 := dgN_le (tx := tx) (n := n) (b := b) hb (n + 1) ((dgN tx n 10 (n + 1) a 0).2 + 1) 0 hlt
    refine mk_digits (b := b) rfl (by rw [dgM_32 hq.1 (by omega), hq.2]) (by omega) hb hb1 hT1 hlt ?_
    rw [wI_wI]
    exact me_settle (by omega) (hT.w (by decide)) (h01 _) (by rw [wI_1, if_pos ⟨rfl, rfl⟩]) hle2 (Fr.rfl'.wI rfl) h
  exact ⟨fun h3 => fin 16 (by decide) (by decide) h3, fun h3 => ⟨fun h4 => sett _, fun h4 => fin 2 (by decide) (by decide) h4⟩⟩
theorem me_readTime {w : Wd} {d : Nat} {Q : Sg → Prop} {tx : Nat → Int32} {n a : Nat} {σ : Sg} (hd : 5 ≤ d) (hT : MX σ tx n) (h0 : ¬ σ.1 81 10 = 0) (ha : σ.1 81 7 = nI a) (hal : a + 2 ≤ n) (h : ∀ υ, MeP n σ υ → Q υ) : OkV w d m_M_readTime [vR 81] σ Q := by
  have hn := hT.1
  have hle := dgN_le (tx := tx) (n := n) (b := 10) (by decide) (n + 1) (a + 2) 0 hal
  refine v_M_readTime _ (by omega) (mk_digits (b := 10) (a := a + 2) (by rw [ha, nI_a2]) rfl (by omega) (by decide) (by decide) hT hal ?_)
  generalize (dgN tx n 10 (n + 1) (a + 2) 0).2 = e at hle ⊢
  have hT1 : MX (wI σ 81 8 (nI e)) tx n := hT.w (by decide)
  have hA1 : (wI σ 81 8 (nI e)).1 81 8 = nI e := by rw [wI_1, if_pos ⟨rfl, rfl⟩]
  have e84 : ∀ (y : Int32) (k : Nat) (D : Int64), (y = 1 → k = 2) → (¬ y = 1 → 0 < y → k = 1) → (¬ y = 1 → y ≤ 0 → k = 0) → e + k ≤ n → Bk w d 0 0 m_M_readTime 0 0 (qv Q) 84 [oR 81, oL D, none, none, none] [vI y] (wI σ 81 8 (nI e)) := by
    intro y k D k2 k1 k0 hk
    have sett : ∀ x, OkV w (d - 1) m_M_settle [vR 81, vL x] (wI (wI σ 81 8 (nI e)) 81 8 (nI (e + k))) (fun s => Q s) := fun x => me_settle (by omega) (hT1.w (by decide)) (by simp [wI_1, h0]) (by rw [wI_1, if_pos ⟨rfl, rfl⟩]) hk ((Fr.rfl'.wI rfl).wI rfl) h
    refine v_M_readTime_84 _ _ _ ?_
    rw [hA1]
    have p0 : nI e + 0 = nI (e + 0) := nI_add e 0
    rw [p0, nI_1, nI_a2]
    refine ⟨fun q1 => ⟨fun q2 => ?_, fun q2 => ?_⟩, fun q1 => ?_⟩
    · rw [k0 q1 q2] at sett
      exact ⟨fun _ => sett _, fun _ => ⟨fun _ => ⟨fun _ => sett _, fun _ => sett _⟩, fun _ => sett _⟩⟩
    · rw [k1 q1 (Int32.not_le.mp q2)] at sett
      exact ⟨fun _ => sett _, fun _ => ⟨fun _ => ⟨fun _ => sett _, fun _ => sett _⟩, fun _ => sett _⟩⟩
    · rw [k2 q1] at sett
      exact ⟨fun _ => sett _, fun _ => ⟨fun _ => ⟨fun _ => sett _, fun _ => sett _⟩, fun _ => sett _⟩⟩
  refine mk_great (by omega) hT1 hA1 (by omega) ?_
  rw [hA1, nI_1]
  have f47 : Bk w d 0 0 m_M_readTime 0 0 (qv Q) 47 [oR 81, oL (dgM (a + 2) (dgN tx n 10 (n + 1) (a + 2) 0).1 e), none, oI (grt (pk tx n e)), none] [] (wI σ 81 8 (nI e)) := by
    refine v_M_readTime_47 _ _ _ ⟨fun h1 => ⟨fun h2 => ⟨fun h3 => ?_, fun h3 => ?_⟩, fun h2 => ?_⟩, fun h1 => ?_⟩
    · exact e84 _ 0 _ (by decide) (by decide) (by decide) (by omega)
    · exact e84 _ 1 _ (by decide) (by decide) (by decide) (by have := grt_lt h3 (by decide); omega)
    · exact e84 _ 1 _ (by decide) (by decide) (by decide) (by have := grt_lt h2 (by decide); omega)
    · exact e84 _ 1 _ (by decide) (by decide) (by decide) (by have := grt_lt h1 (by decide); omega)
  refine ⟨fun h1 => f47, fun h1 => mk_great (by omega) hT1 rfl (by omega) ⟨fun h2 => f47, fun h2 => ?_⟩⟩
  exact e84 _ 2 _ (by decide) (by decide) (by decide) (by have := grt_lt h2 (by decide); omega)
theorem me_readPlace {w : Wd} {d : Nat} {Q : Sg → Prop} {tx : Nat → Int32} {n a b : Nat} {σ : Sg} (hd : 6 ≤ d) (hT : MX σ tx n) (h0 : ¬ σ.1 81 10 = 0) (ha : σ.1 81 7 = nI a) (hal : a ≤ n) (hb : b ≤ n) (h8 : σ.1 81 8 = nI b) (h : ∀ υ, MeP n σ υ → Q υ) : OkV w d m_M_readPlace [vR 81] σ Q := by
  have hn := hT.1
  refine v_M_readPlace _ (by omega) ?_
  refine mk_place_it (k := 0) (by omega) hT ha hal (by decide) rfl rfl ?_
  refine mk_place_it (k := 1) (by omega) hT ha hal (by decide) rfl rfl ?_
  refine mk_place_it (k := 2) (by omega) hT ha hal (by decide) rfl rfl ?_
  refine mk_place_it (k := 3) (by omega) hT ha hal (by decide) rfl rfl ?_
  refine mk_place_it (k := 4) (by omega) hT ha hal (by decide) rfl rfl ?_
  refine mk_place_it (k := 5) (by omega) hT ha hal (by decide) rfl rfl ?_
  have eW : whk (grt (pk tx n (a + 1))) (grt (pk tx n (a + 2))) 5 (whk (grt (pk tx n (a + 1))) (grt (pk tx n (a + 2))) 4 (whk (grt (pk tx n (a + 1))) (grt (pk tx n (a + 2))) 3 (whk (grt (pk tx n (a + 1))) (grt (pk tx n (a + 2))) 2 (whk (grt (pk tx n (a + 1))) (grt (pk tx n (a + 2))) 1 (whk (grt (pk tx n (a + 1))) (grt (pk tx n (a + 2))) 0 (-1)))))) = whS (grt (pk tx n (a + 1))) (grt (pk tx n (a + 2))) := rfl
  rw [eW]
  have hW := whS_cases (grt (pk tx n (a + 1))) (grt (pk tx n (a + 2)))
  generalize whS (grt (pk tx n (a + 1))) (grt (pk tx n (a + 2))) = x at hW ⊢
  have e90 : ∀ (τ : Sg) (y : Int64) (c : Nat), MX τ tx n → ¬ τ.1 81 10 = 0 → Fr meT σ τ → τ.1 81 8 = nI c → c ≤ n → Bk w d 0 0 m_M_readPlace 0 0 (qv Q) 90 [oR 81, oI x, none, none] [vL y] τ := by
    intro τ y c hT1 h01 hF hc hcn
    have no : Q τ := h τ ⟨hF, c, hcn, hc⟩
    have yes : ∀ v, Q (wI (wI τ 81 6 4) 81 9 v) := fun v => h _ ⟨(hF.wI rfl).wI rfl, c, hcn, by simp [wI_1, hc]⟩
    exact v_M_readPlace_90 _ _ _ ⟨fun _ => me_fail (by omega) h01 no, fun _ => ⟨fun _ => ⟨fun _ => me_fail (by omega) h01 no, fun _ => mk_goesOn (by omega) hT1 hc (by omega) ⟨fun _ => yes _, fun _ => me_fail (by omega) h01 no⟩⟩, fun _ => ⟨fun _ => me_fail (by omega) h01 no, fun _ => mk_goesOn (by omega) hT1 hc (by omega) ⟨fun _ => yes _, fun _ => me_fail (by omega) h01 no⟩⟩⟩⟩
  refine v_M_readPlace_4 _ _ _ ⟨fun _ => ⟨fun h1 => ?_, fun h1 => e90 σ _ b hT h0 Fr.rfl' h8 hb⟩, fun q => absurd (by decide) q⟩
  rw [ha, nI_a3]
  have hlt : a + 2 < n := by
    rcases hW with q | ⟨k, _, _, q | q⟩
    · rw [q] at h1; exact absurd h1 (by decide)
    · exact grt_lt q (by decide)
    · exact grt_lt q (by decide)
  refine mk_digits (b := 10) (a := a + 3) rfl rfl (by omega) (by decide) (by decide) hT (by omega) ?_
  have hle := dgN_le (tx := tx) (n := n) (b := 10) (by decide) (n + 1) (a + 3) 0 (by omega)
  exact e90 _ _ _ (hT.w (by decide)) (by simp [wI_1, h0]) (Fr.rfl'.wI rfl) (by rw [wI_1, if_pos ⟨rfl, rfl⟩]) hle
theorem me_readSign {w : Wd} {d : Nat} {Q : Sg → Prop} {tx : Nat → Int32} {n a b : Nat} {σ : Sg} (hd : 8 ≤ d) (hT : MX σ tx n) (h0 : ¬ σ.1 81 10 = 0) (ha : σ.1 81 7 = nI a) (hal : a < n) (hb : b ≤ n) (h8 : σ.1 81 8 = nI b) (h : ∀ υ, MeP n σ υ → Q υ) : OkV w d m_M_readSign [vR 81] σ Q := by
  have hn := hT.1
  refine v_M_readSign _ (by omega) (mk_byteOf (by omega) hT ha (by omega) (mk_byteOf (by omega) hT (by rw [ha, nI_1]) (by omega) ?_))
  have h2 : ∀ {c : Int32}, c ≠ -1 → pk tx n (a + 1) = c → a + 2 ≤ n := fun hc e => lx_pk_lt e hc
  generalize pk tx n (a + 1) = e at h2 ⊢
  generalize pk tx n a = c
  have no : Q σ := h σ ⟨Fr.rfl', b, hb, h8⟩
  have e139 : ∀ (t y : Int32), (0 < t → a + 2 ≤ n) → Bk w d 0 0 m_M_readSign 0 0 (qv Q) 139 [oR 81, oI c, none, oI t, none] [vI y] σ := by
    intro t y ht
    have y1 : ∀ v, Q (wI (wI (wI σ 81 6 5) 81 9 v) 81 8 (nI (a + 1))) := fun v => h _ ⟨((Fr.rfl'.wI rfl).wI rfl).wI rfl, a + 1, by omega, by simp [wI_1]⟩
    have y2 : 0 < t → ∀ v, Q (wI (wI (wI σ 81 6 5) 81 9 v) 81 8 (nI (a + 2))) := fun q v => h _ ⟨((Fr.rfl'.wI rfl).wI rfl).wI rfl, a + 2, ht q, by simp [wI_1]⟩
    refine v_M_readSign_139 _ _ _ _ ?_
    rw [ha, nI_1, nI_a2]
    have all : ((t ≤ 0 → ((t ≤ 0 → Q (wI (wI (wI σ 81 6 5) 81 9 c) 81 8 (nI (a + 1)))) ∧ (¬ t ≤ 0 → Q (wI (wI (wI σ 81 6 5) 81 9 c) 81 8 (nI (a + 2)))))) ∧ (¬ t ≤ 0 → ((t ≤ 0 → Q (wI (wI (wI σ 81 6 5) 81 9 t) 81 8 (nI (a + 1)))) ∧ (¬ t ≤ 0 → Q (wI (wI (wI σ 81 6 5) 81 9 t) 81 8 (nI (a + 2))))))) :=
      ⟨fun _ => ⟨fun _ => y1 _, fun q => y2 (Int32.not_le.mp q) _⟩, fun _ => ⟨fun _ => y1 _, fun q => y2 (Int32.not_le.mp q) _⟩⟩
    exact ⟨fun _ => all, fun _ => ⟨fun _ => all, fun _ => me_fail (by omega) h0 no⟩⟩
  have e111 : ∀ t : Int32, (0 < t → a + 2 ≤ n) → Bk w d 0 0 m_M_readSign 0 0 (qv Q) 111 [oR 81, oI c, none, none, none] [vI t] σ := by
    intro t ht
    refine v_M_readSign_111 _ _ _ ⟨fun _ => v_M_readSign_138 _ _ _ (e139 _ _ ht), fun q => ⟨fun _ => v_M_readSign_138 _ _ _ (e139 _ _ ht), fun q2 => ⟨trivial, ?_⟩⟩⟩
    have hc : (Int32.toUInt32 c % 65536).toInt32 = c := by
      obtain ⟨j, hj, e⟩ := nI_of (x := c) (by grind)
      have : nI j < nI 128 := by rw [← e]; exact Int32.not_le.mp q2
      rw [nI_ltI hj (by decide)] at this
      rw [e]
      exact nI_ch j this
    rw [hc]
    exact st_index 2 (by omega) (by decide) (by grind) (Int32.not_le.mp q2) ⟨fun _ => v_M_readSign_138 _ _ _ (e139 _ _ ht), fun _ => e139 _ _ ht⟩
  have f74 : Bk w d 0 0 m_M_readSign 0 0 (qv Q) 74 [oR 81, oI c, oI e, none, none] [] σ :=
    v_M_readSign_74 _ _ _ ⟨fun _ => ⟨fun _ => e111 0 (fun q => absurd q (by decide)), fun _ => ⟨fun _ => e111 0 (fun q => absurd q (by decide)), fun q => e111 260 (fun _ => h2 (by decide) q)⟩⟩, fun _ => ⟨fun _ => ⟨fun _ => e111 0 (fun q => absurd q (by decide)), fun _ => ⟨fun _ => e111 0 (fun q => absurd q (by decide)), fun q => e111 260 (fun _ => h2 (by decide) q)⟩⟩, fun q => e111 259 (fun _ => h2 (by decide) q)⟩⟩
  have f56 : Bk w d 0 0 m_M_readSign 0 0 (qv Q) 56 [oR 81, oI c, oI e, none, none] [] σ :=
    v_M_readSign_56 _ _ _ ⟨fun _ => f74, fun _ => ⟨fun _ => f74, fun q => e111 258 (fun _ => h2 (by decide) q)⟩⟩
  have f38 : Bk w d 0 0 m_M_readSign 0 0 (qv Q) 38 [oR 81, oI c, oI e, none, none] [] σ :=
    v_M_readSign_38 _ _ _ ⟨fun _ => f56, fun _ => ⟨fun _ => f56, fun q => e111 257 (fun _ => h2 (by decide) q)⟩⟩
  exact ⟨fun _ => f38, fun _ => ⟨fun _ => f38, fun q => e111 256 (fun _ => h2 (by decide) q)⟩⟩
def meX (k j : Nat) : Bool := meT k j || mnF k j
def MeN (tx : Nat → Int32) (n : Nat) (σ υ : Sg) : Prop := Fr meX σ υ ∧ (∃ b, b ≤ n ∧ υ.1 81 8 = nI b) ∧ ∃ N, NmM υ N ∧ NmK tx n N
theorem meX_t {k j : Nat} (h : meX k j = false) : meT k j = false := by unfold meX at h; simp only [Bool.or_eq_false_iff] at h; exact h.1
theorem meX_n {k j : Nat} (h : meX k j = false) : mnF k j = false := by unfold meX at h; simp only [Bool.or_eq_false_iff] at h; exact h.2
theorem me_readName_8 {w : Wd} {d : Nat} {Q : Sg → Prop} {tx : Nat → Int32} {n a : Nat} {σ : Sg} {N : List (List Int32)} (hd : 8 ≤ d) (hn2 : n ≤ 1300) (hT : MX σ tx n) (hN : NmM σ N) (hK : NmK tx n N) (h0 : ¬ σ.1 81 10 = 0) (h7 : σ.1 81 7 = nI a) (h : ∀ υ, MeN tx n σ υ → Q υ) : ∀ (f p : Nat) (τ : Sg), n + 1 ≤ p + f → a ≤ p → p ≤ n → τ.1 81 8 = nI p → Fr meT σ τ → (∀ i, i < p - a → isPt (tx (a + i)) = true) → ptE tx n f p = ptE tx n (n + 1) a →
    Bk w d 0 0 m_M_readName 0 0 (qv Q) 8 [oR 81] [] τ := by
  have hn := hT.1
  have hl := hK.len
  intro f
  induction f with
  | zero => intro p τ hf _ hp; omega
  | succ f ih =>
    intro p τ hf hap hp hat hF hpt hpe
    have hTt : MX τ tx n := hT.f hF (fun _ => rfl) rfl
    have hNt : NmM τ N := hN.f hF rfl (fun _ => rfl) (fun _ => rfl)
    have h7t : τ.1 81 7 = nI a := by rw [hF.1 81 7 rfl]; exact h7
    have h0t : ¬ τ.1 81 10 = 0 := by rw [hF.1 81 10 rfl]; exact h0
    refine v_M_readName_8 _ (mk_goesOn (by omega) hTt hat (by omega) ?_)
    rw [b2_0, Bool.not_eq_false]
    have esub : nI p - nI a = nI (p - a) := pk_sub hap
    refine ⟨fun h1 => ?_, fun h1 => ?_⟩
    · have e : ptE tx n (f + 1) p = p := by rw [ptE, if_neg (by rw [h1]; decide)]
      rw [hat, h7t, esub]
      refine ⟨fun h2 => ?_, fun h2 => ?_⟩
      · have h32 : p - a ≤ 32 := by
          have h2 : nI (p - a) ≤ nI 32 := h2
          rw [nI_leI (by omega) (by decide)] at h2; exact h2
        have fin : ∀ υ, Fr meT σ υ → υ.1 81 8 = nI p → Q υ := fun υ hυ e8 => h υ ⟨hυ.mono (fun k j q => meX_t q), ⟨p, hp, e8⟩, N, hN.f hυ rfl (fun _ => rfl) (fun _ => rfl), hK⟩
        have nam : ∀ v, OkI w (d - 1) m_M_nameAt [vR 81] (wI (wI τ 81 9 (idxW (rowS tx a (p - a)) wdL 0)) 81 6 v) (fun r4 s4 => Q (wI s4 81 9 r4)) := by
          intro v
          have hF3 : Fr meT σ (wI (wI τ 81 9 (idxW (rowS tx a (p - a)) wdL 0)) 81 6 v) := (hF.wI rfl).wI rfl
          refine mk_nameAt (N := N) (a := a) (l := p - a) (tx := tx) (n := n) (by omega) (hT.f hF3 (fun _ => rfl) rfl) (hN.f hF3 rfl (fun _ => rfl) (fun _ => rfl)) (by rw [hF3.1 81 7 rfl]; exact h7) (by simp [wI_1, hat]; congr 1; omega) (by omega) h32 hpt (by omega) (fun υ g1 g2 => ?_)
          have hrow : p - a = ptE tx n (n + 1) a - a := by rw [← hpe, e]
          refine h _ ⟨((hF3.mono (fun k j q => meX_t q)).trans (g1.mono (fun k j q => meX_n q))).wI rfl, ⟨p, hp, ?_⟩, _, g2.f (P := meT) (Fr.rfl'.wI rfl) rfl (fun _ => rfl) (fun _ => rfl), ?_⟩
          · rw [wI_1, if_neg (by omega), g1.1 81 8 rfl]; simp [wI_1, hat]
          · rw [hrow]; exact hK.add hn (by omega)
        refine mk_wordAt (l := p - a) (by omega) hTt h7t (by rw [hat]; congr 1; omega) (by omega) ?_
        exact ⟨fun _ => ⟨fun _ => fin _ (((hF.wI rfl).wI rfl).wI rfl) (by simp [wI_1, hat]), fun _ => nam _⟩, fun _ => ⟨fun _ => fin _ (((hF.wI rfl).wI rfl).wI rfl) (by simp [wI_1, hat]), fun _ => nam _⟩⟩
      · exact me_fail (by omega) h0t (h τ ⟨hF.mono (fun k j q => meX_t q), ⟨p, hp, hat⟩, N, hNt, hK⟩)
    · have e : ptE tx n (f + 1) p = ptE tx n f (p + 1) := by rw [ptE, if_pos h1]
      obtain ⟨hlt, ep⟩ := pt_lt h1
      rw [ep] at h1
      rw [hat, nI_1]
      refine ih (p + 1) _ (by omega) (by omega) (by omega) (by rw [wI_1, if_pos ⟨rfl, rfl⟩]) (hF.wI rfl) (fun i hi => ?_) (by rw [← e]; exact hpe)
      by_cases q : i < p - a
      · exact hpt i q
      · have : a + i = p := by omega
        rw [this]; exact h1
def meY (k j : Nat) : Bool := meX k j || (Nat.beq k 81 && Nat.beq j 7)
theorem meY_x {k j : Nat} (h : meY k j = false) : meX k j = false := by unfold meY at h; simp only [Bool.or_eq_false_iff] at h; exact h.1
def MeX (tx : Nat → Int32) (n : Nat) (σ υ : Sg) : Prop := Fr meY σ υ ∧ (∃ b, b ≤ n ∧ υ.1 81 8 = nI b) ∧ ∃ N, NmM υ N ∧ NmK tx n N
theorem me_next0 {w : Wd} {d : Nat} {Q : Sg → Prop} {tx : Nat → Int32} {n b : Nat} {σ : Sg} {N : List (List Int32)} (hd : 10 ≤ d) (hn2 : n ≤ 1300) (hT : MX σ tx n) (hN : NmM σ N) (hK : NmK tx n N) (h0 : ¬ σ.1 81 10 = 0) (hb : σ.1 81 8 = nI b) (hbl : b ≤ n) (h : ∀ υ, MeX tx n σ υ → Q υ) : OkV w d m_M_next [vR 81] σ Q := by
  have hn := hT.1
  have hp := skE_le (tx := tx) (n := n) (n + 1) b hbl
  refine v_M_next _ (by omega) (me_skip (by omega) hT hb hbl h0 ?_)
  generalize (skE tx n (n + 1) b).1 = p at hp ⊢
  have sk : ∀ v, NmM (wI σ 81 7 v) N := fun v => ⟨by simp [wI_1, hN.1], fun k hk => ⟨by simp [wI_1]; exact (hN.2.1 k hk).1, (hN.2.1 k hk).2.1, fun i hi => by simp [wI_1]; exact (hN.2.1 k hk).2.2 i hi⟩, hN.2.2⟩
  split
  · refine ⟨fun _ => ?_, fun q => absurd (Int32.not_lt.mp (nI_pos (by omega))) q⟩
    have hF1 : Fr meY σ (wI σ 81 7 (nI p)) := Fr.rfl'.wI rfl
    have t0 : ¬ (wI σ 81 7 (nI p)).1 81 10 = 0 := by simp [wI_1, h0]
    have t7 : (wI σ 81 7 (nI p)).1 81 7 = nI p := by simp [wI_1]
    have t8 : (wI σ 81 7 (nI p)).1 81 8 = nI b := by simp [wI_1, hb]
    have hTt : MX (wI σ 81 7 (nI p)) tx n := hT.w (by decide)
    have hNt := sk (nI p)
    generalize wI σ 81 7 (nI p) = τ at hF1 t0 t7 t8 hTt hNt ⊢
    refine mk_great (by omega) hTt rfl (by omega) ?_
    rw [t7, hTt.2.1, nI_ltI (by omega) (by omega), nI_1]
    have fin : ∀ υ, MeP n τ υ → Q υ := fun υ hυ => h υ ⟨hF1.trans (hυ.1.mono (fun k j q => meX_t (meY_x q))), hυ.2, N, hNt.f hυ.1 rfl (fun _ => rfl) (fun _ => rfl), hK⟩
    have fin2 : ∀ υ, MeN tx n τ υ → Q υ := fun υ hυ => h υ ⟨hF1.trans (hυ.1.mono (fun k j q => meY_x q)), hυ.2⟩
    refine ⟨fun h1 => ?_, fun h1 => ?_⟩
    · have rest : OkI w (d - 1) m_M_isLetter [vI (grt (pk tx n p))] τ (fun r3 s3 => ((r3 = 0 → OkI w (d - 1) m_M_isDigit [vI (grt (pk tx n p))] s3 (fun r4 s4 => ((r4 = 0 → ((¬ grt (pk tx n p) = 37 → OkV w (d - 1) m_M_readSign [vR 81] s4 (fun s5 => Q s5)) ∧ (grt (pk tx n p) = 37 → OkV w (d - 1) m_M_readPlace [vR 81] s4 (fun s6 => Q s6)))) ∧ (¬ r4 = 0 → OkV w (d - 1) m_M_readNumber [vR 81] s4 (fun s7 => Q s7))))) ∧ (¬ r3 = 0 → OkV w (d - 1) m_M_readName [vR 81] s3 (fun s8 => Q s8)))) := by
        refine mk_isLetter (by omega) ⟨fun _ => mk_isDigit (by omega) ⟨fun _ => ⟨fun _ => me_readSign (by omega) hTt t0 t7 h1 hbl t8 fin, fun _ => me_readPlace (by omega) hTt t0 t7 hp hbl t8 fin⟩, fun _ => me_readNumber (by omega) hTt t0 t7 hp fin⟩, fun _ => ?_⟩
        refine v_M_readName _ (by omega) ?_
        rw [t7]
        have hF3 : Fr meT τ (wI τ 81 8 (nI p)) := Fr.rfl'.wI rfl
        exact me_readName_8 (a := p) (by omega) hn2 hTt hNt hK t0 t7 fin2 (n + 1) p _ (by omega) (Nat.le_refl _) hp (by rw [wI_1, if_pos ⟨rfl, rfl⟩]) hF3 (fun i hi => absurd hi (by omega)) rfl
      refine ⟨fun _ => rest, fun h2 => mk_byteOf (by omega) hTt rfl (by omega) ⟨fun _ => rest, fun h3 => ?_⟩⟩
      exact me_readTime (by omega) hTt t0 t7 (lx_pk_lt h3 (by decide)) fin
    · refine h _ ⟨((hF1.wI rfl).wI rfl).wI rfl, ⟨n, Nat.le_refl _, by simp [wI_1]⟩, N, ?_, hK⟩
      exact ⟨by simp [wI_1, hNt.1], fun k hk => ⟨by simp [wI_1]; exact (hNt.2.1 k hk).1, (hNt.2.1 k hk).2.1, fun i hi => by simp [wI_1]; exact (hNt.2.1 k hk).2.2 i hi⟩, hNt.2.2⟩
  · refine ⟨fun q => absurd q (by decide), fun _ => ?_⟩
    refine h _ ⟨(Fr.rfl'.wI rfl).wI rfl, ⟨b, hbl, by simp [wI_1, hb]⟩, N, ?_, hK⟩
    exact ⟨by simp [wI_1, hN.1], fun k hk => ⟨by simp [wI_1]; exact (hN.2.1 k hk).1, (hN.2.1 k hk).2.1, fun i hi => by simp [wI_1]; exact (hN.2.1 k hk).2.2 i hi⟩, hN.2.2⟩
/-- the next token behind a fault -/
theorem me_next {w : Wd} {d : Nat} {Q : Sg → Prop} {tx : Nat → Int32} {n b : Nat} {σ : Sg} {N : List (List Int32)} (hd : 10 ≤ d) (hn2 : n ≤ 1300) (hT : MX σ tx n) (hN : NmM σ N) (hK : NmK tx n N) (h0 : ¬ σ.1 81 10 = 0) (hb : σ.1 81 8 = nI b) (hbl : b < 2 ^ 30) (h : ∀ υ, MeX tx n σ υ → Q υ) : OkV w d m_M_next [vR 81] σ Q := by
  by_cases hbn : b ≤ n
  · exact me_next0 hd hn2 hT hN hK h0 hb hbn h
  · have hn := hT.1
    refine v_M_next _ (by omega) (v_M_skip _ _ (by omega) (v_M_skip_2 _ _ ?_))
    rw [hb, hT.2.1, nI_leI (by omega) (by omega)]
    refine ⟨fun _ => ?_, fun q => absurd (by omega) q⟩
    refine ⟨fun _ => ?_, fun q => absurd (Int32.not_lt.mp (nI_pos (by omega))) q⟩
    refine mk_great (tx := tx) (n := n) (by omega) (hT.w (by decide)) rfl (by omega) ?_
    have e7 : (wI σ 81 7 (nI b)).1 81 7 = nI b := by simp [wI_1]
    have e1 : (wI σ 81 7 (nI b)).1 81 1 = nI n := by simp [wI_1, hT.2.1]
    rw [e7, e1, nI_ltI (by omega) (by omega)]
    refine ⟨fun q => absurd q (by omega), fun _ => h _ ⟨(((Fr.rfl'.wI rfl).wI rfl).wI rfl).wI rfl, ⟨n, Nat.le_refl _, by simp [wI_1]⟩, N, ?_, hK⟩⟩
    exact ⟨by simp [wI_1, hN.1], fun k hk => ⟨by simp [wI_1]; exact (hN.2.1 k hk).1, (hN.2.1 k hk).2.1, fun i hi => by simp [wI_1]; exact (hN.2.1 k hk).2.2 i hi⟩, hN.2.2⟩

/-! 097: the component reads a text -/
section
variable {wd : Wd} {d n : Nat}
/-- what reading leaves: a fault and its place, or the tree and the names -/
def RdC (tx : Nat → Int32) (n : Nat) (σ σ' : Sg) (v : Int32) : Prop := Fr rdF σ σ' ∧ match (txtP tx n).1 with
  | .ok q => v = 0 ∧ σ'.1 17 2 = 0 ∧ PoT σ' 8 (fun j => j) (txtP tx n).2 0 (-1) ∧ σ'.1 7 9 = nI (sz (txtP tx n).2) ∧ NmC σ' (sN q) ∧ sz (txtP tx n).2 ≤ 6000
  | .error e => v = e.1 ∧ e.1 ≠ 0 ∧ σ'.1 17 2 = e.1 ∧ σ'.1 17 3 = nI e.2
theorem SL.blk {tx : Nat → Int32} {y : RS} : SL n y (blkP tx n y).1 := by
  unfold blkP
  split
  · exact SL.wW ((((MO.nx.trans MO.wt).trans MO.fnh).trans (MO.scs _)).trans MO.lor)
  · intro s q h1 h2
    exfalso
    cases y <;> cases h2
theorem rc_read {Q : Int32 → Sg → Prop} {tx : Nat → Int32} {σ : Sg} {x1 : Int32} (hd : 745 ≤ d) (hd2 : d ≤ 1400) (hn : n ≤ 1300) (h1 : x1 = nI n) (hT : ∀ i, i < n → σ.1 1 i &&& 255 = tx i) (h40 : σ.1 4 0 = 0) (h : ∀ σ' v, RdC tx n σ σ' v → Q v σ') : OkI wd d m_Reader_read [vR 17, vI x1] σ Q := by
  subst h1
  refine v_Reader_read _ _ (by omega) (v_Names_clear _ (by omega) (v_Tokens_begin _ _ (by omega) ?_))
  generalize es : wI (wI (wI (wI (wI (wI (wI (wI (wI (wI σ 17 2 0) 17 4 0) 17 5 0) 17 9 0) 17 10 0) 7 9 0) 2 2 0) 5 3 (nI n)) 5 4 0) 5 8 0 = σ1
  have F1 : Fr rdF σ σ1 := by
    rw [← es]
    exact (((((((((Fr.rfl'.wI rfl).wI rfl).wI rfl).wI rfl).wI rfl).wI rfl).wI rfl).wI rfl).wI rfl).wI rfl
  have hS0 : ∀ σ', StC tx n σ σ' (nxS tx n (0, 0, 0, 0, [], 0, 0)) (0, fun _ => (0, 0, 0, -1, [])) [] [] 5200 5200 → OkI wd (d - 1) m_Nodes_add [vR 7, vI 0, vI 0, vI 0] σ' (fun r4 s4 => Bk wd d 0 0 m_Reader_read 0 0 (qi Q) 66 [oR 17, none, oI r4] [] s4) := by
    intro σ2 hS
    refine nc_add (by omega) hS (Nat.le_refl _) (by omega) (fun σ3 hS3 => ?_)
    have hr : Liv (addN (0, fun _ => (0, 0, 0, -1, [])) 0 0 0) 0 := ⟨Nat.lt_succ_self _, by rw [addN_top]; show (-1 : Int32) ≠ -2; decide⟩
    have hinv0 : InvS n (0, 0, 0, 0, [], 0, 0) := ⟨Nat.zero_le _, Nat.le_refl _, Nat.zero_le _, fun q => absurd rfl q, Nat.le_refl _, Nat.le_refl _, by decide⟩
    have hH0 : H0 (nxS tx n (0, 0, 0, 0, [], 0, 0)) := fun q hq => by
      have := nx_ok hq hinv0
      rw [this.2.2.1]; rfl
    generalize ey : nxS tx n (0, 0, 0, 0, [], 0, 0) = y0 at hS3 hH0
    have eT : txtP tx n = ((bklP tx n (n + 1) y0).1, tN (0, 0, 0) (bklP tx n (n + 1) y0).2 .leaf) := by rw [← ey]; rfl
    generalize es0 : addN (0, fun _ => ((0, 0, 0, -1, []) : Rc)) 0 0 0 = s0 at hS3 hr
    have hs0 : s0.1 = 1 := by rw [← es0]; rfl
    -- at the end
    have fin : ∀ (y : RS) (τ : Sg) (s1 : NS) (t : Tr) (B : Nat), StC tx n σ τ y s1 [] [] 5201 B → B ≤ 32000 → Fst s0 0 (isO y) t s1 → (bklP tx n (n + 1) y0).1 = y → (isO y = true → (bklP tx n (n + 1) y0).2 = t) →
        ((¬ (τ.1 17 2) = 0 → Q (τ.1 17 2) τ) ∧ ((τ.1 17 2) = 0 → OkV wd (d - 1) m_Nodes_settle [vR 7, vI (nI 0)] τ (fun s1 => Q (s1.1 17 2) s1))) := by
      intro y τ s1 t B hT1 hB hf e1 e2
      cases y with
      | error e =>
        have h9 := hT1.2.2.2.2.2.2.2.2
        refine ⟨fun _ => h τ _ ⟨hT1.1, ?_⟩, fun c => absurd (hT1.flt.mp c) (show ¬ false = true by decide)⟩
        rw [eT]
        dsimp only
        rw [e1]
        exact ⟨h9.1, h9.2.1, h9.1, h9.2.2.1⟩
      | ok q =>
        refine ⟨fun c => absurd (hT1.flt.mpr rfl) c, fun _ => ?_⟩
        have e2 := e2 rfl
        obtain ⟨L, q1, q2⟩ := hf
        have q2 := q2 rfl
        have h9 := hT1.2.2.2.2.2.2.2.2
        obtain ⟨i1, i2, i3, i4, i5, i6, i7, i8, i9, i10, i11⟩ := h9
        have hs1 : 1 ≤ s1.1 := by have := q1.1; omega
        have r0 : s1.2 0 = (0, 0, 0, -1, L) := by
          rw [q1.2.2, ← es0, addN_top]
          rfl
        have NM1 := hT1.2.2.2.1
        have fT : FoN s1.2 0 s1.1 (tN (0, 0, 0) t .leaf) [0] := by
          refine ⟨0, [], rfl, Nat.le_refl _, by omega, by rw [r0]; rfl, ?_, rfl⟩
          rw [r0]
          exact q2.mono (Nat.zero_le _) (Nat.le_refl _) (fun k _ _ => ⟨rfl, rfl⟩)
        have nd := prL_nodup NM1 (by omega) (Nat.le_refl _) 0 fT (fun c hc => by
          rw [List.mem_singleton] at hc
          subst hc
          exact ⟨⟨by show rp (s1.2 0) = -1; rw [r0]; rfl, fun j hj => absurd hj (by omega)⟩, by rw [r0]; show (-1 : Int32) ≠ -2; decide⟩) (by simp)
        have ln := prL_len fT
        have mem := prL_mem fT
        have hsz : sz (tN (0, 0, 0) t .leaf) ≤ s1.1 := by
          rw [← ln]
          have := List.Nodup.length_le_of_subset nd (l₂ := List.range s1.1) (fun c hc => List.mem_range.mpr (mem c hc).2)
          rw [List.length_range] at this
          exact this
        have P0 := PoT_of (ν := fun i => (prL s1.2 (tN (0, 0, 0) t .leaf) [0]).getD i 0) NM1 (Nat.le_refl _) (by omega) 0 (-1) fT (by decide) (fun c hc => by
          rw [List.mem_singleton] at hc
          subst hc
          rw [r0]; rfl) ((NM1 0 (by omega) (by rw [r0]; show (-1 : Int32) ≠ -2; decide)).2.2.2.2.2.2.2.1 (by rw [r0]; rfl)) (fun i _ => by rw [Nat.zero_add])
        refine nc_settle (by omega) (by omega) (fun i hi => ?_) (fun i j hi hj e => ?_) P0 (by simp [tN]) ?_ (fun τ' F' m' P' => h τ' _ ⟨?_, ?_⟩)
        · have : (prL s1.2 (tN (0, 0, 0) t .leaf) [0]).getD i 0 ∈ prL s1.2 (tN (0, 0, 0) t .leaf) [0] := by
            rw [List.getD_eq_getElem?_getD, List.getElem?_eq_getElem (by omega)]
            exact List.getElem_mem _
          have := (mem _ this).2
          omega
        · rw [List.getD_eq_getElem?_getD, List.getD_eq_getElem?_getD, List.getElem?_eq_getElem (by omega), List.getElem?_eq_getElem (by omega)] at e
          simp only [Option.getD_some] at e
          refine (List.getElem?_inj (l := prL s1.2 (tN (0, 0, 0) t .leaf) [0]) (by omega) nd).mp ?_
          rw [List.getElem?_eq_getElem (by omega), List.getElem?_eq_getElem (by omega), e]
        · rfl
        · refine hT1.1.trans (F'.mono (fun k j hk => ?_))
          cases hq : stF k j with
          | false => rfl
          | true =>
            exfalso
            unfold stF at hq
            rw [Bool.or_eq_true, Bool.and_eq_true, Bool.and_eq_true, Nat.beq_eq, Nat.beq_eq] at hq
            have hk2 : 7 ≤ k ∧ k ≤ 16 := by
              rcases hq with q | q
              · omega
              · have a1 := Nat.le_of_ble_eq_true q.1
                have a2 := Nat.le_of_ble_eq_true q.2
                omega
            unfold rdF at hk
            have b1 : Nat.ble 2 k = true := Nat.ble_eq_true_of_le (by omega)
            have b2 : Nat.ble k 20 = true := Nat.ble_eq_true_of_le (by omega)
            have b3 : Nat.beq k 4 = false := by rw [Bool.eq_false_iff]; intro q; have := Nat.eq_of_beq_eq_true q; omega
            rw [b1, b2, b3, Bool.false_and] at hk
            exact absurd hk (by decide)
        · rw [eT]
          dsimp only
          rw [e1, e2]
          have h172 : τ'.1 17 2 = 0 := by rw [F'.1 17 2 rfl]; exact i1
          exact ⟨h172, h172, P', m', i7.cg (fun j => F'.1 2 j (by unfold stF; rfl)) (fun j => F'.1 3 j (by unfold stF; rfl)) (fun j => F'.1 4 j (by unfold stF; rfl)), by omega⟩
    have loop : ∀ (f : Nat) (y : RS) (τ : Sg) (s1 : NS) (t : Tr) (B : Nat), (∀ q, y = .ok q → n + 1 ≤ sF q + f) → H0 y → StC tx n σ τ y s1 [] [] 5201 B → B ≤ 32000 → Fst s0 0 (isO y) t s1 → (bklP tx n (n + 1) y0).1 = (bklP tx n f y).1 → (isO (bklP tx n f y).1 = true → (bklP tx n (n + 1) y0).2 = tap t (bklP tx n f y).2) →
        Bk wd d 0 0 m_Reader_read 0 0 (qi Q) 66 [oR 17, none, oI (nI 0)] [] τ := by
      intro f
      induction f with
      | zero =>
        intro y τ s1 t B hfu hH hT1 hB hf e1 e2
        cases y with
        | ok q => have := hfu q rfl; have := hT1.inv.1; omega
        | error e =>
          have := fin _ τ s1 t B hT1 hB hf e1 (fun o => absurd o (show ¬ false = true by decide))
          exact v_Reader_read_66 _ _ ⟨fun _ => this, fun c => absurd (hT1.flt.mp c) (show ¬ false = true by decide)⟩
      | succ f ih =>
        intro y τ s1 t B hfu hH hT1 hB hf e1 e2
        have eN : bklP tx n (f + 1) y = if isO y = true ∧ isK y 0 = false then ((bklP tx n f (blkP tx n y).1).1, tap (blkP tx n y).2 (bklP tx n f (blkP tx n y).1).2) else (y, .leaf) := rfl
        rw [eN] at e1 e2
        have stop : ¬ (isO y = true ∧ isK y 0 = false) → ((¬ (τ.1 17 2) = 0 → Q (τ.1 17 2) τ) ∧ ((τ.1 17 2) = 0 → OkV wd (d - 1) m_Nodes_settle [vR 7, vI (nI 0)] τ (fun s1 => Q (s1.1 17 2) s1))) := by
          intro c
          rw [if_neg c] at e1 e2
          refine fin y τ s1 t B hT1 hB hf e1 (fun o => ?_)
          have := e2 o
          rw [tap_leaf] at this
          exact this
        refine v_Reader_read_66 _ _ ⟨fun c => stop (fun q => c (hT1.flt.mpr q.1)), fun c => ⟨fun c2 => stop (fun q => ?_), fun c2 => ?_⟩⟩
        · have ho := hT1.flt.mp c
          cases y with
          | error e => exact absurd ho (show ¬ false = true by decide)
          | ok r =>
            have e5 : τ.1 5 5 = sK r := hT1.2.2.2.2.2.2.2.2.2.2.2.1
            rw [e5] at c2
            exact absurd c2 (of_decide_eq_false q.2)
        · have ho := hT1.flt.mp c
          have hk0 : isK y 0 = false := by
            cases y with
            | error e => rfl
            | ok r =>
              have e5 : τ.1 5 5 = sK r := hT1.2.2.2.2.2.2.2.2.2.2.2.1
              rw [e5] at c2
              exact decide_eq_false c2
          rw [if_pos ⟨ho, hk0⟩] at e1 e2
          refine rc_block (b' := 32000) (by omega) hT1 ho (by omega) (Nat.le_refl _) rfl (hf.liv hr hr.1) hH hk0 (fun τ2 ⟨s2, hT2, f2⟩ => ?_)
          refine ih _ τ2 s2 _ 32000 (SL.blk.fuel MO.blk hT1.invs hfu) (hH.mo hT1.invs MO.blk) hT2 (Nat.le_refl _) (Fst.cat hr.1 hf f2 (fun o => MO.o MO.blk o)) e1 (fun o => ?_)
          rw [tap_assoc]
          exact e2 o
    exact loop (n + 1) y0 σ3 s0 .leaf 5201 (fun q _ => by omega) hH0 hS3 (by omega) Fst.nil rfl (fun _ => rfl)
  refine rc_next0 (q := (0, 0, 0, 0, [], 0, 0)) (by omega) (by omega) F1 ⟨by omega, by rw [← es]; simp [wI_1], fun i hi => by rw [F1.1 1 i rfl]; exact hT i hi⟩ hn (fun k hk => absurd hk (by omega)) (by rw [← es]; simp [wI_1]; rfl) ⟨by rw [← es]; simp [wI_1]; rfl, by rw [← es]; simp [wI_1]; rfl, fun i hi => absurd hi (by simp), fun i hi => absurd hi (by simp)⟩ (fun c hc => absurd hc (by simp)) (by simp) (by rw [← es]; simp [wI_1]) (by rw [← es]; simp [wI_1]) (by rw [← es]; simp [wI_1]; rfl) ⟨by rw [← es]; simp [wI_1]; rfl, fun k hk => ?_, fun i hi => absurd hi (by simp [sN]), by simp [sN], by simp [sN]⟩ (by rw [← es]; simp [wI_1]; rfl) (by rw [← es]; simp [wI_1]; rfl) ⟨Nat.zero_le _, Nat.le_refl _, Nat.zero_le _, fun q => absurd rfl q, Nat.le_refl _, Nat.le_refl _, by decide⟩ (Nat.zero_le _) (fun r hr => ?_) hS0
  · have : k = 0 := by simpa [sN] using hk
    subst this
    rw [F1.1 4 0 rfl, h40]; rfl
  · show 0 + 4 * (n - sF r) ≤ 5200
    omega
end

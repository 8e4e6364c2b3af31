/-! 121: states go on: names stay, tokens say what may be -/
/-- what a token may say -/
def TV (s : PS) : Prop := (sK s = 1 → ∃ j, j < (sN s).length ∧ sV s = nI j) ∧ (sK s = 4 → ∃ a i, a < 6 ∧ i < (if a < 3 then 256 else 64) ∧ sV s = nI (256 * a + i))
def ML (x y : RS) : Prop := (∀ e, x = .error e → y = .error e) ∧ (∀ s q, x = .ok s → y = .ok q → (sN s).length ≤ (sN q).length ∧ (TV s → TV q))
theorem ML.rfl' {x : RS} : ML x x := ⟨fun _ h => h, fun s q h1 h2 => by rw [h1] at h2; cases h2; exact ⟨Nat.le_refl _, fun h => h⟩⟩
theorem ML.trans {x y z : RS} (h1 : ML x y) (h2 : ML y z) : ML x z := by
  refine ⟨fun e h => h2.1 e (h1.1 e h), fun s q hx hz => ?_⟩
  cases hy : y with
  | error e => rw [h2.1 e hy] at hz; cases hz
  | ok r =>
    have a := h1.2 s r hx hy
    have b := h2.2 r q hy hz
    exact ⟨Nat.le_trans a.1 b.1, fun h => b.2 (a.2 h)⟩
theorem ML.fl {x : RS} {c : Int32} : ML x (flR c x) := ⟨fun e h => by rw [h]; rfl, fun s q h1 h2 => by rw [h1] at h2; cases h2⟩
theorem idxW_in {r : List Int32} : ∀ {N : List (List Int32)} {k : Nat}, idxW r N k = -1 ∨ ∃ j, k ≤ j ∧ j < k + N.length ∧ idxW r N k = nI j ∧ N.getD (j - k) [] = r := by
  intro N
  induction N with
  | nil => intro k; exact Or.inl rfl
  | cons w ws ih =>
    intro k
    rw [idxW]
    split
    · rename_i h; exact Or.inr ⟨k, Nat.le_refl _, by simp, rfl, by simpa using h⟩
    · rcases ih (k := k + 1) with h | ⟨j, h1, h2, h3, h4⟩
      · exact Or.inl h
      · refine Or.inr ⟨j, by omega, by simp only [List.length_cons]; omega, h3, ?_⟩
        rw [show j - k = (j - (k + 1)) + 1 by omega, List.getD_cons_succ]; exact h4
theorem nI_mul' (a b : Nat) : nI a * nI b = nI (a * b) := by unfold nI; exact (Int32.ofNat_mul a b).symm
theorem lex_tv {tx : Nat → Int32} {n a : Nat} {N : List (List Int32)} {d k : Nat} (h : (lexS tx n a N).2.1.1 = 0) : N.length ≤ (lexS tx n a N).2.2.length ∧ TV ((lexS tx n a N).1, (lexS tx n a N).2.1.2.1, (lexS tx n a N).2.1.2.2.1, (lexS tx n a N).2.1.2.2.2, (lexS tx n a N).2.2, d, k) := by
  unfold lexS at h ⊢
  generalize (skE tx n (n + 1) a).1 = p at h ⊢
  split at h
  · exact absurd h (show ¬ (2 : Int32) = 0 by decide)
  · rename_i q0
    rw [if_neg q0]
    dsimp only at h ⊢
    have t3 : ∀ (ok : Bool) (v e : Nat), (takeS tx n ok v e).1 = 0 → (takeS tx n ok v e).2.1 = 3 := fun ok v e h => (takeS_ok h).2.2
    have no : ∀ (t : TK), t.2.1 ≠ 1 → t.2.1 ≠ 4 → N.length ≤ N.length ∧ TV (p, t.2.1, t.2.2.1, t.2.2.2, N, d, k) := fun t h1 h2 => ⟨Nat.le_refl _, fun q => absurd q h1, fun q => absurd q h2⟩
    split at h
    · rename_i q1; rw [if_pos q1]; exact no (0, 0, 0, p) (show (0 : Int32) ≠ 1 by decide) (show (0 : Int32) ≠ 4 by decide)
    · rename_i q1; rw [if_neg q1]
      split at h
      · rename_i q2; rw [if_pos q2]
        have : (timS tx n p).2.1 = 3 := by unfold timS at h ⊢; exact t3 _ _ _ h
        exact no (timS tx n p) (by rw [this]; decide) (by rw [this]; decide)
      · rename_i q2; rw [if_neg q2]
        split at h
        · rename_i q3; rw [if_pos q3]
          unfold namS at h ⊢
          split at h
          · exact absurd h (show ¬ (3 : Int32) = 0 by decide)
          · rename_i q4; rw [if_neg q4]
            split at h
            · rename_i q5; rw [if_pos q5]; exact no (0, 2, _, _) (show (2 : Int32) ≠ 1 by decide) (show (2 : Int32) ≠ 4 by decide)
            · rename_i q5; rw [if_neg q5]
              generalize rowS tx p (ptE tx n (n + 1) p - p) = r
              refine ⟨?_, fun _ => ?_, fun q => absurd q (show ¬ (1 : Int32) = 4 by decide)⟩
              · unfold nmS; split
                · simp
                · exact Nat.le_refl _
              · show ∃ j, j < (nmS N r).2.length ∧ (nmS N r).1 = nI j
                unfold nmS
                split
                · exact ⟨N.length, by simp, rfl⟩
                · rename_i q6
                  rcases idxW_in (r := r) (N := N) (k := 0) with e | ⟨j, h1, h2, h3, h4⟩
                  · rw [e] at q6; exact absurd (by decide) q6
                  · exact ⟨j, by show j < N.length; omega, h3⟩
        · rename_i q3; rw [if_neg q3]
          split at h
          · rename_i q4; rw [if_pos q4]
            have : (numS tx n p).2.1 = 3 := by
              unfold numS at h ⊢
              split at h
              · rename_i c1; rw [if_pos c1]
                split at h
                · rename_i c2; rw [if_pos c2]; exact t3 _ _ _ h
                · rename_i c2; rw [if_neg c2]
                  split at h
                  · rename_i c3; rw [if_pos c3]; exact t3 _ _ _ h
                  · exact absurd h (show ¬ (4 : Int32) = 0 by decide)
              · rename_i c1; rw [if_neg c1]; exact t3 _ _ _ h
            exact no (numS tx n p) (by rw [this]; decide) (by rw [this]; decide)
          · rename_i q4; rw [if_neg q4]
            split at h
            · rename_i q5; rw [if_pos q5]
              unfold plaS at h ⊢
              by_cases c1 : whS (grt (pk tx n (p + 1))) (grt (pk tx n (p + 2))) < 0
              · rw [if_pos c1] at h; exact absurd h (show ¬ (5 : Int32) = 0 by decide)
              · rw [if_neg c1] at h ⊢
                by_cases c2 : (dgN tx n 10 (n + 1) (p + 3) 0).2 = p + 3 ∨ (if whS (grt (pk tx n (p + 1))) (grt (pk tx n (p + 2))) < 3 then 255 else 63) < (dgN tx n 10 (n + 1) (p + 3) 0).1 ∨ isPt (pk tx n (dgN tx n 10 (n + 1) (p + 3) 0).2) = true
                · rw [if_pos c2] at h; exact absurd h (show ¬ (5 : Int32) = 0 by decide)
                · rw [if_neg c2]
                  refine ⟨Nat.le_refl _, fun q => absurd q (show ¬ (4 : Int32) = 1 by decide), fun _ => ?_⟩
                  rcases whS_cases (grt (pk tx n (p + 1))) (grt (pk tx n (p + 2))) with e | ⟨j, hj, e, _⟩
                  · rw [e] at c1; exact absurd (by decide) c1
                  · rw [e] at c2 ⊢
                    refine ⟨j, (dgN tx n 10 (n + 1) (p + 3) 0).1, hj, ?_, ?_⟩
                    · have c3 : ¬ (if nI j < 3 then 255 else 63) < (dgN tx n 10 (n + 1) (p + 3) 0).1 := fun q => c2 (Or.inr (Or.inl q))
                      have e3 : (nI j < 3) ↔ j < 3 := by
                        have z : (3 : Int32) = nI 3 := rfl
                        rw [z]; exact nI_ltI (by omega) (by decide)
                      by_cases c4 : j < 3
                      · rw [if_pos (e3.mpr c4)] at c3; rw [if_pos c4]; omega
                      · rw [if_neg (fun q => c4 (e3.mp q))] at c3; rw [if_neg c4]; omega
                    · show 256 * nI j + nI _ = nI _
                      have z : (256 : Int32) = nI 256 := rfl
                      rw [z, nI_mul', nI_add]
            · rename_i q5; rw [if_neg q5]
              have : (sigS tx n p).2.1 ≠ 1 ∧ (sigS tx n p).2.1 ≠ 4 := by
                unfold sigS
                split
                · exact ⟨show (0 : Int32) ≠ 1 by decide, show (0 : Int32) ≠ 4 by decide⟩
                · exact ⟨show (5 : Int32) ≠ 1 by decide, show (5 : Int32) ≠ 4 by decide⟩
              exact no (sigS tx n p) this.1 this.2
theorem ML.nx {tx : Nat → Int32} {n : Nat} {x : RS} : ML x (nxR tx n x) := by
  refine ⟨fun e h => by rw [h]; rfl, fun s q h1 h2 => ?_⟩
  rw [h1] at h2
  have h2 : nxS tx n s = .ok q := h2
  unfold nxS at h2
  split at h2
  · rename_i h0
    cases h2
    have := lex_tv (d := sD s) (k := sS s) h0
    exact ⟨this.1, fun _ => this.2⟩
  · cases h2
theorem ML.wt {tx : Nat → Int32} {n : Nat} {b : Bool} {x : RS} : ML x (wtR tx n b x) := by
  unfold wtR
  split
  · exact ML.nx
  · exact ML.fl
theorem ML.op {x : RS} : ML x (opR x) := by
  refine ⟨fun e h => by rw [h]; rfl, fun s q h1 h2 => ?_⟩
  rw [h1] at h2
  unfold opR at h2
  dsimp only at h2
  split at h2
  · cases h2
  · cases h2; exact ⟨Nat.le_refl _, fun h => h⟩
theorem ML.cl {x y : RS} (h : ML (opR x) y) : ML x (clR y) := by
  refine ⟨fun e he => by rw [h.1 e (by rw [he]; rfl)]; rfl, fun s q h1 h2 => ?_⟩
  cases hy : y with
  | error e => rw [hy] at h2; cases h2
  | ok r =>
    rw [hy] at h2
    cases h2
    exact (ML.op.trans h).2 s r h1 hy
section
variable {tx : Nat → Int32} {n : Nat}
theorem ML.ite {x a b : RS} {c : Prop} [Decidable c] (h1 : ML x a) (h2 : ML x b) : ML x (if c then a else b) := by split <;> assumption
theorem ML.ite1 {x : RS} {a b : RS × Tr} {c : Prop} [Decidable c] (h1 : ML x a.1) (h2 : ML x b.1) : ML x (if c then a else b).1 := by split <;> assumption
theorem ML.sim {x : RS} : ML x (simP tx n x).1 := ML.ite1 ML.nx ML.fl
theorem ML.cnu {x : RS} {p : Int32} {m : Bool} : ML x (cnuP tx n x p m).1 := ML.ite1 ML.nx ML.fl
theorem ML.con {x : RS} : ML x (conP tx n x).1 := ML.ite1 ML.nx (ML.trans (ML.ite ML.nx ML.rfl') ML.cnu)
theorem ML.arr {x : RS} : ML x (arrP tx n x).1 := ((((((ML.nx.trans ML.wt).trans ML.con).trans ML.wt).trans ML.con).trans ML.wt).trans ML.wt).trans ML.sim
theorem ML.typ {x : RS} : ML x (typP tx n x).1 := ML.ite1 ML.nx (ML.ite1 ML.arr ML.sim)
theorem ML.nml : ∀ (f : Nat) {x : RS}, ML x (nmlP tx n f x).1 := by
  intro f
  induction f with
  | zero => intro x; exact ML.rfl'
  | succ f ih => intro x; unfold nmlP; exact ML.ite1 ((ML.wt.trans ML.nx).trans ih) ML.wt
theorem ML.at {x : RS} : ML x (atP tx n x).1 := ML.ite1 (ML.ite1 (ML.nx.trans ML.nx) (ML.nx.trans ML.fl)) ML.rfl'
theorem ML.ini {x : RS} : ML x (iniP tx n x).1 := ML.ite1 (ML.nx.trans ML.con) ML.rfl'
theorem ML.dec {x : RS} : ML x (decP tx n x).1 := ML.ite1 ((((((ML.nml _).trans ML.at).trans ML.wt).trans ML.typ).trans ML.ini).trans ML.wt) ML.fl
theorem ML.dcl : ∀ (f : Nat) {x : RS}, ML x (dclP tx n f x).1 := by
  intro f
  induction f with
  | zero => intro x; exact ML.rfl'
  | succ f ih => intro x; unfold dclP; exact ML.ite1 (ML.dec.trans ih) ML.rfl'
theorem ML.sec {x : RS} : ML x (secP tx n x).1 := (ML.nx.trans (ML.dcl _)).trans ML.wt
theorem ML.scs : ∀ (f : Nat) {x : RS} {b : Int32}, ML x (scsP tx n f x b).1 := by
  intro f
  induction f with
  | zero => intro x b; exact ML.rfl'
  | succ f ih =>
    intro x b
    unfold scsP
    split
    · exact ML.sec.trans ih
    · exact ML.rfl'
theorem ML.exl {opd : RS → RS × Tr} (ho : ∀ x, ML x (opd x).1) : ∀ (f : Nat) {x : RS}, ML x (exlP tx n opd f x).1 := by
  intro f
  induction f with
  | zero => intro x; exact ML.rfl'
  | succ f ih =>
    intro x
    unfold exlP
    split
    · exact ((ML.op.trans ML.nx).trans (ho _)).trans ih
    · exact ML.rfl'
theorem ML.ex {opd : RS → RS × Tr} (ho : ∀ x, ML x (opd x).1) {x : RS} : ML x (exP tx n opd x).1 := by
  cases x with
  | error e => exact ⟨fun e h => h, fun s q h _ => by cases h⟩
  | ok s =>
    refine ⟨fun e h => (by cases h), fun s' q h1 h2 => ?_⟩
    cases h1
    have h2 : enX s (exlP tx n opd (n + 1) (opd (.ok (sDS s (sD s) (sS s + 1)))).1).1 = .ok q := h2
    have m := (ho (.ok (sDS s (sD s) (sS s + 1)))).trans (ML.exl (tx := tx) (n := n) ho (n + 1))
    cases hy : (exlP tx n opd (n + 1) (opd (.ok (sDS s (sD s) (sS s + 1)))).1).1 with
    | error e => rw [hy] at h2; cases h2
    | ok r =>
      rw [hy] at h2
      cases h2
      have := m.2 (sDS s (sD s) (sS s + 1)) r rfl hy
      exact this
theorem ML.arl {E : RS → RS × Tr} (hE : ∀ x, ML x (E x).1) : ∀ (f : Nat) {x : RS}, ML x (arlP tx n E f x).1 := by
  intro f
  induction f with
  | zero => intro x; exact ML.rfl'
  | succ f ih => intro x; unfold arlP; exact ML.ite1 (((hE _).trans ML.nx).trans ih) (hE _)
theorem ML.ix {E : RS → RS × Tr} (hE : ∀ x, ML x (E x).1) {x : RS} : ML x (ixP tx n E x).1 := ML.cl ((ML.nx.trans (hE _)).trans ML.wt)
theorem ML.ag {E : RS → RS × Tr} (hE : ∀ x, ML x (E x).1) {x : RS} : ML x (agP tx n E x).1 := ML.cl (ML.trans (ML.nx.trans (ML.ite1 ML.rfl' (ML.arl hE _))) ML.wt)
theorem ML.out {x : RS} {p v : Int32} : ML x (outP tx n x p v).1 := ML.ite1 (ML.nx.trans ML.wt) ML.rfl'
theorem ML.nop {E : RS → RS × Tr} (hE : ∀ x, ML x (E x).1) {x : RS} : ML x (nopP tx n E x).1 := ML.ite1 (ML.nx.trans (ML.ix hE)) (ML.ite1 (ML.nx.trans (ML.ag hE)) (ML.nx.trans ML.out))
theorem ML.opd : ∀ (f : Nat) {x : RS}, ML x (opdP tx n f x).1 := by
  intro f
  induction f with
  | zero => intro x; exact ML.rfl'
  | succ f ih =>
    intro x
    unfold opdP
    exact ML.ite1 (ML.cl (ML.nx.trans ih)) (ML.ite1 (ML.cl ((ML.nx.trans (ML.ex (fun _ => ih))).trans ML.wt)) (ML.ite1 ML.nx (ML.ite1 ML.nx (ML.ite1 (ML.nop (fun _ => ML.ex (fun _ => ih))) ML.fl))))
theorem ML.exp {x : RS} : ML x (expP tx n x).1 := ML.ex (fun _ => ML.opd _)
theorem ML.prl : ∀ (f : Nat) {x : RS}, ML x (prlP tx n f x).1 := by
  intro f
  induction f with
  | zero => intro x; exact ML.rfl'
  | succ f ih => intro x; unfold prlP; exact ML.ite1 ((((ML.wt.trans ML.wt).trans ML.exp).trans ML.nx).trans ih) ((ML.wt.trans ML.wt).trans ML.exp)
theorem ML.inv {x : RS} : ML x (invP tx n x).1 := ML.cl (ML.trans (ML.nx.trans (ML.ite1 ML.rfl' (ML.prl _))) ML.wt)
theorem ML.tgt {x : RS} {p v : Int32} : ML x (tgtP tx n x p v).1 := ML.ite1 (ML.ix (fun _ => ML.exp)) ML.rfl'
theorem ML.nam {x : RS} : ML x (namP tx n x).1 := ML.ite1 (ML.nx.trans ML.inv) (((ML.nx.trans ML.tgt).trans ML.wt).trans ML.exp)
theorem ML.bdl {S : RS → RS × Tr} (hS : ∀ x, ML x (S x).1) : ∀ (f : Nat) {x : RS}, ML x (bdlP tx n S f x).1 := by
  intro f
  induction f with
  | zero => intro x; exact ML.rfl'
  | succ f ih => intro x; unfold bdlP; exact ML.ite1 (((hS _).trans ML.wt).trans ih) ML.rfl'
theorem ML.bod {S : RS → RS × Tr} (hS : ∀ x, ML x (S x).1) {x : RS} {p : Int32} : ML x (bodP tx n S x p).1 := ML.bdl hS _
theorem ML.oth {S : RS → RS × Tr} (hS : ∀ x, ML x (S x).1) {x : RS} : ML x (othP tx n S x).1 := ML.ite1 (ML.nx.trans (ML.bod (p := 0) hS)) ML.rfl'
theorem ML.ifl {S : RS → RS × Tr} (hS : ∀ x, ML x (S x).1) : ∀ (f : Nat) {x : RS}, ML x (iflP tx n S f x).1 := by
  intro f
  induction f with
  | zero => intro x; exact ML.rfl'
  | succ f ih => intro x; unfold iflP; exact ML.ite1 ((((ML.nx.trans ML.exp).trans ML.wt).trans (ML.bod (p := 0) hS)).trans ih) (((ML.nx.trans ML.exp).trans ML.wt).trans (ML.bod (p := 0) hS))
theorem ML.rg2 {x : RS} : ML x (rg2P tx n x).1 := ML.ite1 (ML.nx.trans ML.con) ML.rfl'
theorem ML.rgl : ∀ (f : Nat) {x : RS}, ML x (rglP tx n f x).1 := by
  intro f
  induction f with
  | zero => intro x; exact ML.rfl'
  | succ f ih => intro x; unfold rglP; exact ML.ite1 (((ML.con.trans ML.rg2).trans ML.nx).trans ih) (ML.con.trans ML.rg2)
theorem ML.cao {S : RS → RS × Tr} (hS : ∀ x, ML x (S x).1) {x : RS} : ML x (caoP tx n S x).1 := ((ML.rgl _).trans ML.wt).trans (ML.bod (p := 0) hS)
theorem ML.cal {S : RS → RS × Tr} (hS : ∀ x, ML x (S x).1) : ∀ (f : Nat) {x : RS}, ML x (calP tx n S f x).1 := by
  intro f
  induction f with
  | zero => intro x; exact ML.rfl'
  | succ f ih => intro x; unfold calP; exact ML.ite1 ((ML.cao hS).trans ih) ML.rfl'
theorem ML.if {S : RS → RS × Tr} (hS : ∀ x, ML x (S x).1) {x : RS} : ML x (ifP tx n S x).1 := ML.cl (((ML.ifl hS _).trans (ML.oth hS)).trans ML.wt)
theorem ML.ca {S : RS → RS × Tr} (hS : ∀ x, ML x (S x).1) {x : RS} : ML x (caP tx n S x).1 := ML.cl (((((ML.nx.trans ML.exp).trans ML.wt).trans (ML.cal hS _)).trans (ML.oth hS)).trans ML.wt)
theorem ML.by {x : RS} : ML x (byP tx n x).1 := ML.ite1 (ML.nx.trans ML.con) ML.rfl'
theorem ML.fo {S : RS → RS × Tr} (hS : ∀ x, ML x (S x).1) {x : RS} : ML x (foP tx n S x).1 := ML.cl (((((((((ML.nx.trans ML.wt).trans ML.wt).trans ML.con).trans ML.wt).trans ML.con).trans ML.by).trans ML.wt).trans (ML.bod (p := 0) hS)).trans ML.wt)
theorem ML.stm : ∀ (f : Nat) {x : RS}, ML x (stmP tx n f x).1 := by
  intro f
  induction f with
  | zero => intro x; exact ML.rfl'
  | succ f ih => intro x; unfold stmP; exact ML.ite1 ML.nam (ML.ite1 (ML.if (fun _ => ih)) (ML.ite1 (ML.ca (fun _ => ih)) (ML.ite1 (ML.fo (fun _ => ih)) (ML.ite1 ML.nx ML.rfl'))))
theorem ML.cel {x : RS} : ML x (celP tx n x).1 := ML.ite1 ML.rfl' (ML.ite1 ML.nx (ML.ite1 (((ML.nx.trans (ML.ite ML.nx ML.rfl')).trans ML.wt).trans ML.wt) (((ML.ite ML.nx ML.rfl').trans ML.wt).trans ML.out)))
theorem ML.rwl : ∀ (f : Nat) {x : RS}, ML x (rwlP tx n f x).1 := by
  intro f
  induction f with
  | zero => intro x; exact ML.rfl'
  | succ f ih => intro x; unfold rwlP; exact ML.ite1 (((ML.ite ML.nx ML.rfl').trans ML.cel).trans ih) ML.rfl'
theorem ML.row {x : RS} : ML x (rowP tx n x).1 := (ML.cel.trans (ML.rwl _)).trans ML.wt
theorem ML.rnl : ∀ (f : Nat) {x : RS}, ML x (rnlP tx n f x).1 := by
  intro f
  induction f with
  | zero => intro x; exact ML.rfl'
  | succ f ih => intro x; unfold rnlP; exact ML.ite1 (ML.row.trans ih) ML.row
theorem ML.rng {x : RS} : ML x (rngP tx n x).1 := (ML.nx.trans (ML.rnl _)).trans ML.wt
theorem ML.lal : ∀ (f : Nat) {x : RS}, ML x (lalP tx n f x).1 := by
  intro f
  induction f with
  | zero => intro x; exact ML.rfl'
  | succ f ih => intro x; unfold lalP; exact ML.ite1 (ML.rng.trans ih) ML.rfl'
theorem ML.lad {x : RS} : ML x (ladP tx n x).1 := (ML.nx.trans (ML.lal _)).trans ML.wt
theorem ML.fnh {x : RS} {b : Bool} {p : Int32} : ML x (fnhP tx n x b p).1 := by
  unfold fnhP
  split
  · exact ML.wt.trans ML.sim
  · exact ML.rfl'
theorem ML.lor {x : RS} {p : Int32} : ML x (lorP tx n x p).1 := ML.ite1 ML.lad (ML.bod (p := 0) (fun _ => ML.stm _))
theorem ML.blk {x : RS} : ML x (blkP tx n x).1 := ML.ite1 (((((ML.nx.trans ML.wt).trans ML.fnh).trans (ML.scs _)).trans ML.lor).trans ML.wt) ML.fl
theorem ML.bkl : ∀ (f : Nat) {x : RS}, ML x (bklP tx n f x).1 := by
  intro f
  induction f with
  | zero => intro x; exact ML.rfl'
  | succ f ih => intro x; unfold bklP; exact ML.ite1 (ML.blk.trans ih) ML.rfl'
end

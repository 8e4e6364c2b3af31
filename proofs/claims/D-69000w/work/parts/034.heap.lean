/-! 034: arms that touch the memory -/
theorem kds_len : kds.length = 134 := by decide +kernel
theorem kds_lt {a : Nat} {q : Kd} (h : kds[a]? = some q) : a < 134 := by
  have := (List.getElem?_eq_some_iff.mp h).1
  rwa [kds_len] at this
theorem kds_ok {a : Nat} {q : Kd} (h : kds[a]? = some q) : kdOk q = true := List.all_eq_true.mp kd_chk _ (List.mem_of_getElem? h)
theorem adr_own {w : Wd} {a : Nat} (h : a < 1000) : adr w a = w.1 + a := by
  unfold adr
  have : Nat.blt a 1000 = true := by simpa [Nat.blt_eq] using h
  rw [this]; rfl
theorem adr_ext {w : Wd} {a : Nat} (h : ¬ a < 1000) : adr w a = w.2.2.2.2 (a - 1000) := by
  unfold adr
  have : Nat.blt a 1000 = false := by rw [Bool.eq_false_iff]; intro h2; exact h (by simpa [Nat.blt_eq] using h2)
  rw [this]; rfl
theorem rdI_own {σ : Sg} {a i : Nat} (h : a < 1000) : rdI σ a i = σ.1 a i := by
  unfold rdI
  have : Nat.blt a 1000 = true := by simpa [Nat.blt_eq] using h
  rw [this]; rfl
theorem rowTr_eq {k : Nat} {q : Nat × Nat} (h : rowTr k = some q) : kds[k]? = some (.inr q) := by
  by_cases hk : k < 134
  · have := of_decide_eq_true (List.all_eq_true.mp rowTr_chk k (List.mem_range.mpr hk))
    rw [h] at this
    split at this
    · rename_i q' hq
      rw [hq, Option.some.inj this]
    · cases this
  · exfalso
    unfold rowTr at h
    have hb : ∀ m, m < 134 → Nat.ble k m = false := fun m hm => by rw [Bool.eq_false_iff]; intro h2; have := Nat.le_of_ble_eq_true h2; omega
    have he : ∀ m, m < 134 → Nat.beq k m = false := fun m hm => by rw [Bool.eq_false_iff]; intro h2; have := Nat.eq_of_beq_eq_true h2; omega
    simp [hb, he] at h
theorem rowK_inv {a t z : Nat} (h : rowK a = some (t, z)) : (a < 1000 ∧ a < 134 ∧ kds[a]? = some (.inr (t, z))) ∨ (¬ a < 1000 ∧ ∃ x, extT[a - 1000]? = some x ∧ x.2.2.1 = t ∧ x.2.2.2.length = z) := by
  unfold rowK at h
  cases hb : Nat.blt a 1000 with
  | true =>
    rw [hb] at h
    have ha : a < 1000 := by simpa [Nat.blt_eq] using hb
    have h : rowTr a = some (t, z) := h
    have hq := rowTr_eq h
    exact Or.inl ⟨ha, kds_lt hq, hq⟩
  | false =>
    rw [hb] at h
    have ha : ¬ a < 1000 := by intro h2; rw [show Nat.blt a 1000 = true by simpa [Nat.blt_eq] using h2] at hb; cases hb
    simp only [cond_false] at h
    split at h
    · rename_i x hx
      have h := Option.some.inj h
      cases h
      exact Or.inr ⟨ha, x, hx, rfl, rfl⟩
    · cases h
theorem tys_get (w : Wd) {t : Nat} (h : t < 5) : (tysW w)[t]? = some (w.2.2.2.1 t, tyC t) := by
  match t, h with
  | 0, _ => rfl
  | 1, _ => rfl
  | 2, _ => rfl
  | 3, _ => rfl
  | 4, _ => rfl
theorem rowT {a t z : Nat} (h : kds[a]? = some (.inr (t, z))) : t < 5 := by
  have := kds_ok h
  simp only [kdOk, decide_eq_true_eq] at this
  exact this.1
theorem ws_arr {w : Wd} {σ : Sg} {a t z : Nat} (h : kds[a]? = some (.inr (t, z))) (ht : t ≠ 2) : (wsOf w σ)[a]? = some (w.1 + a, .inl (w.2.2.2.1 t, (z, .inl (σ.1 a)))) := by
  rw [ws_get (kds_lt h), ent_arr h ht]
theorem ws_arrL {w : Wd} {σ : Sg} {a z : Nat} (h : kds[a]? = some (.inr (2, z))) : (wsOf w σ)[a]? = some (w.1 + a, .inl (w.2.2.2.1 2, (z, .inr (.inl (σ.2.1 a))))) := by
  rw [ws_get (kds_lt h), ent_arrL h]
theorem ext_rd {σ : Sg} {a i : Nat} {x : String × String × Nat × List Int32} (h : ¬ a < 1000) (hx : extT[a - 1000]? = some x) : rdI σ a i = x.2.2.2.getD i 0 := by
  unfold rdI
  have : Nat.blt a 1000 = false := by rw [Bool.eq_false_iff]; intro h2; exact h (by simpa [Nat.blt_eq] using h2)
  rw [this, hx]; rfl
section
variable {w : Wd} {d k n e c0 s0 : Nat} {Q : Option AV → Sg → Prop} {mi : MI} {pc nx : Nat} {lo : Lo} {st : List AV} {σ : Sg}
theorem b_arraylength {C : Nat → Nat → Lo → List AV → Sg → Prop} (hmi : mths[e]? = some mi) (hd : decode mi.2.1 pc = .ok (.arraylength, nx - pc)) (hx : ln nx pc 1 = true) (hC : ∀ c0 s0 lo st σ, C c0 s0 lo st σ → Bk w d k n e c0 s0 Q nx lo st σ) (h : p1c st (fun a r => match rowK a with | some z => C c0 s0 lo (.inr (.int (Int32.ofNat z.2)) :: r) σ | none => False)) : Bk w d k n e c0 s0 Q pc lo st σ := by
  have hn := ln_eq hx; subst hn; rw [Nat.add_sub_cancel_left] at hd
  obtain ⟨a, r, rfl, h'⟩ := p1c_inv h; clear h; have h := h'; clear h'
  split at h
  · rename_i z hz
    obtain ⟨t, z⟩ := z
    refine bk_row hmi (hC _ _ _ _ _ h) (fun p l ev R s m args below meth c H locs cells slots QQ ls h1 h2 h3 h4 h5 h6 h7 h8 kk => ?_)
    rcases rowK_inv hz with ⟨ha, ha2, hk⟩ | ⟨ha, x, hx1, hx2, hx3⟩
    · show W _ _ _ _ _ _ _ _ _ _ _ _ _ _ _ (F0 m pc ls (.ref (adr w a) :: _))
      rw [adr_own ha]
      by_cases h2t : t = 2
      · subst h2t
        exact va_alen h1 h2 h6.1 h8.1 a 2 (ws_arrL hk) (tys_get w (by omega)) rfl hd kk
      · exact va_alen h1 h2 h6.1 h8.1 a t (ws_arr hk h2t) (tys_get w (rowT hk)) rfl hd kk
    · show W _ _ _ _ _ _ _ _ _ _ _ _ _ _ _ (F0 m pc ls (.ref (adr w a) :: _))
      rw [adr_ext ha]
      subst hx3
      exact va_tlen h1 h2 (h6.2.2.2.1 _ _ hx1).2 h7 rfl hd kk
  · exact h.elim
theorem b_iaload {C : Nat → Nat → Lo → List AV → Sg → Prop} (hmi : mths[e]? = some mi) (hd : decode mi.2.1 pc = .ok (.iaload, nx - pc)) (hx : ln nx pc 1 = true) (hC : ∀ c0 s0 lo st σ, C c0 s0 lo st σ → Bk w d k n e c0 s0 Q nx lo st σ) (h : pix st (fun i a r => match rowK a with | some (0, z) => vp_in i z ∧ C c0 s0 lo (.inr (.int (rdI σ a i.toNatClampNeg)) :: r) σ | _ => False)) : Bk w d k n e c0 s0 Q pc lo st σ := by
  have hn := ln_eq hx; subst hn; rw [Nat.add_sub_cancel_left] at hd
  obtain ⟨i, a, r, rfl, h'⟩ := pix_inv h; clear h; have h := h'; clear h'
  split at h
  · rename_i z hz
    obtain ⟨hin, h⟩ := h
    refine bk_row hmi (hC _ _ _ _ _ h) (fun p l ev R s m args below meth c H locs cells slots QQ ls h1 h2 h3 h4 h5 h6 h7 h8 kk => ?_)
    show W _ _ _ _ _ _ _ _ _ _ _ _ _ _ _ (F0 m pc ls (.int i :: .ref (adr w a) :: _))
    rcases rowK_inv hz with ⟨ha, ha2, hk⟩ | ⟨ha, x, hx1, hx2, hx3⟩
    · rw [adr_own ha]
      refine va_iald h1 h2 h6.1 h8.1 a 0 (ws_arr hk (by omega)) (tys_get w (by omega)) hin hd ?_
      rw [← rdI_own (σ := σ) ha]; exact kk
    · rw [adr_ext ha]
      subst hx3
      have hT := (h6.2.2.2.1 _ _ hx1).2
      rw [hx2] at hT
      refine va_ti h1 h2 hT h7 hin (v := .int (rdI σ a i.toNatClampNeg)) (by rw [ext_rd ha hx1]) hd kk
  · exact h.elim
theorem b_saload {C : Nat → Nat → Lo → List AV → Sg → Prop} (hmi : mths[e]? = some mi) (hd : decode mi.2.1 pc = .ok (.saload, nx - pc)) (hx : ln nx pc 1 = true) (hC : ∀ c0 s0 lo st σ, C c0 s0 lo st σ → Bk w d k n e c0 s0 Q nx lo st σ) (h : pix st (fun i a r => match rowK a with | some (3, z) => vp_in i z ∧ C c0 s0 lo (.inr (.int (rdI σ a i.toNatClampNeg)) :: r) σ | _ => False)) : Bk w d k n e c0 s0 Q pc lo st σ := by
  have hn := ln_eq hx; subst hn; rw [Nat.add_sub_cancel_left] at hd
  obtain ⟨i, a, r, rfl, h'⟩ := pix_inv h; clear h; have h := h'; clear h'
  split at h
  · rename_i z hz
    obtain ⟨hin, h⟩ := h
    refine bk_row hmi (hC _ _ _ _ _ h) (fun p l ev R s m args below meth c H locs cells slots QQ ls h1 h2 h3 h4 h5 h6 h7 h8 kk => ?_)
    show W _ _ _ _ _ _ _ _ _ _ _ _ _ _ _ (F0 m pc ls (.int i :: .ref (adr w a) :: _))
    rcases rowK_inv hz with ⟨ha, ha2, hk⟩ | ⟨ha, x, hx1, hx2, hx3⟩
    · rw [adr_own ha]
      refine va_sald h1 h2 h6.1 h8.1 a 3 (ws_arr hk (by omega)) (tys_get w (by omega)) hin hd ?_
      rw [← rdI_own (σ := σ) ha]; exact kk
    · rw [adr_ext ha]
      subst hx3
      have hT := (h6.2.2.2.1 _ _ hx1).2
      rw [hx2] at hT
      refine va_ts h1 h2 hT h7 hin (v := .int (rdI σ a i.toNatClampNeg)) (by rw [ext_rd ha hx1]) hd kk
  · exact h.elim
theorem b_baload {C : Nat → Nat → Lo → List AV → Sg → Prop} (hmi : mths[e]? = some mi) (hd : decode mi.2.1 pc = .ok (.baload, nx - pc)) (hx : ln nx pc 1 = true) (hC : ∀ c0 s0 lo st σ, C c0 s0 lo st σ → Bk w d k n e c0 s0 Q nx lo st σ) (h : pix st (fun i a r => match rowK a with | some (1, z) => vp_in i z ∧ C c0 s0 lo (.inr (.int (rdI σ a i.toNatClampNeg)) :: r) σ | some (4, z) => vp_in i z ∧ C c0 s0 lo (.inr (.int (rdI σ a i.toNatClampNeg)) :: r) σ | _ => False)) : Bk w d k n e c0 s0 Q pc lo st σ := by
  have hn := ln_eq hx; subst hn; rw [Nat.add_sub_cancel_left] at hd
  obtain ⟨i, a, r, rfl, h'⟩ := pix_inv h; clear h; have h := h'; clear h'
  split at h
  · rename_i z hz
    obtain ⟨hin, h⟩ := h
    refine bk_row hmi (hC _ _ _ _ _ h) (fun p l ev R s m args below meth c H locs cells slots QQ ls h1 h2 h3 h4 h5 h6 h7 h8 kk => ?_)
    show W _ _ _ _ _ _ _ _ _ _ _ _ _ _ _ (F0 m pc ls (.int i :: .ref (adr w a) :: _))
    rcases rowK_inv hz with ⟨ha, ha2, hk⟩ | ⟨ha, x, hx1, hx2, hx3⟩
    · rw [adr_own ha]
      refine va_bald h1 h2 h6.1 h8.1 a 1 (ws_arr hk (by omega)) (tys_get w (by omega)) hin hd ?_
      rw [← rdI_own (σ := σ) ha]; exact kk
    · rw [adr_ext ha]
      subst hx3
      have hT := (h6.2.2.2.1 _ _ hx1).2
      rw [hx2] at hT
      refine va_tb h1 h2 hT h7 hin (v := .int (rdI σ a i.toNatClampNeg)) (by rw [ext_rd ha hx1]) hd kk
  · rename_i z hz
    obtain ⟨hin, h⟩ := h
    refine bk_row hmi (hC _ _ _ _ _ h) (fun p l ev R s m args below meth c H locs cells slots QQ ls h1 h2 h3 h4 h5 h6 h7 h8 kk => ?_)
    show W _ _ _ _ _ _ _ _ _ _ _ _ _ _ _ (F0 m pc ls (.int i :: .ref (adr w a) :: _))
    rcases rowK_inv hz with ⟨ha, ha2, hk⟩ | ⟨ha, x, hx1, hx2, hx3⟩
    · rw [adr_own ha]
      refine va_zald h1 h2 h6.1 h8.1 a 4 (ws_arr hk (by omega)) (tys_get w (by omega)) hin hd ?_
      rw [← rdI_own (σ := σ) ha]; exact kk
    · rw [adr_ext ha]
      subst hx3
      have hT := (h6.2.2.2.1 _ _ hx1).2
      rw [hx2] at hT
      refine va_tz h1 h2 hT h7 hin (v := .int (rdI σ a i.toNatClampNeg)) (by rw [ext_rd ha hx1]) hd kk
  · exact h.elim
theorem b_laload {C : Nat → Nat → Lo → List AV → Sg → Prop} (hmi : mths[e]? = some mi) (hd : decode mi.2.1 pc = .ok (.laload, nx - pc)) (hx : ln nx pc 1 = true) (hC : ∀ c0 s0 lo st σ, C c0 s0 lo st σ → Bk w d k n e c0 s0 Q nx lo st σ) (h : pix st (fun i a r => match rowK a with | some (2, z) => vp_in i z ∧ C c0 s0 lo (.inr (.long (σ.2.1 a i.toNatClampNeg)) :: r) σ | _ => False)) (hext : ∀ (j : Nat) (x : String × String × Nat × List Int32), extT[j]? = some x → x.2.2.1 < 2) : Bk w d k n e c0 s0 Q pc lo st σ := by
  have hn := ln_eq hx; subst hn; rw [Nat.add_sub_cancel_left] at hd
  obtain ⟨i, a, r, rfl, h'⟩ := pix_inv h; clear h; have h := h'; clear h'
  split at h
  · rename_i z hz
    obtain ⟨hin, h⟩ := h
    refine bk_row hmi (hC _ _ _ _ _ h) (fun p l ev R s m args below meth c H locs cells slots QQ ls h1 h2 h3 h4 h5 h6 h7 h8 kk => ?_)
    show W _ _ _ _ _ _ _ _ _ _ _ _ _ _ _ (F0 m pc ls (.int i :: .ref (adr w a) :: _))
    rcases rowK_inv hz with ⟨ha, ha2, hk⟩ | ⟨ha, x, hx1, hx2, hx3⟩
    · rw [adr_own ha]
      exact va_lald h1 h2 h6.1 h8.1 a 2 (ws_arrL hk) (tys_get w (by omega)) hin hd kk
    · have := hext _ _ hx1
      omega
  · exact h.elim
/-- the memory behind a write -/
theorem bk_wr {σ' : Sg} {r : List AV} {a : Nat} {x : va_E} (hmi : mths[e]? = some mi) (ha2 : a < 134) (hx : x = ent w σ' a) (ho : ∀ j, j ≠ a → ent w σ' j = ent w σ j) (hs2 : σ'.2.2 = σ.2.2) (h : Bk w d k n e c0 s0 Q nx lo r σ')
    (row : ∀ (p : Program) (l : Launch) (ev : Env) (R : Room) (s : State) (m : MethodId) (args : Array Value) (below : List Frame) (meth : Method) (c : Code) (H : Heap) (locs : List Loc) (cells slots : Nat) (QQ : State → Prop) (ls : Array Slot), p.tables.exec = Jvm.exec → c.code = mi.2.1 → c.maxLocals = ls.size → s.vm.findClass mi.1.cls = some m.cls → (∀ q ∈ gtbl, q.before args s = true) → Kn w s → va_S (AA w) s.heap H locs → Rel w σ H → 1 ≤ R.frames → 60 ≤ R.locals →
      (∀ (H1 : Heap) (locs1 : List Loc), va_P (w.2.1, w.2.2.1) classes ((wsOf w σ).set a (w.1 + a, x)) H1 → va_D (AA w) ((wsOf w σ).set a (w.1 + a, x)) → va_S (AA w) s.heap H1 locs1 → W p l ev R s m args below meth c H1 locs1 cells slots QQ (F0 m nx ls (r.map (enc w)))) → W p l ev R s m args below meth c H locs cells slots QQ (F0 m pc ls (st.map (enc w)))) : Bk w d k n e c0 s0 Q pc lo st σ := by
  intro hd1 hc1 hs1 mi' hmi' p l ev s m args below meth c H locs ls C hK hR hS hl
  cases hmi.symm.trans hmi'
  refine row p l ev _ s m args below meth c H locs _ _ _ ls C.1.1 C.1.2.1 (by rw [C.1.2.2.1, hl.1]) C.1.2.2.2.1 C.1.2.2.2.2 hK hS hR hd1 (by show 60 ≤ 60 * d; omega) (fun H1 locs1 q1 q2 q3 => ?_)
  rw [ws_set ha2 hx ho hs2] at q1 q2
  exact h hd1 hc1 hs1 mi hmi p l ev s m args below meth c H1 locs1 ls C hK ⟨q1, q2, Nat.le_trans hK.2.2.1 q3.1⟩ q3 hl
theorem b_iastore {C : Nat → Nat → Lo → List AV → Sg → Prop} (hmi : mths[e]? = some mi) (hd : decode mi.2.1 pc = .ok (.iastore, nx - pc)) (hx : ln nx pc 1 = true) (hC : ∀ c0 s0 lo st σ, C c0 s0 lo st σ → Bk w d k n e c0 s0 Q nx lo st σ) (h : p1i st (fun x r0 => pix r0 (fun i a r => bif Nat.blt a 1000 then (match rowK a with | some (0, z) => vp_in i z ∧ C c0 s0 lo r (wI σ a i.toNatClampNeg x) | _ => False) else False))) : Bk w d k n e c0 s0 Q pc lo st σ := by
  have hn := ln_eq hx; subst hn; rw [Nat.add_sub_cancel_left] at hd
  obtain ⟨x, r0, rfl, h'⟩ := p1i_inv h; clear h; have h := h'; clear h'
  obtain ⟨i, a, r, rfl, h'⟩ := pix_inv h; clear h; have h := h'; clear h'
  obtain ⟨hb, h⟩ := bif_inv h
  have ha : a < 1000 := by simpa [Nat.blt_eq] using hb
  split at h
  · rename_i z hz
    obtain ⟨hin, h⟩ := h
    rcases rowK_inv hz with ⟨-, ha2, hk⟩ | ⟨ha3, -⟩
    · refine bk_wr (x := .inl (w.2.2.2.1 0, (z, .inl (upd (σ.1 a) i.toNatClampNeg x)))) hmi ha2 (by rw [ent_arr hk (by omega)]; show _ = Sum.inl (_, z, Sum.inl (up2 σ.1 a i.toNatClampNeg x a)); rw [up2_row]) (fun j hj => ent_wI hj) rfl (hC _ _ _ _ _ h) (fun p l ev R s m args below meth c H locs cells slots QQ ls h1 h2 h3 h4 h5 h6 h7 h8 h9 h10 kk => ?_)
      show W _ _ _ _ _ _ _ _ _ _ _ _ _ _ _ (F0 m pc ls (.int x :: .int i :: .ref (adr w a) :: _))
      rw [adr_own ha]
      exact va_iast h1 h2 h6.1 h8.1 h8.2.1 h7 a 0 (ws_arr hk (by omega)) (tys_get w (by omega)) hin hd kk
    · exact absurd ha ha3
  · exact h.elim
theorem b_bastore {C : Nat → Nat → Lo → List AV → Sg → Prop} (hmi : mths[e]? = some mi) (hd : decode mi.2.1 pc = .ok (.bastore, nx - pc)) (hx : ln nx pc 1 = true) (hC : ∀ c0 s0 lo st σ, C c0 s0 lo st σ → Bk w d k n e c0 s0 Q nx lo st σ) (h : p1i st (fun x r0 => pix r0 (fun i a r => bif Nat.blt a 1000 then (match rowK a with | some (1, z) => vp_in i z ∧ C c0 s0 lo r (wI σ a i.toNatClampNeg (vp_nar .byte x)) | some (4, z) => vp_in i z ∧ C c0 s0 lo r (wI σ a i.toNatClampNeg (vp_nar .boolean x)) | _ => False) else False))) : Bk w d k n e c0 s0 Q pc lo st σ := by
  have hn := ln_eq hx; subst hn; rw [Nat.add_sub_cancel_left] at hd
  obtain ⟨x, r0, rfl, h'⟩ := p1i_inv h; clear h; have h := h'; clear h'
  obtain ⟨i, a, r, rfl, h'⟩ := pix_inv h; clear h; have h := h'; clear h'
  obtain ⟨hb, h⟩ := bif_inv h
  have ha : a < 1000 := by simpa [Nat.blt_eq] using hb
  split at h
  · rename_i z hz
    obtain ⟨hin, h⟩ := h
    rcases rowK_inv hz with ⟨-, ha2, hk⟩ | ⟨ha3, -⟩
    · refine bk_wr (x := .inl (w.2.2.2.1 1, (z, .inl (upd (σ.1 a) i.toNatClampNeg (vp_nar .byte x))))) hmi ha2 (by rw [ent_arr hk (by omega)]; show _ = Sum.inl (_, z, Sum.inl (up2 σ.1 a i.toNatClampNeg (vp_nar .byte x) a)); rw [up2_row]) (fun j hj => ent_wI hj) rfl (hC _ _ _ _ _ h) (fun p l ev R s m args below meth c H locs cells slots QQ ls h1 h2 h3 h4 h5 h6 h7 h8 h9 h10 kk => ?_)
      show W _ _ _ _ _ _ _ _ _ _ _ _ _ _ _ (F0 m pc ls (.int x :: .int i :: .ref (adr w a) :: _))
      rw [adr_own ha]
      exact va_bast h1 h2 h6.1 h8.1 h8.2.1 h7 a 1 (ws_arr hk (by omega)) (tys_get w (by omega)) hin hd kk
    · exact absurd ha ha3
  · rename_i z hz
    obtain ⟨hin, h⟩ := h
    rcases rowK_inv hz with ⟨-, ha2, hk⟩ | ⟨ha3, -⟩
    · refine bk_wr (x := .inl (w.2.2.2.1 4, (z, .inl (upd (σ.1 a) i.toNatClampNeg (vp_nar .boolean x))))) hmi ha2 (by rw [ent_arr hk (by omega)]; show _ = Sum.inl (_, z, Sum.inl (up2 σ.1 a i.toNatClampNeg (vp_nar .boolean x) a)); rw [up2_row]) (fun j hj => ent_wI hj) rfl (hC _ _ _ _ _ h) (fun p l ev R s m args below meth c H locs cells slots QQ ls h1 h2 h3 h4 h5 h6 h7 h8 h9 h10 kk => ?_)
      show W _ _ _ _ _ _ _ _ _ _ _ _ _ _ _ (F0 m pc ls (.int x :: .int i :: .ref (adr w a) :: _))
      rw [adr_own ha]
      exact va_zast h1 h2 h6.1 h8.1 h8.2.1 h7 a 4 (ws_arr hk (by omega)) (tys_get w (by omega)) hin hd kk
    · exact absurd ha ha3
  · exact h.elim
theorem b_lastore {C : Nat → Nat → Lo → List AV → Sg → Prop} (hmi : mths[e]? = some mi) (hd : decode mi.2.1 pc = .ok (.lastore, nx - pc)) (hx : ln nx pc 1 = true) (hC : ∀ c0 s0 lo st σ, C c0 s0 lo st σ → Bk w d k n e c0 s0 Q nx lo st σ) (h : p1l st (fun x r0 => pix r0 (fun i a r => bif Nat.blt a 1000 then (match rowK a with | some (2, z) => vp_in i z ∧ C c0 s0 lo r (wL σ a i.toNatClampNeg x) | _ => False) else False))) : Bk w d k n e c0 s0 Q pc lo st σ := by
  have hn := ln_eq hx; subst hn; rw [Nat.add_sub_cancel_left] at hd
  obtain ⟨x, r0, rfl, h'⟩ := p1l_inv h; clear h; have h := h'; clear h'
  obtain ⟨i, a, r, rfl, h'⟩ := pix_inv h; clear h; have h := h'; clear h'
  obtain ⟨hb, h⟩ := bif_inv h
  have ha : a < 1000 := by simpa [Nat.blt_eq] using hb
  split at h
  · rename_i z hz
    obtain ⟨hin, h⟩ := h
    rcases rowK_inv hz with ⟨-, ha2, hk⟩ | ⟨ha3, -⟩
    · refine bk_wr (x := .inl (w.2.2.2.1 2, (z, .inr (.inl (vp_updL (σ.2.1 a) i.toNatClampNeg x))))) hmi ha2 (by rw [ent_arrL hk]; show _ = Sum.inl (_, z, Sum.inr (Sum.inl (up2 σ.2.1 a i.toNatClampNeg x a))); rw [up2_rowL]) (fun j hj => ent_wL hj) rfl (hC _ _ _ _ _ h) (fun p l ev R s m args below meth c H locs cells slots QQ ls h1 h2 h3 h4 h5 h6 h7 h8 h9 h10 kk => ?_)
      show W _ _ _ _ _ _ _ _ _ _ _ _ _ _ _ (F0 m pc ls (.long x :: .int i :: .ref (adr w a) :: _))
      rw [adr_own ha]
      exact va_last h1 h2 h6.1 h8.1 h8.2.1 h7 a 2 (ws_arrL hk) (tys_get w (by omega)) hin hd kk
    · exact absurd ha ha3
  · exact h.elim
end

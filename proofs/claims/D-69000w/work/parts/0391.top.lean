/-! 0391: what must hold of an instruction as it stands (printed by gen0391.py); every instruction; blocks; methods -/
def rcvD (sw : List (Int32 × Nat)) (a : Nat) : Bool := match sw, mths[a]? with | [p], some m2 => (match classes[p.2]? with | some c => decide (c.1 = m2.1.cls) | none => false) | _, _ => false
def calF (mi : MI) (q : It) (i : Nat) : Bool := match calT[q.2.2.2.2.2.2.1]? with | some f => decide (f.1 = mi.1.cls) && Nat.beq f.2.1 i && Nat.beq f.2.2.1 q.2.1 && Nat.blt q.2.1 487 | none => false
def exo (mi : MI) (pc : Nat) (q : It) : Bool := match q.1 with
  | .aconst_null => ln q.2.2.1 pc 1
  | .dup => ln q.2.2.1 pc 1
  | .dup2 => ln q.2.2.1 pc 1
  | .iadd => ln q.2.2.1 pc 1
  | .isub => ln q.2.2.1 pc 1
  | .imul => ln q.2.2.1 pc 1
  | .idiv => ln q.2.2.1 pc 1
  | .irem => ln q.2.2.1 pc 1
  | .iand => ln q.2.2.1 pc 1
  | .ior => ln q.2.2.1 pc 1
  | .ixor => ln q.2.2.1 pc 1
  | .ishl => ln q.2.2.1 pc 1
  | .ishr => ln q.2.2.1 pc 1
  | .iushr => ln q.2.2.1 pc 1
  | .ineg => ln q.2.2.1 pc 1
  | .i2b => ln q.2.2.1 pc 1
  | .i2c => ln q.2.2.1 pc 1
  | .i2l => ln q.2.2.1 pc 1
  | .l2i => ln q.2.2.1 pc 1
  | .ladd => ln q.2.2.1 pc 1
  | .lsub => ln q.2.2.1 pc 1
  | .lmul => ln q.2.2.1 pc 1
  | .ldiv => ln q.2.2.1 pc 1
  | .land => ln q.2.2.1 pc 1
  | .lneg => ln q.2.2.1 pc 1
  | .lshr => ln q.2.2.1 pc 1
  | .lcmp => ln q.2.2.1 pc 1
  | .arraylength => ln q.2.2.1 pc 1
  | .iaload => ln q.2.2.1 pc 1
  | .baload => ln q.2.2.1 pc 1
  | .saload => ln q.2.2.1 pc 1
  | .laload => ln q.2.2.1 pc 1
  | .iastore => ln q.2.2.1 pc 1
  | .bastore => ln q.2.2.1 pc 1
  | .lastore => ln q.2.2.1 pc 1
  | .aload _ => ln q.2.2.1 pc 2
  | .aload_n _ => ln q.2.2.1 pc 1
  | .iload _ => ln q.2.2.1 pc 2
  | .iload_n _ => ln q.2.2.1 pc 1
  | .lload _ => ln q.2.2.1 pc 2
  | .lload_n _ => ln q.2.2.1 pc 1
  | .astore i => ln q.2.2.1 pc 2 && Nat.blt i mi.2.2.1
  | .astore_n i => ln q.2.2.1 pc 1 && Nat.blt i.val mi.2.2.1
  | .istore i => ln q.2.2.1 pc 2 && Nat.blt i mi.2.2.1
  | .istore_n i => ln q.2.2.1 pc 1 && Nat.blt i.val mi.2.2.1
  | .lstore i => ln q.2.2.1 pc 2 && Nat.blt (i + 1) mi.2.2.1
  | .lstore_n i => ln q.2.2.1 pc 1 && Nat.blt (i.val + 1) mi.2.2.1
  | .iinc i v => ln q.2.2.1 pc 3 && (Nat.blt i mi.2.2.1 && decide (Int32.ofInt v = q.2.2.2.1))
  | .iconst v => ln q.2.2.1 pc 1 && decide (Int32.ofInt v = q.2.2.2.1)
  | .bipush v => ln q.2.2.1 pc 2 && decide ((Int8.ofInt v).toInt32 = q.2.2.2.1)
  | .sipush v => ln q.2.2.1 pc 3 && decide ((Int16.ofInt v).toInt32 = q.2.2.2.1)
  | .ldc i => ln q.2.2.1 pc 2 && (bif Nat.beq q.2.2.2.2.2.2.2.1 0 then tb q.2.2.2.2.2.2.1 (.constant mi.1.cls i q.2.2.2.1) else (match strT[q.2.1]? with | some x => decide (x.1 = mi.1.cls) && Nat.beq x.2.1 i | none => false))
  | .ldc_w i => ln q.2.2.1 pc 3 && (bif Nat.beq q.2.2.2.2.2.2.2.1 0 then tb q.2.2.2.2.2.2.1 (.constant mi.1.cls i q.2.2.2.1) else (match strT[q.2.1]? with | some x => decide (x.1 = mi.1.cls) && Nat.beq x.2.1 i | none => false))
  | .lconst v => ln q.2.2.1 pc 1 && decide (Int64.ofNat (v : Nat) = q.2.2.2.2.1)
  | .ldc2_w i => ln q.2.2.1 pc 3 && tb q.2.2.2.2.2.2.1 (.constantLong mi.1.cls i q.2.2.2.2.1)
  | .getfield i => ln q.2.2.1 pc 3 && (match fldT[q.2.2.2.2.2.2.1]? with | some f => decide (f.1 = mi.1.cls) && Nat.beq f.2.1 i && Nat.beq f.2.2.1 (q.2.1 / 128) && Nat.beq f.2.2.2.1 (q.2.1 % 128) | none => false)
  | .putfield i => ln q.2.2.1 pc 3 && ((match fldT[q.2.2.2.2.2.2.1]? with | some f => decide (f.1 = mi.1.cls) && Nat.beq f.2.1 i && Nat.beq f.2.2.1 (q.2.1 / 128) && Nat.beq f.2.2.2.1 (q.2.1 % 128) | none => false) && (match classes[q.2.1 / 128]? with | some c => !(c.2.1 (q.2.1 % 128)).2.2.2 | none => false))
  | .getstatic i => ln q.2.2.1 pc 3 && (match staT[q.2.2.2.2.2.2.1]? with | some f => decide (f.1 = mi.1.cls) && Nat.beq f.2.1 i && Nat.beq f.2.2.1 q.2.1 | none => false)
  | .goto off => ln q.2.2.1 pc 3 && decide ((pc : Int) + off = (q.2.1 : Int))
  | .ifCond _ off => ln q.2.2.1 pc 3 && decide ((pc : Int) + off = (q.2.1 : Int))
  | .if_icmp _ off => ln q.2.2.1 pc 3 && decide ((pc : Int) + off = (q.2.1 : Int))
  | .ifnull off => ln q.2.2.1 pc 3 && decide ((pc : Int) + off = (q.2.1 : Int))
  | .tableswitch dflt lo hi offs => decide ((pc : Int) + dflt = (q.2.1 : Int)) && tsOk pc lo hi offs q.2.2.2.2.2.1
  | .lookupswitch dflt ps => decide ((pc : Int) + dflt = (q.2.1 : Int)) && lkOk pc ps q.2.2.2.2.2.1
  | .ireturn => ln q.2.2.1 pc 1 && (if q.2.2.2.2.2.2.1 = 0 then decide (mi.2.2.2 = some .int) else decide (mi.2.2.2 = some .boolean))
  | .lreturn => ln q.2.2.1 pc 1 && decide (mi.2.2.2 = some .long)
  | .areturn => ln q.2.2.1 pc 1 && decide (mi.2.2.2 = some (.object "java/lang/String"))
  | .return_ => ln q.2.2.1 pc 1 && decide (mi.2.2.2 = none)
  | .invokevirtual i => ln q.2.2.1 pc 3 && (calF mi q i && (match calT[q.2.2.2.2.2.2.1]? with | some f => Nat.beq (f.2.2.2.2.1 + 1) q.2.2.2.2.2.2.2.1 && (Nat.beq f.2.2.2.1 2 || Nat.beq f.2.2.2.1 3) | none => false) && (!(Nat.beq q.2.2.2.2.2.2.2.2 6 || Nat.beq q.2.2.2.2.2.2.2.2 7) || (match mths[q.2.1]? with | some m2 => decide (m2.1.cls = "java/lang/String") | none => false)) && ((Nat.beq q.2.2.2.2.2.2.2.2 6 || Nat.beq q.2.2.2.2.2.2.2.2 7) || rcvD q.2.2.2.2.2.1 q.2.1))
  | .invokestatic i => ln q.2.2.1 pc 3 && (bif Nat.beq q.2.2.2.2.2.2.2.2 9 then (match cpyT[q.2.2.2.2.2.2.1]? with | some f => decide (f.1 = mi.1.cls) && Nat.beq f.2.1 i && Nat.beq q.2.2.2.2.2.2.2.1 5 | none => false) else (bif Nat.beq q.2.2.2.2.2.2.2.2 8 then (match calT[q.2.2.2.2.2.2.1]? with | some f => decide (f.1 = mi.1.cls) && Nat.beq f.2.1 i && Nat.beq f.2.2.2.1 0 && decide (mthE[q.2.1]? = some f.2.2.1) && Nat.beq q.2.2.2.2.2.2.2.1 2 | none => false) else (calF mi q i && (match calT[q.2.2.2.2.2.2.1]? with | some f => Nat.beq f.2.2.2.2.1 q.2.2.2.2.2.2.2.1 && (Nat.beq f.2.2.2.1 0 || Nat.beq f.2.2.2.1 1) && Nat.blt q.2.2.2.2.2.2.2.2 6 | none => false))))
  | _ => false
def vl (mi : MI) (pc : Nat) (q : It) : Bool := decide (decode mi.2.1 pc = .ok (q.1, q.2.2.1 - pc)) && exo mi pc q
theorem extT_kind : ∀ (j : Nat) (x : String × String × Nat × List Int32), extT[j]? = some x → x.2.2.1 < 2 := by
  have h : extT.all (fun x => decide (x.2.2.1 < 2)) = true := by decide +kernel
  intro j x hx
  exact of_decide_eq_true (List.all_eq_true.mp h _ (List.mem_of_getElem? hx))
theorem calT_ok {t : Nat} {f : String × Nat × Nat × Nat × Nat × List Nat × MethodName} (h : calT[t]? = some f) : calOk f = true := List.all_eq_true.mp cal_chk _ (List.mem_of_getElem? h)
theorem fldT_ok {t : Nat} {f : String × Nat × Nat × Nat × Nat × Nat} (h : fldT[t]? = some f) : fldOk f = true := List.all_eq_true.mp fld_chk _ (List.mem_of_getElem? h)
theorem staT_ok {t : Nat} {f : String × Nat × Nat × Nat × Nat} (h : staT[t]? = some f) : staOk f = true := List.all_eq_true.mp sta_chk _ (List.mem_of_getElem? h)
theorem cpyT_ok {t : Nat} {f : String × Nat × Nat} (h : cpyT[t]? = some f) : cpyOk f = true := List.all_eq_true.mp cpy_chk _ (List.mem_of_getElem? h)
theorem and2 {a b : Bool} (h : (a && b) = true) : a = true ∧ b = true := Bool.and_eq_true _ _ |>.mp h
theorem beqN {a b : Nat} (h : Nat.beq a b = true) : a = b := Nat.eq_of_beq_eq_true h
theorem bltN {a b : Nat} (h : Nat.blt a b = true) : a < b := by simpa [Nat.blt_eq] using h
section
variable {w : Wd} {d k n e c0 s0 : Nat} {Q : Option AV → Sg → Prop} {mi : MI} {pc : Nat} {lo : Lo} {st : List AV} {σ : Sg} {K : Nat → Nat → Nat → Lo → List AV → Sg → Prop} {C : Nat → Nat → Lo → List AV → Sg → Prop}
theorem objC_eq {k c : Nat} (h : objC k = some c) : k < 1000 ∧ ∃ fl, kds[k]? = some (.inl (c, fl)) := by
  by_cases hk : k < 134
  · have := of_decide_eq_true (List.all_eq_true.mp objC_chk k (List.mem_range.mpr hk))
    rw [h] at this
    split at this
    · rename_i q hq
      exact ⟨by omega, q.2, by rw [hq, Option.some.inj this]⟩
    · cases this
  · exfalso
    unfold objC at h
    have hb : ∀ m, m < 134 → Nat.ble k m = false := fun m hm => by rw [Bool.eq_false_iff]; intro h2; have := Nat.le_of_ble_eq_true h2; omega
    have he : ∀ m, m < 134 → Nat.beq k m = false := fun m hm => by rw [Bool.eq_false_iff]; intro h2; have := Nat.eq_of_beq_eq_true h2; omega
    simp [hb, he] at h
theorem rcvC_imp {sw : List (Int32 × Nat)} {a : Nat} {av : AV} (h : rcvC sw av = true) (h2 : rcvD sw a = true) : rcvB a av = true := by
  cases av with
  | inr v => cases v <;> cases h
  | inl k =>
    match sw, h, h2 with
    | [], h, _ => cases h
    | _ :: _ :: _, h, _ => cases h
    | [p], h, h2 =>
      have h : (match objC k with | some c => Nat.beq c p.2 | none => false) = true := h
      cases hc : objC k with
      | none => rw [hc] at h; cases h
      | some c =>
        rw [hc] at h
        obtain ⟨hk, fl, hfl⟩ := objC_eq hc
        have hcp : c = p.2 := beqN h
        subst hcp
        unfold rcvB
        have e1 : Nat.blt k 1000 = true := by simpa [Nat.blt_eq] using hk
        simp only [e1, hfl, cond_true]
        unfold rcvD at h2
        cases hm : mths[a]? with
        | none => rw [hm] at h2; cases h2
        | some m2 => rw [hm] at h2; exact h2
theorem b_inv {nx i a x y r : Nat} {z : Int32} {zl : Int64} {sw : List (Int32 × Nat)} (hmi : mths[e]? = some mi) (hd : decode mi.2.1 pc = .ok (.invokevirtual i, nx - pc)) (hx : exo mi pc (.invokevirtual i, a, nx, z, zl, sw, x, y, r) = true) (hC : ∀ c0 s0 lo st σ, C c0 s0 lo st σ → Bk w d k n e c0 s0 Q nx lo st σ) (h : wp1 w d k n c0 s0 K Q (.invokevirtual i, a, nx, z, zl, sw, x, y, r) lo st σ C) : Bk w d k n e c0 s0 Q pc lo st σ := by
  obtain ⟨hn, hx⟩ := and2 hx
  have hn := ln_eq hn
  have hn : nx = pc + 3 := hn
  subst hn
  rw [Nat.add_sub_cancel_left] at hd
  obtain ⟨hx, hrc⟩ := and2 hx
  obtain ⟨hx, hstr⟩ := and2 hx
  obtain ⟨hcal, hx⟩ := and2 hx
  unfold calF at hcal
  dsimp only at hcal hx
  split at hcal
  · rename_i f hf
    rw [hf] at hx
    dsimp only at hx
    obtain ⟨hcal, ha⟩ := and2 hcal
    obtain ⟨hcal, hfe⟩ := and2 hcal
    obtain ⟨hf1, hf2⟩ := and2 hcal
    have hf1 : f.1 = mi.1.cls := of_decide_eq_true hf1
    have hf2 := beqN hf2
    have hfe := beqN hfe
    have ha := bltN ha
    obtain ⟨hy, hkind⟩ := and2 hx
    have hy := beqN hy
    have hkind : f.2.2.2.1 = 2 ∨ f.2.2.2.1 = 3 := by
      rcases (Bool.or_eq_true _ _).mp hkind with q | q
      · exact Or.inl (beqN q)
      · exact Or.inr (beqN q)
    have hok := calT_ok hf
    have hex : ∃ mi' : MI, mths[a]? = some mi' := by
      obtain ⟨m2, h2, -⟩ := cal_use hok
      rw [hfe] at h2
      exact ⟨m2, h2⟩
    have h : popK y st [] (fun args rest => bif Nat.ble (catS rest) 8 && (Nat.beq r 6 || Nat.beq r 7 || rcvC sw (args.headD (.inr .null))) then wpS w d k n c0 s0 a r lo args rest σ C else False) := h
    obtain ⟨hyl, h⟩ := popK_inv _ _ _ _ h
    have hyl1 : y = f.2.2.2.2.1 + 1 := hy.symm
    have hhd : ((st.take y).reverse ++ ([] : List AV)).headD (.inr .null) = st.getD (y - 1) (.inr .null) := by
      rw [List.append_nil, hyl1, take_cons (by omega)]; rfl
    rw [hhd, List.append_nil] at h
    obtain ⟨hb, h⟩ := bif_inv h
    obtain ⟨hcat, hrb⟩ := and2 hb
    have hcat := Nat.le_of_ble_eq_true hcat
    have go : ∀ (kc nc : Nat) (Q0 : Option AV → Sg → Prop), OkG w (d - 1) kc nc a (st.take y).reverse σ Q0 → (c0 ≤ k → c0 + kc ≤ k) → (s0 ≤ n → s0 + nc ≤ n) → (rcvB a (st.getD (y - 1) (.inr .null)) = true ∨ (strR σ (st.getD (y - 1) (.inr .null)) ∧ ∀ mi' : MI, mths[a]? = some mi' → mi'.1.cls = "java/lang/String")) → (∀ v σ', Q0 v σ' → Bk w d k n e (c0 + kc) (s0 + nc) Q (pc + 3) lo (v.toList ++ st.drop y) σ') → Bk w d k n e c0 s0 Q pc lo st σ := by
      intro kc nc Q0 hOk h1 h2 hrec hgo
      have hy1 : y = f.2.2.2.2.1 + 1 := hy.symm
      have htk : (st.take y).reverse = st.getD (y - 1) (.inr .null) :: (st.take f.2.2.2.2.1).reverse := by
        rw [hy1, Nat.add_sub_cancel]; exact take_cons (by omega)
      rw [htk] at hOk
      refine bk_call (e' := a) (avs := st.getD (y - 1) (.inr .null) :: (st.take f.2.2.2.2.1).reverse) (rest := st.drop y) hmi ha (by rw [← htk]; exact take_rev y) hcat hOk h1 h2 hgo ?_ hex
      intro mi' hmi' p l ev s m args below meth c H locs ls CC hK hR hS
      refine run_virtual (st := st) hok hf1 hf2 hfe hkind (by rw [List.length_reverse, List.length_take]; omega) ha (by rw [← htk]; exact take_rev y) hd ?_ mi' hmi' p l ev s m args below meth c H locs ls CC hK hR hS
      intro mi' hmi' s H locs hK hR hS
      rcases hrec with q | q
      · exact recv_own q hmi' hK hR
      · rw [q.2 mi' hmi']; exact recv_str q.1 hK hR hS
    have hrcv : ∀ (q6 : (Nat.beq r 6 || Nat.beq r 7) = false), rcvB a (st.getD (y - 1) (.inr .null)) = true := by
      intro q6
      have hrb : (Nat.beq r 6 || Nat.beq r 7 || rcvC sw (st.getD (y - 1) (.inr .null))) = true := hrb
      have hrc : ((Nat.beq r 6 || Nat.beq r 7) || rcvD sw a) = true := hrc
      rw [q6] at hrb hrc
      exact rcvC_imp hrb hrc
    rw [List.append_nil] at hhd
    unfold wpS at h
    rw [hhd] at h
    split at h
    · exact go 0 0 _ h id id (Or.inl (hrcv rfl)) (fun v σ' q => by obtain ⟨rfl, q⟩ := qv_inv q; exact hC _ _ _ _ _ q)
    · exact go 0 0 _ h id id (Or.inl (hrcv rfl)) (fun v σ' q => by first | (obtain ⟨x, rfl, q⟩ := qi_inv q; exact hC _ _ _ _ _ q) | (obtain ⟨x, rfl, q⟩ := ql_inv q; exact hC _ _ _ _ _ q) | (rcases qr_inv q with ⟨rfl, q⟩ | ⟨a', rfl, q⟩; exact q.elim; exact hC _ _ _ _ _ q))
    · exact go 0 0 _ h id id (Or.inl (hrcv rfl)) (fun v σ' q => by first | (obtain ⟨x, rfl, q⟩ := qi_inv q; exact hC _ _ _ _ _ q) | (obtain ⟨x, rfl, q⟩ := ql_inv q; exact hC _ _ _ _ _ q) | (rcases qr_inv q with ⟨rfl, q⟩ | ⟨a', rfl, q⟩; exact q.elim; exact hC _ _ _ _ _ q))
    · obtain ⟨kc, nc, hk, h⟩ := h
      exact go kc nc _ h (fun _ => hk.1) (fun _ => hk.2) (Or.inl (hrcv rfl)) (fun v σ' q => by obtain ⟨rfl, q⟩ := qv_inv q; exact hC _ _ _ _ _ q)
    · obtain ⟨kc, nc, hk, h⟩ := h
      exact go kc nc _ h (fun _ => hk.1) (fun _ => hk.2) (Or.inl (hrcv rfl)) (fun v σ' q => by first | (obtain ⟨x, rfl, q⟩ := qi_inv q; exact hC _ _ _ _ _ q) | (obtain ⟨x, rfl, q⟩ := ql_inv q; exact hC _ _ _ _ _ q) | (rcases qr_inv q with ⟨rfl, q⟩ | ⟨a', rfl, q⟩; exact q.elim; exact hC _ _ _ _ _ q))
    · obtain ⟨kc, nc, hk, h⟩ := h
      exact go kc nc _ h (fun _ => hk.1) (fun _ => hk.2) (Or.inl (hrcv rfl)) (fun v σ' q => by
        rcases qr_inv q with ⟨rfl, q⟩ | ⟨a', rfl, q⟩
        · exact hC _ _ _ _ _ q
        · exact hC _ _ _ _ _ q)
    · have hs : ∀ mi' : MI, mths[a]? = some mi' → mi'.1.cls = "java/lang/String" := by
        intro mi' hm
        have h9 : (match mths[a]? with | some m2 => decide (m2.1.cls = "java/lang/String") | none => false) = true := hstr
        rw [hm] at h9
        exact of_decide_eq_true h9
      exact go 0 0 _ h.2 id id (Or.inr ⟨h.1, hs⟩) (fun v σ' q => by first | (obtain ⟨x, rfl, q⟩ := qi_inv q; exact hC _ _ _ _ _ q) | (obtain ⟨x, rfl, q⟩ := ql_inv q; exact hC _ _ _ _ _ q) | (rcases qr_inv q with ⟨rfl, q⟩ | ⟨a', rfl, q⟩; exact q.elim; exact hC _ _ _ _ _ q))
    · have hs : ∀ mi' : MI, mths[a]? = some mi' → mi'.1.cls = "java/lang/String" := by
        intro mi' hm
        have h9 : (match mths[a]? with | some m2 => decide (m2.1.cls = "java/lang/String") | none => false) = true := hstr
        rw [hm] at h9
        exact of_decide_eq_true h9
      obtain ⟨h0, kc, nc, hk, h⟩ := h
      exact go kc nc _ h (fun _ => hk.1) (fun _ => hk.2) (Or.inr ⟨h0, hs⟩) (fun v σ' q => by first | (obtain ⟨x, rfl, q⟩ := qi_inv q; exact hC _ _ _ _ _ q) | (obtain ⟨x, rfl, q⟩ := ql_inv q; exact hC _ _ _ _ _ q) | (rcases qr_inv q with ⟨rfl, q⟩ | ⟨a', rfl, q⟩; exact q.elim; exact hC _ _ _ _ _ q))
    · exact h.elim
  · cases hcal
theorem wpC_inv (h : wpC c0 s0 lo st σ C) : ∃ (n' dp : Int32) (kd : Nat) (sp : Int32) (ks : Nat) (r : List AV) (t z0 z1 : Nat), st = .inr (.int n') :: .inr (.int dp) :: .inl kd :: .inr (.int sp) :: .inl ks :: r ∧ kd < 1000 ∧ ks < 1000 ∧ (t = 0 ∨ t = 1) ∧ rowK ks = some (t, z0) ∧ rowK kd = some (t, z1) ∧ ¬ sp < 0 ∧ ¬ dp < 0 ∧ ¬ n' < 0 ∧ sp.toNatClampNeg + n'.toNatClampNeg ≤ z0 ∧ dp.toNatClampNeg + n'.toNatClampNeg ≤ z1 ∧ (∀ i, i < n'.toNatClampNeg → fits (tyC t) (.int (σ.1 ks (sp.toNatClampNeg + i))) = true) ∧ C c0 s0 lo r (cpI σ ks kd sp.toNatClampNeg dp.toNatClampNeg n'.toNatClampNeg) := by
  unfold wpC at h
  split at h
  · obtain ⟨hb, h⟩ := bif_inv h
    obtain ⟨hkd, hks⟩ := and2 hb
    split at h
    · rename_i g0 g1
      obtain ⟨a1, a2, a3, a4, a5, h⟩ := h
      exact ⟨_, _, _, _, _, _, 0, _, _, rfl, bltN hkd, bltN hks, Or.inl rfl, g0, g1, a1, a2, a3, a4, a5, fun _ _ => rfl, h⟩
    · rename_i g0 g1
      obtain ⟨a1, a2, a3, a4, a5, a6, h⟩ := h
      exact ⟨_, _, _, _, _, _, 1, _, _, rfl, bltN hkd, bltN hks, Or.inr rfl, g0, g1, a1, a2, a3, a4, a5, a6, h⟩
    · exact h.elim
  · exact h.elim
theorem b_ins {nx i a x y r : Nat} {z : Int32} {zl : Int64} {sw : List (Int32 × Nat)} (hmi : mths[e]? = some mi) (hd : decode mi.2.1 pc = .ok (.invokestatic i, nx - pc)) (hx : exo mi pc (.invokestatic i, a, nx, z, zl, sw, x, y, r) = true) (hC : ∀ c0 s0 lo st σ, C c0 s0 lo st σ → Bk w d k n e c0 s0 Q nx lo st σ) (h : wp1 w d k n c0 s0 K Q (.invokestatic i, a, nx, z, zl, sw, x, y, r) lo st σ C) : Bk w d k n e c0 s0 Q pc lo st σ := by
  obtain ⟨hn, hx⟩ := and2 hx
  have hn := ln_eq hn
  have hn : nx = pc + 3 := hn
  subst hn
  rw [Nat.add_sub_cancel_left] at hd
  have hx : (bif Nat.beq r 9 then (match cpyT[x]? with | some f => decide (f.1 = mi.1.cls) && Nat.beq f.2.1 i && Nat.beq y 5 | none => false) else (bif Nat.beq r 8 then (match calT[x]? with | some f => decide (f.1 = mi.1.cls) && Nat.beq f.2.1 i && Nat.beq f.2.2.2.1 0 && decide (mthE[a]? = some f.2.2.1) && Nat.beq y 2 | none => false) else (calF mi (.invokestatic i, a, pc + 3, z, zl, sw, x, y, r) i && (match calT[x]? with | some f => Nat.beq f.2.2.2.2.1 y && (Nat.beq f.2.2.2.1 0 || Nat.beq f.2.2.2.1 1) && Nat.blt r 6 | none => false)))) = true := hx
  have h : popK y st [] (fun args rest => bif Nat.ble (catS rest) 8 then (bif Nat.beq r 9 then wpC c0 s0 lo st σ C else (bif Nat.beq r 8 then wpM c0 s0 a lo st σ C else wpS w d k n c0 s0 a r lo args rest σ C)) else False) := h
  obtain ⟨hyl, h⟩ := popK_inv _ _ _ _ h
  rw [List.append_nil] at h
  obtain ⟨hcat, h⟩ := bif_inv h
  have hcat := Nat.le_of_ble_eq_true hcat
  have go : (calF mi (.invokestatic i, a, pc + 3, z, zl, sw, x, y, r) i && (match calT[x]? with | some f => Nat.beq f.2.2.2.2.1 y && (Nat.beq f.2.2.2.1 0 || Nat.beq f.2.2.2.1 1) && Nat.blt r 6 | none => false)) = true → ∀ (kc nc : Nat) (Q0 : Option AV → Sg → Prop), y ≤ st.length → OkG w (d - 1) kc nc a (st.take y).reverse σ Q0 → (c0 ≤ k → c0 + kc ≤ k) → (s0 ≤ n → s0 + nc ≤ n) → (∀ v σ', Q0 v σ' → Bk w d k n e (c0 + kc) (s0 + nc) Q (pc + 3) lo (v.toList ++ st.drop y) σ') → Bk w d k n e c0 s0 Q pc lo st σ := by
    intro hx kc nc Q0 hyl hOk h1 h2 hgo
    obtain ⟨hcal, hx⟩ := and2 hx
    unfold calF at hcal
    dsimp only at hcal
    split at hcal
    · rename_i f hf
      rw [hf] at hx
      dsimp only at hx
      obtain ⟨hcal, ha⟩ := and2 hcal
      obtain ⟨hcal, hfe⟩ := and2 hcal
      obtain ⟨hf1, hf2⟩ := and2 hcal
      have hf1 : f.1 = mi.1.cls := of_decide_eq_true hf1
      have hf2 := beqN hf2
      have hfe := beqN hfe
      have ha := bltN ha
      obtain ⟨hx, hr6⟩ := and2 hx
      obtain ⟨hy, hkind⟩ := and2 hx
      have hy := beqN hy
      have hkind : f.2.2.2.1 = 0 ∨ f.2.2.2.1 = 1 := by
        rcases (Bool.or_eq_true _ _).mp hkind with q | q
        · exact Or.inl (beqN q)
        · exact Or.inr (beqN q)
      have hok := calT_ok hf
      have hex : ∃ mi' : MI, mths[a]? = some mi' := by
        obtain ⟨m2, h2, -⟩ := cal_use hok
        rw [hfe] at h2
        exact ⟨m2, h2⟩
      exact bk_call (e' := a) (avs := (st.take y).reverse) (rest := st.drop y) hmi ha (take_rev y) hcat hOk h1 h2 hgo (run_static (st := st) hok hf1 hf2 hfe hkind (by rw [List.length_reverse, List.length_take]; omega) ha (take_rev y) hd) hex
    · cases hcal
  cases h9 : Nat.beq r 9 with
  | true =>
    rw [h9] at h hx
    have hx : (match cpyT[x]? with | some f => decide (f.1 = mi.1.cls) && Nat.beq f.2.1 i && Nat.beq y 5 | none => false) = true := hx
    have h : wpC c0 s0 lo st σ C := h
    split at hx
    · rename_i f hf
      obtain ⟨hx, h5⟩ := and2 hx
      obtain ⟨h1, h2⟩ := and2 hx
      rw [beqN h5] at hcat
      obtain ⟨n', dp, kd, sp, ks, r', t, z0, z1, rfl, hkd, hks, ht, g0, g1, a1, a2, a3, a4, a5, a6, h'⟩ := wpC_inv h
      have hr : catS r' ≤ 8 := hcat
      exact b_copy hmi hd (cpyT_ok hf) (of_decide_eq_true h1) (beqN h2) hr hkd hks ht g0 g1 a1 a2 a3 a4 a5 a6 (hC _ _ _ _ _ h')
    · cases hx
  | false =>
    rw [h9] at h hx
    cases h8 : Nat.beq r 8 with
    | true =>
      rw [h8] at h hx
      have hx : (match calT[x]? with | some f => decide (f.1 = mi.1.cls) && Nat.beq f.2.1 i && Nat.beq f.2.2.2.1 0 && decide (mthE[a]? = some f.2.2.1) && Nat.beq y 2 | none => false) = true := hx
      have h : wpM c0 s0 a lo st σ C := h
      split at hx
      · rename_i f hf
        obtain ⟨hx, h5⟩ := and2 hx
        obtain ⟨hx, h4⟩ := and2 hx
        obtain ⟨hx, h3⟩ := and2 hx
        obtain ⟨h1, h2⟩ := and2 hx
        rw [beqN h5] at hcat
        exact b_math hmi hd hcat (calT_ok hf) (of_decide_eq_true h1) (beqN h2) (beqN h3) (of_decide_eq_true h4) hC h
      · cases hx
    | false =>
      rw [h8] at h hx
      have h : wpS w d k n c0 s0 a r lo (st.take y).reverse (st.drop y) σ C := h
      have hx : (calF mi (.invokestatic i, a, pc + 3, z, zl, sw, x, y, r) i && (match calT[x]? with | some f => Nat.beq f.2.2.2.2.1 y && (Nat.beq f.2.2.2.1 0 || Nat.beq f.2.2.2.1 1) && Nat.blt r 6 | none => false)) = true := hx
      have hr6 : r < 6 := by
        obtain ⟨-, hq⟩ := and2 hx
        split at hq
        · exact bltN (and2 hq).2
        · cases hq
      unfold wpS at h
      split at h
      · exact go hx 0 0 _ hyl h id id (fun v σ' q => by obtain ⟨rfl, q⟩ := qv_inv q; exact hC _ _ _ _ _ q)
      · exact go hx 0 0 _ hyl h id id (fun v σ' q => by first | (obtain ⟨x, rfl, q⟩ := qi_inv q; exact hC _ _ _ _ _ q) | (obtain ⟨x, rfl, q⟩ := ql_inv q; exact hC _ _ _ _ _ q) | (rcases qr_inv q with ⟨rfl, q⟩ | ⟨a', rfl, q⟩; exact q.elim; exact hC _ _ _ _ _ q))
      · exact go hx 0 0 _ hyl h id id (fun v σ' q => by first | (obtain ⟨x, rfl, q⟩ := qi_inv q; exact hC _ _ _ _ _ q) | (obtain ⟨x, rfl, q⟩ := ql_inv q; exact hC _ _ _ _ _ q) | (rcases qr_inv q with ⟨rfl, q⟩ | ⟨a', rfl, q⟩; exact q.elim; exact hC _ _ _ _ _ q))
      · obtain ⟨kc, nc, hk, h⟩ := h
        exact go hx kc nc _ hyl h (fun _ => hk.1) (fun _ => hk.2) (fun v σ' q => by obtain ⟨rfl, q⟩ := qv_inv q; exact hC _ _ _ _ _ q)
      · obtain ⟨kc, nc, hk, h⟩ := h
        exact go hx kc nc _ hyl h (fun _ => hk.1) (fun _ => hk.2) (fun v σ' q => by first | (obtain ⟨x, rfl, q⟩ := qi_inv q; exact hC _ _ _ _ _ q) | (obtain ⟨x, rfl, q⟩ := ql_inv q; exact hC _ _ _ _ _ q) | (rcases qr_inv q with ⟨rfl, q⟩ | ⟨a', rfl, q⟩; exact q.elim; exact hC _ _ _ _ _ q))
      · obtain ⟨kc, nc, hk, h⟩ := h
        exact go hx kc nc _ hyl h (fun _ => hk.1) (fun _ => hk.2) (fun v σ' q => by
          rcases qr_inv q with ⟨rfl, q⟩ | ⟨a', rfl, q⟩
          · exact hC _ _ _ _ _ q
          · exact hC _ _ _ _ _ q)
      · omega
      · omega
      · exact h.elim
end

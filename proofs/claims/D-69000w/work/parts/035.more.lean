/-! 035: fields, statics, ways, ends -/
theorem tl_mem {q : Cond} (h : ∃ L ∈ tblLs, q ∈ L) : q ∈ lw_tbl := by
  obtain ⟨L, hL, hw⟩ := h
  simp only [tblLs, List.mem_cons, List.not_mem_nil, or_false] at hL
  unfold lw_tbl tables_1 lw_privs k2_sels
  simp only [List.map_append, List.mem_append]
  rcases hL with rfl | rfl | rfl | rfl | rfl | rfl | rfl | rfl | rfl | rfl | rfl | rfl | rfl | rfl | rfl | rfl | rfl | rfl | rfl | rfl | rfl | rfl | rfl | rfl | rfl | rfl | rfl | rfl | rfl | rfl | rfl | rfl | rfl | rfl | rfl | rfl | rfl
  all_goals (try unfold k2_sels at hw)
  all_goals simp only [hw, true_or, or_true]
theorem tb_mem {p : Nat} {q : Cond} (h : tb p q = true) : q ∈ lw_tbl := by
  have h1 : (tblLs.getD (p / 1000) [])[p % 1000]? = some q := of_decide_eq_true h
  have h2 := List.mem_of_getElem? h1
  rw [List.getD_eq_getElem?_getD] at h2
  cases h3 : tblLs[p / 1000]? with
  | none => rw [h3] at h2; simp at h2
  | some L =>
    rw [h3] at h2
    exact tl_mem ⟨L, List.mem_of_getElem? h3, h2⟩
theorem tb_g {p : Nat} {q : Cond} (h : tb p q = true) (hg : gd q = true) : q ∈ gtbl := List.mem_filter.mpr ⟨tb_mem h, hg⟩
theorem tb_n {p : Nat} {q : Cond} (h : tb p q = true) (hg : nsP q = true) : q ∈ ntbl := List.mem_filter.mpr ⟨tb_mem h, hg⟩
theorem gtbl_good : GoodIn gtbl gtbl := by
  intro q hq
  refine ⟨hq, ?_⟩
  have h := (List.mem_filter.mp hq).2
  unfold gd at h
  rcases Bool.or_eq_true _ _ |>.mp h with h | h
  · exact Or.inl h
  · right
    split at h
    · exact ⟨_, rfl⟩
    · cases h
theorem cls_lay {ci : Nat} {c : vw_C} (h : classes[ci]? = some c) : (∀ q ∈ u_ws c.1 c.2.1 c.2.2, q ∈ gtbl) ∧ (∀ k, k < c.2.2 → parseFieldDescriptor (c.2.1 k).2.2.1 = some ((parseFieldDescriptor (c.2.1 k).2.2.1).getD .int)) ∧ (∀ a, a < c.2.2 → ∀ b, b < c.2.2 → a ≠ b → (c.2.1 a).2.1 ≠ (c.2.1 b).2.1) := by
  have hlen : classes.length = layP.length := by decide +kernel
  have hci : ci < classes.length := (List.getElem?_eq_some_iff.mp h).1
  obtain ⟨ps, hps⟩ : ∃ ps, layP[ci]? = some ps := ⟨_, List.getElem?_eq_getElem (by rw [← hlen]; exact hci)⟩
  have hz : (classes.zip layP)[ci]? = some (c, ps) := by rw [List.getElem?_zip_eq_some]; exact ⟨h, hps⟩
  have hok : layOk (c, ps) = true := List.all_eq_true.mp lay_chk _ (List.mem_of_getElem? hz)
  unfold layOk at hok
  rw [Bool.and_eq_true] at hok
  have hall := List.all_eq_true.mp hok.2
  have hk : ∀ k, k < c.2.2 → (tb (ps.getD k 0) (u_lay c.1 c.2.1 k) = true ∧ (parseFieldDescriptor (c.2.1 k).2.2.1).isSome = true) ∧ (List.range c.2.2).all (fun j => decide (j = k) || decide ((c.2.1 j).2.1 ≠ (c.2.1 k).2.1)) = true := by
    intro k hk
    have := hall k (List.mem_range.mpr hk)
    rw [Bool.and_eq_true, Bool.and_eq_true] at this
    exact this
  refine ⟨fun q hq => ?_, fun k hk1 => ?_, fun a ha b hb hab => ?_⟩
  · obtain ⟨k, hk1, rfl⟩ := List.mem_map.mp hq
    refine tb_g (hk k (List.mem_range.mp hk1)).1.1 ?_
    unfold u_lay
    split <;> rfl
  · have := (hk k hk1).1.2
    rw [Option.isSome_iff_exists] at this
    obtain ⟨t, ht⟩ := this
    rw [ht]; rfl
  · have := List.all_eq_true.mp (hk b hb).2 a (List.mem_range.mpr ha)
    rw [Bool.or_eq_true, decide_eq_true_eq, decide_eq_true_eq] at this
    rcases this with h | h
    · exact absurd h hab
    · exact h
theorem kds_ref : kds.all (fun q => match q with | .inl o => o.2.all (fun c => decide (c < 10 ∨ (10 ≤ c ∧ c < 1010) ∨ (5000 ≤ c ∧ c < 6000))) | _ => true) = true := by decide +kernel
theorem fkd_inv {a ci j c : Nat} (h : fkd a ci j = some c) : ∃ fl, kds[a]? = some (.inl (ci, fl)) ∧ fl[j]? = some c := by
  unfold fkd at h
  cases hb : (Nat.beq a (oidA ci) && Nat.ble ci 15 && Nat.ble j 127) with
  | false => rw [hb] at h; cases h
  | true =>
    rw [hb] at h
    have h : fkT (ci * 128 + j) = some c := h
    rw [Bool.and_eq_true, Bool.and_eq_true] at hb
    have h1 : a = oidA ci := Nat.eq_of_beq_eq_true hb.1.1
    have h2 := Nat.le_of_ble_eq_true hb.1.2
    have h3 := Nat.le_of_ble_eq_true hb.2
    have := of_decide_eq_true (List.all_eq_true.mp (List.all_eq_true.mp fkT_chk ci (List.mem_range.mpr (by omega))) j (List.mem_range.mpr (by omega)))
    rw [h] at this
    split at this
    · rename_i q hq
      cases hb2 : Nat.beq q.1 ci with
      | false => rw [hb2] at this; cases this
      | true =>
        rw [hb2] at this
        have h4 : q.1 = ci := Nat.eq_of_beq_eq_true hb2
        refine ⟨q.2, ?_, this.symm⟩
        rw [h1, hq, ← h4]
    · cases this
theorem fkd_code {a ci j c : Nat} (h : fkd a ci j = some c) : c < 10 ∨ (10 ≤ c ∧ c < 1010) ∨ (5000 ≤ c ∧ c < 6000) := by
  obtain ⟨fl, h1, h2⟩ := fkd_inv h
  have := List.all_eq_true.mp kds_ref _ (List.mem_of_getElem? h1)
  exact of_decide_eq_true (List.all_eq_true.mp this _ (List.mem_of_getElem? h2))
/-- what the link of a field gives -/
theorem fld_use {f : String × Nat × Nat × Nat × Nat × Nat} (h : fldOk f = true) : ∃ c : vw_C, classes[f.2.2.1]? = some c ∧ f.2.2.2.1 < c.2.2 ∧ (c.2.1 f.2.2.2.1).1 = c.1 ∧
    ((Cond.fieldLink f.1 f.2.1 c.1 (c.2.1 f.2.2.2.1).2.1 (c.2.1 f.2.2.2.1).2.2.1) ∈ gtbl ∨ (Cond.fieldLinkNest f.1 f.2.1 c.1 (c.2.1 f.2.2.2.1).2.1 (c.2.1 f.2.2.2.1).2.2.1 "PlantKeeper") ∈ ntbl) := by
  unfold fldOk at h
  split at h
  · rename_i c hc
    rw [Bool.and_eq_true, Bool.and_eq_true, decide_eq_true_eq, decide_eq_true_eq] at h
    refine ⟨c, hc, h.1.1, h.1.2, ?_⟩
    have h3 := h.2
    split at h3
    · exact Or.inl (tb_g h3 rfl)
    · exact Or.inr (tb_n h3 rfl)
  · cases h
section
variable {w : Wd} {d k n e c0 s0 : Nat} {Q : Option AV → Sg → Prop} {mi : MI} {pc nx : Nat} {lo : Lo} {st : List AV} {σ : Sg}
theorem b_getfield {C : Nat → Nat → Lo → List AV → Sg → Prop} {i a : Nat} {f : String × Nat × Nat × Nat × Nat × Nat} (hmi : mths[e]? = some mi) (hd : decode mi.2.1 pc = .ok (.getfield i, nx - pc)) (hx : ln nx pc 3 = true) (hf : fldOk f = true) (hf1 : f.1 = mi.1.cls) (hf2 : f.2.1 = i) (hf3 : f.2.2.1 = a / 128) (hf4 : f.2.2.2.1 = a % 128) (hC : ∀ c0 s0 lo st σ, C c0 s0 lo st σ → Bk w d k n e c0 s0 Q nx lo st σ)
    (h : p1c st (fun o r => match fkd o (a / 128) (a % 128) with
    | some c => bif Nat.blt c 10 then C c0 s0 lo (.inr (.int (σ.1 o (a % 128))) :: r) σ else (bif Nat.blt c 5000 then C c0 s0 lo (.inl (c - 10) :: r) σ else (¬ σ.1 o (a % 128) = 0 ∧ C c0 s0 lo (.inl (c - 5000) :: r) σ))
    | none => False)) : Bk w d k n e c0 s0 Q pc lo st σ := by
  have hn := ln_eq hx; subst hn; rw [Nat.add_sub_cancel_left] at hd
  obtain ⟨o, r, rfl, h'⟩ := p1c_inv h; clear h; have h := h'; clear h'
  split at h
  · rename_i c hc
    obtain ⟨fl, hk, hfl⟩ := fkd_inv hc
    have hcode := fkd_code hc
    obtain ⟨cl, hcl, hj, hdecl, hlink⟩ := fld_use hf
    rw [hf1, hf2, hf4] at hlink
    rw [hf3] at hcl
    rw [hf4] at hj hdecl
    obtain ⟨hlay, -, -⟩ := cls_lay hcl
    have ho : o < 134 := kds_lt hk
    have hws : (wsOf w σ)[o]? = some (w.1 + o, .inr (a / 128, fl.mapIdx (fun j c => objV w σ o j c))) := by rw [ws_get ho, ent_obj hk]
    have hv : (fl.mapIdx (fun j c => objV w σ o j c))[a % 128]? = some (objV w σ o (a % 128) c) := by rw [List.getElem?_mapIdx, hfl]; rfl
    have key : ∀ (v : AV), objV w σ o (a % 128) c = enc w v → C c0 s0 lo (v :: r) σ → Bk w d k n e c0 s0 Q pc lo (.inl o :: r) σ := by
      intro v hv2 h
      refine bk_row hmi (hC _ _ _ _ _ h) (fun p l ev R s m args below meth c H locs cells slots QQ ls h1 h2 h3 h4 h5 h6 h7 h8 kk => ?_)
      show W _ _ _ _ _ _ _ _ _ _ _ _ _ _ _ (F0 m pc ls (.ref (adr w o) :: _))
      rw [adr_own (by omega)]
      rw [hv2] at hv
      rcases hlink with hl | hl
      · exact va_get h1 h2 h5 hlay h4 h6.1 h8.1 o hws hcl (a % 128) hj (h5 _ hl) (fun x hx => by rw [hdecl] at hx; exact hx) hv hd kk
      · exact va_getN h1 h2 h5 hlay h4 h6.1 h8.1 o hws hcl (a % 128) hj ((h6.2.1 _ hl).use rfl) (fun x hx => by rw [hdecl] at hx; exact hx) hv hd kk
    rcases hcode with hc1 | hc1 | hc1
    · have e1 : Nat.blt c 10 = true := by simpa [Nat.blt_eq] using hc1
      rw [e1] at h
      exact key _ (by unfold objV; rw [if_pos hc1]; rfl) h
    · have e1 : Nat.blt c 10 = false := by rw [Bool.eq_false_iff]; intro h2; have : c < 10 := by simpa [Nat.blt_eq] using h2
                                           omega
      have e2 : Nat.blt c 5000 = true := by simp [Nat.blt_eq]; omega
      rw [e1, e2] at h
      refine key (.inl (c - 10)) ?_ h
      unfold objV
      rw [if_neg (by omega), if_pos (by omega)]
      show _ = Value.ref (adr w (c - 10))
      rw [adr_own (by omega)]
    · have e1 : Nat.blt c 10 = false := by rw [Bool.eq_false_iff]; intro h2; have : c < 10 := by simpa [Nat.blt_eq] using h2
                                           omega
      have e2 : Nat.blt c 5000 = false := by rw [Bool.eq_false_iff]; intro h2; have : c < 5000 := by simpa [Nat.blt_eq] using h2
                                             omega
      rw [e1, e2] at h
      have h : (¬ σ.1 o (a % 128) = 0 ∧ C c0 s0 lo (.inl (c - 5000) :: r) σ) := h
      refine key (.inl (c - 5000)) ?_ h.2
      unfold objV
      rw [if_neg (by omega), if_neg (by omega), if_neg h.1]
      show _ = Value.ref (adr w (c - 5000))
      rw [adr_own (by omega)]
  · exact h.elim
theorem b_putfield {C : Nat → Nat → Lo → List AV → Sg → Prop} {i a : Nat} {f : String × Nat × Nat × Nat × Nat × Nat} (hmi : mths[e]? = some mi) (hd : decode mi.2.1 pc = .ok (.putfield i, nx - pc)) (hx : ln nx pc 3 = true) (hf : fldOk f = true) (hf1 : f.1 = mi.1.cls) (hf2 : f.2.1 = i) (hf3 : f.2.2.1 = a / 128) (hf4 : f.2.2.2.1 = a % 128) (hfin : ∀ c, classes[a / 128]? = some c → (c.2.1 (a % 128)).2.2.2 = false) (hC : ∀ c0 s0 lo st σ, C c0 s0 lo st σ → Bk w d k n e c0 s0 Q nx lo st σ)
    (h : p1 st (fun v r0 => p1c r0 (fun o r => match fkd o (a / 128) (a % 128) with
    | some c => (match v with
      | .inr (.int x) => bif Nat.beq c 0 then C c0 s0 lo r (wI σ o (a % 128) x) else (bif Nat.beq c 1 then ((x = 0 ∨ x = 1) ∧ C c0 s0 lo r (wI σ o (a % 128) x)) else False)
      | .inl o' => bif Nat.blt 4999 c && Nat.beq (c - 5000) o' && Nat.blt o' 1000 then C c0 s0 lo r (wI σ o (a % 128) 1) else False
      | _ => False)
    | none => False))) : Bk w d k n e c0 s0 Q pc lo st σ := by
  have hn := ln_eq hx; subst hn; rw [Nat.add_sub_cancel_left] at hd
  obtain ⟨v, r0, rfl, h'⟩ := p1_inv h; clear h
  obtain ⟨o, r, rfl, h⟩ := p1c_inv h'; clear h'
  split at h
  · rename_i c hc
    obtain ⟨fl, hk, hfl⟩ := fkd_inv hc
    obtain ⟨cl, hcl, hj, hdecl, hlink⟩ := fld_use hf
    rw [hf1, hf2, hf4] at hlink
    rw [hf3] at hcl
    rw [hf4] at hj hdecl
    obtain ⟨hlay, hty, hnm⟩ := cls_lay hcl
    have hfin := hfin cl hcl
    have ho : o < 134 := kds_lt hk
    have hkd := kds_ok hk
    have hws : (wsOf w σ)[o]? = some (w.1 + o, .inr (a / 128, fl.mapIdx (fun j c => objV w σ o j c))) := by rw [ws_get ho, ent_obj hk]
    have hln : a % 128 < (fl.mapIdx (fun j c => objV w σ o j c)).length := by rw [List.length_mapIdx]; exact (List.getElem?_eq_some_iff.mp hfl).1
    have hkd2 : (if c = 0 then decide (parseFieldDescriptor (cl.2.1 (a % 128)).2.2.1 = some .int) else if c = 1 then decide (parseFieldDescriptor (cl.2.1 (a % 128)).2.2.1 = some .boolean) else decide (10 ≤ c) && (match parseFieldDescriptor (cl.2.1 (a % 128)).2.2.1 with | some (.object _) => true | some (.array _) => true | _ => false)) = true := by
      unfold kdOk at hkd
      simp only [hcl] at hkd
      rw [Bool.and_eq_true] at hkd
      have := List.all_eq_true.mp hkd.2 (c, a % 128) (by rw [List.mem_zipIdx_iff_getElem?]; exact hfl)
      exact this
    have key : ∀ (x : Int32) (ty : FieldType), parseFieldDescriptor (cl.2.1 (a % 128)).2.2.1 = some ty → narrow ty (enc w v) = enc w v → fits ty (enc w v) = true → enc w v = objV w (wI σ o (a % 128) x) o (a % 128) c → C c0 s0 lo r (wI σ o (a % 128) x) → Bk w d k n e c0 s0 Q pc lo (v :: .inl o :: r) σ := by
      intro x ty hp hnr hft hv h
      refine bk_wr (x := .inr (a / 128, (fl.mapIdx (fun j c => objV w σ o j c)).set (a % 128) (enc w v))) hmi ho (ent_put hk hfl hv) (fun j hj => ent_wI hj) rfl (hC _ _ _ _ _ h) (fun p l ev R s m args below meth c H locs cells slots QQ ls h1 h2 h3 h4 h5 h6 h7 h8 h9 h10 kk => ?_)
      show W _ _ _ _ _ _ _ _ _ _ _ _ _ _ _ (F0 m pc ls (enc w v :: .ref (adr w o) :: _))
      rw [adr_own (by omega)]
      rcases hlink with hl | hl
      · exact va_put h1 h2 h5 hlay _ hty hnm h4 h6.1 h8.1 h8.2.1 h7 o hws hcl (a % 128) hj (h5 _ hl) (fun x hx => by rw [hdecl] at hx; exact hx) hfin hp hnr hft hln hd kk
      · exact va_putN h1 h2 h5 hlay _ hty hnm h4 h6.1 h8.1 h8.2.1 h7 o hws hcl (a % 128) hj ((h6.2.1 _ hl).use rfl) (fun x hx => by rw [hdecl] at hx; exact hx) hfin hp hnr hft hln hd kk
    have hat : ∀ x : Int32, (wI σ o (a % 128) x).1 o (a % 128) = x := fun x => by show up2 σ.1 o (a % 128) x o (a % 128) = x; rw [up2_at, if_pos ⟨rfl, rfl⟩]
    split at h
    · rename_i x
      cases hb : Nat.beq c 0 with
      | true =>
        rw [hb] at h
        have hc0 : c = 0 := Nat.eq_of_beq_eq_true hb
        rw [if_pos hc0, decide_eq_true_eq] at hkd2
        exact key x .int hkd2 rfl rfl (by unfold objV; rw [if_pos (by omega), hat]; rfl) h
      | false =>
        rw [hb] at h
        have h : (bif Nat.beq c 1 then ((x = 0 ∨ x = 1) ∧ C c0 s0 lo r (wI σ o (a % 128) x)) else False) := h
        obtain ⟨hb1, h⟩ := bif_inv h
        have hc1 : c = 1 := Nat.eq_of_beq_eq_true hb1
        rw [if_neg (by omega), if_pos hc1, decide_eq_true_eq] at hkd2
        refine key x .boolean hkd2 ?_ ?_ (by unfold objV; rw [if_pos (by omega), hat]; rfl) h.2
        · rcases h.1 with e | e <;> subst e <;> rfl
        · rcases h.1 with e | e <;> subst e <;> rfl
    · rename_i o'
      obtain ⟨hb, h⟩ := bif_inv h
      rw [Bool.and_eq_true, Bool.and_eq_true] at hb
      have h1 : 4999 < c := by simpa [Nat.blt_eq] using hb.1.1
      have h2 : c - 5000 = o' := Nat.eq_of_beq_eq_true hb.1.2
      have h3 : o' < 1000 := by simpa [Nat.blt_eq] using hb.2
      rw [if_neg (by omega), if_neg (by omega), Bool.and_eq_true] at hkd2
      have hv : enc w (.inl o') = objV w (wI σ o (a % 128) 1) o (a % 128) c := by
        unfold objV
        rw [if_neg (by omega), if_neg (by omega), hat, if_neg (by decide)]
        show Value.ref (adr w o') = _
        rw [adr_own h3, h2]
      have hkd3 := hkd2.2
      split at hkd3
      · rename_i nm hp
        exact key 1 _ hp rfl rfl hv h
      · rename_i nm hp
        exact key 1 _ hp rfl rfl hv h
      · cases hkd3
    · exact h.elim
  · exact h.elim
end

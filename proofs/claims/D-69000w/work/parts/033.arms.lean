/-! 033: arms of plain instructions (printed by gen032.py) -/
section
variable {w : Wd} {d k n e c0 s0 : Nat} {Q : Option AV → Sg → Prop} {mi : MI} {pc nx : Nat} {lo : Lo} {st : List AV} {σ : Sg}
theorem p1_inv {f : AV → List AV → Prop} (h : p1 st f) : ∃ v r, st = v :: r ∧ f v r := by
  unfold p1 at h; split at h
  · exact ⟨_, _, rfl, h⟩
  · exact h.elim
theorem p1i_inv {f : Int32 → List AV → Prop} (h : p1i st f) : ∃ x r, st = .inr (.int x) :: r ∧ f x r := by
  unfold p1i at h; split at h
  · exact ⟨_, _, rfl, h⟩
  · exact h.elim
theorem p1l_inv {f : Int64 → List AV → Prop} (h : p1l st f) : ∃ x r, st = .inr (.long x) :: r ∧ f x r := by
  unfold p1l at h; split at h
  · exact ⟨_, _, rfl, h⟩
  · exact h.elim
theorem p1c_inv {f : Nat → List AV → Prop} (h : p1c st f) : ∃ a r, st = .inl a :: r ∧ f a r := by
  unfold p1c at h; split at h
  · exact ⟨_, _, rfl, h⟩
  · exact h.elim
theorem p1r_inv {f : AV → List AV → Prop} (h : p1r st f) : ∃ v r, st = v :: r ∧ ((∃ a, v = .inl a) ∨ (∃ a, v = .inr (.ref a)) ∨ v = .inr .null) ∧ f v r := by
  unfold p1r at h; split at h
  · exact ⟨_, _, rfl, Or.inl ⟨_, rfl⟩, h⟩
  · exact ⟨_, _, rfl, Or.inr (Or.inl ⟨_, rfl⟩), h⟩
  · exact ⟨_, _, rfl, Or.inr (Or.inr rfl), h⟩
  · exact h.elim
theorem p2i_inv {f : Int32 → Int32 → List AV → Prop} (h : p2i st f) : ∃ x y r, st = .inr (.int y) :: .inr (.int x) :: r ∧ f x y r := by
  unfold p2i at h; split at h
  · exact ⟨_, _, _, rfl, h⟩
  · exact h.elim
theorem p2l_inv {f : Int64 → Int64 → List AV → Prop} (h : p2l st f) : ∃ x y r, st = .inr (.long y) :: .inr (.long x) :: r ∧ f x y r := by
  unfold p2l at h; split at h
  · exact ⟨_, _, _, rfl, h⟩
  · exact h.elim
theorem pix_inv {f : Int32 → Nat → List AV → Prop} (h : pix st f) : ∃ i a r, st = .inr (.int i) :: .inl a :: r ∧ f i a r := by
  unfold pix at h; split at h
  · exact ⟨_, _, _, rfl, h⟩
  · exact h.elim
theorem ldI_inv {i : Nat} {f : Int32 → Prop} (h : ldI lo i f) : ∃ x, lo[i]? = some (some (.inr (.int x))) ∧ f x := by
  unfold ldI at h; split at h
  · rename_i hh; exact ⟨_, hh, h⟩
  · exact h.elim
theorem ldL_inv {i : Nat} {f : Int64 → Prop} (h : ldL lo i f) : ∃ x, lo[i]? = some (some (.inr (.long x))) ∧ f x := by
  unfold ldL at h; split at h
  · rename_i hh; exact ⟨_, hh, h⟩
  · exact h.elim
theorem ldA_inv {i : Nat} {f : AV → Prop} (h : ldA lo i f) : ∃ v, lo[i]? = some (some v) ∧ ((∃ a, v = .inl a) ∨ (∃ a, v = .inr (.ref a)) ∨ v = .inr .null) ∧ f v := by
  unfold ldA at h; split at h
  · rename_i hh; exact ⟨_, hh, Or.inl ⟨_, rfl⟩, h⟩
  · rename_i hh; exact ⟨_, hh, Or.inr (Or.inl ⟨_, rfl⟩), h⟩
  · rename_i hh; exact ⟨_, hh, Or.inr (Or.inr rfl), h⟩
  · exact h.elim
theorem bif_inv {b : Bool} {P : Prop} (h : bif b then P else False) : b = true ∧ P := by
  cases b with
  | true => exact ⟨rfl, h⟩
  | false => exact h.elim
theorem b_iadd {C : Nat → Nat → Lo → List AV → Sg → Prop} (hmi : mths[e]? = some mi) (hd : decode mi.2.1 pc = .ok (.iadd, nx - pc)) (hx : ln nx pc 1 = true) (hC : ∀ c0 s0 lo st σ, C c0 s0 lo st σ → Bk w d k n e c0 s0 Q nx lo st σ) (h : p2i st (fun x y r => C c0 s0 lo (.inr (.int (x + y)) :: r) σ)) : Bk w d k n e c0 s0 Q pc lo st σ := by
  have hn := ln_eq hx; subst hn; rw [Nat.add_sub_cancel_left] at hd
  obtain ⟨x, y, r, rfl, h⟩ := p2i_inv h
  exact bk_row hmi (hC _ _ _ _ _ h) (fun p l ev R s m args below meth c H locs cells slots QQ ls h1 h2 h3 h4 h5 h6 h7 h8 kk => lv_iadd h1 h2 hd kk)
theorem b_isub {C : Nat → Nat → Lo → List AV → Sg → Prop} (hmi : mths[e]? = some mi) (hd : decode mi.2.1 pc = .ok (.isub, nx - pc)) (hx : ln nx pc 1 = true) (hC : ∀ c0 s0 lo st σ, C c0 s0 lo st σ → Bk w d k n e c0 s0 Q nx lo st σ) (h : p2i st (fun x y r => C c0 s0 lo (.inr (.int (x - y)) :: r) σ)) : Bk w d k n e c0 s0 Q pc lo st σ := by
  have hn := ln_eq hx; subst hn; rw [Nat.add_sub_cancel_left] at hd
  obtain ⟨x, y, r, rfl, h⟩ := p2i_inv h
  exact bk_row hmi (hC _ _ _ _ _ h) (fun p l ev R s m args below meth c H locs cells slots QQ ls h1 h2 h3 h4 h5 h6 h7 h8 kk => lv_isub h1 h2 hd kk)
theorem b_imul {C : Nat → Nat → Lo → List AV → Sg → Prop} (hmi : mths[e]? = some mi) (hd : decode mi.2.1 pc = .ok (.imul, nx - pc)) (hx : ln nx pc 1 = true) (hC : ∀ c0 s0 lo st σ, C c0 s0 lo st σ → Bk w d k n e c0 s0 Q nx lo st σ) (h : p2i st (fun x y r => C c0 s0 lo (.inr (.int (x * y)) :: r) σ)) : Bk w d k n e c0 s0 Q pc lo st σ := by
  have hn := ln_eq hx; subst hn; rw [Nat.add_sub_cancel_left] at hd
  obtain ⟨x, y, r, rfl, h⟩ := p2i_inv h
  exact bk_row hmi (hC _ _ _ _ _ h) (fun p l ev R s m args below meth c H locs cells slots QQ ls h1 h2 h3 h4 h5 h6 h7 h8 kk => lv_imul h1 h2 hd kk)
theorem b_iand {C : Nat → Nat → Lo → List AV → Sg → Prop} (hmi : mths[e]? = some mi) (hd : decode mi.2.1 pc = .ok (.iand, nx - pc)) (hx : ln nx pc 1 = true) (hC : ∀ c0 s0 lo st σ, C c0 s0 lo st σ → Bk w d k n e c0 s0 Q nx lo st σ) (h : p2i st (fun x y r => C c0 s0 lo (.inr (.int (x &&& y)) :: r) σ)) : Bk w d k n e c0 s0 Q pc lo st σ := by
  have hn := ln_eq hx; subst hn; rw [Nat.add_sub_cancel_left] at hd
  obtain ⟨x, y, r, rfl, h⟩ := p2i_inv h
  exact bk_row hmi (hC _ _ _ _ _ h) (fun p l ev R s m args below meth c H locs cells slots QQ ls h1 h2 h3 h4 h5 h6 h7 h8 kk => lv_iand h1 h2 hd kk)
theorem b_ior {C : Nat → Nat → Lo → List AV → Sg → Prop} (hmi : mths[e]? = some mi) (hd : decode mi.2.1 pc = .ok (.ior, nx - pc)) (hx : ln nx pc 1 = true) (hC : ∀ c0 s0 lo st σ, C c0 s0 lo st σ → Bk w d k n e c0 s0 Q nx lo st σ) (h : p2i st (fun x y r => C c0 s0 lo (.inr (.int (x ||| y)) :: r) σ)) : Bk w d k n e c0 s0 Q pc lo st σ := by
  have hn := ln_eq hx; subst hn; rw [Nat.add_sub_cancel_left] at hd
  obtain ⟨x, y, r, rfl, h⟩ := p2i_inv h
  exact bk_row hmi (hC _ _ _ _ _ h) (fun p l ev R s m args below meth c H locs cells slots QQ ls h1 h2 h3 h4 h5 h6 h7 h8 kk => lv_ior h1 h2 hd kk)
theorem b_ixor {C : Nat → Nat → Lo → List AV → Sg → Prop} (hmi : mths[e]? = some mi) (hd : decode mi.2.1 pc = .ok (.ixor, nx - pc)) (hx : ln nx pc 1 = true) (hC : ∀ c0 s0 lo st σ, C c0 s0 lo st σ → Bk w d k n e c0 s0 Q nx lo st σ) (h : p2i st (fun x y r => C c0 s0 lo (.inr (.int (x ^^^ y)) :: r) σ)) : Bk w d k n e c0 s0 Q pc lo st σ := by
  have hn := ln_eq hx; subst hn; rw [Nat.add_sub_cancel_left] at hd
  obtain ⟨x, y, r, rfl, h⟩ := p2i_inv h
  exact bk_row hmi (hC _ _ _ _ _ h) (fun p l ev R s m args below meth c H locs cells slots QQ ls h1 h2 h3 h4 h5 h6 h7 h8 kk => lv_ixor h1 h2 hd kk)
theorem b_ishl {C : Nat → Nat → Lo → List AV → Sg → Prop} (hmi : mths[e]? = some mi) (hd : decode mi.2.1 pc = .ok (.ishl, nx - pc)) (hx : ln nx pc 1 = true) (hC : ∀ c0 s0 lo st σ, C c0 s0 lo st σ → Bk w d k n e c0 s0 Q nx lo st σ) (h : p2i st (fun x y r => C c0 s0 lo (.inr (.int (x <<< (y &&& 31))) :: r) σ)) : Bk w d k n e c0 s0 Q pc lo st σ := by
  have hn := ln_eq hx; subst hn; rw [Nat.add_sub_cancel_left] at hd
  obtain ⟨x, y, r, rfl, h⟩ := p2i_inv h
  exact bk_row hmi (hC _ _ _ _ _ h) (fun p l ev R s m args below meth c H locs cells slots QQ ls h1 h2 h3 h4 h5 h6 h7 h8 kk => lv_ishl h1 h2 hd kk)
theorem b_ishr {C : Nat → Nat → Lo → List AV → Sg → Prop} (hmi : mths[e]? = some mi) (hd : decode mi.2.1 pc = .ok (.ishr, nx - pc)) (hx : ln nx pc 1 = true) (hC : ∀ c0 s0 lo st σ, C c0 s0 lo st σ → Bk w d k n e c0 s0 Q nx lo st σ) (h : p2i st (fun x y r => C c0 s0 lo (.inr (.int (x >>> (y &&& 31))) :: r) σ)) : Bk w d k n e c0 s0 Q pc lo st σ := by
  have hn := ln_eq hx; subst hn; rw [Nat.add_sub_cancel_left] at hd
  obtain ⟨x, y, r, rfl, h⟩ := p2i_inv h
  exact bk_row hmi (hC _ _ _ _ _ h) (fun p l ev R s m args below meth c H locs cells slots QQ ls h1 h2 h3 h4 h5 h6 h7 h8 kk => lv_ishr h1 h2 hd kk)
theorem b_iushr {C : Nat → Nat → Lo → List AV → Sg → Prop} (hmi : mths[e]? = some mi) (hd : decode mi.2.1 pc = .ok (.iushr, nx - pc)) (hx : ln nx pc 1 = true) (hC : ∀ c0 s0 lo st σ, C c0 s0 lo st σ → Bk w d k n e c0 s0 Q nx lo st σ) (h : p2i st (fun x y r => C c0 s0 lo (.inr (.int ((x.toUInt32 >>> (y.toUInt32 &&& Int32.toUInt32 31)).toInt32)) :: r) σ)) : Bk w d k n e c0 s0 Q pc lo st σ := by
  have hn := ln_eq hx; subst hn; rw [Nat.add_sub_cancel_left] at hd
  obtain ⟨x, y, r, rfl, h⟩ := p2i_inv h
  exact bk_row hmi (hC _ _ _ _ _ h) (fun p l ev R s m args below meth c H locs cells slots QQ ls h1 h2 h3 h4 h5 h6 h7 h8 kk => lv_iushr h1 h2 hd rfl kk)
theorem b_idiv {C : Nat → Nat → Lo → List AV → Sg → Prop} (hmi : mths[e]? = some mi) (hd : decode mi.2.1 pc = .ok (.idiv, nx - pc)) (hx : ln nx pc 1 = true) (hC : ∀ c0 s0 lo st σ, C c0 s0 lo st σ → Bk w d k n e c0 s0 Q nx lo st σ) (h : p2i st (fun x y r => ¬ y = 0 ∧ C c0 s0 lo (.inr (.int (x / y)) :: r) σ)) : Bk w d k n e c0 s0 Q pc lo st σ := by
  have hn := ln_eq hx; subst hn; rw [Nat.add_sub_cancel_left] at hd
  obtain ⟨x, y, r, rfl, hne, h⟩ := p2i_inv h
  exact bk_row hmi (hC _ _ _ _ _ h) (fun p l ev R s m args below meth c H locs cells slots QQ ls h1 h2 h3 h4 h5 h6 h7 h8 kk => lv_idiv h1 h2 hd hne kk)
theorem b_irem {C : Nat → Nat → Lo → List AV → Sg → Prop} (hmi : mths[e]? = some mi) (hd : decode mi.2.1 pc = .ok (.irem, nx - pc)) (hx : ln nx pc 1 = true) (hC : ∀ c0 s0 lo st σ, C c0 s0 lo st σ → Bk w d k n e c0 s0 Q nx lo st σ) (h : p2i st (fun x y r => ¬ y = 0 ∧ C c0 s0 lo (.inr (.int (x - x / y * y)) :: r) σ)) : Bk w d k n e c0 s0 Q pc lo st σ := by
  have hn := ln_eq hx; subst hn; rw [Nat.add_sub_cancel_left] at hd
  obtain ⟨x, y, r, rfl, hne, h⟩ := p2i_inv h
  exact bk_row hmi (hC _ _ _ _ _ h) (fun p l ev R s m args below meth c H locs cells slots QQ ls h1 h2 h3 h4 h5 h6 h7 h8 kk => lv_irem h1 h2 hd hne kk)
theorem b_ineg {C : Nat → Nat → Lo → List AV → Sg → Prop} (hmi : mths[e]? = some mi) (hd : decode mi.2.1 pc = .ok (.ineg, nx - pc)) (hx : ln nx pc 1 = true) (hC : ∀ c0 s0 lo st σ, C c0 s0 lo st σ → Bk w d k n e c0 s0 Q nx lo st σ) (h : p1i st (fun x r => C c0 s0 lo (.inr (.int (-x)) :: r) σ)) : Bk w d k n e c0 s0 Q pc lo st σ := by
  have hn := ln_eq hx; subst hn; rw [Nat.add_sub_cancel_left] at hd
  obtain ⟨x, r, rfl, h⟩ := p1i_inv h
  exact bk_row hmi (hC _ _ _ _ _ h) (fun p l ev R s m args below meth c H locs cells slots QQ ls h1 h2 h3 h4 h5 h6 h7 h8 kk => lv_ineg h1 h2 hd kk)
theorem b_i2b {C : Nat → Nat → Lo → List AV → Sg → Prop} (hmi : mths[e]? = some mi) (hd : decode mi.2.1 pc = .ok (.i2b, nx - pc)) (hx : ln nx pc 1 = true) (hC : ∀ c0 s0 lo st σ, C c0 s0 lo st σ → Bk w d k n e c0 s0 Q nx lo st σ) (h : p1i st (fun x r => C c0 s0 lo (.inr (.int (x.toInt8.toInt32)) :: r) σ)) : Bk w d k n e c0 s0 Q pc lo st σ := by
  have hn := ln_eq hx; subst hn; rw [Nat.add_sub_cancel_left] at hd
  obtain ⟨x, r, rfl, h⟩ := p1i_inv h
  exact bk_row hmi (hC _ _ _ _ _ h) (fun p l ev R s m args below meth c H locs cells slots QQ ls h1 h2 h3 h4 h5 h6 h7 h8 kk => lv_i2b h1 h2 hd rfl kk)
theorem b_i2c {C : Nat → Nat → Lo → List AV → Sg → Prop} (hmi : mths[e]? = some mi) (hd : decode mi.2.1 pc = .ok (.i2c, nx - pc)) (hx : ln nx pc 1 = true) (hC : ∀ c0 s0 lo st σ, C c0 s0 lo st σ → Bk w d k n e c0 s0 Q nx lo st σ) (h : p1i st (fun x r => C c0 s0 lo (.inr (.int ((x.toUInt32 % 65536).toInt32)) :: r) σ)) : Bk w d k n e c0 s0 Q pc lo st σ := by
  have hn := ln_eq hx; subst hn; rw [Nat.add_sub_cancel_left] at hd
  obtain ⟨x, r, rfl, h⟩ := p1i_inv h
  exact bk_row hmi (hC _ _ _ _ _ h) (fun p l ev R s m args below meth c H locs cells slots QQ ls h1 h2 h3 h4 h5 h6 h7 h8 kk => lv_i2c h1 h2 hd rfl kk)
theorem b_i2l {C : Nat → Nat → Lo → List AV → Sg → Prop} (hmi : mths[e]? = some mi) (hd : decode mi.2.1 pc = .ok (.i2l, nx - pc)) (hx : ln nx pc 1 = true) (hC : ∀ c0 s0 lo st σ, C c0 s0 lo st σ → Bk w d k n e c0 s0 Q nx lo st σ) (h : p1i st (fun x r => C c0 s0 lo (.inr (.long (x.toInt64)) :: r) σ)) : Bk w d k n e c0 s0 Q pc lo st σ := by
  have hn := ln_eq hx; subst hn; rw [Nat.add_sub_cancel_left] at hd
  obtain ⟨x, r, rfl, h⟩ := p1i_inv h
  exact bk_row hmi (hC _ _ _ _ _ h) (fun p l ev R s m args below meth c H locs cells slots QQ ls h1 h2 h3 h4 h5 h6 h7 h8 kk => lv_i2l h1 h2 hd rfl kk)
theorem b_lneg {C : Nat → Nat → Lo → List AV → Sg → Prop} (hmi : mths[e]? = some mi) (hd : decode mi.2.1 pc = .ok (.lneg, nx - pc)) (hx : ln nx pc 1 = true) (hC : ∀ c0 s0 lo st σ, C c0 s0 lo st σ → Bk w d k n e c0 s0 Q nx lo st σ) (h : p1l st (fun x r => C c0 s0 lo (.inr (.long (-x)) :: r) σ)) : Bk w d k n e c0 s0 Q pc lo st σ := by
  have hn := ln_eq hx; subst hn; rw [Nat.add_sub_cancel_left] at hd
  obtain ⟨x, r, rfl, h⟩ := p1l_inv h
  exact bk_row hmi (hC _ _ _ _ _ h) (fun p l ev R s m args below meth c H locs cells slots QQ ls h1 h2 h3 h4 h5 h6 h7 h8 kk => lv_lneg h1 h2 hd kk)
theorem b_l2i {C : Nat → Nat → Lo → List AV → Sg → Prop} (hmi : mths[e]? = some mi) (hd : decode mi.2.1 pc = .ok (.l2i, nx - pc)) (hx : ln nx pc 1 = true) (hC : ∀ c0 s0 lo st σ, C c0 s0 lo st σ → Bk w d k n e c0 s0 Q nx lo st σ) (h : p1l st (fun x r => C c0 s0 lo (.inr (.int (x.toInt32)) :: r) σ)) : Bk w d k n e c0 s0 Q pc lo st σ := by
  have hn := ln_eq hx; subst hn; rw [Nat.add_sub_cancel_left] at hd
  obtain ⟨x, r, rfl, h⟩ := p1l_inv h
  exact bk_row hmi (hC _ _ _ _ _ h) (fun p l ev R s m args below meth c H locs cells slots QQ ls h1 h2 h3 h4 h5 h6 h7 h8 kk => lv_l2i h1 h2 hd rfl kk)
theorem b_ladd {C : Nat → Nat → Lo → List AV → Sg → Prop} (hmi : mths[e]? = some mi) (hd : decode mi.2.1 pc = .ok (.ladd, nx - pc)) (hx : ln nx pc 1 = true) (hC : ∀ c0 s0 lo st σ, C c0 s0 lo st σ → Bk w d k n e c0 s0 Q nx lo st σ) (h : p2l st (fun x y r => C c0 s0 lo (.inr (.long (x + y)) :: r) σ)) : Bk w d k n e c0 s0 Q pc lo st σ := by
  have hn := ln_eq hx; subst hn; rw [Nat.add_sub_cancel_left] at hd
  obtain ⟨x, y, r, rfl, h⟩ := p2l_inv h
  exact bk_row hmi (hC _ _ _ _ _ h) (fun p l ev R s m args below meth c H locs cells slots QQ ls h1 h2 h3 h4 h5 h6 h7 h8 kk => lv_ladd h1 h2 hd kk)
theorem b_lsub {C : Nat → Nat → Lo → List AV → Sg → Prop} (hmi : mths[e]? = some mi) (hd : decode mi.2.1 pc = .ok (.lsub, nx - pc)) (hx : ln nx pc 1 = true) (hC : ∀ c0 s0 lo st σ, C c0 s0 lo st σ → Bk w d k n e c0 s0 Q nx lo st σ) (h : p2l st (fun x y r => C c0 s0 lo (.inr (.long (x - y)) :: r) σ)) : Bk w d k n e c0 s0 Q pc lo st σ := by
  have hn := ln_eq hx; subst hn; rw [Nat.add_sub_cancel_left] at hd
  obtain ⟨x, y, r, rfl, h⟩ := p2l_inv h
  exact bk_row hmi (hC _ _ _ _ _ h) (fun p l ev R s m args below meth c H locs cells slots QQ ls h1 h2 h3 h4 h5 h6 h7 h8 kk => lv_lsub h1 h2 hd kk)
theorem b_lmul {C : Nat → Nat → Lo → List AV → Sg → Prop} (hmi : mths[e]? = some mi) (hd : decode mi.2.1 pc = .ok (.lmul, nx - pc)) (hx : ln nx pc 1 = true) (hC : ∀ c0 s0 lo st σ, C c0 s0 lo st σ → Bk w d k n e c0 s0 Q nx lo st σ) (h : p2l st (fun x y r => C c0 s0 lo (.inr (.long (x * y)) :: r) σ)) : Bk w d k n e c0 s0 Q pc lo st σ := by
  have hn := ln_eq hx; subst hn; rw [Nat.add_sub_cancel_left] at hd
  obtain ⟨x, y, r, rfl, h⟩ := p2l_inv h
  exact bk_row hmi (hC _ _ _ _ _ h) (fun p l ev R s m args below meth c H locs cells slots QQ ls h1 h2 h3 h4 h5 h6 h7 h8 kk => lv_lmul h1 h2 hd kk)
theorem b_land {C : Nat → Nat → Lo → List AV → Sg → Prop} (hmi : mths[e]? = some mi) (hd : decode mi.2.1 pc = .ok (.land, nx - pc)) (hx : ln nx pc 1 = true) (hC : ∀ c0 s0 lo st σ, C c0 s0 lo st σ → Bk w d k n e c0 s0 Q nx lo st σ) (h : p2l st (fun x y r => C c0 s0 lo (.inr (.long (x &&& y)) :: r) σ)) : Bk w d k n e c0 s0 Q pc lo st σ := by
  have hn := ln_eq hx; subst hn; rw [Nat.add_sub_cancel_left] at hd
  obtain ⟨x, y, r, rfl, h⟩ := p2l_inv h
  exact bk_row hmi (hC _ _ _ _ _ h) (fun p l ev R s m args below meth c H locs cells slots QQ ls h1 h2 h3 h4 h5 h6 h7 h8 kk => lv_land h1 h2 hd kk)
theorem b_ldiv {C : Nat → Nat → Lo → List AV → Sg → Prop} (hmi : mths[e]? = some mi) (hd : decode mi.2.1 pc = .ok (.ldiv, nx - pc)) (hx : ln nx pc 1 = true) (hC : ∀ c0 s0 lo st σ, C c0 s0 lo st σ → Bk w d k n e c0 s0 Q nx lo st σ) (h : p2l st (fun x y r => ¬ y = 0 ∧ C c0 s0 lo (.inr (.long (x / y)) :: r) σ)) : Bk w d k n e c0 s0 Q pc lo st σ := by
  have hn := ln_eq hx; subst hn; rw [Nat.add_sub_cancel_left] at hd
  obtain ⟨x, y, r, rfl, hne, h⟩ := p2l_inv h
  exact bk_row hmi (hC _ _ _ _ _ h) (fun p l ev R s m args below meth c H locs cells slots QQ ls h1 h2 h3 h4 h5 h6 h7 h8 kk => lv_ldiv h1 h2 hd hne kk)
theorem b_lcmp {C : Nat → Nat → Lo → List AV → Sg → Prop} (hmi : mths[e]? = some mi) (hd : decode mi.2.1 pc = .ok (.lcmp, nx - pc)) (hx : ln nx pc 1 = true) (hC : ∀ c0 s0 lo st σ, C c0 s0 lo st σ → Bk w d k n e c0 s0 Q nx lo st σ) (h : p2l st (fun x y r => C c0 s0 lo (.inr (.int (lg_cmp x y)) :: r) σ)) : Bk w d k n e c0 s0 Q pc lo st σ := by
  have hn := ln_eq hx; subst hn; rw [Nat.add_sub_cancel_left] at hd
  obtain ⟨x, y, r, rfl, h⟩ := p2l_inv h
  exact bk_row hmi (hC _ _ _ _ _ h) (fun p l ev R s m args below meth c H locs cells slots QQ ls h1 h2 h3 h4 h5 h6 h7 h8 kk => W.lcmp h1 h2 hd kk)
theorem b_lshr {C : Nat → Nat → Lo → List AV → Sg → Prop} (hmi : mths[e]? = some mi) (hd : decode mi.2.1 pc = .ok (.lshr, nx - pc)) (hx : ln nx pc 1 = true) (hC : ∀ c0 s0 lo st σ, C c0 s0 lo st σ → Bk w d k n e c0 s0 Q nx lo st σ) (h : p1i st (fun y r => p1l r (fun x r2 => C c0 s0 lo (.inr (.long (x >>> (y.toInt64 &&& 63))) :: r2) σ))) : Bk w d k n e c0 s0 Q pc lo st σ := by
  have hn := ln_eq hx; subst hn; rw [Nat.add_sub_cancel_left] at hd
  obtain ⟨y, r, rfl, h⟩ := p1i_inv h
  obtain ⟨x, r2, rfl, h⟩ := p1l_inv h
  exact bk_row hmi (hC _ _ _ _ _ h) (fun p l ev R s m args below meth c H locs cells slots QQ ls h1 h2 h3 h4 h5 h6 h7 h8 kk => lv_lshr h1 h2 hd rfl kk)
theorem b_aconst_null {C : Nat → Nat → Lo → List AV → Sg → Prop} (hmi : mths[e]? = some mi) (hd : decode mi.2.1 pc = .ok (.aconst_null, nx - pc)) (hx : ln nx pc 1 = true) (hC : ∀ c0 s0 lo st σ, C c0 s0 lo st σ → Bk w d k n e c0 s0 Q nx lo st σ) (h : C c0 s0 lo (.inr .null :: st) σ) : Bk w d k n e c0 s0 Q pc lo st σ := by
  have hn := ln_eq hx; subst hn; rw [Nat.add_sub_cancel_left] at hd
  exact bk_row hmi (hC _ _ _ _ _ h) (fun p l ev R s m args below meth c H locs cells slots QQ ls h1 h2 h3 h4 h5 h6 h7 h8 kk => lv_null h1 h2 hd kk)
theorem b_iconst {C : Nat → Nat → Lo → List AV → Sg → Prop} (hmi : mths[e]? = some mi) {v : Int} {z : Int32} (hd : decode mi.2.1 pc = .ok (.iconst v, nx - pc)) (hx : ln nx pc 1 = true) (hz : Int32.ofInt v = z) (hC : ∀ c0 s0 lo st σ, C c0 s0 lo st σ → Bk w d k n e c0 s0 Q nx lo st σ) (h : C c0 s0 lo (.inr (.int z) :: st) σ) : Bk w d k n e c0 s0 Q pc lo st σ := by
  have hn := ln_eq hx; subst hn; rw [Nat.add_sub_cancel_left] at hd
  exact bk_row hmi (hC _ _ _ _ _ h) (fun p l ev R s m args below meth c H locs cells slots QQ ls h1 h2 h3 h4 h5 h6 h7 h8 kk => lv_iconst h1 h2 hd hz kk)
theorem b_bipush {C : Nat → Nat → Lo → List AV → Sg → Prop} (hmi : mths[e]? = some mi) {v : Int} {z : Int32} (hd : decode mi.2.1 pc = .ok (.bipush v, nx - pc)) (hx : ln nx pc 2 = true) (hz : (Int8.ofInt v).toInt32 = z) (hC : ∀ c0 s0 lo st σ, C c0 s0 lo st σ → Bk w d k n e c0 s0 Q nx lo st σ) (h : C c0 s0 lo (.inr (.int z) :: st) σ) : Bk w d k n e c0 s0 Q pc lo st σ := by
  have hn := ln_eq hx; subst hn; rw [Nat.add_sub_cancel_left] at hd
  exact bk_row hmi (hC _ _ _ _ _ h) (fun p l ev R s m args below meth c H locs cells slots QQ ls h1 h2 h3 h4 h5 h6 h7 h8 kk => lv_bipush h1 h2 hd hz kk)
theorem b_sipush {C : Nat → Nat → Lo → List AV → Sg → Prop} (hmi : mths[e]? = some mi) {v : Int} {z : Int32} (hd : decode mi.2.1 pc = .ok (.sipush v, nx - pc)) (hx : ln nx pc 3 = true) (hz : (Int16.ofInt v).toInt32 = z) (hC : ∀ c0 s0 lo st σ, C c0 s0 lo st σ → Bk w d k n e c0 s0 Q nx lo st σ) (h : C c0 s0 lo (.inr (.int z) :: st) σ) : Bk w d k n e c0 s0 Q pc lo st σ := by
  have hn := ln_eq hx; subst hn; rw [Nat.add_sub_cancel_left] at hd
  exact bk_row hmi (hC _ _ _ _ _ h) (fun p l ev R s m args below meth c H locs cells slots QQ ls h1 h2 h3 h4 h5 h6 h7 h8 kk => lv_sipush h1 h2 hd hz kk)
theorem b_lconst {C : Nat → Nat → Lo → List AV → Sg → Prop} (hmi : mths[e]? = some mi) {v : Fin 2} {z : Int64} (hd : decode mi.2.1 pc = .ok (.lconst v, nx - pc)) (hx : ln nx pc 1 = true) (hz : Int64.ofNat (v : Nat) = z) (hC : ∀ c0 s0 lo st σ, C c0 s0 lo st σ → Bk w d k n e c0 s0 Q nx lo st σ) (h : C c0 s0 lo (.inr (.long z) :: st) σ) : Bk w d k n e c0 s0 Q pc lo st σ := by
  have hn := ln_eq hx; subst hn; rw [Nat.add_sub_cancel_left] at hd
  exact bk_row hmi (hC _ _ _ _ _ h) (fun p l ev R s m args below meth c H locs cells slots QQ ls h1 h2 h3 h4 h5 h6 h7 h8 kk => lv_lconst h1 h2 hd hz kk)
theorem b_ldc {C : Nat → Nat → Lo → List AV → Sg → Prop} (hmi : mths[e]? = some mi) {i : Nat} {z : Int32} (hd : decode mi.2.1 pc = .ok (.ldc i, nx - pc)) (hx : ln nx pc 2 = true) (hz : Cond.constant mi.1.cls i z ∈ gtbl) (hC : ∀ c0 s0 lo st σ, C c0 s0 lo st σ → Bk w d k n e c0 s0 Q nx lo st σ) (h : C c0 s0 lo (.inr (.int z) :: st) σ) : Bk w d k n e c0 s0 Q pc lo st σ := by
  have hn := ln_eq hx; subst hn; rw [Nat.add_sub_cancel_left] at hd
  exact bk_row hmi (hC _ _ _ _ _ h) (fun p l ev R s m args below meth c H locs cells slots QQ ls h1 h2 h3 h4 h5 h6 h7 h8 kk => lv_ldc h1 h2 h4 (h5 _ hz) hd kk)
theorem b_ldc_w {C : Nat → Nat → Lo → List AV → Sg → Prop} (hmi : mths[e]? = some mi) {i : Nat} {z : Int32} (hd : decode mi.2.1 pc = .ok (.ldc_w i, nx - pc)) (hx : ln nx pc 3 = true) (hz : Cond.constant mi.1.cls i z ∈ gtbl) (hC : ∀ c0 s0 lo st σ, C c0 s0 lo st σ → Bk w d k n e c0 s0 Q nx lo st σ) (h : C c0 s0 lo (.inr (.int z) :: st) σ) : Bk w d k n e c0 s0 Q pc lo st σ := by
  have hn := ln_eq hx; subst hn; rw [Nat.add_sub_cancel_left] at hd
  exact bk_row hmi (hC _ _ _ _ _ h) (fun p l ev R s m args below meth c H locs cells slots QQ ls h1 h2 h3 h4 h5 h6 h7 h8 kk => lv_ldcw h1 h2 h4 (h5 _ hz) hd kk)
theorem b_ldc2_w {C : Nat → Nat → Lo → List AV → Sg → Prop} (hmi : mths[e]? = some mi) {i : Nat} {z : Int64} (hd : decode mi.2.1 pc = .ok (.ldc2_w i, nx - pc)) (hx : ln nx pc 3 = true) (hz : Cond.constantLong mi.1.cls i z ∈ gtbl) (hC : ∀ c0 s0 lo st σ, C c0 s0 lo st σ → Bk w d k n e c0 s0 Q nx lo st σ) (h : C c0 s0 lo (.inr (.long z) :: st) σ) : Bk w d k n e c0 s0 Q pc lo st σ := by
  have hn := ln_eq hx; subst hn; rw [Nat.add_sub_cancel_left] at hd
  exact bk_row hmi (hC _ _ _ _ _ h) (fun p l ev R s m args below meth c H locs cells slots QQ ls h1 h2 h3 h4 h5 h6 h7 h8 kk => lv_ldc2 h1 h2 h4 (h5 _ hz) hd kk)
theorem b_iload {C : Nat → Nat → Lo → List AV → Sg → Prop} (hmi : mths[e]? = some mi) {i : Nat} (hd : decode mi.2.1 pc = .ok (.iload i, nx - pc)) (hx : ln nx pc 2 = true) (hC : ∀ c0 s0 lo st σ, C c0 s0 lo st σ → Bk w d k n e c0 s0 Q nx lo st σ) (h : ldI lo i (fun x => C c0 s0 lo (.inr (.int x) :: st) σ)) : Bk w d k n e c0 s0 Q pc lo st σ := by
  have hn := ln_eq hx; subst hn; rw [Nat.add_sub_cancel_left] at hd
  obtain ⟨x, hl, h⟩ := ldI_inv h
  exact bk_row hmi (hC _ _ _ _ _ h) (fun p l ev R s m args below meth c H locs cells slots QQ ls h1 h2 h3 h4 h5 h6 h7 h8 kk => lv_iload h1 h2 hd (h3.2.2 _ (asg_mem hl)) kk)
theorem b_iload_n {C : Nat → Nat → Lo → List AV → Sg → Prop} (hmi : mths[e]? = some mi) {i : Fin 4} (hd : decode mi.2.1 pc = .ok (.iload_n i, nx - pc)) (hx : ln nx pc 1 = true) (hC : ∀ c0 s0 lo st σ, C c0 s0 lo st σ → Bk w d k n e c0 s0 Q nx lo st σ) (h : ldI lo i.val (fun x => C c0 s0 lo (.inr (.int x) :: st) σ)) : Bk w d k n e c0 s0 Q pc lo st σ := by
  have hn := ln_eq hx; subst hn; rw [Nat.add_sub_cancel_left] at hd
  obtain ⟨x, hl, h⟩ := ldI_inv h
  exact bk_row hmi (hC _ _ _ _ _ h) (fun p l ev R s m args below meth c H locs cells slots QQ ls h1 h2 h3 h4 h5 h6 h7 h8 kk => lv_iload_n h1 h2 hd rfl (h3.2.2 _ (asg_mem hl)) kk)
theorem b_lload {C : Nat → Nat → Lo → List AV → Sg → Prop} (hmi : mths[e]? = some mi) {i : Nat} (hd : decode mi.2.1 pc = .ok (.lload i, nx - pc)) (hx : ln nx pc 2 = true) (hC : ∀ c0 s0 lo st σ, C c0 s0 lo st σ → Bk w d k n e c0 s0 Q nx lo st σ) (h : ldL lo i (fun x => C c0 s0 lo (.inr (.long x) :: st) σ)) : Bk w d k n e c0 s0 Q pc lo st σ := by
  have hn := ln_eq hx; subst hn; rw [Nat.add_sub_cancel_left] at hd
  obtain ⟨x, hl, h⟩ := ldL_inv h
  exact bk_row hmi (hC _ _ _ _ _ h) (fun p l ev R s m args below meth c H locs cells slots QQ ls h1 h2 h3 h4 h5 h6 h7 h8 kk => lv_lload h1 h2 hd (h3.2.2 _ (asg_mem hl)) kk)
theorem b_lload_n {C : Nat → Nat → Lo → List AV → Sg → Prop} (hmi : mths[e]? = some mi) {i : Fin 4} (hd : decode mi.2.1 pc = .ok (.lload_n i, nx - pc)) (hx : ln nx pc 1 = true) (hC : ∀ c0 s0 lo st σ, C c0 s0 lo st σ → Bk w d k n e c0 s0 Q nx lo st σ) (h : ldL lo i.val (fun x => C c0 s0 lo (.inr (.long x) :: st) σ)) : Bk w d k n e c0 s0 Q pc lo st σ := by
  have hn := ln_eq hx; subst hn; rw [Nat.add_sub_cancel_left] at hd
  obtain ⟨x, hl, h⟩ := ldL_inv h
  exact bk_row hmi (hC _ _ _ _ _ h) (fun p l ev R s m args below meth c H locs cells slots QQ ls h1 h2 h3 h4 h5 h6 h7 h8 kk => lv_lload_n h1 h2 hd rfl (h3.2.2 _ (asg_mem hl)) kk)
theorem b_aload {C : Nat → Nat → Lo → List AV → Sg → Prop} (hmi : mths[e]? = some mi) {i : Nat} (hd : decode mi.2.1 pc = .ok (.aload i, nx - pc)) (hx : ln nx pc 2 = true) (hC : ∀ c0 s0 lo st σ, C c0 s0 lo st σ → Bk w d k n e c0 s0 Q nx lo st σ) (h : ldA lo i (fun v => C c0 s0 lo (v :: st) σ)) : Bk w d k n e c0 s0 Q pc lo st σ := by
  have hn := ln_eq hx; subst hn; rw [Nat.add_sub_cancel_left] at hd
  obtain ⟨v, hl, hv, h⟩ := ldA_inv h
  rcases hv with ⟨a, rfl⟩ | ⟨a, rfl⟩ | rfl
  · exact bk_row hmi (hC _ _ _ _ _ h) (fun p l ev R s m args below meth c H locs cells slots QQ ls h1 h2 h3 h4 h5 h6 h7 h8 kk => lv_aload h1 h2 hd (h3.2.2 _ (asg_mem hl)) kk)
  · exact bk_row hmi (hC _ _ _ _ _ h) (fun p l ev R s m args below meth c H locs cells slots QQ ls h1 h2 h3 h4 h5 h6 h7 h8 kk => lv_aload h1 h2 hd (h3.2.2 _ (asg_mem hl)) kk)
  · exact bk_row hmi (hC _ _ _ _ _ h) (fun p l ev R s m args below meth c H locs cells slots QQ ls h1 h2 h3 h4 h5 h6 h7 h8 kk => lv_aloadN h1 h2 hd (h3.2.2 _ (asg_mem hl)) kk)
theorem b_aload_n {C : Nat → Nat → Lo → List AV → Sg → Prop} (hmi : mths[e]? = some mi) {i : Fin 4} (hd : decode mi.2.1 pc = .ok (.aload_n i, nx - pc)) (hx : ln nx pc 1 = true) (hC : ∀ c0 s0 lo st σ, C c0 s0 lo st σ → Bk w d k n e c0 s0 Q nx lo st σ) (h : ldA lo i.val (fun v => C c0 s0 lo (v :: st) σ)) : Bk w d k n e c0 s0 Q pc lo st σ := by
  have hn := ln_eq hx; subst hn; rw [Nat.add_sub_cancel_left] at hd
  obtain ⟨v, hl, hv, h⟩ := ldA_inv h
  rcases hv with ⟨a, rfl⟩ | ⟨a, rfl⟩ | rfl
  · exact bk_row hmi (hC _ _ _ _ _ h) (fun p l ev R s m args below meth c H locs cells slots QQ ls h1 h2 h3 h4 h5 h6 h7 h8 kk => lv_aload_n h1 h2 hd rfl (h3.2.2 _ (asg_mem hl)) kk)
  · exact bk_row hmi (hC _ _ _ _ _ h) (fun p l ev R s m args below meth c H locs cells slots QQ ls h1 h2 h3 h4 h5 h6 h7 h8 kk => lv_aload_n h1 h2 hd rfl (h3.2.2 _ (asg_mem hl)) kk)
  · exact bk_row hmi (hC _ _ _ _ _ h) (fun p l ev R s m args below meth c H locs cells slots QQ ls h1 h2 h3 h4 h5 h6 h7 h8 kk => lv_aload_nN h1 h2 hd rfl (h3.2.2 _ (asg_mem hl)) kk)
theorem b_istore {C : Nat → Nat → Lo → List AV → Sg → Prop} (hmi : mths[e]? = some mi) {i : Nat} (hd : decode mi.2.1 pc = .ok (.istore i, nx - pc)) (hx : ln nx pc 2 = true) (hi : i < mi.2.2.1) (hC : ∀ c0 s0 lo st σ, C c0 s0 lo st σ → Bk w d k n e c0 s0 Q nx lo st σ) (h : p1i st (fun x r => sto1K lo i (.inr (.int x)) (fun lo => C c0 s0 lo r σ))) : Bk w d k n e c0 s0 Q pc lo st σ := by
  have hn := ln_eq hx; subst hn; rw [Nat.add_sub_cancel_left] at hd
  obtain ⟨x, r, rfl, h'⟩ := p1i_inv h; clear h; rw [sto1K_eq] at h'; have h := h'; clear h'
  exact bk_sto hmi (asg_sto1 (w := w)) (hC _ _ _ _ _ h) (fun p l ev R s m args below meth c H locs cells slots QQ ls h1 h2 h3 kk => lv_istore h1 h2 hd h3 hi rfl kk)
theorem b_istore_n {C : Nat → Nat → Lo → List AV → Sg → Prop} (hmi : mths[e]? = some mi) {i : Fin 4} (hd : decode mi.2.1 pc = .ok (.istore_n i, nx - pc)) (hx : ln nx pc 1 = true) (hi : i.val < mi.2.2.1) (hC : ∀ c0 s0 lo st σ, C c0 s0 lo st σ → Bk w d k n e c0 s0 Q nx lo st σ) (h : p1i st (fun x r => sto1K lo i.val (.inr (.int x)) (fun lo => C c0 s0 lo r σ))) : Bk w d k n e c0 s0 Q pc lo st σ := by
  have hn := ln_eq hx; subst hn; rw [Nat.add_sub_cancel_left] at hd
  obtain ⟨x, r, rfl, h'⟩ := p1i_inv h; clear h; rw [sto1K_eq] at h'; have h := h'; clear h'
  exact bk_sto hmi (asg_sto1 (w := w)) (hC _ _ _ _ _ h) (fun p l ev R s m args below meth c H locs cells slots QQ ls h1 h2 h3 kk => lv_istore_n h1 h2 hd rfl h3 hi rfl kk)
theorem b_lstore {C : Nat → Nat → Lo → List AV → Sg → Prop} (hmi : mths[e]? = some mi) {i : Nat} (hd : decode mi.2.1 pc = .ok (.lstore i, nx - pc)) (hx : ln nx pc 2 = true) (hi : i + 1 < mi.2.2.1) (hC : ∀ c0 s0 lo st σ, C c0 s0 lo st σ → Bk w d k n e c0 s0 Q nx lo st σ) (h : p1l st (fun x r => sto2K lo i (.inr (.long x)) (fun lo => C c0 s0 lo r σ))) : Bk w d k n e c0 s0 Q pc lo st σ := by
  have hn := ln_eq hx; subst hn; rw [Nat.add_sub_cancel_left] at hd
  obtain ⟨x, r, rfl, h'⟩ := p1l_inv h; clear h; rw [sto2K_eq] at h'; have h := h'; clear h'
  exact bk_sto hmi (asg_sto2 (w := w)) (hC _ _ _ _ _ h) (fun p l ev R s m args below meth c H locs cells slots QQ ls h1 h2 h3 kk => lv_lstore h1 h2 hd h3 hi rfl kk)
theorem b_lstore_n {C : Nat → Nat → Lo → List AV → Sg → Prop} (hmi : mths[e]? = some mi) {i : Fin 4} (hd : decode mi.2.1 pc = .ok (.lstore_n i, nx - pc)) (hx : ln nx pc 1 = true) (hi : i.val + 1 < mi.2.2.1) (hC : ∀ c0 s0 lo st σ, C c0 s0 lo st σ → Bk w d k n e c0 s0 Q nx lo st σ) (h : p1l st (fun x r => sto2K lo i.val (.inr (.long x)) (fun lo => C c0 s0 lo r σ))) : Bk w d k n e c0 s0 Q pc lo st σ := by
  have hn := ln_eq hx; subst hn; rw [Nat.add_sub_cancel_left] at hd
  obtain ⟨x, r, rfl, h'⟩ := p1l_inv h; clear h; rw [sto2K_eq] at h'; have h := h'; clear h'
  exact bk_sto hmi (asg_sto2 (w := w)) (hC _ _ _ _ _ h) (fun p l ev R s m args below meth c H locs cells slots QQ ls h1 h2 h3 kk => lv_lstore_n h1 h2 hd rfl h3 hi rfl kk)
theorem b_astore {C : Nat → Nat → Lo → List AV → Sg → Prop} (hmi : mths[e]? = some mi) {i : Nat} (hd : decode mi.2.1 pc = .ok (.astore i, nx - pc)) (hx : ln nx pc 2 = true) (hi : i < mi.2.2.1) (hC : ∀ c0 s0 lo st σ, C c0 s0 lo st σ → Bk w d k n e c0 s0 Q nx lo st σ) (h : p1r st (fun v r => sto1K lo i v (fun lo => C c0 s0 lo r σ))) : Bk w d k n e c0 s0 Q pc lo st σ := by
  have hn := ln_eq hx; subst hn; rw [Nat.add_sub_cancel_left] at hd
  obtain ⟨v, r, rfl, hv, h'⟩ := p1r_inv h; clear h; rw [sto1K_eq] at h'; have h := h'; clear h'
  rcases hv with ⟨a, rfl⟩ | ⟨a, rfl⟩ | rfl
  · exact bk_sto hmi (asg_sto1 (w := w)) (hC _ _ _ _ _ h) (fun p l ev R s m args below meth c H locs cells slots QQ ls h1 h2 h3 kk => lv_astore h1 h2 hd h3 hi rfl kk)
  · exact bk_sto hmi (asg_sto1 (w := w)) (hC _ _ _ _ _ h) (fun p l ev R s m args below meth c H locs cells slots QQ ls h1 h2 h3 kk => lv_astore h1 h2 hd h3 hi rfl kk)
  · exact bk_sto hmi (asg_sto1 (w := w)) (hC _ _ _ _ _ h) (fun p l ev R s m args below meth c H locs cells slots QQ ls h1 h2 h3 kk => lv_astoreN h1 h2 hd h3 hi rfl kk)
theorem b_astore_n {C : Nat → Nat → Lo → List AV → Sg → Prop} (hmi : mths[e]? = some mi) {i : Fin 4} (hd : decode mi.2.1 pc = .ok (.astore_n i, nx - pc)) (hx : ln nx pc 1 = true) (hi : i.val < mi.2.2.1) (hC : ∀ c0 s0 lo st σ, C c0 s0 lo st σ → Bk w d k n e c0 s0 Q nx lo st σ) (h : p1r st (fun v r => sto1K lo i.val v (fun lo => C c0 s0 lo r σ))) : Bk w d k n e c0 s0 Q pc lo st σ := by
  have hn := ln_eq hx; subst hn; rw [Nat.add_sub_cancel_left] at hd
  obtain ⟨v, r, rfl, hv, h'⟩ := p1r_inv h; clear h; rw [sto1K_eq] at h'; have h := h'; clear h'
  rcases hv with ⟨a, rfl⟩ | ⟨a, rfl⟩ | rfl
  · exact bk_sto hmi (asg_sto1 (w := w)) (hC _ _ _ _ _ h) (fun p l ev R s m args below meth c H locs cells slots QQ ls h1 h2 h3 kk => lv_astore_n h1 h2 hd rfl h3 hi rfl kk)
  · exact bk_sto hmi (asg_sto1 (w := w)) (hC _ _ _ _ _ h) (fun p l ev R s m args below meth c H locs cells slots QQ ls h1 h2 h3 kk => lv_astore_n h1 h2 hd rfl h3 hi rfl kk)
  · exact bk_sto hmi (asg_sto1 (w := w)) (hC _ _ _ _ _ h) (fun p l ev R s m args below meth c H locs cells slots QQ ls h1 h2 h3 kk => lv_astore_nN h1 h2 hd rfl h3 hi rfl kk)
theorem b_iinc {C : Nat → Nat → Lo → List AV → Sg → Prop} (hmi : mths[e]? = some mi) {i : Nat} {v : Int} {z : Int32} (hd : decode mi.2.1 pc = .ok (.iinc i v, nx - pc)) (hx : ln nx pc 3 = true) (hi : i < mi.2.2.1) (hz : Int32.ofInt v = z) (hC : ∀ c0 s0 lo st σ, C c0 s0 lo st σ → Bk w d k n e c0 s0 Q nx lo st σ) (h : ldI lo i (fun x => sto1K lo i (.inr (.int (x + z))) (fun lo => C c0 s0 lo st σ))) : Bk w d k n e c0 s0 Q pc lo st σ := by
  have hn := ln_eq hx; subst hn; rw [Nat.add_sub_cancel_left] at hd
  obtain ⟨x, hl, h'⟩ := ldI_inv h; clear h; rw [sto1K_eq] at h'; have h := h'; clear h'
  obtain ⟨j, hj⟩ := List.getElem?_of_mem (asg_mem (w := w) hl)
  exact bk_sto hmi (asg_sto1 (w := w)) (hC _ _ _ _ _ h) (fun p l ev R s m args below meth c H locs cells slots QQ ls h1 h2 h3 kk => lv_iinc h1 h2 hd h3 hj (by rw [hz]) hi rfl kk)
theorem b_dup {C : Nat → Nat → Lo → List AV → Sg → Prop} (hmi : mths[e]? = some mi) (hd : decode mi.2.1 pc = .ok (.dup, nx - pc)) (hx : ln nx pc 1 = true) (hC : ∀ c0 s0 lo st σ, C c0 s0 lo st σ → Bk w d k n e c0 s0 Q nx lo st σ) (h : p1 st (fun v r => bif Nat.beq (catA v) 1 then C c0 s0 lo (v :: v :: r) σ else False)) : Bk w d k n e c0 s0 Q pc lo st σ := by
  have hn := ln_eq hx; subst hn; rw [Nat.add_sub_cancel_left] at hd
  obtain ⟨v, r, rfl, h⟩ := p1_inv h
  obtain ⟨hc, h⟩ := bif_inv h
  exact bk_row hmi (hC _ _ _ _ _ h) (fun p l ev R s m args below meth c H locs cells slots QQ ls h1 h2 h3 h4 h5 h6 h7 h8 kk => lv_dup h1 h2 hd (by rw [cat_enc]; exact Nat.eq_of_beq_eq_true hc) kk)
theorem b_dup2 {C : Nat → Nat → Lo → List AV → Sg → Prop} (hmi : mths[e]? = some mi) (hd : decode mi.2.1 pc = .ok (.dup2, nx - pc)) (hx : ln nx pc 1 = true) (hC : ∀ c0 s0 lo st σ, C c0 s0 lo st σ → Bk w d k n e c0 s0 Q nx lo st σ) (h : p1 st (fun v r => p1 r (fun u r2 => bif Nat.beq (catA v) 1 && Nat.beq (catA u) 1 then C c0 s0 lo (v :: u :: v :: u :: r2) σ else False))) : Bk w d k n e c0 s0 Q pc lo st σ := by
  have hn := ln_eq hx; subst hn; rw [Nat.add_sub_cancel_left] at hd
  obtain ⟨v, r, rfl, h'⟩ := p1_inv h
  obtain ⟨u, r2, rfl, h''⟩ := p1_inv h'
  obtain ⟨hc, h⟩ := bif_inv h''
  rw [Bool.and_eq_true] at hc
  exact bk_row hmi (hC _ _ _ _ _ h) (fun p l ev R s m args below meth c H locs cells slots QQ ls h1 h2 h3 h4 h5 h6 h7 h8 kk => lv_dup2_11 h1 h2 hd (by rw [cat_enc]; exact Nat.eq_of_beq_eq_true hc.1) (by rw [cat_enc]; exact Nat.eq_of_beq_eq_true hc.2) kk)
end

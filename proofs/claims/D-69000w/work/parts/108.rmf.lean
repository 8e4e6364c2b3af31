/-! 108: the reference reads expressions: the loop over signs -/
def kpO (z : Sg4) : Kp := (z.1, z.2.2.1, z.2.2.2)
/-- the tree that comes of operands that are kept, and of those to come -/
def fuT (l : List Sg4) (L : List ((Int32 × Int32) × Tr)) : Tr := match l.map (fun z => z.2) with
  | [] => .leaf
  | k :: r => srT [] k.1 (reK (k :: r) ++ L)
theorem fuT_nil {l : List Sg4} : fuT l [] = exK (l.map (fun z => z.2)) := by
  unfold fuT exK
  generalize l.map (fun z => z.2) = m
  cases m with
  | nil => rfl
  | cons k r => dsimp only; rw [List.append_nil]
theorem reK_last : ∀ (l : List (Tr × Int32 × Int32)) (t : Tr) (g g' : Int32 × Int32), reK (l ++ [(t, g)]) = reK (l ++ [(t, g')]) := by
  intro l
  induction l with
  | nil => intro t g g'; rfl
  | cons z l ih =>
    intro t g g'
    cases l with
    | nil => rfl
    | cons y l =>
      show (z.2, y.1) :: reK (y :: l ++ [(t, g)]) = (z.2, y.1) :: reK (y :: l ++ [(t, g')])
      rw [ih t g g']
theorem fuT_step {l : List Sg4} {c c' : Nat} {t t' : Tr} {g g2 : Int32 × Int32} {v : Int32 × Int32} {L : List ((Int32 × Int32) × Tr)} : fuT (l ++ [(c, t, g)]) ((v, t') :: L) = fuT ((l ++ [(c, t, v)]) ++ [(c', t', g2)]) L := by
  unfold fuT
  have e1 : (l ++ [(c, t, g)]).map (fun z => z.2) = l.map (fun z => z.2) ++ [(t, g)] := by simp
  have e2 : ((l ++ [(c, t, v)]) ++ [(c', t', g2)]).map (fun z => z.2) = l.map (fun z => z.2) ++ (t, v) :: (t', g2) :: [] := by simp
  rw [e1, e2]
  have e3 := reK_app (l.map (fun z => z.2)) (t, v) (t', g2) []
  have e4 := reK_last (l.map (fun z => z.2)) t g v
  cases hm : l.map (fun z => z.2) with
  | nil =>
    rw [hm] at e3 e4
    rfl
  | cons k r =>
    rw [hm] at e3 e4
    show srT [] k.1 (reK (k :: r ++ [(t, g)]) ++ (v, t') :: L) = srT [] k.1 (reK (k :: r ++ (t, v) :: (t', g2) :: []) ++ L)
    rw [e3, e4]
    simp [reK]
section
variable {w : Wd} {d n F : Nat} {tx : Nat → Int32} {σ0 : Sg} {s : NS} {op : List Kp} {a b' p : Nat}
/-- the operands of one expression, as they are kept -/
def KpR (s0 s1 : NS) (l : List Sg4) : Prop := ∀ z, z ∈ l → s0.1 ≤ z.1 ∧ FoN s1.2 s0.1 s1.1 z.2.1 [z.1]
/-- all operands are there: they are split, the tree comes below p -/
theorem xm_last {Q : Sg → Prop} {y : RS} {τ : Sg} {s1 : NS} {l : List Sg4} {A B : Nat} (hd : l.length + 5 ≤ d) (ho : isO y = true) (hT : StM tx n σ0 τ y s1 (op ++ l.map kpO) A B) (hne : l ≠ []) (hA : A + l.length ≤ a + 1) (hb : a ≤ b') (hb' : b' ≤ 32000) (hol : op.length + l.length ≤ 200) (hle : s.1 ≤ s1.1) (hk : ∀ k, k < s.1 → s1.2 k = s.2 k) (hR : KpR s s1 l) (hp : Liv s p) {x2 x5 : Int32} (h2 : x2 = nI op.length) (h5 : x5 = nI (op.length + (l.length - 1)))
    (h : ∀ σ', PoX tx n σ0 s op p (y, exK (l.map (fun z => z.2))) a b' σ' → Q σ') : OkI w d m_M_split [vR 81, vI x2, vI x5] τ (fun r1 t1 => OkV w d m_M_hang [vR 81, vI r1, vI (nI p)] t1 (fun t2 => Q (wI t2 81 25 x2))) := by
  subst h2 h5
  have hT' := hT.okb (b' := A) ho
  have hmx := hT'.many (Nat.le_refl _)
  have hpos : 0 < l.length := List.length_pos_iff.mpr hne
  obtain ⟨k1, k2⟩ := hT.2.2.2.2.2.2.1 ho
  have em : (op ++ l.map kpO).map (fun q => q.1) = op.map (fun q => q.1) ++ l.map (fun z => z.1) := by
    rw [List.map_append, List.map_map]; rfl
  have nd := k2.2
  rw [em, List.nodup_append] at nd
  have hG : SGm τ op.length l := by
    intro i hi
    have := k1 (op.length + i) (by rw [List.length_append, List.length_map]; omega)
    have e : (op ++ l.map kpO).getD (op.length + i) (0, 0, 0) = kpO (l.getD i (0, .leaf, 0, 0)) := by
      rw [List.getD_eq_getElem?_getD, List.getElem?_append_right (by omega), Nat.add_sub_cancel_left, List.getElem?_map, List.getElem?_eq_getElem hi, List.getD_eq_getElem?_getD, List.getElem?_eq_getElem hi]; rfl
    rw [e] at this
    exact this
  have orl : ∀ z, z ∈ l → z.1 < s1.1 ∧ rp (s1.2 z.1) = -1 := fun z hz => k2.1 z.1 (by rw [em, List.mem_append]; exact Or.inr (List.mem_map_of_mem hz))
  have oro : ∀ c, c ∈ op.map (fun q => q.1) → c < s1.1 ∧ rp (s1.2 c) = -1 := fun c hc => k2.1 c (by rw [em, List.mem_append]; exact Or.inl hc)
  refine sp_split (lo := s.1) l.length l op.length d τ s1 _ (Nat.le_refl _) hne (by omega) hT.2.2.2.1 hT.2.2.2.2.1 (by omega) hol hG (fun z hz => ⟨(orl z hz).1, (hR z hz).1, (orl z hz).2, (hR z hz).2⟩) nd.2.1 hle (fun τ1 r ⟨s2, f2, F2, N2, m2, g1, g2, g3, g4, g5, g6, g7, g8, g9⟩ => ?_)
  have nseg : ∀ k, k < s.1 → k ∉ l.map (fun z => z.1) := fun k hk hm => by
    rw [List.mem_map] at hm
    obtain ⟨z, hz, e⟩ := hm
    have := (hR z hz).1
    omega
  have keep : ∀ k, k < s.1 → s2.2 k = s.2 k := fun k hk' => by rw [g8 k (by omega) (nseg k hk')]; exact hk k hk'
  have hEx : Exn s r true (exK (l.map (fun z => z.2))) s2 := ⟨g4, g3, keep, g5, fun _ => g7⟩
  have hp2 := hEx.liv hp
  have hpr : p ≠ r := by have := hp.1; omega
  refine rn_hang0 (by omega) N2 (by omega) rfl rfl hp2 g3 hpr g5 (fun τ2 f3 F3 N3 => h _ ⟨putN s2 p r, ?_, ?_, fun _ => ⟨r, ?_⟩⟩)
  · have := hT'.re (τ := wI τ2 81 25 (nI op.length)) (s' := putN s2 p r) (op' := op) (j := l.length - 1) ((F2.trans F3).wI rfl) (fun k i hk => by rw [wI_1 (j := 25), if_neg (by omega), f3 k i (by omega), f2 k i (by omega)]) (N3.cong (fun i hi j _ => by rw [wI_1 (j := 25), if_neg (by omega)])) (by rw [wI_1 (j := 25), if_neg (by omega), f3 81 14 (by omega)]; exact m2) (by simp [wI_1]) (fun _ => ?_) (by show s2.1 ≤ s1.1 + (l.length - 1); omega)
    · exact this.weak (by omega) (by omega)
    · refine ⟨fun i hi => ?_, fun c hc => ?_, nd.1⟩
      · rw [wI_1 (j := 25), if_neg (by omega), wI_1 (j := 25), if_neg (by omega), wI_1 (j := 25), if_neg (by omega), f3 94 i (by omega), f3 95 i (by omega), f3 96 i (by omega), f2 94 i (by omega), f2 95 i (by omega), f2 96 i (by omega)]
        have := k1 i (by rw [List.length_append]; omega)
        have e : (op ++ l.map kpO).getD i (0, 0, 0) = op.getD i (0, 0, 0) := by rw [List.getD_eq_getElem?_getD, List.getElem?_append_left hi, ← List.getD_eq_getElem?_getD]
        rw [e] at this; exact this
      · have o := oro c hc
        have hcn : c ∉ l.map (fun z => z.1) := fun hm => nd.2.2 c hc c hm rfl
        have hcr : c ≠ r := by
          rcases g6 with q | q
          · exact fun e => hcn (e ▸ q)
          · omega
        refine ⟨by show c < s2.1; omega, ?_⟩
        rw [putN_rp hcr, g8 c o.1 hcn]; exact o.2
  · exact (hEx.put hp.1).weak (fun _ => rfl)
  · have e : (putN s2 p r).2 p = ((s2.2 p).1, (s2.2 p).2.1, (s2.2 p).2.2.1, rp (s2.2 p), rc (s2.2 p) ++ [r]) := by show upR _ p _ p = _; rw [upR_at, if_pos rfl]
    rw [e, keep p hp.1]; rfl
end

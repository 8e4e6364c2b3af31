/-! 075: texts (contracts; owed) -/
def stL (j : Nat) : List Int32 := match strT[j]? with | some x => x.2.2.2.1 | none => []
/-- where a sign first is; -1 -/
def ixC (c : Int32) : List Int32 → Nat → Int32
  | [], _ => -1
  | a :: l, k => if a = c then nI k else ixC c l (k + 1)
theorem st_length {w : Wd} {d : Nat} {σ : Sg} {Q : Int32 → Sg → Prop} (j : Nat) (hd : 4 ≤ d) (hj : j < 15) (h : Q (nI (stL j).length) σ) : OkI w d m_Str_length [vR (1100 + j)] σ Q := sorry
theorem st_charAt {w : Wd} {d : Nat} {σ : Sg} {Q : Int32 → Sg → Prop} (j i : Nat) {x : Int32} (hd : 4 ≤ d) (hj : j < 15) (hx : x = nI i) (hi : i < (stL j).length) (h : Q ((stL j).getD i 0) σ) : OkI w d m_Str_charAt [vR (1100 + j), vI x] σ Q := sorry
theorem st_index {w : Wd} {d : Nat} {σ : Sg} {Q : Int32 → Sg → Prop} (j : Nat) {c : Int32} (hd : 6 ≤ d) (hj : j < 15) (h0 : 0 ≤ c) (h1 : c < 128) (h : Q (ixC c (stL j) 0) σ) : OkI w d m_Str_indexOf_II [vR (1100 + j), vI c] σ Q := sorry

set_option maxRecDepth 100000
/-! STAGE 2, JDK 5: strings that are names -/
/-- a String of n bytes r (Latin 1) -/
def STR (G : wG) (M : wM) (ow : Nat → Nat) (σ a n : Nat) (r : Nat → Int32) : Prop := ∃ v h z, Cl G M ow σ a (.inr (24, [.ref v, .int 0, .int h, .int z])) ∧ Cl G M ow σ v (.inl (.byte, n, .inl r))
/-- letters as digits of a number -/
def nmF (r : Nat → Int32) (n : Nat) : Int64 := fo (fun k a => 27 * a + (r k).toInt64 - 96) 0 n
def ltr (r : Nat → Int32) (n : Nat) : Prop := ∀ j, j < n → ∃ d, 1 ≤ d ∧ d ≤ 26 ∧ r j = nI (96 + d)
def NMS (G : wG) (M : wM) (ow : Nat → Nat) (σ a : Nat) (x : Int64) : Prop := ∃ n r, STR G M ow σ a n r ∧ 1 ≤ n ∧ n ≤ 8 ∧ ltr r n ∧ x = nmF r n
/-- three lists of names -/
def NM (G : wG) (M : wM) (ow : Nat → Nat) (σ a : Nat) (cc : Nat → Nat) (ll : Nat → Nat → Int64) : Prop := ∃ (gl : Nat → Nat) (gs : Nat → Nat → Nat), ALe G M ow σ a 3 gl ∧ ∀ c, c < 3 → ALe G M ow σ (gl c) (cc c) (gs c) ∧ ∀ j, j < cc c → NMS G M ow σ (gs c j) (ll c j)
section JDK5
variable {G : wG} {M M1 : wM} {ow ow1 : Nat → Nat} {T : List Nat} {σ a n : Nat}
theorem ALe.stp {g : Nat → Nat} (h : ALe G M ow σ a n g) (hs : Mv T M ow M1 ow1) (hn : σ ∉ T) : ALe G M1 ow1 σ a n g := by
  obtain ⟨mc, h⟩ := h; exact ⟨mc, h.stp hs hn⟩
theorem LLe.stp {nd g : Nat → Nat} (h : LLe G M ow σ a n nd g) (hs : Mv T M ow M1 ow1) (hn : σ ∉ T) : LLe G M1 ow1 σ a n nd g := by
  obtain ⟨mc, h⟩ := h; exact ⟨mc, h.stp hs hn⟩
theorem STR.stp {r : Nat → Int32} (h : STR G M ow σ a n r) (hs : Mv T M ow M1 ow1) (hn : σ ∉ T) : STR G M1 ow1 σ a n r := by
  obtain ⟨v, hh, z, h1, h2⟩ := h; exact ⟨v, hh, z, h1.stp hs hn, h2.stp hs hn⟩
theorem NMS.stp {x : Int64} (h : NMS G M ow σ a x) (hs : Mv T M ow M1 ow1) (hn : σ ∉ T) : NMS G M1 ow1 σ a x := by
  obtain ⟨n, r, h1, h2⟩ := h; exact ⟨n, r, h1.stp hs hn, h2⟩
theorem NM.stp {cc : Nat → Nat} {ll : Nat → Nat → Int64} (h : NM G M ow σ a cc ll) (hs : Mv T M ow M1 ow1) (hn : σ ∉ T) : NM G M1 ow1 σ a cc ll := by
  obtain ⟨gl, gs, h1, h2⟩ := h
  exact ⟨gl, gs, h1.stp hs hn, fun c hc => ⟨(h2 c hc).1.stp hs hn, fun j hj => ((h2 c hc).2 j hj).stp hs hn⟩⟩
end JDK5

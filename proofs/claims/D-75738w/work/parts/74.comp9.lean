set_option maxRecDepth 100000
/-! STAGE 2, component: owners change their names; the office's picture -/
section FZ
variable {G : wG} {M : wM} {ow : Nat → Nat} {φ : Nat → Nat}
theorem Cl.mp {τ a : Nat} {x : wE} (h : Cl G M ow τ a x) (h0 : φ 0 = 0) : Cl G M (fun q => φ (ow q)) (φ τ) a x :=
  ⟨h.1, congrArg φ h.2.1, fun e => h.2.2 fun e2 => e (by rw [e2]; exact h0)⟩
theorem Cl.mp0 {a : Nat} {x : wE} (h : Cl G M ow 0 a x) (h0 : φ 0 = 0) : Cl G M (fun q => φ (ow q)) 0 a x := by
  have := h.mp h0; rwa [h0] at this
theorem AL.mp {τ a n : Nat} {g : Nat → Nat} {mc : Int32} (h : AL G M ow τ a n g mc) (h0 : φ 0 = 0) : AL G M (fun q => φ (ow q)) (φ τ) a n g mc := by
  obtain ⟨h1, h9, e, cap, r, h2, h3, h4, h5, h8, h6⟩ := h
  refine ⟨h1, h9, e, cap, r, h2.mp h0, h3, h4, h5, h8, ?_⟩
  rcases h6 with ⟨h6, h7, h8⟩ | ⟨h6, h7⟩
  · exact .inl ⟨h6, h7.mp0 h0, h8⟩
  · exact .inr ⟨h6, h7.mp h0⟩
theorem ALe.mp {τ a n : Nat} {g : Nat → Nat} (h : ALe G M ow τ a n g) (h0 : φ 0 = 0) : ALe G M (fun q => φ (ow q)) (φ τ) a n g := by
  obtain ⟨mc, h⟩ := h; exact ⟨mc, h.mp h0⟩
theorem LLe.mp {τ a n : Nat} {nd g : Nat → Nat} (h : LLe G M ow τ a n nd g) (h0 : φ 0 = 0) : LLe G M (fun q => φ (ow q)) (φ τ) a n nd g := by
  obtain ⟨mc, h⟩ := h
  exact ⟨mc, h.1, h.2.1, h.2.2.1.mp h0, fun k hk => (h.2.2.2.1 k hk).mp h0, h.2.2.2.2⟩
theorem BS.mp {τ a : Nat} {w : Int64} (h : BS G M ow τ a w) (h0 : φ 0 = 0) : BS G M (fun q => φ (ow q)) (φ τ) a w := by
  obtain ⟨e, st, r, wi, h1, h2, h3⟩ := h
  exact ⟨e, st, r, wi, h1.mp h0, h2.mp h0, h3⟩
theorem STR.mp {σ a n : Nat} {r : Nat → Int32} (h : STR G M ow σ a n r) (h0 : φ 0 = 0) : STR G M (fun q => φ (ow q)) (φ σ) a n r := by
  obtain ⟨v, hh, z, h1, h2⟩ := h; exact ⟨v, hh, z, h1.mp h0, h2.mp h0⟩
theorem NMS.mp {σ a : Nat} {x : Int64} (h : NMS G M ow σ a x) (h0 : φ 0 = 0) : NMS G M (fun q => φ (ow q)) (φ σ) a x := by
  obtain ⟨n, r, h1, h2⟩ := h; exact ⟨n, r, h1.mp h0, h2⟩
theorem NM.mp {σ a : Nat} {cc : Nat → Nat} {ll : Nat → Nat → Int64} (h : NM G M ow σ a cc ll) (h0 : φ 0 = 0) : NM G M (fun q => φ (ow q)) (φ σ) a cc ll := by
  obtain ⟨gl, gs, h1, h2⟩ := h
  exact ⟨gl, gs, h1.mp h0, fun c hc => ⟨(h2 c hc).1.mp h0, fun j hj => ((h2 c hc).2 j hj).mp h0⟩⟩
theorem DQ.mp {τ a m : Nat} {g : Nat → Nat} (h : DQ G M ow τ a m g) (h0 : φ 0 = 0) : DQ G M (fun q => φ (ow q)) (φ τ) a m g := by
  obtain ⟨q0, h9, e, hd, r, h1, h2, h3, h4⟩ := h
  exact ⟨q0, h9, e, hd, r, h1.mp h0, h2.mp h0, h3, h4⟩
theorem SR.mp {l : Nat → Nat → Int64} {σ a : Nat} {y : Nat → Nat → Nat} {S : Rw} (h : SR G l M ow σ a y S) (h0 : φ 0 = 0) : SR G l M (fun q => φ (ow q)) (φ σ) a y S := by
  obtain ⟨h1, ⟨h2, h3⟩, ⟨h4, h5⟩, ⟨h6, h7⟩, ⟨r, h8, h9⟩, h10⟩ := h
  exact ⟨h1.mp h0, ⟨h2.mp h0, fun z hz => (h3 z hz).mp h0⟩, ⟨h4.mp h0, fun z hz => (h5 z hz).mp h0⟩, ⟨h6.mp h0, fun z hz => (h7 z hz).mp h0⟩, ⟨r, h8.mp h0, h9⟩, h10.mp h0⟩
theorem BR.mp {l : Nat → Nat → Int64} {τ : Nat → Nat} {a : Nat} {y : Nat → Nat → Nat} {S N : Rw} (h : BR G l M ow τ a y S N) (h0 : φ 0 = 0) {σ : Nat → Nat} (hσ : ∀ k, k ≤ 10 → σ k = φ (τ k)) : BR G l M (fun q => φ (ow q)) σ a y S N := by
  obtain ⟨h1, h2, ⟨⟨h3, h4⟩, h5⟩, ⟨⟨h6, h7⟩, h8⟩, ⟨h9, h10⟩, ⟨h11, h12⟩, ⟨w, h13, h14⟩, ⟨r, h15, h16⟩, r2, h17, h18⟩ := h
  unfold BR
  rw [hσ 0 (by decide), hσ 1 (by decide), hσ 2 (by decide), hσ 3 (by decide), hσ 4 (by decide), hσ 5 (by decide), hσ 6 (by decide), hσ 7 (by decide), hσ 8 (by decide), hσ 9 (by decide), hσ 10 (by decide)]
  exact ⟨h1.mp h0, h2.mp h0, ⟨⟨h3.mp h0, fun p hp => (h4 p hp).mp h0⟩, h5⟩, ⟨⟨h6.mp h0, fun p hp => (h7 p hp).mp h0⟩, h8⟩, ⟨h9.mp h0, fun p hp => (h10 p hp).mp0 h0⟩, ⟨h11.mp h0, fun p hp => (h12 p hp).mp0 h0⟩, ⟨w, h13.mp h0, h14⟩, ⟨r, h15.mp h0, h16⟩, r2, h17.mp h0, h18⟩
end FZ
/-- the books of a call that is over are frozen -/
def fzO (q : Nat) : Nat := if 10 ≤ q then 0 else q
theorem BR.fz {G : wG} {l : Nat → Nat → Int64} {M : wM} {ow : Nat → Nat} {a : Nat} {y : Nat → Nat → Nat} {S N : Rw} (h : BR G l M ow tL a y S N) : BR G l M (fun q => fzO (ow q)) tF a y S N :=
  h.mp rfl fun k _ => by
    show 0 = fzO (tL k)
    unfold tL fzO
    split
    · rfl
    · rw [if_pos (by omega)]
theorem BR.fz0 {G : wG} {l : Nat → Nat → Int64} {M : wM} {ow : Nat → Nat} {a : Nat} {y : Nat → Nat → Nat} {S N : Rw} (h : BR G l M ow tF a y S N) : BR G l M (fun q => fzO (ow q)) tF a y S N :=
  h.mp rfl fun k _ => rfl
/-- a builder of text -/
def SB (G : wG) (M : wM) (ow : Nat → Nat) (τ a n : Nat) (r : Nat → Int32) : Prop := ∃ e cap mx g, Cl G M ow τ a (.inr (23, [.ref e, .int 0, .int mx, .int (nI n)])) ∧ Cl G M ow τ e (.inl (.byte, cap, .inl g)) ∧ n ≤ cap ∧ cap ≤ 2000 ∧ (∀ k, k < n → g k = r k) ∧ ∀ k, fits .byte (.int (g k)) = true
theorem SB.stp {G : wG} {M M1 : wM} {ow ow1 : Nat → Nat} {T : List Nat} {τ a n : Nat} {r : Nat → Int32} (h : SB G M ow τ a n r) (hs : Mv T M ow M1 ow1) (hn : τ ∉ T) : SB G M1 ow1 τ a n r := by
  obtain ⟨e, cap, mx, g, h1, h2, h3⟩ := h
  exact ⟨e, cap, mx, g, h1.stp hs hn, h2.stp hs hn, h3⟩
theorem SB.mp {G : wG} {M : wM} {ow φ : Nat → Nat} {τ a n : Nat} {r : Nat → Int32} (h : SB G M ow τ a n r) (h0 : φ 0 = 0) : SB G M (fun q => φ (ow q)) (φ τ) a n r := by
  obtain ⟨e, cap, mx, g, h1, h2, h3⟩ := h
  exact ⟨e, cap, mx, g, h1.mp h0, h2.mp h0, h3⟩
theorem SB.is {G : wG} {M : wM} {ow : Nat → Nat} {τ a n : Nat} {r : Nat → Int32} (h : SB G M ow τ a n r) {P : Prop} (hp : P) : oIs M a 23 P := by
  obtain ⟨e, cap, mx, g, h1, h2, h3⟩ := h; exact oIs.i h1.1 hp
/-- the office's own cell -/
abbrev ofC (bk : Nat) (sv : Option Nat) (dq bf : Nat) (n : Nat) (ec eo : Int32) (sb : Nat) : wE := .inr (0, [.ref bk, va_rf sv, .ref dq, .ref bf, .int (nI n), .int ec, .int eo, .ref sb])
/-- what stands beside the books: deque with books of the past, saved books, buffer, output -/
def CH (G : wG) (l : Nat → Nat → Int64) (M : wM) (ow : Nat → Nat) (dq m : Nat) (S H : Rw) : Prop := ∃ g, DQ G M ow 3 dq m g ∧ ∀ k, k < m → ∃ y, BR G l M ow tF (g k) y S (rowH H k)
def CS (G : wG) (l : Nat → Nat → Int64) (M : wM) (ow : Nat → Nat) (sv : Option Nat) (b : Bool) (S V : Rw) : Prop := (sv = none ∧ b = false) ∨ ∃ s y, sv = some s ∧ b = true ∧ BR G l M ow tF s y S V
def CB (G : wG) (M : wM) (ow : Nat → Nat) (bf n : Nat) (B : Rw) : Prop := n ≤ 900 ∧ ∃ r, Cl G M ow 4 bf (.inl (.byte, 900, .inl r)) ∧ ∀ k, k < n → r k = B k
def CP (G : wG) (l : Nat → Nat → Int64) (M : wM) (ow : Nat → Nat) (τ : Nat → Nat) (a : Nat) (S N : Rw) (m : Nat) (H : Rw) (b : Bool) (V : Rw) (n : Nat) (B : Rw) (ec eo : Int32) (w : Nat) (O : Rw) : Prop :=
  ∃ bk sv dq bf sb y, Cl G M ow 2 a (ofC bk sv dq bf n ec eo sb) ∧ BR G l M ow τ bk y S N ∧ CH G l M ow dq m S H ∧ CS G l M ow sv b S V ∧ CB G M ow bf n B ∧ SB G M ow 7 sb w O
section CPs
variable {G : wG} {l : Nat → Nat → Int64} {M M1 : wM} {ow ow1 : Nat → Nat} {T : List Nat} {dq m : Nat} {S H V : Rw}
theorem CH.stp (h : CH G l M ow dq m S H) (hs : Mv T M ow M1 ow1) (hn : 3 ∉ T) : CH G l M1 ow1 dq m S H := by
  obtain ⟨g, h1, h2⟩ := h
  exact ⟨g, h1.stp hs hn, fun k hk => by obtain ⟨y, hy⟩ := h2 k hk; exact ⟨y, hy.z hs⟩⟩
theorem CH.fz (h : CH G l M ow dq m S H) : CH G l M (fun q => fzO (ow q)) dq m S H := by
  obtain ⟨g, h1, h2⟩ := h
  exact ⟨g, h1.mp (φ := fzO) rfl, fun k hk => by obtain ⟨y, hy⟩ := h2 k hk; exact ⟨y, hy.fz0⟩⟩
theorem CS.stp {sv : Option Nat} {b : Bool} (h : CS G l M ow sv b S V) (hs : Mv T M ow M1 ow1) : CS G l M1 ow1 sv b S V := by
  rcases h with h | ⟨s, y, h1, h2, h3⟩
  · exact .inl h
  · exact .inr ⟨s, y, h1, h2, h3.z hs⟩
theorem CS.fz {sv : Option Nat} {b : Bool} (h : CS G l M ow sv b S V) : CS G l M (fun q => fzO (ow q)) sv b S V := by
  rcases h with h | ⟨s, y, h1, h2, h3⟩
  · exact .inl h
  · exact .inr ⟨s, y, h1, h2, h3.fz0⟩
theorem CB.stp {bf n : Nat} {B : Rw} (h : CB G M ow bf n B) (hs : Mv T M ow M1 ow1) (hn : 4 ∉ T) : CB G M1 ow1 bf n B := by
  obtain ⟨h0, r, h1, h2⟩ := h
  exact ⟨h0, r, h1.stp hs hn, h2⟩
theorem CB.fz {bf n : Nat} {B : Rw} (h : CB G M ow bf n B) : CB G M (fun q => fzO (ow q)) bf n B := by
  obtain ⟨h0, r, h1, h2⟩ := h
  exact ⟨h0, r, h1.mp (φ := fzO) rfl, h2⟩
/-- the call is over: live books or old ones, all is frozen -/
theorem CP.fz {τ : Nat → Nat} {a : Nat} {N : Rw} {b : Bool} {n : Nat} {B : Rw} {ec eo : Int32} {w : Nat} {O : Rw} (h : CP G l M ow τ a S N m H b V n B ec eo w O) (hτ : τ = tL ∨ τ = tF) : CP G l M (fun q => fzO (ow q)) tF a S N m H b V n B ec eo w O := by
  obtain ⟨bk, sv, dq, bf, sb, y, h1, h2, h3, h4, h5, h6⟩ := h
  refine ⟨bk, sv, dq, bf, sb, y, h1.mp (φ := fzO) rfl, ?_, h3.fz, h4.fz, h5.fz, h6.mp (φ := fzO) rfl⟩
  rcases hτ with e | e
  · rw [e] at h2; exact h2.fz
  · rw [e] at h2; exact h2.fz0
end CPs

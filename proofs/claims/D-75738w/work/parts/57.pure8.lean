set_option maxRecDepth 100000
/-! STAGE 2, pure 8: forecasts -/
theorem fuelD_ex : ∃ n : Nat, 1000 ≤ n := ⟨1000, Nat.le_refl _⟩
noncomputable def fuelD : Nat := Classical.choose fuelD_ex
theorem fuelD_le : 1000 ≤ fuelD := Classical.choose_spec fuelD_ex
def oiF (S : Rw) (p : Nat) (e b0 : Int32) : Nat → Rw → Int32
  | 0, _ => -1
  | d + 1, N => if e < dueF N then -1 else if pP (goF S (dueF N) 1 N) p 2 = 0 then oiF S p e b0 d (goF S (dueF N) 1 N) else dueF N - b0
/-- the fuel is enough, and each walk to the next event is of one event -/
def oiEnds (S : Rw) (p : Nat) (e : Int32) : Nat → Rw → Prop
  | 0, _ => False
  | d + 1, N => e < dueF N ∨ (goEnds S (dueF N) 1 N ∧ (pP (goF S (dueF N) 1 N) p 2 = 0 → oiEnds S p e d (goF S (dueF N) 1 N)))
def c_offerIn (N : Rw) (p x : Int32) : Int32 := if inR p 0 (N 1 - 1) then (if inR x 1 60 then 0 else 2) else 1
noncomputable def v_offerIn (S N : Rw) (p x : Int32) : Int32 := if pP N p.toNatClampNeg 2 = 0 then oiF S p.toNatClampNeg (N 0 + 1440 * x) (N 0) fuelD N else -1
def c_finesIn (S : Rw) (s x : Int32) : Int32 := if inR s 0 (S 1 - 1) then (if inR x 0 20160 then 0 else 2) else 1
noncomputable def v_finesIn (S N : Rw) (s x : Int32) : Int32 := wouldF S (goF S (N 0 + x) fuelD N) s
def c_bestI (S : Rw) (s x : Int32) : Int32 := if inR s 0 (S 1 - 1) then (if inR x 1 72 then 0 else 2) else 1
def first0 (N : Rw) : Int32 := ((N 0 + 60) - 1) / 60 * 60
/-- best, most, the rows -/
noncomputable def biS (S : Rw) (s f0 : Int32) (k : Nat) (a : Int32 × Int32 × Rw) : Int32 × Int32 × Rw :=
  if a.2.1 < wouldF S (goF S (f0 + 60 * nI k) fuelD a.2.2) s then (goF S (f0 + 60 * nI k) fuelD a.2.2 0, wouldF S (goF S (f0 + 60 * nI k) fuelD a.2.2) s, goF S (f0 + 60 * nI k) fuelD a.2.2) else (a.1, a.2.1, goF S (f0 + 60 * nI k) fuelD a.2.2)
noncomputable def biR (S N : Rw) (s : Int32) (k : Nat) : Int32 × Int32 × Rw := fo (biS S s (first0 N)) (first0 N, -1, N) k
theorem biR_ok {S N : Rw} {s : Int32} (h : OK S N) : ∀ k, OK S (biR S N s k).2.2 := by
  intro k
  induction k with
  | zero => exact h
  | succ k ih =>
    show OK S (biS S s (first0 N) k (biR S N s k)).2.2
    unfold biS
    split
    · exact goF_ok ih
    · exact goF_ok ih
theorem offZ_np {S : Rw} {z d : Nat} : ∀ {N : Rw}, OK S N → np (offZ S z d N) = np N := by
  induction d with
  | zero => intro N h; rfl
  | succ d ih =>
    intro N h
    have hb := h.b
    unfold offZ
    rcases waitAt_sp h (nI z) 0 with ⟨e, -⟩ | ⟨p, hp, e, -, -⟩
    · rw [if_pos e]
    · rw [e, if_neg (nI_neg (by omega)), nI_clamp (by omega)]
      split
      · rw [ih (offW_ok h hp), offW_np]
      · rfl
theorem offA_np {S N : Rw} (h : OK S N) : ∀ k, np (offA S N k) = np N := by
  intro k
  induction k with
  | zero => rfl
  | succ k ih => exact (offZ_np (offA_ok h k)).trans ih
theorem hapF_np {S N : Rw} (h : OK S N) : np (hapF S N) = np N := by
  have hb := h.b
  have a1 : OK S (hap0 S N) ∧ np (hap0 S N) = np N := ⟨hap0_ok h, hap0_np S N⟩
  have a2 := fo_ind (s := expS) (a := hap0 S N) (I := fun x => OK S x ∧ np x = np N) (n := np N) a1 (fun k x hk hx => ⟨expS_ok hx.1 (by omega), (expS_np x k).trans hx.2⟩) (np N) (Nat.le_refl _)
  have a3 := fo_ind (s := lapS) (a := fo expS (hap0 S N) (np N)) (I := fun x => OK S x ∧ np x = np N) (n := np N) a2 (fun k x hk hx => ⟨lapS_ok hx.1 (by omega), (lapS_np x k).trans hx.2⟩) (np N) (Nat.le_refl _)
  unfold hapF offF
  rw [offA_np a3.1, a3.2]
theorem goF_np {S : Rw} {T : Int32} : ∀ {d : Nat} {N : Rw}, OK S N → np (goF S T d N) = np N := by
  intro d
  induction d with
  | zero => intro N h; unfold goF; exact np_upd (by omega) _
  | succ d ih =>
    intro N h
    unfold goF
    split
    · exact np_upd (by omega) _
    · have h1 : OK S (upd N 0 (dueF N)) := h.upd (by unfold OKi; omega) _
      rw [ih (hapF_ok h1), hapF_np h1, np_upd (by omega)]

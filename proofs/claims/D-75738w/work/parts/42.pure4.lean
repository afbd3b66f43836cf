set_option maxRecDepth 100000
/-! STAGE 2, pure 4: what the component computes is what the twin computes -/
theorem isW_z {S N : Rw} {z : Int32} {p : Nat} (h : isW S N z p = true) : zP S N p = z := by
  unfold isW at h; rw [Bool.and_eq_true, decide_eq_true_eq] at h; exact h.1
/-- the first waiting permit by a fold -/
def fwS (S N : Rw) (z : Int32) (k : Nat) (b : Int32) : Int32 := if isW S N z k = true ∧ (b = -1 ∨ vH N k < vH N b.toNatClampNeg) then nI k else b
def fwI (S N : Rw) (z : Int32) (k : Nat) (b : Int32) : Prop := (b = -1 ∧ ∀ q, q < k → isW S N z q = false) ∨ ∃ p, p < k ∧ b = nI p ∧ isW S N z p = true ∧ (∀ q, q < k → isW S N z q = true → vH N p ≤ vH N q) ∧ ∀ q, q < p → isW S N z q = true → vH N p < vH N q
theorem fw_inv {S N : Rw} {z : Int32} {n : Nat} (hn : n ≤ 60) : ∀ k, k ≤ n → fwI S N z k (fo (fwS S N z) (-1) k) := by
  intro k
  induction k with
  | zero => intro _; exact .inl ⟨rfl, fun q hq => by omega⟩
  | succ k ih =>
    intro hk
    have h := ih (by omega)
    show fwI S N z (k + 1) (fwS S N z k (fo (fwS S N z) (-1) k))
    generalize fo (fwS S N z) (-1) k = b at h
    unfold fwS
    by_cases c : isW S N z k = true
    · rcases h with ⟨e, h⟩ | ⟨p, hp, e, h1, h2, h3⟩
      · rw [if_pos ⟨c, .inl e⟩]
        refine .inr ⟨k, by omega, rfl, c, fun q hq hw => ?_, fun q hq hw => ?_⟩
        · by_cases eq : q = k
          · rw [eq]; exact Nat.le_refl _
          · rw [h q (by omega)] at hw; cases hw
        · rw [h q hq] at hw; cases hw
      · by_cases c2 : vH N k < vH N p
        · rw [if_pos ⟨c, .inr (by rw [e, nI_clamp (by omega)]; exact c2)⟩]
          refine .inr ⟨k, by omega, rfl, c, fun q hq hw => ?_, fun q hq hw => ?_⟩
          · by_cases eq : q = k
            · rw [eq]; exact Nat.le_refl _
            · have := h2 q (by omega) hw; omega
          · have := h2 q hq hw; omega
        · rw [if_neg]
          · refine .inr ⟨p, by omega, e, h1, fun q hq hw => ?_, h3⟩
            by_cases eq : q = k
            · rw [eq]; omega
            · exact h2 q (by omega) hw
          · rintro ⟨-, x | x⟩
            · rw [e] at x; exact nI_neg (by omega) x
            · rw [e, nI_clamp (by omega)] at x; exact c2 x
    · rw [if_neg (fun x => c x.1)]
      rw [Bool.not_eq_true] at c
      rcases h with ⟨e, h⟩ | ⟨p, hp, e, h1, h2, h3⟩
      · refine .inl ⟨e, fun q hq => ?_⟩
        by_cases eq : q = k
        · rw [eq]; exact c
        · exact h q (by omega)
      · refine .inr ⟨p, by omega, e, h1, fun q hq hw => ?_, h3⟩
        by_cases eq : q = k
        · rw [eq, c] at hw; cases hw
        · exact h2 q (by omega) hw
theorem cnt_0 {p : Nat → Bool} {n : Nat} (h : ∀ k, k < n → p k = false) : cnt p n = 0 := by
  induction n with
  | zero => rfl
  | succ n ih => unfold cnt; rw [ih (fun k hk => h k (by omega)), h n (by omega)]; rfl
theorem fw_eq {S N : Rw} (hg : OK S N) (z : Int32) : fo (fwS S N z) (-1) (np N) = waitAt S N z 0 := by
  have hb := hg.b
  have h := fw_inv (S := S) (N := N) (z := z) hb.1 (np N) (Nat.le_refl _)
  generalize fo (fwS S N z) (-1) (np N) = b at h
  rcases waitAt_sp hg z 0 with ⟨e, hw⟩ | ⟨q, hq, e, h4, h5⟩
  · rcases h with ⟨e2, -⟩ | ⟨p, hp, e2, h1, h2, h3⟩
    · rw [e, e2]
    · exfalso
      have h6 := hw p hp
      have hz : zP S N p = z := isW_z h1
      have h7 : aheadN S N p = 0 := by
        unfold aheadN
        rw [hz]
        refine cnt_0 fun q hq => ?_
        unfold qAh
        by_cases c : isW S N z q = true
        · have := h2 q hq c
          by_cases c2 : q < p
          · have := h3 q c2 c
            simp [c]; omega
          · simp [c]; omega
        · rw [Bool.not_eq_true] at c; simp [c]
      unfold qAt at h6
      rw [h1, h7] at h6
      simp at h6
      exact h6 rfl
  · have h4' := h4
    unfold qAt at h4
    rw [Bool.and_eq_true, decide_eq_true_eq] at h4
    obtain ⟨hwq, haq⟩ := h4
    have hle : aheadN S N q ≤ np N := cnt_le _ _
    have haq : aheadN S N q = 0 := nI_inj (by omega) (by decide) haq
    have hz : zP S N q = z := isW_z hwq
    have hmin : ∀ r, r < np N → r ≠ q → isW S N z r = true → ¬ (vH N r < vH N q ∨ vH N r = vH N q ∧ r < q) := by
      intro r hr hne hw hc
      have : 0 < aheadN S N q := cnt_pos hr (by
        unfold qAh; rw [hz]
        rcases hc with hc | ⟨hc, hc2⟩
        · simp [hne, hw, hc]
        · simp [hne, hw, hc, hc2])
      omega
    rcases h with ⟨e2, h6⟩ | ⟨p, hp, e2, h1, h2, h3⟩
    · rw [h6 q hq] at hwq; cases hwq
    · rw [e, e2]
      by_cases c : p = q
      · rw [c]
      · exfalso
        have a1 := h2 q hq hwq
        have a2 := hmin p hp c h1
        by_cases c2 : q < p
        · have := h3 q c2 hwq; omega
        · omega
/-- permits that hold for a street: one loop or two -/
def qCP (S N : Rw) (x st : Int32) (s p : Nat) : Bool := decide (pP N p 1 = x) && (decide (pP N p 2 = st) && (decide (S (27 + s) = zP S N p) || (decide (S (51 + s) = zP S N p) && !decide (N (11 + s) = 1))))
theorem zP_ok {S N : Rw} (hg : OK S N) {p : Nat} (hp : p < np N) : ∃ z, z < nz S ∧ zP S N p = nI z := by
  have hb := hg.b
  obtain ⟨h, hh, e⟩ := hg.2.2.2.2.2.1 p hp
  obtain ⟨s, hs, e2⟩ := hg.1.2.2.2.2.1 h hh
  obtain ⟨z, hz, e3⟩ := hg.1.2.2.2.1 s hs
  refine ⟨z, hz, ?_⟩
  unfold zP zH zS
  rw [e, nI_clamp (by omega), e2, nI_clamp (by omega), e3]
theorem hasTh_eq {S N : Rw} (hg : OK S N) {x st : Int32} {s : Nat} (hs : s < ns S) : anyB (qCP S N x st s) (np N - 0) 0 = hasTh S N x st s := by
  have hb := hg.b
  obtain ⟨z0, hz0, ez0⟩ := hg.1.2.2.2.1 s hs
  unfold hasTh hasP
  rw [Bool.eq_iff_iff, Bool.or_eq_true, Bool.and_eq_true, any_iff, any_iff, any_iff]
  constructor
  · rintro ⟨p, hp, h⟩
    obtain ⟨z, hz, ez⟩ := zP_ok hg hp
    unfold qCP at h
    simp only [Bool.and_eq_true, Bool.or_eq_true, decide_eq_true_eq, Bool.not_eq_true', decide_eq_false_iff_not] at h
    obtain ⟨h1, h2, h3 | ⟨h3, h4⟩⟩ := h
    · exact .inl ⟨p, hp, by simp [qHP, h1, h2, h3]⟩
    · refine .inr ⟨?_, p, hp, ?_⟩
      · unfold secondOf; rw [if_neg h4, h3, ez]; simp [nI_neg (show z < 2 ^ 31 by omega)]
      · unfold secondOf; rw [if_neg h4]; simp [qHP, h1, h2, h3]
  · rintro (⟨p, hp, h⟩ | ⟨hn, p, hp, h⟩)
    · refine ⟨p, hp, ?_⟩
      unfold qHP at h
      simp only [Bool.and_eq_true, Bool.or_eq_true, decide_eq_true_eq] at h
      obtain ⟨h1, h2, h3 | h3⟩ := h
      · exfalso; rw [ez0] at h3; exact nI_neg (show z0 < 2 ^ 31 by omega) h3
      · simp [qCP, h1, h2, h3]
    · refine ⟨p, hp, ?_⟩
      unfold qHP at h
      simp only [Bool.and_eq_true, Bool.or_eq_true, decide_eq_true_eq, Bool.not_eq_true', decide_eq_false_iff_not] at h hn
      obtain ⟨h1, h2, h3⟩ := h
      unfold secondOf at h3 hn
      by_cases c : N (11 + s) = 1
      · rw [if_pos c] at hn; exact absurd rfl hn
      · rw [if_neg c] at h3 hn
        rcases h3 with h3 | h3
        · exact absurd h3 hn
        · simp [qCP, h1, h2, h3, c]
/-- visits in the zone of a street -/
def qIV (S N : Rw) (x : Int32) (s v : Nat) : Bool := decide (vP N v 1 = x) && decide (zH S (vP N v 0) = S (27 + s))
def hadV (S N : Rw) (x : Int32) (s : Nat) : Bool := anyB (qIV S N x s) (nv N - 0) 0
def qRV (S N : Rw) (x : Int32) (s v : Nat) : Bool := qIV S N x s v && runsV N v
theorem hasV_eq (S N : Rw) (x : Int32) (s : Nat) : anyB (qRV S N x s) (nv N - 0) 0 = hasV S N x s true := by
  unfold hasV
  refine any_congr fun j _ => ?_
  unfold qRV qIV qHV
  cases runsV N j <;> simp
theorem hadV_eq {S N : Rw} {x : Int32} {s : Nat} (h : isAll S N x s = false) : hadV S N x s = hasV S N x s false := by
  have h1 : hasV S N x s true = false := by
    unfold isAll at h; simp only [Bool.or_eq_false_iff] at h; exact h.2.2
  unfold hasV at h1 ⊢
  unfold hadV
  rw [Bool.eq_iff_iff, any_iff, any_iff]
  constructor
  · rintro ⟨v, hv, h2⟩
    refine ⟨v, hv, ?_⟩
    cases hr : runsV N v with
    | true =>
      exfalso
      have : anyB (qHV S N x s true) (nv N - 0) 0 = true := any_iff.mpr ⟨v, hv, by unfold qIV at h2; simp only [Bool.and_eq_true, decide_eq_true_eq] at h2; simp [qHV, h2.1, h2.2, hr]⟩
      rw [h1] at this; cases this
    | false => unfold qIV at h2; simp only [Bool.and_eq_true, decide_eq_true_eq] at h2; simp [qHV, h2.1, h2.2, hr]
  · rintro ⟨v, hv, h2⟩
    refine ⟨v, hv, ?_⟩
    unfold qHV at h2
    simp only [Bool.and_eq_true, decide_eq_true_eq] at h2
    simp [qIV, h2.1, h2.2.1]
/-- a rule by its number -/
def brk (S N : Rw) (x : Int32) (s k : Nat) : Bool :=
  if k = 1 then hasTh S N x 3 s else if k = 2 then hadV S N x s else if k = 3 then hasTh S N x 0 s || hasTh S N x 1 s else if k = 4 then hasP S N x 2 (-1) else if k = 5 then hasP S N x 4 (-1) || hasP S N x 5 (-1) else true
/-- fines in the order of time -/
def FT (N : Rw) : Prop := ∃ (T : Nat) (tt : Nat → Nat), N 0 = nI T ∧ T < 2 ^ 30 ∧ (∀ f, f < nf N → fP N f 2 = nI (tt f) ∧ tt f ≤ T) ∧ ∀ i j, i ≤ j → j < nf N → tt i ≤ tt j
def lastF (N : Rw) (x : Int32) : Nat → Bool
  | 0 => false
  | k + 1 => if fP N k 0 = x then !decide (720 ≤ N 0 - fP N k 2) else lastF N x k
theorem lastF_eq {N : Rw} (hn : nf N < 2 ^ 31) (h : FT N) (x : Int32) : lastF N x (nf N) = justF N x := by
  obtain ⟨T, tt, e0, hT, h1, h2⟩ := h
  have key : ∀ k, k ≤ nf N → (lastF N x k = true ↔ ∃ f, f < k ∧ qJF N x f = true) := by
    intro k
    induction k with
    | zero => intro _; exact ⟨fun h => (by cases h), fun ⟨f, hf, _⟩ => by omega⟩
    | succ k ih =>
      intro hk
      unfold lastF
      by_cases c : fP N k 0 = x
      · rw [if_pos c]
        constructor
        · intro hh; exact ⟨k, by omega, by simp only [qJF, c, decide_true, Bool.true_and]; exact hh⟩
        · rintro ⟨f, hf, hq⟩
          unfold qJF at hq
          simp only [Bool.and_eq_true, decide_eq_true_eq, Bool.not_eq_true', decide_eq_false_iff_not] at hq
          have a1 := h1 f (by omega)
          have a2 := h1 k (by omega)
          have a3 := h2 f k (by omega) (by omega)
          rw [e0, a2.1]
          rw [e0, a1.1] at hq
          rw [nI_sub (by omega)] at hq ⊢
          rw [Bool.not_eq_true', decide_eq_false_iff_not]
          intro hc
          apply hq.2
          have b1 := (nI_leI (a := 720) (b := T - tt k) (by decide) (by omega)).mp hc
          exact (nI_leI (a := 720) (b := T - tt f) (by decide) (by omega)).mpr (by omega)
      · rw [if_neg c, ih (by omega)]
        constructor
        · rintro ⟨f, hf, hq⟩; exact ⟨f, by omega, hq⟩
        · rintro ⟨f, hf, hq⟩
          refine ⟨f, ?_, hq⟩
          by_cases e : f = k
          · subst e; unfold qJF at hq; simp [c] at hq
          · omega
  rw [Bool.eq_iff_iff, key _ (Nat.le_refl _)]
  unfold justF
  rw [any_iff]

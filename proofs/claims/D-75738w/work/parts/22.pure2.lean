set_option maxRecDepth 100000
/-! STAGE 2, pure 2: facts of counts, searches, changed rows -/
theorem cnt_congr {p q : Nat → Bool} {n : Nat} (h : ∀ k, k < n → p k = q k) : cnt p n = cnt q n := by
  induction n with
  | zero => rfl
  | succ n ih => unfold cnt; rw [ih (fun k hk => h k (by omega)), h n (by omega)]
theorem cnt_flip {p q : Nat → Bool} {n a : Nat} (ha : a < n) (h1 : p a = true) (h2 : q a = false) (h : ∀ k, k < n → k ≠ a → q k = p k) : cnt q n + 1 = cnt p n := by
  induction n with
  | zero => omega
  | succ n ih =>
    unfold cnt
    by_cases e : a = n
    · subst e
      rw [h1, h2, cnt_congr (p := q) (q := p) (fun k hk => h k (by omega) (by omega))]
      simp
    · have := ih (by omega) (fun k hk hne => h k (by omega) hne)
      rw [h n (by omega) (fun x => e x.symm)]
      omega
theorem cnt_pos {p : Nat → Bool} {n a : Nat} (ha : a < n) (h : p a = true) : 0 < cnt p n := by
  induction n with
  | zero => omega
  | succ n ih =>
    unfold cnt
    by_cases e : a = n
    · subst e; rw [h]; simp
    · have := ih (by omega); omega
theorem cnt_ex {p : Nat → Bool} {n : Nat} (h : 0 < cnt p n) : ∃ k, k < n ∧ p k = true := by
  induction n with
  | zero => exact absurd h (Nat.lt_irrefl 0)
  | succ n ih =>
    by_cases e : p n = true
    · exact ⟨n, by omega, e⟩
    · rw [Bool.not_eq_true] at e
      unfold cnt at h
      rw [e] at h
      obtain ⟨k, hk, hp⟩ := ih (by simpa using h)
      exact ⟨k, by omega, hp⟩
theorem cnt_mono {p q : Nat → Bool} {n : Nat} (h : ∀ k, k < n → p k = true → q k = true) : cnt p n ≤ cnt q n := by
  induction n with
  | zero => exact Nat.le_refl 0
  | succ n ih =>
    unfold cnt
    have := ih (fun k hk => h k (by omega))
    by_cases e : p n = true
    · rw [e, h n (by omega) e]; omega
    · rw [Bool.not_eq_true] at e; rw [e]; simp only [Bool.false_eq_true, if_false]; omega
theorem srch_sp (p : Nat → Bool) (d k : Nat) : (srch p d k = -1 ∧ ∀ j, k ≤ j → j < k + d → p j = false) ∨ ∃ j, k ≤ j ∧ j < k + d ∧ p j = true ∧ srch p d k = nI j ∧ ∀ x, k ≤ x → x < j → p x = false := by
  induction d generalizing k with
  | zero => exact .inl ⟨rfl, fun j h1 h2 => by omega⟩
  | succ d ih =>
    unfold srch
    by_cases e : p k = true
    · rw [if_pos e]; exact .inr ⟨k, by omega, by omega, e, rfl, fun x h1 h2 => by omega⟩
    · rw [if_neg e]
      rw [Bool.not_eq_true] at e
      rcases ih (k + 1) with ⟨h1, h2⟩ | ⟨j, h1, h2, h3, h4, h5⟩
      · refine .inl ⟨h1, fun j a b => ?_⟩
        by_cases ee : j = k
        · rw [ee]; exact e
        · exact h2 j (by omega) (by omega)
      · refine .inr ⟨j, by omega, by omega, h3, h4, fun x a b => ?_⟩
        by_cases ee : x = k
        · rw [ee]; exact e
        · exact h5 x (by omega) b
theorem srch_c {p : Nat → Bool} {n : Nat} (hn : n < 2 ^ 31) : (srch p (n - 0) 0 = -1 ∧ ∀ j, j < n → p j = false) ∨ ∃ j, j < n ∧ p j = true ∧ srch p (n - 0) 0 = nI j ∧ ∀ x, x < j → p x = false := by
  rcases srch_sp p (n - 0) 0 with ⟨h1, h2⟩ | ⟨j, h1, h2, h3, h4, h5⟩
  · exact .inl ⟨h1, fun j hj => h2 j (by omega) (by omega)⟩
  · exact .inr ⟨j, by omega, h3, h4, fun x hx => h5 x (by omega) hx⟩
theorem srch_congr {p q : Nat → Bool} {d k : Nat} (h : ∀ j, k ≤ j → j < k + d → p j = q j) : srch p d k = srch q d k := by
  induction d generalizing k with
  | zero => rfl
  | succ d ih =>
    unfold srch
    rw [h k (by omega) (by omega), ih (fun j a b => h j (by omega) (by omega))]
theorem anyB_iff {p : Nat → Bool} {d k : Nat} : anyB p d k = true ↔ ∃ j, k ≤ j ∧ j < k + d ∧ p j = true := by
  induction d generalizing k with
  | zero => exact ⟨fun h => by simp [anyB] at h, fun ⟨j, h1, h2, _⟩ => by omega⟩
  | succ d ih =>
    unfold anyB
    by_cases e : p k = true
    · rw [if_pos e]; exact ⟨fun _ => ⟨k, by omega, by omega, e⟩, fun _ => rfl⟩
    · rw [if_neg e, ih]
      constructor
      · rintro ⟨j, h1, h2, h3⟩; exact ⟨j, by omega, by omega, h3⟩
      · rintro ⟨j, h1, h2, h3⟩
        refine ⟨j, ?_, by omega, h3⟩
        by_cases ee : j = k
        · rw [ee] at h3; exact absurd h3 e
        · omega
theorem any_iff {p : Nat → Bool} {n : Nat} : anyB p (n - 0) 0 = true ↔ ∃ j, j < n ∧ p j = true := by
  rw [anyB_iff]
  exact ⟨fun ⟨j, _, h2, h3⟩ => ⟨j, by omega, h3⟩, fun ⟨j, h2, h3⟩ => ⟨j, by omega, by omega, h3⟩⟩
theorem any_congr {p q : Nat → Bool} {n : Nat} (h : ∀ j, j < n → p j = q j) : anyB p (n - 0) 0 = anyB q (n - 0) 0 := by
  rw [Bool.eq_iff_iff, any_iff, any_iff]
  exact ⟨fun ⟨j, a, b⟩ => ⟨j, a, by rw [← h j a]; exact b⟩, fun ⟨j, a, b⟩ => ⟨j, a, by rw [h j a]; exact b⟩⟩
theorem nI_leC {x : Int32} {n : Nat} (hn : n < 2 ^ 31) : x ≤ nI n ↔ x.toNatClampNeg ≤ n := by
  rw [Int32.le_iff_toInt_le, nI_toInt hn, show x.toNatClampNeg = x.toInt.toNat from rfl]
  omega
/-- rows that change where nothing leads to a place -/
def OKi (j : Nat) : Prop := j = 0 ∨ (5 ≤ j ∧ j < 40) ∨ (40 ≤ j ∧ j < 460 ∧ (j - 40) % 7 ≠ 0) ∨ (460 ≤ j ∧ j < 700 ∧ (j - 460) % 4 ≠ 0) ∨ (700 ≤ j ∧ j < 940 ∧ (j - 700) % 3 ≠ 1) ∨ (940 ≤ j ∧ (j - 940) % 5 ≠ 1 ∧ (j - 940) % 5 ≠ 3)
theorem OK.cong {S N N1 : Rw} (h : OK S N) (e : ∀ j, ¬ OKi j → N1 j = N j) : OK S N1 := by
  have hb := h.b
  have e1 : N1 1 = N 1 := e 1 (by unfold OKi; omega)
  have e2 : N1 2 = N 2 := e 2 (by unfold OKi; omega)
  have e3 : N1 3 = N 3 := e 3 (by unfold OKi; omega)
  have e4 : N1 4 = N 4 := e 4 (by unfold OKi; omega)
  have f1 : np N1 = np N := by unfold np; rw [e1]
  have f2 : nv N1 = nv N := by unfold nv; rw [e2]
  have f3 : nc N1 = nc N := by unfold nc; rw [e3]
  have f4 : nf N1 = nf N := by unfold nf; rw [e4]
  have g1 : ∀ p, p < np N → pP N1 p 0 = pP N p 0 := fun p hp => e _ (by unfold OKi; omega)
  have g2 : ∀ v, v < nv N → vP N1 v 0 = vP N v 0 := fun p hp => e _ (by unfold OKi; omega)
  have g3 : ∀ c, c < nc N → cP N1 c 1 = cP N c 1 := fun p hp => e _ (by unfold OKi; omega)
  have g4 : ∀ f, f < nf N → fP N1 f 1 = fP N f 1 := fun p hp => e _ (by unfold OKi; omega)
  have g5 : ∀ f, f < nf N → fP N1 f 3 = fP N f 3 := fun p hp => e _ (by unfold OKi; omega)
  obtain ⟨h0, h1, h2, h3, h4, h5, h6, h7, h8, h9⟩ := h
  unfold OK
  rw [e1, e2, e3, e4, f1, f2, f3, f4]
  exact ⟨h0, h1, h2, h3, h4, fun p hp => by rw [g1 p hp]; exact h5 p hp, fun p hp => by rw [g2 p hp]; exact h6 p hp, fun p hp => by rw [g3 p hp]; exact h7 p hp, fun p hp => by rw [g4 p hp]; exact h8 p hp, fun p hp => by rw [g5 p hp]; exact h9 p hp⟩
theorem OK.upd {S N : Rw} (h : OK S N) {j : Nat} (hj : OKi j) (x : Int32) : OK S (upd N j x) := h.cong fun k hk => upd_ne N x (fun e => hk (e ▸ hj))
theorem pP_upd (N : Rw) {p q j k : Nat} (x : Int32) (hj : j < 7) (hk : k < 7) : pP (upd N (40 + 7 * p + j) x) q k = if q = p ∧ k = j then x else pP N q k := by
  unfold pP
  by_cases e : q = p ∧ k = j
  · rw [if_pos e, e.1, e.2, upd_eq]
  · rw [if_neg e, upd_ne _ _ (by omega)]
theorem pP_off (N : Rw) {q j k : Nat} (x : Int32) (hq : q < 60) (hk : k < 7) (hj : j < 40 ∨ 460 ≤ j) : pP (upd N j x) q k = pP N q k := by
  unfold pP
  rw [upd_ne _ _ (by omega)]
theorem waitAt_sp {S N : Rw} (hg : OK S N) (z k : Int32) : waitAt S N z k = -1 ∧ (∀ p, p < np N → qAt S N z k p = false) ∨ ∃ p, p < np N ∧ waitAt S N z k = nI p ∧ qAt S N z k p = true ∧ ∀ x, x < p → qAt S N z k x = false := by
  have hb := hg.b
  rcases srch_c (p := qAt S N z k) (n := np N) (by omega) with h | ⟨p, h1, h2, h3, h4⟩
  · exact .inl h
  · exact .inr ⟨p, h1, h3, h2, h4⟩
/-- an offer: one waiting permit less -/
theorem np_upd {N : Rw} {j : Nat} (hj : j ≠ 1) (x : Int32) : np (upd N j x) = np N := by unfold np; rw [upd_ne _ _ (fun e => hj e.symm)]
theorem offW_pP (S N : Rw) {p q k : Nat} (hk : k < 7) : pP (offW S N p) q k = if q = p ∧ k = 2 then 1 else if q = p ∧ k = 5 then N 0 + 60 * S 112 else pP N q k := by
  unfold offW
  rw [pP_upd _ _ (by decide) hk, pP_upd _ _ (by decide) hk]
  by_cases e : q = p ∧ k = 5
  · rw [if_pos e, if_neg (by omega), if_pos e]
  · rw [if_neg e, if_neg e]
theorem offW_np (S N : Rw) (p : Nat) : np (offW S N p) = np N := by unfold offW; rw [np_upd (by omega), np_upd (by omega)]
theorem offW_ok {S N : Rw} (hg : OK S N) {p : Nat} (hp : p < np N) : OK S (offW S N p) := by
  have hb := hg.b
  exact (hg.upd (by unfold OKi; omega) _).upd (by unfold OKi; omega) _
theorem offW_zP (S N : Rw) (p q : Nat) : zP S (offW S N p) q = zP S N q := by
  unfold zP
  rw [offW_pP _ _ (by decide), if_neg (by omega), if_neg (by omega)]
theorem offW_many {S N : Rw} {p : Nat} (hp : p < np N) {z : Int32} (hw : isW S N z p = true) : manyZ S (offW S N p) z 0 + 1 = manyZ S N z 0 := by
  unfold manyZ
  rw [offW_np]
  refine cnt_flip hp ?_ ?_ fun k hk hne => ?_
  · exact hw
  · unfold qZS
    rw [offW_pP _ _ (by decide), if_pos ⟨rfl, rfl⟩]
    simp
  · unfold qZS
    rw [offW_pP _ _ (by decide), if_neg (by omega), if_neg (by omega), offW_zP]
theorem offZ_ok {S : Rw} {z d : Nat} : ∀ {N : Rw}, OK S N → OK S (offZ S z d N) := by
  induction d with
  | zero => intro N h; exact h
  | succ d ih =>
    intro N h
    have hb := h.b
    unfold offZ
    rcases waitAt_sp h (nI z) 0 with ⟨e, -⟩ | ⟨p, hp, e, -, -⟩
    · rw [if_pos e]; exact h
    · rw [e, if_neg (nI_neg (by omega)), nI_clamp (by omega)]
      split
      · exact ih (offW_ok h hp)
      · exact h
theorem offA_ok {S N : Rw} (h : OK S N) : ∀ k, OK S (offA S N k) := by
  intro k
  induction k with
  | zero => exact h
  | succ k ih => exact offZ_ok ih
theorem offF_ok {S N : Rw} (h : OK S N) : OK S (offF S N) := offA_ok h _
theorem lay_out {o n j : Nat} {g r : Nat → Int32} (h : j < o ∨ o + n ≤ j) : lay o n g r j = r j := by unfold lay; rw [if_neg (by omega)]
theorem lay_in {o n j : Nat} {g r : Nat → Int32} (h : o ≤ j) (h2 : j < o + n) : lay o n g r j = g (j - o) := by unfold lay; rw [if_pos ⟨h, h2⟩]
theorem hap0_ok {S N : Rw} (h : OK S N) : OK S (hap0 S N) := by
  unfold hap0
  split
  · refine h.cong fun j hj => ?_
    unfold booksF
    refine lay_out ?_
    unfold OKi at hj
    omega
  · exact h
theorem expS_ok {S N : Rw} (h : OK S N) {p : Nat} (hp : p < 60) : OK S (expS p N) := by
  unfold expS
  split
  · exact h.upd (by unfold OKi; omega) _
  · exact h
theorem lapS_ok {S N : Rw} (h : OK S N) {p : Nat} (hp : p < 60) : OK S (lapS p N) := by
  unfold lapS
  split
  · exact h.upd (by unfold OKi; omega) _
  · exact h
theorem fo_ind {α : Type} {s : Nat → α → α} {a : α} {I : α → Prop} {n : Nat} (h0 : I a) (hs : ∀ k x, k < n → I x → I (s k x)) : ∀ k, k ≤ n → I (fo s a k) := by
  intro k
  induction k with
  | zero => intro _; exact h0
  | succ k ih => intro hk; exact hs k _ (by omega) (ih (by omega))
theorem expS_np (N : Rw) (p : Nat) : np (expS p N) = np N := by
  unfold expS; split
  · exact np_upd (by omega) _
  · rfl
theorem lapS_np (N : Rw) (p : Nat) : np (lapS p N) = np N := by
  unfold lapS; split
  · exact np_upd (by omega) _
  · rfl
theorem hap0_np (S N : Rw) : np (hap0 S N) = np N := by
  unfold hap0; split
  · unfold np booksF; rw [lay_out (by omega)]
  · rfl
theorem hap1_ok {S N : Rw} (h : OK S N) {k : Nat} (hk : k ≤ 60) : OK S (fo expS (hap0 S N) k) ∧ np (fo expS (hap0 S N) k) = np N :=
  fo_ind (I := fun x => OK S x ∧ np x = np N) (n := 60) ⟨hap0_ok h, hap0_np S N⟩ (fun j x hj hx => ⟨expS_ok hx.1 hj, (expS_np x j).trans hx.2⟩) k hk
theorem hap2_ok {S N : Rw} (h : OK S N) {k : Nat} (hk : k ≤ 60) : OK S (fo lapS (fo expS (hap0 S N) (np N)) k) ∧ np (fo lapS (fo expS (hap0 S N) (np N)) k) = np N :=
  fo_ind (I := fun x => OK S x ∧ np x = np N) (n := 60) (hap1_ok h h.b.1) (fun j x hj hx => ⟨lapS_ok hx.1 hj, (lapS_np x j).trans hx.2⟩) k hk
theorem hapF_ok {S N : Rw} (h : OK S N) : OK S (hapF S N) := offF_ok (hap2_ok h h.b.1).1
theorem up0_ok {S N : Rw} (h : OK S N) (T : Int32) : OK S (upd N 0 T) := h.upd (.inl rfl) T
theorem goF_ok {S : Rw} {T : Int32} {d : Nat} : ∀ {N : Rw}, OK S N → OK S (goF S T d N) := by
  induction d with
  | zero => intro N h; exact up0_ok h T
  | succ d ih =>
    intro N h
    unfold goF
    split
    · exact up0_ok h T
    · exact ih (hapF_ok (up0_ok h _))

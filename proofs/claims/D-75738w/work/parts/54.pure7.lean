set_option maxRecDepth 100000
/-! STAGE 2, pure 7: changed rows lead to places -/
theorem applyN_o {N : Rw} {h x : Int32} {j : Nat} (h1 : j ≠ 1) (h2 : ¬ (40 + 7 * np N ≤ j ∧ j < 40 + 7 * np N + 7)) : applyN N h x j = N j := by
  unfold applyN
  rw [upd_ne _ _ (by omega), upd_ne _ _ (by omega), upd_ne _ _ (by omega), upd_ne _ _ (by omega), upd_ne _ _ (by omega), upd_ne _ _ (by omega), upd_ne _ _ (by omega), upd_ne _ _ h1]
theorem applyN_1 {N : Rw} {h x : Int32} : applyN N h x 1 = N 1 + 1 := by
  unfold applyN
  rw [upd_ne _ _ (by omega), upd_ne _ _ (by omega), upd_ne _ _ (by omega), upd_ne _ _ (by omega), upd_ne _ _ (by omega), upd_ne _ _ (by omega), upd_ne _ _ (by omega), upd_eq]
theorem applyN_p {N : Rw} {h x : Int32} {k : Nat} (hk : k < 7) : pP (applyN N h x) (np N) k = if k = 0 then h else if k = 1 then x else if k = 2 then 0 else if k = 3 then N 0 else if k = 4 then -1 else if k = 5 then -1 else 0 := by
  unfold pP applyN
  have : k = 0 ∨ k = 1 ∨ k = 2 ∨ k = 3 ∨ k = 4 ∨ k = 5 ∨ k = 6 := by omega
  rcases this with rfl | rfl | rfl | rfl | rfl | rfl | rfl
  · rw [upd_ne _ _ (by omega), upd_ne _ _ (by omega), upd_ne _ _ (by omega), upd_ne _ _ (by omega), upd_ne _ _ (by omega), upd_ne _ _ (by omega), upd_eq]; rfl
  · rw [upd_ne _ _ (by omega), upd_ne _ _ (by omega), upd_ne _ _ (by omega), upd_ne _ _ (by omega), upd_ne _ _ (by omega), upd_eq]; rfl
  · rw [upd_ne _ _ (by omega), upd_ne _ _ (by omega), upd_ne _ _ (by omega), upd_ne _ _ (by omega), upd_eq]; rfl
  · rw [upd_ne _ _ (by omega), upd_ne _ _ (by omega), upd_ne _ _ (by omega), upd_eq]; rfl
  · rw [upd_ne _ _ (by omega), upd_ne _ _ (by omega), upd_eq]; rfl
  · rw [upd_ne _ _ (by omega), upd_eq]; rfl
  · rw [upd_eq]; rfl
theorem applyN_np {N : Rw} {h x : Int32} (h1 : N 1 = nI (np N)) (hn : np N < 60) : np (applyN N h x) = np N + 1 := by
  have : applyN N h x 1 = nI (np N + 1) := by rw [applyN_1, h1, nI_1]
  show (applyN N h x 1).toNatClampNeg = np N + 1
  rw [this, nI_clamp (by omega)]
theorem applyN_ok {S N : Rw} (hg : OK S N) {k : Nat} {x : Int32} (hk : k < nh S) (hn : np N < 60) : OK S (applyN N (nI k) x) := by
  have hb := hg.b
  obtain ⟨g0, g1, g2, g3, g4, g5, g6, g7, g8, g9⟩ := hg
  have e : ∀ j, j ≠ 1 → (j < 40 ∨ 460 ≤ j) → applyN N (nI k) x j = N j := fun j a b => applyN_o a (by omega)
  have f1 : np (applyN N (nI k) x) = np N + 1 := applyN_np g1.1 hn
  have f2 : nv (applyN N (nI k) x) = nv N := by unfold nv; rw [e 2 (by omega) (by omega)]
  have f3 : nc (applyN N (nI k) x) = nc N := by unfold nc; rw [e 3 (by omega) (by omega)]
  have f4 : nf (applyN N (nI k) x) = nf N := by unfold nf; rw [e 4 (by omega) (by omega)]
  unfold OK
  rw [f1, f2, f3, f4, e 2 (by omega) (by omega), e 3 (by omega) (by omega), e 4 (by omega) (by omega), applyN_1]
  refine ⟨g0, ⟨by rw [g1.1, nI_1], by omega⟩, g2, g3, g4, fun p hp => ?_, fun p hp => ?_, fun p hp => ?_, fun f hf => ?_, fun f hf => ?_⟩
  · by_cases c : p = np N
    · rw [c, applyN_p (by decide)]; exact ⟨k, hk, rfl⟩
    · unfold pP; rw [applyN_o (by omega) (by omega)]; exact g5 p (by omega)
  · unfold vP; rw [e _ (by omega) (by omega)]; exact g6 p hp
  · unfold cP; rw [e _ (by omega) (by omega)]; exact g7 p hp
  · unfold fP; rw [e _ (by omega) (by omega)]; exact g8 f hf
  · unfold fP; rw [e _ (by omega) (by omega)]; exact g9 f hf
theorem admitN_o {N : Rw} {h j : Nat} {x k : Int32} (h1 : j ≠ 2) (h2 : ¬ (460 + 4 * nv N ≤ j ∧ j < 460 + 4 * nv N + 4)) (h3 : j ≠ 23 + h) : admitN N h x k j = N j := by
  unfold admitN
  rw [upd_ne _ _ h3, upd_ne _ _ (by omega), upd_ne _ _ (by omega), upd_ne _ _ (by omega), upd_ne _ _ (by omega), upd_ne _ _ h1]
theorem admitN_2 {N : Rw} {h : Nat} {x k : Int32} : admitN N h x k 2 = N 2 + 1 := by
  unfold admitN
  rw [upd_ne _ _ (by omega), upd_ne _ _ (by omega), upd_ne _ _ (by omega), upd_ne _ _ (by omega), upd_ne _ _ (by omega), upd_eq]
theorem admitN_v {N : Rw} {h j : Nat} {x k : Int32} (hj : j < 4) (hh : h < 16) : vP (admitN N h x k) (nv N) j = if j = 0 then nI h else if j = 1 then x else if j = 2 then N 0 else N 0 + 60 * k := by
  unfold vP admitN
  rw [upd_ne _ _ (by omega)]
  have : j = 0 ∨ j = 1 ∨ j = 2 ∨ j = 3 := by omega
  rcases this with rfl | rfl | rfl | rfl
  · rw [upd_ne _ _ (by omega), upd_ne _ _ (by omega), upd_ne _ _ (by omega), upd_eq]; rfl
  · rw [upd_ne _ _ (by omega), upd_ne _ _ (by omega), upd_eq]; rfl
  · rw [upd_ne _ _ (by omega), upd_eq]; rfl
  · rw [upd_eq]; rfl
theorem admitN_nv {N : Rw} {h : Nat} {x k : Int32} (h2 : N 2 = nI (nv N)) (hn : nv N < 60) : nv (admitN N h x k) = nv N + 1 := by
  have : admitN N h x k 2 = nI (nv N + 1) := by rw [admitN_2, h2, nI_1]
  show (admitN N h x k 2).toNatClampNeg = nv N + 1
  rw [this, nI_clamp (by omega)]
theorem admitN_ok {S N : Rw} (hg : OK S N) {h : Nat} {x k : Int32} (hh : h < nh S) (hn : nv N < 60) : OK S (admitN N h x k) := by
  have hb := hg.b
  obtain ⟨g0, g1, g2, g3, g4, g5, g6, g7, g8, g9⟩ := hg
  have e : ∀ j, j ≠ 2 → (j < 23 ∨ 40 ≤ j ∧ j < 460 ∨ 700 ≤ j) → admitN N h x k j = N j := fun j a b => admitN_o a (by omega) (by omega)
  have f1 : np (admitN N h x k) = np N := by unfold np; rw [e 1 (by omega) (by omega)]
  have f2 : nv (admitN N h x k) = nv N + 1 := admitN_nv g2.1 hn
  have f3 : nc (admitN N h x k) = nc N := by unfold nc; rw [e 3 (by omega) (by omega)]
  have f4 : nf (admitN N h x k) = nf N := by unfold nf; rw [e 4 (by omega) (by omega)]
  unfold OK
  rw [f1, f2, f3, f4, e 1 (by omega) (by omega), e 3 (by omega) (by omega), e 4 (by omega) (by omega), admitN_2]
  refine ⟨g0, g1, ⟨by rw [g2.1, nI_1], by omega⟩, g3, g4, fun p hp => ?_, fun p hp => ?_, fun p hp => ?_, fun f hf => ?_, fun f hf => ?_⟩
  · unfold pP; rw [e _ (by omega) (by omega)]; exact g5 p hp
  · by_cases c : p = nv N
    · rw [c, admitN_v (by decide) (by omega)]; exact ⟨h, hh, rfl⟩
    · unfold vP; rw [admitN_o (by omega) (by omega) (by omega)]; exact g6 p (by omega)
  · unfold cP; rw [e _ (by omega) (by omega)]; exact g7 p hp
  · unfold fP; rw [e _ (by omega) (by omega)]; exact g8 f hf
  · unfold fP; rw [e _ (by omega) (by omega)]; exact g9 f hf
theorem parkN_o {N : Rw} {x s : Int32} {j : Nat} (h1 : j ≠ 3) (h2 : ¬ (700 + 3 * nc N ≤ j ∧ j < 700 + 3 * nc N + 3)) : parkN N x s j = N j := by
  unfold parkN
  rw [upd_ne _ _ (by omega), upd_ne _ _ (by omega), upd_ne _ _ (by omega), upd_ne _ _ h1]
theorem parkN_3 {N : Rw} {x s : Int32} : parkN N x s 3 = N 3 + 1 := by
  unfold parkN
  rw [upd_ne _ _ (by omega), upd_ne _ _ (by omega), upd_ne _ _ (by omega), upd_eq]
theorem parkN_c {N : Rw} {x s : Int32} {k : Nat} (hk : k < 3) : cP (parkN N x s) (nc N) k = if k = 0 then x else if k = 1 then s else N 0 := by
  unfold cP parkN
  have : k = 0 ∨ k = 1 ∨ k = 2 := by omega
  rcases this with rfl | rfl | rfl
  · rw [upd_ne _ _ (by omega), upd_ne _ _ (by omega), upd_eq]; rfl
  · rw [upd_ne _ _ (by omega), upd_eq]; rfl
  · rw [upd_eq]; rfl
theorem parkN_nc {N : Rw} {x s : Int32} (h3 : N 3 = nI (nc N)) (hn : nc N < 80) : nc (parkN N x s) = nc N + 1 := by
  have : parkN N x s 3 = nI (nc N + 1) := by rw [parkN_3, h3, nI_1]
  show (parkN N x s 3).toNatClampNeg = nc N + 1
  rw [this, nI_clamp (by omega)]
theorem parkN_ok {S N : Rw} (hg : OK S N) {s : Nat} {x : Int32} (hs : s < ns S) (hn : nc N < 80) : OK S (parkN N x (nI s)) := by
  have hb := hg.b
  obtain ⟨g0, g1, g2, g3, g4, g5, g6, g7, g8, g9⟩ := hg
  have e : ∀ j, j ≠ 3 → (j < 700 ∨ 940 ≤ j) → parkN N x (nI s) j = N j := fun j a b => parkN_o a (by omega)
  have f1 : np (parkN N x (nI s)) = np N := by unfold np; rw [e 1 (by omega) (by omega)]
  have f2 : nv (parkN N x (nI s)) = nv N := by unfold nv; rw [e 2 (by omega) (by omega)]
  have f3 : nc (parkN N x (nI s)) = nc N + 1 := parkN_nc g3.1 hn
  have f4 : nf (parkN N x (nI s)) = nf N := by unfold nf; rw [e 4 (by omega) (by omega)]
  unfold OK
  rw [f1, f2, f3, f4, e 1 (by omega) (by omega), e 2 (by omega) (by omega), e 4 (by omega) (by omega), parkN_3]
  refine ⟨g0, g1, g2, ⟨by rw [g3.1, nI_1], by omega⟩, g4, fun p hp => ?_, fun p hp => ?_, fun p hp => ?_, fun f hf => ?_, fun f hf => ?_⟩
  · unfold pP; rw [e _ (by omega) (by omega)]; exact g5 p hp
  · unfold vP; rw [e _ (by omega) (by omega)]; exact g6 p hp
  · by_cases c : p = nc N
    · rw [c, parkN_c (by decide)]; exact ⟨s, hs, rfl⟩
    · unfold cP; rw [parkN_o (by omega) (by omega)]; exact g7 p (by omega)
  · unfold fP; rw [e _ (by omega) (by omega)]; exact g8 f hf
  · unfold fP; rw [e _ (by omega) (by omega)]; exact g9 f hf
/-- a car less -/
theorem leaveN_o {N : Rw} {c j : Nat} (h1 : j ≠ 3) (h2 : j < 700 + 3 * c ∨ 700 + 3 * (nc N - 1) ≤ j) : leaveN N c j = N j := by
  unfold leaveN shiftC
  rw [if_neg (by omega), upd_ne _ _ h1]
theorem leaveN_3 {N : Rw} {c : Nat} : leaveN N c 3 = N 3 - 1 := by
  unfold leaveN shiftC
  rw [if_neg (by omega), upd_eq]
theorem leaveN_c {N : Rw} {c d k : Nat} (hd : d < nc N - 1) (hk : k < 3) : cP (leaveN N c) d k = if d < c then cP N d k else cP N (d + 1) k := by
  unfold cP leaveN shiftC
  by_cases e : d < c
  · rw [if_pos e, if_neg (by omega), upd_ne _ _ (by omega)]
  · rw [if_neg e, if_pos (by omega), upd_ne _ _ (by omega)]
    congr 1; omega
theorem leaveN_nc {N : Rw} {c : Nat} (h3 : N 3 = nI (nc N)) (hc : c < nc N) (hn : nc N ≤ 80) : nc (leaveN N c) = nc N - 1 := by
  have : leaveN N c 3 = nI (nc N - 1) := by rw [leaveN_3, h3, show (1 : Int32) = nI 1 from rfl, nI_sub (by omega)]
  show (leaveN N c 3).toNatClampNeg = nc N - 1
  rw [this, nI_clamp (by omega)]
theorem leaveN_ok {S N : Rw} (hg : OK S N) {c : Nat} (hc : c < nc N) : OK S (leaveN N c) := by
  have hb := hg.b
  obtain ⟨g0, g1, g2, g3, g4, g5, g6, g7, g8, g9⟩ := hg
  have e : ∀ j, j ≠ 3 → (j < 700 ∨ 940 ≤ j) → leaveN N c j = N j := fun j a b => leaveN_o a (by omega)
  have f1 : np (leaveN N c) = np N := by unfold np; rw [e 1 (by omega) (by omega)]
  have f2 : nv (leaveN N c) = nv N := by unfold nv; rw [e 2 (by omega) (by omega)]
  have f3 : nc (leaveN N c) = nc N - 1 := leaveN_nc g3.1 hc g3.2
  have f4 : nf (leaveN N c) = nf N := by unfold nf; rw [e 4 (by omega) (by omega)]
  unfold OK
  rw [f1, f2, f3, f4, e 1 (by omega) (by omega), e 2 (by omega) (by omega), e 4 (by omega) (by omega), leaveN_3]
  refine ⟨g0, g1, g2, ⟨by rw [g3.1, show (1 : Int32) = nI 1 from rfl, nI_sub (by omega)], by omega⟩, g4, fun p hp => ?_, fun p hp => ?_, fun p hp => ?_, fun f hf => ?_, fun f hf => ?_⟩
  · unfold pP; rw [e _ (by omega) (by omega)]; exact g5 p hp
  · unfold vP; rw [e _ (by omega) (by omega)]; exact g6 p hp
  · rw [leaveN_c hp (by decide)]
    split
    · exact g7 p (by omega)
    · exact g7 (p + 1) (by omega)
  · unfold fP; rw [e _ (by omega) (by omega)]; exact g8 f hf
  · unfold fP; rw [e _ (by omega) (by omega)]; exact g9 f hf
/-- why a call is refused: 0 if it is not -/
def c_pass (x : Int32) : Int32 := if inR x 1 20160 then 0 else 1
def c_apply (S N : Rw) (h x : Int32) : Int32 := if inR h 0 (S 2 - 1) then (if inR x 1 9999 then (if nI (activeH N h) < S (79 + h.toNatClampNeg) ∧ activeP N x = -1 ∧ np N < 60 then 0 else 3) else 2) else 1
def c_accept (N : Rw) (p : Int32) : Int32 := if inR p 0 (N 1 - 1) then (if pP N p.toNatClampNeg 2 = 1 then 0 else 2) else 1
def c_renew (S N : Rw) (p : Int32) : Int32 := if inR p 0 (N 1 - 1) then (if pP N p.toNatClampNeg 2 = 2 ∧ pP N p.toNatClampNeg 4 ≤ N 0 + 1440 * S 113 then 0 else 2) else 1
def c_cancel (N : Rw) (p : Int32) : Int32 := if inR p 0 (N 1 - 1) then (if 2 < pP N p.toNatClampNeg 2 then 2 else 0) else 1
def c_admit (S N : Rw) (h x k : Int32) : Int32 := if inR h 0 (S 2 - 1) then (if inR x 1 9999 && inR k 1 24 then (if k ≤ N (23 + h.toNatClampNeg) ∧ visitsH N h < 2 ∧ visiting N x = false ∧ nv N < 60 then 0 else 3) else 2) else 1
def c_extend (N : Rw) (v k : Int32) : Int32 := if inR v 0 (N 2 - 1) then (if inR k 1 24 then (if runsV N v.toNatClampNeg = true ∧ k ≤ N (23 + (vP N v.toNatClampNeg 0).toNatClampNeg) then 0 else 3) else 2) else 1
def c_endVisit (N : Rw) (v : Int32) : Int32 := if inR v 0 (N 2 - 1) then (if runsV N v.toNatClampNeg = true then 0 else 2) else 1
def c_park (S N : Rw) (x s : Int32) : Int32 := if inR s 0 (S 1 - 1) then (if inR x 1 9999 then (if carOf N x = -1 ∧ ¬ freeIn S N s.toNatClampNeg ≤ 0 ∧ nc N < 80 then 0 else 3) else 2) else 1
def c_leave (N : Rw) (x : Int32) : Int32 := if carOf N x = -1 then 1 else 0
def c_inspect (S : Rw) (s : Int32) : Int32 := if inR s 0 (S 1 - 1) then 0 else 1
def c_appeal (N : Rw) (f : Int32) : Int32 := if inR f 0 (N 4 - 1) then (if fP N f.toNatClampNeg 4 = 0 ∧ ¬ 1440 < N 0 - fP N f.toNatClampNeg 2 then 0 else 2) else 1
def c_setLimit (S N : Rw) (z x : Int32) : Int32 := if inR z 0 (S 0 - 1) then (if inR x 0 40 then (if nI (takenZ S N z) ≤ x then 0 else 3) else 2) else 1
def c_suspend (S : Rw) (s : Int32) : Int32 := if inR s 0 (S 1 - 1) then (if S (51 + s.toNatClampNeg) = -1 then 2 else 0) else 1

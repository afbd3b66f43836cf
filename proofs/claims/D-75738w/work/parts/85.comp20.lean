set_option maxRecDepth 100000
/-! STAGE 2, component: count, errors, truncate -/
section C20
variable {G : wG} {l : Nat → Nat → Int64} {M : wM} {ow : Nat → Nat} {a m : Nat} {S N H V : Rw} {b0 : Bool} {n : Nat} {B : Rw} {ec eo : Int32} {w : Nat} {O : Rw} {τ : Nat → Nat}
theorem C_errorCode (h : CP G l M ow τ a S N m H b0 V n B ec eo w O) {Q : Int32 → wM → Prop} (hQ : Q ec M) : P_X1_errorCode G a M Q := by
  obtain ⟨bk, sv, dq, bf, sb, y, h1, -⟩ := h
  exact oGetI.i h1.1 rfl hQ
theorem C_errorOffset (h : CP G l M ow τ a S N m H b0 V n B ec eo w O) {Q : Int32 → wM → Prop} (hQ : Q eo M) : P_X1_errorOffset G a M Q := by
  obtain ⟨bk, sv, dq, bf, sb, y, h1, -⟩ := h
  exact oGetI.i h1.1 rfl hQ
theorem C_truncate (h : CP G l M ow τ a S N m H b0 V n B ec eo w O) (hτ : τ = tF) {x : Int32} {Q : Bool → wM → Prop} (hf : inR x 0 (nI n) = false → Q false M) (hQ : ∀ k, k ≤ n → x = nI k → inR x 0 (nI n) = true → ∀ M1, Mv tR M ow M1 ow → CP G l M1 ow τ a S N m H b0 V k B ec eo w O → Q true M1) : P_X1_truncate G a x M Q := by
  obtain ⟨bk, sv, dq, bf, sb, y, h1, h2, h3, h4, ⟨h50, r, h5, h5b⟩, h6⟩ := h
  refine oGetI.i h1.1 rfl (S_inR (oIf.c (fun c => ?_) (fun c => ?_)))
  · obtain ⟨k, hk, e⟩ := inR_n (by omega) c
    rw [e]
    refine oPut.m h1 (by decide) (by simp) rfl fun M1 e1 hs c1 => ?_
    have s1 : Mv tR M ow M1 ow := hs.mono (by decide) (by decide)
    rw [hτ] at h2
    refine hQ k hk e c M1 s1 ⟨bk, sv, dq, bf, sb, y, c1, by rw [hτ]; exact h2.z hs, h3.stp hs (by decide), h4.stp hs, ⟨by omega, r, h5.stp hs (by decide), fun j hj => h5b j (by omega)⟩, h6.stp hs (by decide)⟩
  · exact hf (by rw [← Bool.not_eq_true]; exact c)
theorem C_count (h : CP G l M ow τ a S N m H b0 V n B ec eo w O) (hg : OK S N) {x : Int32} {Q : Int32 → wM → Prop} (hQ : Q (v_count S N (nI m) x) M) : P_X1_count G a x M Q := by
  obtain ⟨bk, sv, dq, bf, sb, y, h1, h2, ⟨g, h3, h3b⟩, h4, h5, h6⟩ := h
  have ho : OF M a bk := ⟨_, h1.1⟩
  unfold v_count at hQ
  refine oIf.c (fun c => ?_) (fun c => ?_)
  · rw [if_pos c, hg.1.1.1] at hQ; exact oIs.i h1.1 (C_setup ho h2 (oRef.s (oGetA.i h2.su rfl (isA h2.zl (E_size h2.zl hQ)))))
  rw [if_neg c] at hQ
  refine oIf.c (fun c => ?_) (fun c => ?_)
  · rw [if_pos c, hg.1.2.1.1] at hQ; exact oIs.i h1.1 (C_setup ho h2 (oRef.s (oGetA.i h2.su rfl (isA h2.sl (E_size h2.sl hQ)))))
  rw [if_neg c] at hQ
  refine oIf.c (fun c => ?_) (fun c => ?_)
  · rw [if_pos c, hg.1.2.2.1.1] at hQ; exact oIs.i h1.1 (C_setup ho h2 (oRef.s (oGetA.i h2.su rfl (isA h2.hl (E_size h2.hl hQ)))))
  rw [if_neg c] at hQ
  refine oIf.c (fun c => ?_) (fun c => ?_)
  · rw [if_pos c, hg.2.1.1] at hQ; exact ho.g (oGetA.i h2.bk rfl (isA h2.pl (E_size h2.pl hQ)))
  rw [if_neg c] at hQ
  refine oIf.c (fun c => ?_) (fun c => ?_)
  · rw [if_pos c, hg.2.2.1.1] at hQ; exact ho.g (oGetA.i h2.bk rfl (isA h2.vl (E_size h2.vl hQ)))
  rw [if_neg c] at hQ
  refine oIf.c (fun c => ?_) (fun c => ?_)
  · rw [if_pos c, hg.2.2.2.1.1] at hQ; exact ho.g (oGetA.i h2.bk rfl (isL h2.cl (E_llsize h2.cl hQ)))
  rw [if_neg c] at hQ
  refine oIf.c (fun c => ?_) (fun c => ?_)
  · rw [if_pos c, hg.2.2.2.2.1.1] at hQ; exact ho.g (oGetA.i h2.bk rfl (isA h2.fl (E_size h2.fl hQ)))
  rw [if_neg c] at hQ
  refine oIf.c (fun c => ?_) (fun c => ?_)
  · rw [if_pos c] at hQ; exact ho.g (oGetI.i h2.bk rfl hQ)
  rw [if_neg c] at hQ
  refine oIf.c (fun c => ?_) (fun c => ?_)
  · rw [if_pos c] at hQ; exact oGetA.i h1.1 rfl (h3.is (S_dqsize h3 hQ))
  rw [if_neg c] at hQ
  refine oIf.c (fun c => ?_) (fun c => ?_)
  · rw [if_pos c] at hQ; exact oIs.i h1.1 (C_setup ho h2 (oRef.s (oGetI.i h2.su rfl hQ)))
  rw [if_neg c] at hQ
  refine oIf.c (fun c => ?_) (fun c => ?_)
  · rw [if_pos c] at hQ; exact oIs.i h1.1 (C_setup ho h2 (oRef.s (oGetI.i h2.su rfl hQ)))
  rw [if_neg c] at hQ
  refine oIf.c (fun c => ?_) (fun c => ?_)
  · rw [if_pos c] at hQ; exact oIs.i h1.1 (C_setup ho h2 (oRef.s (oGetI.i h2.su rfl hQ)))
  rw [if_neg c] at hQ
  exact hQ
end C20

set_option maxRecDepth 100000
def B_X5_advance_26 (G : wG) (rec0 : Nat → wM → Nat → Prop) (Q : wM → Prop) (x0 : Nat) (M : wM) (bq : Nat) : Prop :=
  oGetI M x0 4 3 (fun v1 => oPut G M x0 4 3 (.int (v1 + (1 : Int32))) (fun M2 => rec0 x0 M2 bq))
def B_X5_advance_288 (G : wG) (Q : wM → Prop) (M : wM) (bq : Nat) : Prop :=
  Q M
def B_X5_advance_275 (G : wG) (Q : wM → Prop) (x0 : Nat) (y0 : Int32) (y1 : Nat) (M : wM) (bq : Nat) : Prop :=
  oPut G M y1 4 5 (.int y0) (fun M1 => oGetI M1 x0 4 3 (fun v2 => oPut G M1 x0 4 3 (.int (v2 + (1 : Int32))) (fun M3 => B_X5_advance_288 G Q M3 bq)))
def B_X5_advance_257 (G : wG) (Q : wM → Prop) (y0 : Int32) (y1 : Nat) (M : wM) (bq : Nat) : Prop :=
  oPut G M y1 4 5 (.int y0) (fun M1 => B_X5_advance_288 G Q M1 bq)
def B_X5_advance_225 (G : wG) (rec171 : Nat → wM → Nat → Prop) (Q : wM → Prop) (x0 : Nat) (M : wM) (bq : Nat) : Prop :=
  oGetI M x0 4 3 (fun v1 => oPut G M x0 4 3 (.int (v1 + (1 : Int32))) (fun M2 => rec171 x0 M2 bq))
def B_X5_advance_171 (G : wG) (rec171 : Nat → wM → Nat → Prop) (Q : wM → Prop) (x0 : Nat) (M : wM) (bq : Nat) : Prop :=
  oGetI M x0 4 3 (fun v1 => oIs M x0 4 (P_X5_byteAt G x0 v1 M (fun v4 M2 => P_X1_inRange G v4 (48 : Int32) (57 : Int32) M2 (fun r7 M5 => oIf (r7 = true) (oGetI M5 x0 4 3 (fun v10 => oGetI M5 x0 4 4 (fun v11 => oIf ((3 : Int32) ≤ (v10 - v11)) (B_X5_advance_225 G rec171 Q x0 M5 bq) (oGetI M5 x0 4 6 (fun v12 => oGetI M5 x0 4 3 (fun v13 => oIs M5 x0 4 (P_X5_byteAt G x0 v13 M5 (fun v16 M14 => oPut G M14 x0 4 6 (.int ((((10 : Int32) * v12) + v16) - (48 : Int32))) (fun M17 => B_X5_advance_225 G rec171 Q x0 M17 bq))))))))) (oGetI M5 x0 4 3 (fun v8 => oGetI M5 x0 4 4 (fun v9 => oIf ((v8 - v9) ≤ (3 : Int32)) (B_X5_advance_257 G Q (2 : Int32) x0 M5 bq) (B_X5_advance_257 G Q (4 : Int32) x0 M5 bq))))))))
def L_X5_advance_171 (G : wG) (Q : wM → Prop) : Nat → Nat → wM → Nat → Prop
  | 0 => fun _ _ _ => False
  | n + 1 => B_X5_advance_171 G (L_X5_advance_171 G Q n) Q
def B_X5_advance_99 (G : wG) (rec99 : Nat → Nat → wM → Nat → Prop) (Q : wM → Prop) (x0 : Nat) (x2 : Nat) (M : wM) (bq : Nat) : Prop :=
  oGetI M x0 4 3 (fun v1 => oIs M x0 4 (P_X5_byteAt G x0 v1 M (fun v4 M2 => P_X1_inRange G v4 (97 : Int32) (122 : Int32) M2 (fun r7 M5 => oIf (r7 = true) (oGetI M5 x0 4 3 (fun v13 => oIs M5 x0 4 (P_X5_byteAt G x0 v13 M5 (fun v16 M14 => oIs M14 x2 23 (∃ c18, c18 ≤ bq ∧ P_J18_append_3 G x2 ((v16.toUInt32 % 65536).toInt32) c18 M14 (fun r19 M17 => oGetI M17 x0 4 3 (fun v20 => oPut G M17 x0 4 3 (.int (v20 + (1 : Int32))) (fun M21 => rec99 x0 x2 M21 (bq - c18))))))))) (oIs M5 x2 23 (∃ c9, c9 ≤ bq ∧ P_J18_toString G x2 c9 M5 (fun r10 M8 => oPut G M8 x0 4 7 (va_rf r10) (fun M11 => oPut G M11 x0 4 5 (.int (1 : Int32)) (fun M12 => B_X5_advance_288 G Q M12 (bq - c9))))))))))
def L_X5_advance_99 (G : wG) (Q : wM → Prop) : Nat → Nat → Nat → wM → Nat → Prop
  | 0 => fun _ _ _ _ => False
  | n + 1 => B_X5_advance_99 G (L_X5_advance_99 G Q n) Q
def B_X5_advance_0 (G : wG) (rec0 : Nat → wM → Nat → Prop) (Q : wM → Prop) (x0 : Nat) (M : wM) (bq : Nat) : Prop :=
  oGetI M x0 4 3 (fun v1 => oIs M x0 4 (P_X5_byteAt G x0 v1 M (fun v4 M2 => oIf (v4 = (32 : Int32)) (B_X5_advance_26 G rec0 Q x0 M2 bq) (oGetI M2 x0 4 3 (fun v5 => oIs M2 x0 4 (P_X5_byteAt G x0 v5 M2 (fun v8 M6 => oIf (v8 = (10 : Int32)) (B_X5_advance_26 G rec0 Q x0 M6 bq) (oGetI M6 x0 4 3 (fun v9 => oPut G M6 x0 4 4 (.int v9) (fun M10 => oGetI M10 x0 4 3 (fun v11 => oIs M10 x0 4 (P_X5_byteAt G x0 v11 M10 (fun v14 M12 => oPut G M12 x0 4 7 (.ref (G.2.2.2 26)) (fun M15 => oPut G M15 x0 4 6 (.int (0 : Int32)) (fun M16 => oIf (v14 = (-1 : Int32)) (oPut G M16 x0 4 5 (.int (0 : Int32)) (fun M28 => B_X5_advance_288 G Q M28 bq)) (P_X1_inRange G v14 (97 : Int32) (122 : Int32) M16 (fun r19 M17 => oIf (r19 = true) (oNew G M17 bq 23 [.null, .int 0, .int 0, .int 0] (fun a23 M24 b25 => ∃ c27, c27 ≤ b25 ∧ P_J18_init G a23 c27 M24 (fun M26 => ∃ n, L_X5_advance_99 G Q n x0 a23 M26 (b25 - c27)))) (P_X1_inRange G v14 (48 : Int32) (57 : Int32) M17 (fun r22 M20 => oIf (r22 = true) (∃ n, L_X5_advance_171 G Q n x0 M20 bq) (oIf (v14 = (59 : Int32)) (B_X5_advance_275 G Q x0 (3 : Int32) x0 M20 bq) (B_X5_advance_275 G Q x0 (4 : Int32) x0 M20 bq)))))))))))))))))))))
def L_X5_advance_0 (G : wG) (Q : wM → Prop) : Nat → Nat → wM → Nat → Prop
  | 0 => fun _ _ _ => False
  | n + 1 => B_X5_advance_0 G (L_X5_advance_0 G Q n) Q
def P_X5_advance (G : wG) (t0 : Nat) (b : Nat) (M : wM) (Q : wM → Prop) : Prop :=
  ∃ n, L_X5_advance_0 G Q n t0 M b
set_option maxHeartbeats 4000000 in
set_option maxRecDepth 100000 in
theorem P_X5_advance_ok {l : Launch} (hl0 : l.stackTraces = false) {G : wG} {t0 : Nat} {b : Nat} {M : wM} {Q : wM → Prop} (hp : P_X5_advance G t0 b M Q) : wMet l yX5_advance (ws_ yX5_advance cX5_advance 3 (none)) 18 534 G [.ref t0] M b (wqV Q) wX0 := by
  refine vx_ofW (cc := cX5_advance) (maxL := 3) (ret := none) (by decide) rfl ?_
  intro p e s m args below meth c s₁ B hml hnt hv
  obtain ⟨rfl, hM, hK, hZ, hz⟩ := hv
  have hC : wC G s := ⟨hK, hZ, hz⟩
  have hx := B.exec
  have hb := B.bytes
  have hr := B.returns
  have hts := atoms_spec (ws := (ws_ yX5_advance cX5_advance 3 (none))) B.pre
  have hts : ∀ w ∈ lw_all, w.before _ s = true := fun w h => hts w (List.mem_cons_of_mem _ h)
  have hown : s.vm.findClass RX5 = some m.cls := findClass_of_methodNamed B.named
  have hlk := B.notSynchronized
  have X : CallFix p m c cX5_advance 3 s ([.ref t0] : List Value).toArray lw_all RX5 := ⟨hx, hb, hml, hown, hts⟩
  have hS : va_S (wA G) s.heap s.heap [] := va_S.rf
  have hl := lv_entry ([.ref t0]) (n := 3) (Nat.le_of_ble_eq_true rfl)
  rw [lg_entry_eq]
  generalize (lg_sl ([.ref t0]) ++ List.replicate (3 - (lg_sl ([.ref t0])).length) Slot.unset).toArray = ls at hl ⊢
  have hl : lv_has ls 3 [(0, .ref t0)] := hl
  have hB : 0 + b ≤ ((headSpec (ws_ yX5_advance cX5_advance 3 (none)) ({ frames := 18, cells := b, slots := b, locals := 534 })).room).cells ∧ 0 + b ≤ ((headSpec (ws_ yX5_advance cX5_advance 3 (none)) ({ frames := 18, cells := b, slots := b, locals := 534 })).room).slots := ⟨Nat.le_of_eq (Nat.zero_add b), Nat.le_of_eq (Nat.zero_add b)⟩
  have hB26 : ∀ (rec0 : Nat → wM → Nat → Prop) (hrec0 : ∀ (x0 : Nat) (M : wM) (bq : Nat) (H : Heap) (locs : List Loc) (ls : Array Slot) (cells slots : Nat), rec0 x0 M bq → wR G M H → va_S (wA G) s.heap H locs → (cells + bq ≤ ((headSpec (ws_ yX5_advance cX5_advance 3 (none)) ({ frames := 18, cells := b, slots := b, locals := 534 })).room).cells ∧ slots + bq ≤ ((headSpec (ws_ yX5_advance cX5_advance 3 (none)) ({ frames := 18, cells := b, slots := b, locals := 534 })).room).slots) → lv_has ls 3 [(0, .ref x0)] → W p l e (headSpec (ws_ yX5_advance cX5_advance 3 (none)) ({ frames := 18, cells := b, slots := b, locals := 534 })).room s m ([.ref t0] : List Value).toArray below meth c H locs cells slots (vx_MQ below (wQ G (wqV Q)) (wXC G wX0) ([.ref t0] : List Value).toArray s b b (wA G)) (F0 m 0 ls [])), ∀ (x0 : Nat) (M : wM) (bq : Nat) (H : Heap) (locs : List Loc) (ls : Array Slot) (cells slots : Nat), B_X5_advance_26 G rec0 Q x0 M bq → wR G M H → va_S (wA G) s.heap H locs → (cells + bq ≤ ((headSpec (ws_ yX5_advance cX5_advance 3 (none)) ({ frames := 18, cells := b, slots := b, locals := 534 })).room).cells ∧ slots + bq ≤ ((headSpec (ws_ yX5_advance cX5_advance 3 (none)) ({ frames := 18, cells := b, slots := b, locals := 534 })).room).slots) → lv_has ls 3 [(0, .ref x0)] → W p l e (headSpec (ws_ yX5_advance cX5_advance 3 (none)) ({ frames := 18, cells := b, slots := b, locals := 534 })).room s m ([.ref t0] : List Value).toArray below meth c H locs cells slots (vx_MQ below (wQ G (wqV Q)) (wXC G wX0) ([.ref t0] : List Value).toArray s b b (wA G)) (F0 m 26 ls []) := by
    intro rec0 hrec0 x0 M bq H locs ls cells slots hp hM hS hB hl
    refine lv_aload_n hx hb dX5_advance_26 rfl (lv_at hl 0 rfl) ?_
    refine lv_dup hx hb dX5_advance_27 rfl ?_
    refine x_getI X hC.1 hM (ci := 4) (C := RX5) (T := TX5) (N := 9) rfl in_X5 3 (by decide) q1132 (fun _ h9 => h9) dX5_advance_28 hp (fun v1 hp => ?_)
    refine lv_iconst (v := 1) hx hb dX5_advance_31 (by decide) ?_
    refine lv_iadd hx hb dX5_advance_32 ?_
    refine x_put X hC.1 hM hS (ci := 4) (C := RX5) (T := TX5) (N := 9) rfl in_X5 tyX5 tyX5_ok nmX5 3 (by decide) q1132 (fun _ h9 => h9) rfl rfl rfl dX5_advance_33 hp (fun M2 H locs hM hS hp => ?_)
    refine lv_goto (tgt := 0) hx hb dX5_advance_36 (by decide) ?_
    exact hrec0 _ _ _ _ _ _ _ _ hp hM hS hB (lv_sub hl [0] rfl)
  have hB288 : ∀ (M : wM) (bq : Nat) (H : Heap) (locs : List Loc) (ls : Array Slot) (cells slots : Nat), B_X5_advance_288 G Q M bq → wR G M H → va_S (wA G) s.heap H locs → (cells + bq ≤ ((headSpec (ws_ yX5_advance cX5_advance 3 (none)) ({ frames := 18, cells := b, slots := b, locals := 534 })).room).cells ∧ slots + bq ≤ ((headSpec (ws_ yX5_advance cX5_advance 3 (none)) ({ frames := 18, cells := b, slots := b, locals := 534 })).room).slots) → lv_has ls 3 [] → W p l e (headSpec (ws_ yX5_advance cX5_advance 3 (none)) ({ frames := 18, cells := b, slots := b, locals := 534 })).room s m ([.ref t0] : List Value).toArray below meth c H locs cells slots (vx_MQ below (wQ G (wqV Q)) (wXC G wX0) ([.ref t0] : List Value).toArray s b b (wA G)) (F0 m 288 ls []) := by
    intro M bq H locs ls cells slots hp hM hS hB hl
    exact x_vret X hr hlk hM hS (w_fin hB) dX5_advance_288 ⟨rfl, hp⟩
  have hB275 : ∀ (x0 : Nat) (y0 : Int32) (y1 : Nat) (M : wM) (bq : Nat) (H : Heap) (locs : List Loc) (ls : Array Slot) (cells slots : Nat), B_X5_advance_275 G Q x0 y0 y1 M bq → wR G M H → va_S (wA G) s.heap H locs → (cells + bq ≤ ((headSpec (ws_ yX5_advance cX5_advance 3 (none)) ({ frames := 18, cells := b, slots := b, locals := 534 })).room).cells ∧ slots + bq ≤ ((headSpec (ws_ yX5_advance cX5_advance 3 (none)) ({ frames := 18, cells := b, slots := b, locals := 534 })).room).slots) → lv_has ls 3 [(0, .ref x0)] → W p l e (headSpec (ws_ yX5_advance cX5_advance 3 (none)) ({ frames := 18, cells := b, slots := b, locals := 534 })).room s m ([.ref t0] : List Value).toArray below meth c H locs cells slots (vx_MQ below (wQ G (wqV Q)) (wXC G wX0) ([.ref t0] : List Value).toArray s b b (wA G)) (F0 m 275 ls [.int y0, .ref y1]) := by
    intro x0 y0 y1 M bq H locs ls cells slots hp hM hS hB hl
    refine x_put X hC.1 hM hS (ci := 4) (C := RX5) (T := TX5) (N := 9) rfl in_X5 tyX5 tyX5_ok nmX5 5 (by decide) q1134 (fun _ h9 => h9) rfl rfl rfl dX5_advance_275 hp (fun M1 H locs hM hS hp => ?_)
    refine lv_aload_n hx hb dX5_advance_278 rfl (lv_at hl 0 rfl) ?_
    refine lv_dup hx hb dX5_advance_279 rfl ?_
    refine x_getI X hC.1 hM (ci := 4) (C := RX5) (T := TX5) (N := 9) rfl in_X5 3 (by decide) q1132 (fun _ h9 => h9) dX5_advance_280 hp (fun v2 hp => ?_)
    refine lv_iconst (v := 1) hx hb dX5_advance_283 (by decide) ?_
    refine lv_iadd hx hb dX5_advance_284 ?_
    refine x_put X hC.1 hM hS (ci := 4) (C := RX5) (T := TX5) (N := 9) rfl in_X5 tyX5 tyX5_ok nmX5 3 (by decide) q1132 (fun _ h9 => h9) rfl rfl rfl dX5_advance_285 hp (fun M3 H locs hM hS hp => ?_)
    exact hB288 _ _ _ _ _ _ _ hp hM hS hB (lv_sub hl [] rfl)
  have hB257 : ∀ (y0 : Int32) (y1 : Nat) (M : wM) (bq : Nat) (H : Heap) (locs : List Loc) (ls : Array Slot) (cells slots : Nat), B_X5_advance_257 G Q y0 y1 M bq → wR G M H → va_S (wA G) s.heap H locs → (cells + bq ≤ ((headSpec (ws_ yX5_advance cX5_advance 3 (none)) ({ frames := 18, cells := b, slots := b, locals := 534 })).room).cells ∧ slots + bq ≤ ((headSpec (ws_ yX5_advance cX5_advance 3 (none)) ({ frames := 18, cells := b, slots := b, locals := 534 })).room).slots) → lv_has ls 3 [] → W p l e (headSpec (ws_ yX5_advance cX5_advance 3 (none)) ({ frames := 18, cells := b, slots := b, locals := 534 })).room s m ([.ref t0] : List Value).toArray below meth c H locs cells slots (vx_MQ below (wQ G (wqV Q)) (wXC G wX0) ([.ref t0] : List Value).toArray s b b (wA G)) (F0 m 257 ls [.int y0, .ref y1]) := by
    intro y0 y1 M bq H locs ls cells slots hp hM hS hB hl
    refine x_put X hC.1 hM hS (ci := 4) (C := RX5) (T := TX5) (N := 9) rfl in_X5 tyX5 tyX5_ok nmX5 5 (by decide) q1134 (fun _ h9 => h9) rfl rfl rfl dX5_advance_257 hp (fun M1 H locs hM hS hp => ?_)
    refine lv_goto (tgt := 288) hx hb dX5_advance_260 (by decide) ?_
    exact hB288 _ _ _ _ _ _ _ hp hM hS hB (lv_sub hl [] rfl)
  have hB225 : ∀ (rec171 : Nat → wM → Nat → Prop) (hrec171 : ∀ (x0 : Nat) (M : wM) (bq : Nat) (H : Heap) (locs : List Loc) (ls : Array Slot) (cells slots : Nat), rec171 x0 M bq → wR G M H → va_S (wA G) s.heap H locs → (cells + bq ≤ ((headSpec (ws_ yX5_advance cX5_advance 3 (none)) ({ frames := 18, cells := b, slots := b, locals := 534 })).room).cells ∧ slots + bq ≤ ((headSpec (ws_ yX5_advance cX5_advance 3 (none)) ({ frames := 18, cells := b, slots := b, locals := 534 })).room).slots) → lv_has ls 3 [(0, .ref x0)] → W p l e (headSpec (ws_ yX5_advance cX5_advance 3 (none)) ({ frames := 18, cells := b, slots := b, locals := 534 })).room s m ([.ref t0] : List Value).toArray below meth c H locs cells slots (vx_MQ below (wQ G (wqV Q)) (wXC G wX0) ([.ref t0] : List Value).toArray s b b (wA G)) (F0 m 171 ls [])), ∀ (x0 : Nat) (M : wM) (bq : Nat) (H : Heap) (locs : List Loc) (ls : Array Slot) (cells slots : Nat), B_X5_advance_225 G rec171 Q x0 M bq → wR G M H → va_S (wA G) s.heap H locs → (cells + bq ≤ ((headSpec (ws_ yX5_advance cX5_advance 3 (none)) ({ frames := 18, cells := b, slots := b, locals := 534 })).room).cells ∧ slots + bq ≤ ((headSpec (ws_ yX5_advance cX5_advance 3 (none)) ({ frames := 18, cells := b, slots := b, locals := 534 })).room).slots) → lv_has ls 3 [(0, .ref x0)] → W p l e (headSpec (ws_ yX5_advance cX5_advance 3 (none)) ({ frames := 18, cells := b, slots := b, locals := 534 })).room s m ([.ref t0] : List Value).toArray below meth c H locs cells slots (vx_MQ below (wQ G (wqV Q)) (wXC G wX0) ([.ref t0] : List Value).toArray s b b (wA G)) (F0 m 225 ls []) := by
    intro rec171 hrec171 x0 M bq H locs ls cells slots hp hM hS hB hl
    refine lv_aload_n hx hb dX5_advance_225 rfl (lv_at hl 0 rfl) ?_
    refine lv_dup hx hb dX5_advance_226 rfl ?_
    refine x_getI X hC.1 hM (ci := 4) (C := RX5) (T := TX5) (N := 9) rfl in_X5 3 (by decide) q1132 (fun _ h9 => h9) dX5_advance_227 hp (fun v1 hp => ?_)
    refine lv_iconst (v := 1) hx hb dX5_advance_230 (by decide) ?_
    refine lv_iadd hx hb dX5_advance_231 ?_
    refine x_put X hC.1 hM hS (ci := 4) (C := RX5) (T := TX5) (N := 9) rfl in_X5 tyX5 tyX5_ok nmX5 3 (by decide) q1132 (fun _ h9 => h9) rfl rfl rfl dX5_advance_232 hp (fun M2 H locs hM hS hp => ?_)
    refine lv_goto (tgt := 171) hx hb dX5_advance_235 (by decide) ?_
    exact hrec171 _ _ _ _ _ _ _ _ hp hM hS hB (lv_sub hl [0] rfl)
  have hB171 : ∀ (rec171 : Nat → wM → Nat → Prop) (hrec171 : ∀ (x0 : Nat) (M : wM) (bq : Nat) (H : Heap) (locs : List Loc) (ls : Array Slot) (cells slots : Nat), rec171 x0 M bq → wR G M H → va_S (wA G) s.heap H locs → (cells + bq ≤ ((headSpec (ws_ yX5_advance cX5_advance 3 (none)) ({ frames := 18, cells := b, slots := b, locals := 534 })).room).cells ∧ slots + bq ≤ ((headSpec (ws_ yX5_advance cX5_advance 3 (none)) ({ frames := 18, cells := b, slots := b, locals := 534 })).room).slots) → lv_has ls 3 [(0, .ref x0)] → W p l e (headSpec (ws_ yX5_advance cX5_advance 3 (none)) ({ frames := 18, cells := b, slots := b, locals := 534 })).room s m ([.ref t0] : List Value).toArray below meth c H locs cells slots (vx_MQ below (wQ G (wqV Q)) (wXC G wX0) ([.ref t0] : List Value).toArray s b b (wA G)) (F0 m 171 ls [])), ∀ (x0 : Nat) (M : wM) (bq : Nat) (H : Heap) (locs : List Loc) (ls : Array Slot) (cells slots : Nat), B_X5_advance_171 G rec171 Q x0 M bq → wR G M H → va_S (wA G) s.heap H locs → (cells + bq ≤ ((headSpec (ws_ yX5_advance cX5_advance 3 (none)) ({ frames := 18, cells := b, slots := b, locals := 534 })).room).cells ∧ slots + bq ≤ ((headSpec (ws_ yX5_advance cX5_advance 3 (none)) ({ frames := 18, cells := b, slots := b, locals := 534 })).room).slots) → lv_has ls 3 [(0, .ref x0)] → W p l e (headSpec (ws_ yX5_advance cX5_advance 3 (none)) ({ frames := 18, cells := b, slots := b, locals := 534 })).room s m ([.ref t0] : List Value).toArray below meth c H locs cells slots (vx_MQ below (wQ G (wqV Q)) (wXC G wX0) ([.ref t0] : List Value).toArray s b b (wA G)) (F0 m 171 ls []) := by
    intro rec171 hrec171 x0 M bq H locs ls cells slots hp hM hS hB hl
    refine lv_aload_n hx hb dX5_advance_171 rfl (lv_at hl 0 rfl) ?_
    refine lv_aload_n hx hb dX5_advance_172 rfl (lv_at hl 0 rfl) ?_
    refine x_getI X hC.1 hM (ci := 4) (C := RX5) (T := TX5) (N := 9) rfl in_X5 3 (by decide) q1132 (fun _ h9 => h9) dX5_advance_173 hp (fun v1 hp => ?_)
    obtain ⟨hrec, hp⟩ := hp
    refine x_call0I (vx_runV (As := [.int v1]) (rest := []) X (P_X5_byteAt_ok (l := l) hl0 hp) (cwV 1 hts (lw_V q1101 q1103 qs11 q179 q1104) rfl rfl rfl (by decide +kernel) ⟨Nat.le_of_ble_eq_true rfl, Nat.le_of_ble_eq_true rfl⟩) ⟨wPc.blind, w_recv hC.1 hM (ci := 4) (q := (RX5, TX5, 9)) rfl hrec, w_pre hC hM hS _⟩ rfl rfl hl.1 rfl (lv_room (Nat.le_of_ble_eq_true rfl)) dX5_advance_176 (w_room0 hB)) hS (w_room0 hB) (fun _ _ _ _ _ _ h => False.elim h) (fun v4 M2 H locs hp hM hS => ?_)
    refine lv_bipush (v := 48) hx hb dX5_advance_179 (by decide) ?_
    refine lv_bipush (v := 57) hx hb dX5_advance_181 (by decide) ?_
    refine x_call0Z (vx_runSN (As := [.int v4, .int (48 : Int32), .int (57 : Int32)]) (rest := []) X (P_X1_inRange_ok (l := l) hl0 hp) ⟨va_cnB 3 hts (lw_meth q1014) rfl rfl rfl (hC.1.2.2.1 _ q1105 rfl) (hts _ q148) (by decide +kernel) ⟨Nat.le_of_ble_eq_true rfl, Nat.le_of_ble_eq_true rfl⟩, hts _ q1013, trivial⟩ ⟨wPc.blind, w_pre hC hM hS _⟩ rfl rfl hl.1 rfl (lv_room (Nat.le_of_ble_eq_true rfl)) dX5_advance_183 (w_room0 hB)) hS (w_room0 hB) (fun _ _ _ _ _ _ h => False.elim h) (fun r7 M5 H locs hp hM hS => ?_)
    refine x_ifeqB (tgt := 238) hx hb dX5_advance_186 (by decide) (fun hc => ?_) (fun hc => ?_)
    · have hp := oIf.bf hp hc
      refine lv_aload_n hx hb dX5_advance_238 rfl (lv_at hl 0 rfl) ?_
      refine lv_aload_n hx hb dX5_advance_239 rfl (lv_at hl 0 rfl) ?_
      refine x_getI X hC.1 hM (ci := 4) (C := RX5) (T := TX5) (N := 9) rfl in_X5 3 (by decide) q1132 (fun _ h9 => h9) dX5_advance_240 hp (fun v8 hp => ?_)
      refine lv_aload_n hx hb dX5_advance_243 rfl (lv_at hl 0 rfl) ?_
      refine x_getI X hC.1 hM (ci := 4) (C := RX5) (T := TX5) (N := 9) rfl in_X5 4 (by decide) q1133 (fun _ h9 => h9) dX5_advance_244 hp (fun v9 hp => ?_)
      refine lv_isub hx hb dX5_advance_247 ?_
      refine lv_iconst (v := 3) hx hb dX5_advance_248 (by decide) ?_
      refine lv_icmp_le (tgt := 256) hx hb dX5_advance_249 (by decide) (fun hc => ?_) (fun hc => ?_)
      · have hp := oIf.t hp hc
        refine lv_iconst (v := 2) hx hb dX5_advance_256 (by decide) ?_
        exact hB257 _ _ _ _ _ _ _ _ _ hp hM hS hB (lv_sub hl [] rfl)
      · have hp := oIf.f hp hc
        refine lv_iconst (v := 4) hx hb dX5_advance_252 (by decide) ?_
        refine lv_goto (tgt := 257) hx hb dX5_advance_253 (by decide) ?_
        exact hB257 _ _ _ _ _ _ _ _ _ hp hM hS hB (lv_sub hl [] rfl)
    · have hp := oIf.bt hp hc
      refine lv_aload_n hx hb dX5_advance_189 rfl (lv_at hl 0 rfl) ?_
      refine x_getI X hC.1 hM (ci := 4) (C := RX5) (T := TX5) (N := 9) rfl in_X5 3 (by decide) q1132 (fun _ h9 => h9) dX5_advance_190 hp (fun v10 hp => ?_)
      refine lv_aload_n hx hb dX5_advance_193 rfl (lv_at hl 0 rfl) ?_
      refine x_getI X hC.1 hM (ci := 4) (C := RX5) (T := TX5) (N := 9) rfl in_X5 4 (by decide) q1133 (fun _ h9 => h9) dX5_advance_194 hp (fun v11 hp => ?_)
      refine lv_isub hx hb dX5_advance_197 ?_
      refine lv_iconst (v := 3) hx hb dX5_advance_198 (by decide) ?_
      refine lv_icmp_ge (tgt := 225) hx hb dX5_advance_199 (by decide) (fun hc => ?_) (fun hc => ?_)
      · have hp := oIf.t hp hc
        exact hB225 rec171 hrec171 _ _ _ _ _ _ _ _ hp hM hS hB (lv_sub hl [0] rfl)
      · have hp := oIf.f hp hc
        refine lv_aload_n hx hb dX5_advance_202 rfl (lv_at hl 0 rfl) ?_
        refine lv_bipush (v := 10) hx hb dX5_advance_203 (by decide) ?_
        refine lv_aload_n hx hb dX5_advance_205 rfl (lv_at hl 0 rfl) ?_
        refine x_getI X hC.1 hM (ci := 4) (C := RX5) (T := TX5) (N := 9) rfl in_X5 6 (by decide) q1135 (fun _ h9 => h9) dX5_advance_206 hp (fun v12 hp => ?_)
        refine lv_imul hx hb dX5_advance_209 ?_
        refine lv_aload_n hx hb dX5_advance_210 rfl (lv_at hl 0 rfl) ?_
        refine lv_aload_n hx hb dX5_advance_211 rfl (lv_at hl 0 rfl) ?_
        refine x_getI X hC.1 hM (ci := 4) (C := RX5) (T := TX5) (N := 9) rfl in_X5 3 (by decide) q1132 (fun _ h9 => h9) dX5_advance_212 hp (fun v13 hp => ?_)
        obtain ⟨hrec, hp⟩ := hp
        refine x_call0I (vx_runV (As := [.int v13]) (rest := [.int ((10 : Int32) * v12), .ref x0]) X (P_X5_byteAt_ok (l := l) hl0 hp) (cwV 1 hts (lw_V q1101 q1103 qs11 q179 q1104) rfl rfl rfl (by decide +kernel) ⟨Nat.le_of_ble_eq_true rfl, Nat.le_of_ble_eq_true rfl⟩) ⟨wPc.blind, w_recv hC.1 hM (ci := 4) (q := (RX5, TX5, 9)) rfl hrec, w_pre hC hM hS _⟩ rfl rfl hl.1 rfl (lv_room (Nat.le_of_ble_eq_true rfl)) dX5_advance_215 (w_room0 hB)) hS (w_room0 hB) (fun _ _ _ _ _ _ h => False.elim h) (fun v16 M14 H locs hp hM hS => ?_)
        refine lv_iadd hx hb dX5_advance_218 ?_
        refine lv_bipush (v := 48) hx hb dX5_advance_219 (by decide) ?_
        refine lv_isub hx hb dX5_advance_221 ?_
        refine x_put X hC.1 hM hS (ci := 4) (C := RX5) (T := TX5) (N := 9) rfl in_X5 tyX5 tyX5_ok nmX5 6 (by decide) q1135 (fun _ h9 => h9) rfl rfl rfl dX5_advance_222 hp (fun M17 H locs hM hS hp => ?_)
        exact hB225 rec171 hrec171 _ _ _ _ _ _ _ _ hp hM hS hB (lv_sub hl [0] rfl)
  have hL171 : ∀ (n : Nat), ∀ (x0 : Nat) (M : wM) (bq : Nat) (H : Heap) (locs : List Loc) (ls : Array Slot) (cells slots : Nat), L_X5_advance_171 G Q n x0 M bq → wR G M H → va_S (wA G) s.heap H locs → (cells + bq ≤ ((headSpec (ws_ yX5_advance cX5_advance 3 (none)) ({ frames := 18, cells := b, slots := b, locals := 534 })).room).cells ∧ slots + bq ≤ ((headSpec (ws_ yX5_advance cX5_advance 3 (none)) ({ frames := 18, cells := b, slots := b, locals := 534 })).room).slots) → lv_has ls 3 [(0, .ref x0)] → W p l e (headSpec (ws_ yX5_advance cX5_advance 3 (none)) ({ frames := 18, cells := b, slots := b, locals := 534 })).room s m ([.ref t0] : List Value).toArray below meth c H locs cells slots (vx_MQ below (wQ G (wqV Q)) (wXC G wX0) ([.ref t0] : List Value).toArray s b b (wA G)) (F0 m 171 ls []) := by
    intro n
    induction n with
    | zero => intro _ _ _ _ _ _ _ _ hp; exact False.elim hp
    | succ n ih => intro x0 M bq H locs ls cells slots hp hM hS hB hl; exact hB171 (L_X5_advance_171 G Q n) ih _ _ _ _ _ _ _ _ hp hM hS hB hl
  have hB99 : ∀ (rec99 : Nat → Nat → wM → Nat → Prop) (hrec99 : ∀ (x0 : Nat) (x2 : Nat) (M : wM) (bq : Nat) (H : Heap) (locs : List Loc) (ls : Array Slot) (cells slots : Nat), rec99 x0 x2 M bq → wR G M H → va_S (wA G) s.heap H locs → (cells + bq ≤ ((headSpec (ws_ yX5_advance cX5_advance 3 (none)) ({ frames := 18, cells := b, slots := b, locals := 534 })).room).cells ∧ slots + bq ≤ ((headSpec (ws_ yX5_advance cX5_advance 3 (none)) ({ frames := 18, cells := b, slots := b, locals := 534 })).room).slots) → lv_has ls 3 [(0, .ref x0), (2, .ref x2)] → W p l e (headSpec (ws_ yX5_advance cX5_advance 3 (none)) ({ frames := 18, cells := b, slots := b, locals := 534 })).room s m ([.ref t0] : List Value).toArray below meth c H locs cells slots (vx_MQ below (wQ G (wqV Q)) (wXC G wX0) ([.ref t0] : List Value).toArray s b b (wA G)) (F0 m 99 ls [])), ∀ (x0 : Nat) (x2 : Nat) (M : wM) (bq : Nat) (H : Heap) (locs : List Loc) (ls : Array Slot) (cells slots : Nat), B_X5_advance_99 G rec99 Q x0 x2 M bq → wR G M H → va_S (wA G) s.heap H locs → (cells + bq ≤ ((headSpec (ws_ yX5_advance cX5_advance 3 (none)) ({ frames := 18, cells := b, slots := b, locals := 534 })).room).cells ∧ slots + bq ≤ ((headSpec (ws_ yX5_advance cX5_advance 3 (none)) ({ frames := 18, cells := b, slots := b, locals := 534 })).room).slots) → lv_has ls 3 [(0, .ref x0), (2, .ref x2)] → W p l e (headSpec (ws_ yX5_advance cX5_advance 3 (none)) ({ frames := 18, cells := b, slots := b, locals := 534 })).room s m ([.ref t0] : List Value).toArray below meth c H locs cells slots (vx_MQ below (wQ G (wqV Q)) (wXC G wX0) ([.ref t0] : List Value).toArray s b b (wA G)) (F0 m 99 ls []) := by
    intro rec99 hrec99 x0 x2 M bq H locs ls cells slots hp hM hS hB hl
    refine lv_aload_n hx hb dX5_advance_99 rfl (lv_at hl 0 rfl) ?_
    refine lv_aload_n hx hb dX5_advance_100 rfl (lv_at hl 0 rfl) ?_
    refine x_getI X hC.1 hM (ci := 4) (C := RX5) (T := TX5) (N := 9) rfl in_X5 3 (by decide) q1132 (fun _ h9 => h9) dX5_advance_101 hp (fun v1 hp => ?_)
    obtain ⟨hrec, hp⟩ := hp
    refine x_call0I (vx_runV (As := [.int v1]) (rest := []) X (P_X5_byteAt_ok (l := l) hl0 hp) (cwV 1 hts (lw_V q1101 q1103 qs11 q179 q1104) rfl rfl rfl (by decide +kernel) ⟨Nat.le_of_ble_eq_true rfl, Nat.le_of_ble_eq_true rfl⟩) ⟨wPc.blind, w_recv hC.1 hM (ci := 4) (q := (RX5, TX5, 9)) rfl hrec, w_pre hC hM hS _⟩ rfl rfl hl.1 rfl (lv_room (Nat.le_of_ble_eq_true rfl)) dX5_advance_104 (w_room0 hB)) hS (w_room0 hB) (fun _ _ _ _ _ _ h => False.elim h) (fun v4 M2 H locs hp hM hS => ?_)
    refine lv_bipush (v := 97) hx hb dX5_advance_107 (by decide) ?_
    refine lv_bipush (v := 122) hx hb dX5_advance_109 (by decide) ?_
    refine x_call0Z (vx_runSN (As := [.int v4, .int (97 : Int32), .int (122 : Int32)]) (rest := []) X (P_X1_inRange_ok (l := l) hl0 hp) ⟨va_cnB 3 hts (lw_meth q1014) rfl rfl rfl (hC.1.2.2.1 _ q1105 rfl) (hts _ q148) (by decide +kernel) ⟨Nat.le_of_ble_eq_true rfl, Nat.le_of_ble_eq_true rfl⟩, hts _ q1013, trivial⟩ ⟨wPc.blind, w_pre hC hM hS _⟩ rfl rfl hl.1 rfl (lv_room (Nat.le_of_ble_eq_true rfl)) dX5_advance_111 (w_room0 hB)) hS (w_room0 hB) (fun _ _ _ _ _ _ h => False.elim h) (fun r7 M5 H locs hp hM hS => ?_)
    refine x_ifeqB (tgt := 144) hx hb dX5_advance_114 (by decide) (fun hc => ?_) (fun hc => ?_)
    · have hp := oIf.bf hp hc
      refine lv_aload_n hx hb dX5_advance_144 rfl (lv_at hl 0 rfl) ?_
      refine lv_aload_n hx hb dX5_advance_145 rfl (lv_at hl 1 rfl) ?_
      obtain ⟨hrec, hp⟩ := hp
      obtain ⟨c9, hc1, hp⟩ := hp
      refine x_callR (vx_runV (As := []) (rest := [.ref x0]) X (P_J18_toString_ok (l := l) hl0 hp) (cwV 0 hts (lw_V q1128 q769 q770 q170 q771) rfl rfl rfl (by decide +kernel) ⟨Nat.le_of_ble_eq_true rfl, Nat.le_of_ble_eq_true rfl⟩) ⟨wPc.blind, w_recv hC.1 hM (ci := 23) (q := (RJ18, TJ18, 4)) rfl hrec, w_pre hC hM hS _⟩ rfl rfl hl.1 rfl (lv_room (Nat.le_of_ble_eq_true rfl)) dX5_advance_146 (w_room hB hc1)) hS hB hc1 (fun _ _ _ _ _ _ h => False.elim h) (fun r10 M8 H locs hp hM hS hB => ?_)
      refine x_put X hC.1 hM hS (ci := 4) (C := RX5) (T := TX5) (N := 9) rfl in_X5 tyX5 tyX5_ok nmX5 7 (by decide) q1136 (fun _ h9 => h9) rfl (w_nobj _ r10) (w_fobj _ r10) dX5_advance_149 hp (fun M11 H locs hM hS hp => ?_)
      refine lv_aload_n hx hb dX5_advance_152 rfl (lv_at hl 0 rfl) ?_
      refine lv_iconst (v := 1) hx hb dX5_advance_153 (by decide) ?_
      refine x_put X hC.1 hM hS (ci := 4) (C := RX5) (T := TX5) (N := 9) rfl in_X5 tyX5 tyX5_ok nmX5 5 (by decide) q1134 (fun _ h9 => h9) rfl rfl rfl dX5_advance_154 hp (fun M12 H locs hM hS hp => ?_)
      refine lv_goto (tgt := 288) hx hb dX5_advance_157 (by decide) ?_
      exact hB288 _ _ _ _ _ _ _ hp hM hS hB (lv_sub hl [] rfl)
    · have hp := oIf.bt hp hc
      refine lv_aload_n hx hb dX5_advance_117 rfl (lv_at hl 1 rfl) ?_
      refine lv_aload_n hx hb dX5_advance_118 rfl (lv_at hl 0 rfl) ?_
      refine lv_aload_n hx hb dX5_advance_119 rfl (lv_at hl 0 rfl) ?_
      refine x_getI X hC.1 hM (ci := 4) (C := RX5) (T := TX5) (N := 9) rfl in_X5 3 (by decide) q1132 (fun _ h9 => h9) dX5_advance_120 hp (fun v13 hp => ?_)
      obtain ⟨hrec, hp⟩ := hp
      refine x_call0I (vx_runV (As := [.int v13]) (rest := [.ref x2]) X (P_X5_byteAt_ok (l := l) hl0 hp) (cwV 1 hts (lw_V q1101 q1103 qs11 q179 q1104) rfl rfl rfl (by decide +kernel) ⟨Nat.le_of_ble_eq_true rfl, Nat.le_of_ble_eq_true rfl⟩) ⟨wPc.blind, w_recv hC.1 hM (ci := 4) (q := (RX5, TX5, 9)) rfl hrec, w_pre hC hM hS _⟩ rfl rfl hl.1 rfl (lv_room (Nat.le_of_ble_eq_true rfl)) dX5_advance_123 (w_room0 hB)) hS (w_room0 hB) (fun _ _ _ _ _ _ h => False.elim h) (fun v16 M14 H locs hp hM hS => ?_)
      refine lv_i2c (v := ((v16.toUInt32 % 65536).toInt32)) hx hb dX5_advance_126 rfl ?_
      obtain ⟨hrec, hp⟩ := hp
      obtain ⟨c18, hc1, hp⟩ := hp
      refine x_callR (vx_runV (As := [.int ((v16.toUInt32 % 65536).toInt32)]) (rest := []) X (P_J18_append_3_ok (l := l) hl0 hp) (cwV 1 hts (lw_V q1108 q1109 q1110 q170 q1111) rfl rfl rfl (by decide +kernel) ⟨Nat.le_of_ble_eq_true rfl, Nat.le_of_ble_eq_true rfl⟩) ⟨wPc.blind, w_recv hC.1 hM (ci := 23) (q := (RJ18, TJ18, 4)) rfl hrec, w_pre hC hM hS _⟩ rfl rfl hl.1 rfl (lv_room (Nat.le_of_ble_eq_true rfl)) dX5_advance_127 (w_room hB hc1)) hS hB hc1 (fun _ _ _ _ _ _ h => False.elim h) (fun r19 M17 H locs hp hM hS hB => ?_)
      refine lv_pop hx hb dX5_advance_130 (w_cat _) ?_
      refine lv_aload_n hx hb dX5_advance_131 rfl (lv_at hl 0 rfl) ?_
      refine lv_dup hx hb dX5_advance_132 rfl ?_
      refine x_getI X hC.1 hM (ci := 4) (C := RX5) (T := TX5) (N := 9) rfl in_X5 3 (by decide) q1132 (fun _ h9 => h9) dX5_advance_133 hp (fun v20 hp => ?_)
      refine lv_iconst (v := 1) hx hb dX5_advance_136 (by decide) ?_
      refine lv_iadd hx hb dX5_advance_137 ?_
      refine x_put X hC.1 hM hS (ci := 4) (C := RX5) (T := TX5) (N := 9) rfl in_X5 tyX5 tyX5_ok nmX5 3 (by decide) q1132 (fun _ h9 => h9) rfl rfl rfl dX5_advance_138 hp (fun M21 H locs hM hS hp => ?_)
      refine lv_goto (tgt := 99) hx hb dX5_advance_141 (by decide) ?_
      exact hrec99 _ _ _ _ _ _ _ _ _ hp hM hS hB (lv_sub hl [0, 1] rfl)
  have hL99 : ∀ (n : Nat), ∀ (x0 : Nat) (x2 : Nat) (M : wM) (bq : Nat) (H : Heap) (locs : List Loc) (ls : Array Slot) (cells slots : Nat), L_X5_advance_99 G Q n x0 x2 M bq → wR G M H → va_S (wA G) s.heap H locs → (cells + bq ≤ ((headSpec (ws_ yX5_advance cX5_advance 3 (none)) ({ frames := 18, cells := b, slots := b, locals := 534 })).room).cells ∧ slots + bq ≤ ((headSpec (ws_ yX5_advance cX5_advance 3 (none)) ({ frames := 18, cells := b, slots := b, locals := 534 })).room).slots) → lv_has ls 3 [(0, .ref x0), (2, .ref x2)] → W p l e (headSpec (ws_ yX5_advance cX5_advance 3 (none)) ({ frames := 18, cells := b, slots := b, locals := 534 })).room s m ([.ref t0] : List Value).toArray below meth c H locs cells slots (vx_MQ below (wQ G (wqV Q)) (wXC G wX0) ([.ref t0] : List Value).toArray s b b (wA G)) (F0 m 99 ls []) := by
    intro n
    induction n with
    | zero => intro _ _ _ _ _ _ _ _ _ hp; exact False.elim hp
    | succ n ih => intro x0 x2 M bq H locs ls cells slots hp hM hS hB hl; exact hB99 (L_X5_advance_99 G Q n) ih _ _ _ _ _ _ _ _ _ hp hM hS hB hl
  have hB0 : ∀ (rec0 : Nat → wM → Nat → Prop) (hrec0 : ∀ (x0 : Nat) (M : wM) (bq : Nat) (H : Heap) (locs : List Loc) (ls : Array Slot) (cells slots : Nat), rec0 x0 M bq → wR G M H → va_S (wA G) s.heap H locs → (cells + bq ≤ ((headSpec (ws_ yX5_advance cX5_advance 3 (none)) ({ frames := 18, cells := b, slots := b, locals := 534 })).room).cells ∧ slots + bq ≤ ((headSpec (ws_ yX5_advance cX5_advance 3 (none)) ({ frames := 18, cells := b, slots := b, locals := 534 })).room).slots) → lv_has ls 3 [(0, .ref x0)] → W p l e (headSpec (ws_ yX5_advance cX5_advance 3 (none)) ({ frames := 18, cells := b, slots := b, locals := 534 })).room s m ([.ref t0] : List Value).toArray below meth c H locs cells slots (vx_MQ below (wQ G (wqV Q)) (wXC G wX0) ([.ref t0] : List Value).toArray s b b (wA G)) (F0 m 0 ls [])), ∀ (x0 : Nat) (M : wM) (bq : Nat) (H : Heap) (locs : List Loc) (ls : Array Slot) (cells slots : Nat), B_X5_advance_0 G rec0 Q x0 M bq → wR G M H → va_S (wA G) s.heap H locs → (cells + bq ≤ ((headSpec (ws_ yX5_advance cX5_advance 3 (none)) ({ frames := 18, cells := b, slots := b, locals := 534 })).room).cells ∧ slots + bq ≤ ((headSpec (ws_ yX5_advance cX5_advance 3 (none)) ({ frames := 18, cells := b, slots := b, locals := 534 })).room).slots) → lv_has ls 3 [(0, .ref x0)] → W p l e (headSpec (ws_ yX5_advance cX5_advance 3 (none)) ({ frames := 18, cells := b, slots := b, locals := 534 })).room s m ([.ref t0] : List Value).toArray below meth c H locs cells slots (vx_MQ below (wQ G (wqV Q)) (wXC G wX0) ([.ref t0] : List Value).toArray s b b (wA G)) (F0 m 0 ls []) := by
    intro rec0 hrec0 x0 M bq H locs ls cells slots hp hM hS hB hl
    refine lv_aload_n hx hb dX5_advance_0 rfl (lv_at hl 0 rfl) ?_
    refine lv_aload_n hx hb dX5_advance_1 rfl (lv_at hl 0 rfl) ?_
    refine x_getI X hC.1 hM (ci := 4) (C := RX5) (T := TX5) (N := 9) rfl in_X5 3 (by decide) q1132 (fun _ h9 => h9) dX5_advance_2 hp (fun v1 hp => ?_)
    obtain ⟨hrec, hp⟩ := hp
    refine x_call0I (vx_runV (As := [.int v1]) (rest := []) X (P_X5_byteAt_ok (l := l) hl0 hp) (cwV 1 hts (lw_V q1101 q1103 qs11 q179 q1104) rfl rfl rfl (by decide +kernel) ⟨Nat.le_of_ble_eq_true rfl, Nat.le_of_ble_eq_true rfl⟩) ⟨wPc.blind, w_recv hC.1 hM (ci := 4) (q := (RX5, TX5, 9)) rfl hrec, w_pre hC hM hS _⟩ rfl rfl hl.1 rfl (lv_room (Nat.le_of_ble_eq_true rfl)) dX5_advance_5 (w_room0 hB)) hS (w_room0 hB) (fun _ _ _ _ _ _ h => False.elim h) (fun v4 M2 H locs hp hM hS => ?_)
    refine lv_bipush (v := 32) hx hb dX5_advance_8 (by decide) ?_
    refine lv_icmp_eq (tgt := 26) hx hb dX5_advance_10 (by decide) (fun hc => ?_) (fun hc => ?_)
    · have hp := oIf.t hp hc
      exact hB26 rec0 hrec0 _ _ _ _ _ _ _ _ hp hM hS hB (lv_sub hl [0] rfl)
    · have hp := oIf.f hp hc
      refine lv_aload_n hx hb dX5_advance_13 rfl (lv_at hl 0 rfl) ?_
      refine lv_aload_n hx hb dX5_advance_14 rfl (lv_at hl 0 rfl) ?_
      refine x_getI X hC.1 hM (ci := 4) (C := RX5) (T := TX5) (N := 9) rfl in_X5 3 (by decide) q1132 (fun _ h9 => h9) dX5_advance_15 hp (fun v5 hp => ?_)
      obtain ⟨hrec, hp⟩ := hp
      refine x_call0I (vx_runV (As := [.int v5]) (rest := []) X (P_X5_byteAt_ok (l := l) hl0 hp) (cwV 1 hts (lw_V q1101 q1103 qs11 q179 q1104) rfl rfl rfl (by decide +kernel) ⟨Nat.le_of_ble_eq_true rfl, Nat.le_of_ble_eq_true rfl⟩) ⟨wPc.blind, w_recv hC.1 hM (ci := 4) (q := (RX5, TX5, 9)) rfl hrec, w_pre hC hM hS _⟩ rfl rfl hl.1 rfl (lv_room (Nat.le_of_ble_eq_true rfl)) dX5_advance_18 (w_room0 hB)) hS (w_room0 hB) (fun _ _ _ _ _ _ h => False.elim h) (fun v8 M6 H locs hp hM hS => ?_)
      refine lv_bipush (v := 10) hx hb dX5_advance_21 (by decide) ?_
      refine lv_icmp_ne (tgt := 39) hx hb dX5_advance_23 (by decide) (fun hc => ?_) (fun hc => ?_)
      · have hp := oIf.f hp hc
        refine lv_aload_n hx hb dX5_advance_39 rfl (lv_at hl 0 rfl) ?_
        refine lv_aload_n hx hb dX5_advance_40 rfl (lv_at hl 0 rfl) ?_
        refine x_getI X hC.1 hM (ci := 4) (C := RX5) (T := TX5) (N := 9) rfl in_X5 3 (by decide) q1132 (fun _ h9 => h9) dX5_advance_41 hp (fun v9 hp => ?_)
        refine x_put X hC.1 hM hS (ci := 4) (C := RX5) (T := TX5) (N := 9) rfl in_X5 tyX5 tyX5_ok nmX5 4 (by decide) q1133 (fun _ h9 => h9) rfl rfl rfl dX5_advance_44 hp (fun M10 H locs hM hS hp => ?_)
        refine lv_aload_n hx hb dX5_advance_47 rfl (lv_at hl 0 rfl) ?_
        refine lv_aload_n hx hb dX5_advance_48 rfl (lv_at hl 0 rfl) ?_
        refine x_getI X hC.1 hM (ci := 4) (C := RX5) (T := TX5) (N := 9) rfl in_X5 3 (by decide) q1132 (fun _ h9 => h9) dX5_advance_49 hp (fun v11 hp => ?_)
        obtain ⟨hrec, hp⟩ := hp
        refine x_call0I (vx_runV (As := [.int v11]) (rest := []) X (P_X5_byteAt_ok (l := l) hl0 hp) (cwV 1 hts (lw_V q1101 q1103 qs11 q179 q1104) rfl rfl rfl (by decide +kernel) ⟨Nat.le_of_ble_eq_true rfl, Nat.le_of_ble_eq_true rfl⟩) ⟨wPc.blind, w_recv hC.1 hM (ci := 4) (q := (RX5, TX5, 9)) rfl hrec, w_pre hC hM hS _⟩ rfl rfl hl.1 rfl (lv_room (Nat.le_of_ble_eq_true rfl)) dX5_advance_52 (w_room0 hB)) hS (w_room0 hB) (fun _ _ _ _ _ _ h => False.elim h) (fun v14 M12 H locs hp hM hS => ?_)
        refine lv_istore_n (lv' := [(1, .int v14), (0, .ref x0)]) hx hb dX5_advance_55 rfl hl (by decide) rfl (fun ls hl => ?_)
        refine lv_aload_n hx hb dX5_advance_56 rfl (lv_at hl 1 rfl) ?_
        refine x_ldcS X hC.1 (k := 26) (tx := "") (List.mem_of_getElem? (i := 16) rfl) dX5_advance_57 ?_
        refine x_put X hC.1 hM hS (ci := 4) (C := RX5) (T := TX5) (N := 9) rfl in_X5 tyX5 tyX5_ok nmX5 7 (by decide) q1136 (fun _ h9 => h9) rfl rfl rfl dX5_advance_59 hp (fun M15 H locs hM hS hp => ?_)
        refine lv_aload_n hx hb dX5_advance_62 rfl (lv_at hl 1 rfl) ?_
        refine lv_iconst (v := 0) hx hb dX5_advance_63 (by decide) ?_
        refine x_put X hC.1 hM hS (ci := 4) (C := RX5) (T := TX5) (N := 9) rfl in_X5 tyX5 tyX5_ok nmX5 6 (by decide) q1135 (fun _ h9 => h9) rfl rfl rfl dX5_advance_64 hp (fun M16 H locs hM hS hp => ?_)
        refine lv_iload_n hx hb dX5_advance_67 rfl (lv_at hl 0 rfl) ?_
        refine lv_iconst (v := (-1)) hx hb dX5_advance_68 (by decide) ?_
        refine lv_icmp_ne (tgt := 80) hx hb dX5_advance_69 (by decide) (fun hc => ?_) (fun hc => ?_)
        · have hp := oIf.f hp hc
          refine lv_iload_n hx hb dX5_advance_80 rfl (lv_at hl 0 rfl) ?_
          refine lv_bipush (v := 97) hx hb dX5_advance_81 (by decide) ?_
          refine lv_bipush (v := 122) hx hb dX5_advance_83 (by decide) ?_
          refine x_call0Z (vx_runSN (As := [.int v14, .int (97 : Int32), .int (122 : Int32)]) (rest := []) X (P_X1_inRange_ok (l := l) hl0 hp) ⟨va_cnB 3 hts (lw_meth q1014) rfl rfl rfl (hC.1.2.2.1 _ q1105 rfl) (hts _ q148) (by decide +kernel) ⟨Nat.le_of_ble_eq_true rfl, Nat.le_of_ble_eq_true rfl⟩, hts _ q1013, trivial⟩ ⟨wPc.blind, w_pre hC hM hS _⟩ rfl rfl hl.1 rfl (lv_room (Nat.le_of_ble_eq_true rfl)) dX5_advance_85 (w_room0 hB)) hS (w_room0 hB) (fun _ _ _ _ _ _ h => False.elim h) (fun r19 M17 H locs hp hM hS => ?_)
          refine x_ifeqB (tgt := 160) hx hb dX5_advance_88 (by decide) (fun hc => ?_) (fun hc => ?_)
          · have hp := oIf.bf hp hc
            refine lv_iload_n hx hb dX5_advance_160 rfl (lv_at hl 0 rfl) ?_
            refine lv_bipush (v := 48) hx hb dX5_advance_161 (by decide) ?_
            refine lv_bipush (v := 57) hx hb dX5_advance_163 (by decide) ?_
            refine x_call0Z (vx_runSN (As := [.int v14, .int (48 : Int32), .int (57 : Int32)]) (rest := []) X (P_X1_inRange_ok (l := l) hl0 hp) ⟨va_cnB 3 hts (lw_meth q1014) rfl rfl rfl (hC.1.2.2.1 _ q1105 rfl) (hts _ q148) (by decide +kernel) ⟨Nat.le_of_ble_eq_true rfl, Nat.le_of_ble_eq_true rfl⟩, hts _ q1013, trivial⟩ ⟨wPc.blind, w_pre hC hM hS _⟩ rfl rfl hl.1 rfl (lv_room (Nat.le_of_ble_eq_true rfl)) dX5_advance_165 (w_room0 hB)) hS (w_room0 hB) (fun _ _ _ _ _ _ h => False.elim h) (fun r22 M20 H locs hp hM hS => ?_)
            refine x_ifeqB (tgt := 263) hx hb dX5_advance_168 (by decide) (fun hc => ?_) (fun hc => ?_)
            · have hp := oIf.bf hp hc
              refine lv_aload_n hx hb dX5_advance_263 rfl (lv_at hl 1 rfl) ?_
              refine lv_iload_n hx hb dX5_advance_264 rfl (lv_at hl 0 rfl) ?_
              refine lv_bipush (v := 59) hx hb dX5_advance_265 (by decide) ?_
              refine lv_icmp_ne (tgt := 274) hx hb dX5_advance_267 (by decide) (fun hc => ?_) (fun hc => ?_)
              · have hp := oIf.f hp hc
                refine lv_iconst (v := 4) hx hb dX5_advance_274 (by decide) ?_
                exact hB275 _ _ _ _ _ _ _ _ _ _ hp hM hS hB (lv_sub hl [1] rfl)
              · have hp := oIf.t hp hc
                refine lv_iconst (v := 3) hx hb dX5_advance_270 (by decide) ?_
                refine lv_goto (tgt := 275) hx hb dX5_advance_271 (by decide) ?_
                exact hB275 _ _ _ _ _ _ _ _ _ _ hp hM hS hB (lv_sub hl [1] rfl)
            · have hp := oIf.bt hp hc
              obtain ⟨n, hp⟩ := hp
              exact hL171 n _ _ _ _ _ _ _ _ hp hM hS hB (lv_sub hl [1] rfl)
          · have hp := oIf.bt hp hc
            refine x_new X hC hM hS hB (ci := 23) (C := RJ18) (T := TJ18) (N := 4) rfl in_J18 tyJ18 tyJ18_ok q1106 q599 q170 rfl (by decide) dX5_advance_91 hp (fun a23 M24 H b25 cells slots hM hS hB hp => ?_)
            refine lv_dup hx hb dX5_advance_94 rfl ?_
            obtain ⟨c27, hc1, hp⟩ := hp
            refine x_callV (vx_runI (As := []) (rest := [.ref a23]) X (P_J18_init_ok (l := l) hl0 hp) (cwI 0 hts (lw_meth q602) rfl rfl rfl (hts _ q170) (hts _ q1107) (hts _ q601) rfl (by decide +kernel) ⟨Nat.le_of_ble_eq_true rfl, Nat.le_of_ble_eq_true rfl⟩) ⟨wPc.blind, w_pre hC hM hS _⟩ rfl rfl hl.1 rfl (lv_room (Nat.le_of_ble_eq_true rfl)) dX5_advance_95 (w_room hB hc1)) hS hB hc1 (fun _ _ _ _ _ _ h => False.elim h) (fun M26 H locs hp hM hS hB => ?_)
            refine lv_astore_n (lv' := [(2, .ref a23), (1, .int v14), (0, .ref x0)]) hx hb dX5_advance_98 rfl hl (by decide) rfl (fun ls hl => ?_)
            obtain ⟨n, hp⟩ := hp
            exact hL99 n _ _ _ _ _ _ _ _ _ hp hM hS hB (lv_sub hl [2, 0] rfl)
        · have hp := oIf.t hp hc
          refine lv_aload_n hx hb dX5_advance_72 rfl (lv_at hl 1 rfl) ?_
          refine lv_iconst (v := 0) hx hb dX5_advance_73 (by decide) ?_
          refine x_put X hC.1 hM hS (ci := 4) (C := RX5) (T := TX5) (N := 9) rfl in_X5 tyX5 tyX5_ok nmX5 5 (by decide) q1134 (fun _ h9 => h9) rfl rfl rfl dX5_advance_74 hp (fun M28 H locs hM hS hp => ?_)
          refine lv_goto (tgt := 288) hx hb dX5_advance_77 (by decide) ?_
          exact hB288 _ _ _ _ _ _ _ hp hM hS hB (lv_sub hl [] rfl)
      · have hp := oIf.t hp hc
        exact hB26 rec0 hrec0 _ _ _ _ _ _ _ _ hp hM hS hB (lv_sub hl [0] rfl)
  have hL0 : ∀ (n : Nat), ∀ (x0 : Nat) (M : wM) (bq : Nat) (H : Heap) (locs : List Loc) (ls : Array Slot) (cells slots : Nat), L_X5_advance_0 G Q n x0 M bq → wR G M H → va_S (wA G) s.heap H locs → (cells + bq ≤ ((headSpec (ws_ yX5_advance cX5_advance 3 (none)) ({ frames := 18, cells := b, slots := b, locals := 534 })).room).cells ∧ slots + bq ≤ ((headSpec (ws_ yX5_advance cX5_advance 3 (none)) ({ frames := 18, cells := b, slots := b, locals := 534 })).room).slots) → lv_has ls 3 [(0, .ref x0)] → W p l e (headSpec (ws_ yX5_advance cX5_advance 3 (none)) ({ frames := 18, cells := b, slots := b, locals := 534 })).room s m ([.ref t0] : List Value).toArray below meth c H locs cells slots (vx_MQ below (wQ G (wqV Q)) (wXC G wX0) ([.ref t0] : List Value).toArray s b b (wA G)) (F0 m 0 ls []) := by
    intro n
    induction n with
    | zero => intro _ _ _ _ _ _ _ _ hp; exact False.elim hp
    | succ n ih => intro x0 M bq H locs ls cells slots hp hM hS hB hl; exact hB0 (L_X5_advance_0 G Q n) ih _ _ _ _ _ _ _ _ hp hM hS hB hl
  obtain ⟨n, hp⟩ := hp
  exact hL0 n _ _ _ _ _ _ _ _ hp hM hS hB (lv_sub hl [0] rfl)
def P_X5_init (G : wG) (t0 : Nat) (p1 : Nat) (b : Nat) (M : wM) (Q : wM → Prop) : Prop :=
  oPut G M t0 4 8 (.ref p1) (fun M1 => oNewa G M1 b (.object "java/lang/String") (.inr (.inr (.inr (.inr (fun _ => none))))) (16 : Int32) (fun a2 M3 b4 => oAast G (.object "java/lang/String") M3 a2 (0 : Int32) (some (G.2.2.2 10)) (fun M5 => oAast G (.object "java/lang/String") M5 a2 (1 : Int32) (some (G.2.2.2 11)) (fun M6 => oAast G (.object "java/lang/String") M6 a2 (2 : Int32) (some (G.2.2.2 12)) (fun M7 => oAast G (.object "java/lang/String") M7 a2 (3 : Int32) (some (G.2.2.2 13)) (fun M8 => oAast G (.object "java/lang/String") M8 a2 (4 : Int32) (some (G.2.2.2 14)) (fun M9 => oAast G (.object "java/lang/String") M9 a2 (5 : Int32) (some (G.2.2.2 15)) (fun M10 => oAast G (.object "java/lang/String") M10 a2 (6 : Int32) (some (G.2.2.2 16)) (fun M11 => oAast G (.object "java/lang/String") M11 a2 (7 : Int32) (some (G.2.2.2 17)) (fun M12 => oAast G (.object "java/lang/String") M12 a2 (8 : Int32) (some (G.2.2.2 18)) (fun M13 => oAast G (.object "java/lang/String") M13 a2 (9 : Int32) (some (G.2.2.2 19)) (fun M14 => oAast G (.object "java/lang/String") M14 a2 (10 : Int32) (some (G.2.2.2 20)) (fun M15 => oAast G (.object "java/lang/String") M15 a2 (11 : Int32) (some (G.2.2.2 21)) (fun M16 => oAast G (.object "java/lang/String") M16 a2 (12 : Int32) (some (G.2.2.2 22)) (fun M17 => oAast G (.object "java/lang/String") M17 a2 (13 : Int32) (some (G.2.2.2 23)) (fun M18 => oAast G (.object "java/lang/String") M18 a2 (14 : Int32) (some (G.2.2.2 24)) (fun M19 => oAast G (.object "java/lang/String") M19 a2 (15 : Int32) (some (G.2.2.2 25)) (fun M20 => ∃ c22, c22 ≤ b4 ∧ P_J26_of G a2 c22 M20 (fun r23 M21 => oPut G M21 t0 4 0 (va_rf r23) (fun M24 => oNew G M24 (b4 - c22) 2 [.null, .null, .null, .null, .null, .int 0, .int 0, .int 0] (fun a25 M26 b27 => ∃ c29, c29 ≤ b27 ∧ P_X3_init G a25 c29 M26 (fun M28 => oPut G M28 t0 4 1 (.ref a25) (fun M30 => oNew G M30 (b27 - c29) 21 [.null, .int 0, .int 0] (fun a31 M32 b33 => ∃ c35, c35 ≤ b33 ∧ P_J9_init G a31 c35 M32 (fun M34 => oPut G M34 t0 4 2 (.ref a31) (fun M36 => oPut G M36 t0 4 7 (.ref (G.2.2.2 26)) (fun M37 => oIs M37 t0 4 (∃ c39, c39 ≤ (b33 - c35) ∧ P_X5_advance G t0 c39 M37 (fun M38 => Q M38)))))))))))))))))))))))))))))
set_option maxHeartbeats 4000000 in
set_option maxRecDepth 100000 in
theorem P_X5_init_ok {l : Launch} (hl0 : l.stackTraces = false) {G : wG} {t0 : Nat} {p1 : Nat} {b : Nat} {M : wM} {Q : wM → Prop} (hp : P_X5_init G t0 p1 b M Q) : wMet l yX5_init (ws_ yX5_init cX5_init 2 (none)) 19 556 G [.ref t0, .ref p1] M b (wqV Q) wX0 := by
  refine vx_ofW (cc := cX5_init) (maxL := 2) (ret := none) (by decide) rfl ?_
  intro p e s m args below meth c s₁ B hml hnt hv
  obtain ⟨rfl, hM, hK, hZ, hz⟩ := hv
  have hC : wC G s := ⟨hK, hZ, hz⟩
  have hx := B.exec
  have hb := B.bytes
  have hr := B.returns
  have hts := atoms_spec (ws := (ws_ yX5_init cX5_init 2 (none))) B.pre
  have hts : ∀ w ∈ lw_all, w.before _ s = true := fun w h => hts w (List.mem_cons_of_mem _ h)
  have hown : s.vm.findClass RX5 = some m.cls := findClass_of_methodNamed B.named
  have hlk := B.notSynchronized
  have hin0 : meth.name = "<init>" := (name_of_methodNamed B.named B.method).1
  have X : CallFix p m c cX5_init 2 s ([.ref t0, .ref p1] : List Value).toArray lw_all RX5 := ⟨hx, hb, hml, hown, hts⟩
  have hS : va_S (wA G) s.heap s.heap [] := va_S.rf
  have hl := lv_entry ([.ref t0, .ref p1]) (n := 2) (Nat.le_of_ble_eq_true rfl)
  rw [lg_entry_eq]
  generalize (lg_sl ([.ref t0, .ref p1]) ++ List.replicate (2 - (lg_sl ([.ref t0, .ref p1])).length) Slot.unset).toArray = ls at hl ⊢
  have hl : lv_has ls 2 [(0, .ref t0), (1, .ref p1)] := hl
  have hB : 0 + b ≤ ((headSpec (ws_ yX5_init cX5_init 2 (none)) ({ frames := 19, cells := b, slots := b, locals := 556 })).room).cells ∧ 0 + b ≤ ((headSpec (ws_ yX5_init cX5_init 2 (none)) ({ frames := 19, cells := b, slots := b, locals := 556 })).room).slots := ⟨Nat.le_of_eq (Nat.zero_add b), Nat.le_of_eq (Nat.zero_add b)⟩
  refine lv_aload_n hx hb dX5_init_0 rfl (lv_at hl 0 rfl) ?_
  refine lv_aload_n hx hb dX5_init_1 rfl (lv_at hl 1 rfl) ?_
  refine x_putF X hC.1 hM hS (ci := 4) (C := RX5) (T := TX5) (N := 9) rfl in_X5 tyX5 tyX5_ok nmX5 8 (by decide) q1137 (fun _ h9 => h9) rfl hin0 rfl rfl rfl dX5_init_2 hp (fun M1 H locs hM hS hp => ?_)
  refine lv_aload_n hx hb dX5_init_5 rfl (lv_at hl 0 rfl) ?_
  refine W.objInit hx hb hown (hts _ q1025) (hts _ q218) (hts _ q219) rfl (by rw [hml]; exact hl.1) rfl dX5_init_6 (Nat.le_of_ble_eq_true rfl) (Nat.le_of_ble_eq_true rfl) ?_
  refine W.eq (g2 := F0 m 9 ls []) rfl ?_
  refine lv_aload_n hx hb dX5_init_9 rfl (lv_at hl 0 rfl) ?_
  refine lv_bipush (v := 16) hx hb dX5_init_10 (by decide) ?_
  refine x_newq X hC hM hS hB q1026 hC.1.2.2.2.2.1.2 (by decide) dX5_init_12 hp (fun a2 M3 H b4 cells slots hM hS hB hp => ?_)
  refine lv_dup hx hb dX5_init_15 rfl ?_
  refine lv_iconst (v := 0) hx hb dX5_init_16 (by decide) ?_
  refine x_ldcS X hC.1 (k := 10) (tx := "zone") (List.mem_of_getElem? (i := 0) rfl) dX5_init_17 ?_
  refine x_aast (r := (some (G.2.2.2 10))) X hC hM hS w_obj (C := "java/lang/String") (by decide) dX5_init_19 hp (fun M5 H locs hM hS hp => ?_)
  refine lv_dup hx hb dX5_init_20 rfl ?_
  refine lv_iconst (v := 1) hx hb dX5_init_21 (by decide) ?_
  refine x_ldcS X hC.1 (k := 11) (tx := "limit") (List.mem_of_getElem? (i := 1) rfl) dX5_init_22 ?_
  refine x_aast (r := (some (G.2.2.2 11))) X hC hM hS w_obj (C := "java/lang/String") (by decide) dX5_init_24 hp (fun M6 H locs hM hS hp => ?_)
  refine lv_dup hx hb dX5_init_25 rfl ?_
  refine lv_iconst (v := 2) hx hb dX5_init_26 (by decide) ?_
  refine x_ldcS X hC.1 (k := 12) (tx := "hours") (List.mem_of_getElem? (i := 2) rfl) dX5_init_27 ?_
  refine x_aast (r := (some (G.2.2.2 12))) X hC hM hS w_obj (C := "java/lang/String") (by decide) dX5_init_29 hp (fun M7 H locs hM hS hp => ?_)
  refine lv_dup hx hb dX5_init_30 rfl ?_
  refine lv_iconst (v := 3) hx hb dX5_init_31 (by decide) ?_
  refine x_ldcS X hC.1 (k := 13) (tx := "grace") (List.mem_of_getElem? (i := 3) rfl) dX5_init_32 ?_
  refine x_aast (r := (some (G.2.2.2 13))) X hC hM hS w_obj (C := "java/lang/String") (by decide) dX5_init_34 hp (fun M8 H locs hM hS hp => ?_)
  refine lv_dup hx hb dX5_init_35 rfl ?_
  refine lv_iconst (v := 4) hx hb dX5_init_36 (by decide) ?_
  refine x_ldcS X hC.1 (k := 14) (tx := "street") (List.mem_of_getElem? (i := 4) rfl) dX5_init_37 ?_
  refine x_aast (r := (some (G.2.2.2 14))) X hC hM hS w_obj (C := "java/lang/String") (by decide) dX5_init_39 hp (fun M9 H locs hM hS hp => ?_)
  refine lv_dup hx hb dX5_init_40 rfl ?_
  refine lv_iconst (v := 5) hx hb dX5_init_41 (by decide) ?_
  refine x_ldcS X hC.1 (k := 15) (tx := "in") (List.mem_of_getElem? (i := 5) rfl) dX5_init_42 ?_
  refine x_aast (r := (some (G.2.2.2 15))) X hC hM hS w_obj (C := "java/lang/String") (by decide) dX5_init_44 hp (fun M10 H locs hM hS hp => ?_)
  refine lv_dup hx hb dX5_init_45 rfl ?_
  refine lv_bipush (v := 6) hx hb dX5_init_46 (by decide) ?_
  refine x_ldcS X hC.1 (k := 16) (tx := "spaces") (List.mem_of_getElem? (i := 6) rfl) dX5_init_48 ?_
  refine x_aast (r := (some (G.2.2.2 16))) X hC hM hS w_obj (C := "java/lang/String") (by decide) dX5_init_50 hp (fun M11 H locs hM hS hp => ?_)
  refine lv_dup hx hb dX5_init_51 rfl ?_
  refine lv_bipush (v := 7) hx hb dX5_init_52 (by decide) ?_
  refine x_ldcS X hC.1 (k := 17) (tx := "with") (List.mem_of_getElem? (i := 7) rfl) dX5_init_54 ?_
  refine x_aast (r := (some (G.2.2.2 17))) X hC hM hS w_obj (C := "java/lang/String") (by decide) dX5_init_56 hp (fun M12 H locs hM hS hp => ?_)
  refine lv_dup hx hb dX5_init_57 rfl ?_
  refine lv_bipush (v := 8) hx hb dX5_init_58 (by decide) ?_
  refine x_ldcS X hC.1 (k := 18) (tx := "house") (List.mem_of_getElem? (i := 8) rfl) dX5_init_60 ?_
  refine x_aast (r := (some (G.2.2.2 18))) X hC hM hS w_obj (C := "java/lang/String") (by decide) dX5_init_62 hp (fun M13 H locs hM hS hp => ?_)
  refine lv_dup hx hb dX5_init_63 rfl ?_
  refine lv_bipush (v := 9) hx hb dX5_init_64 (by decide) ?_
  refine x_ldcS X hC.1 (k := 19) (tx := "at") (List.mem_of_getElem? (i := 9) rfl) dX5_init_66 ?_
  refine x_aast (r := (some (G.2.2.2 19))) X hC hM hS w_obj (C := "java/lang/String") (by decide) dX5_init_68 hp (fun M14 H locs hM hS hp => ?_)
  refine lv_dup hx hb dX5_init_69 rfl ?_
  refine lv_bipush (v := 10) hx hb dX5_init_70 (by decide) ?_
  refine x_ldcS X hC.1 (k := 20) (tx := "cars") (List.mem_of_getElem? (i := 10) rfl) dX5_init_72 ?_
  refine x_aast (r := (some (G.2.2.2 20))) X hC hM hS w_obj (C := "java/lang/String") (by decide) dX5_init_74 hp (fun M15 H locs hM hS hp => ?_)
  refine lv_dup hx hb dX5_init_75 rfl ?_
  refine lv_bipush (v := 11) hx hb dX5_init_76 (by decide) ?_
  refine x_ldcS X hC.1 (k := 21) (tx := "book") (List.mem_of_getElem? (i := 11) rfl) dX5_init_78 ?_
  refine x_aast (r := (some (G.2.2.2 21))) X hC hM hS w_obj (C := "java/lang/String") (by decide) dX5_init_80 hp (fun M16 H locs hM hS hp => ?_)
  refine lv_dup hx hb dX5_init_81 rfl ?_
  refine lv_bipush (v := 12) hx hb dX5_init_82 (by decide) ?_
  refine x_ldcS X hC.1 (k := 22) (tx := "term") (List.mem_of_getElem? (i := 12) rfl) dX5_init_84 ?_
  refine x_aast (r := (some (G.2.2.2 22))) X hC hM hS w_obj (C := "java/lang/String") (by decide) dX5_init_86 hp (fun M17 H locs hM hS hp => ?_)
  refine lv_dup hx hb dX5_init_87 rfl ?_
  refine lv_bipush (v := 13) hx hb dX5_init_88 (by decide) ?_
  refine x_ldcS X hC.1 (k := 23) (tx := "offer") (List.mem_of_getElem? (i := 13) rfl) dX5_init_90 ?_
  refine x_aast (r := (some (G.2.2.2 23))) X hC hM hS w_obj (C := "java/lang/String") (by decide) dX5_init_92 hp (fun M18 H locs hM hS hp => ?_)
  refine lv_dup hx hb dX5_init_93 rfl ?_
  refine lv_bipush (v := 14) hx hb dX5_init_94 (by decide) ?_
  refine x_ldcS X hC.1 (k := 24) (tx := "renew") (List.mem_of_getElem? (i := 14) rfl) dX5_init_96 ?_
  refine x_aast (r := (some (G.2.2.2 24))) X hC hM hS w_obj (C := "java/lang/String") (by decide) dX5_init_98 hp (fun M19 H locs hM hS hp => ?_)
  refine lv_dup hx hb dX5_init_99 rfl ?_
  refine lv_bipush (v := 15) hx hb dX5_init_100 (by decide) ?_
  refine x_ldcS X hC.1 (k := 25) (tx := "fine") (List.mem_of_getElem? (i := 15) rfl) dX5_init_102 ?_
  refine x_aast (r := (some (G.2.2.2 25))) X hC hM hS w_obj (C := "java/lang/String") (by decide) dX5_init_104 hp (fun M20 H locs hM hS hp => ?_)
  obtain ⟨c22, hc1, hp⟩ := hp
  refine x_callR (vx_runS (As := [.ref a2]) (rest := [.ref t0]) X (P_J26_of_ok (l := l) hl0 hp) (va_cwS 1 hts (lw_S q1044 q1045 q180 q1046) rfl rfl rfl (by decide +kernel) ⟨Nat.le_of_ble_eq_true rfl, Nat.le_of_ble_eq_true rfl⟩) ⟨wPc.blind, w_pre hC hM hS _⟩ rfl rfl hl.1 rfl (lv_room (Nat.le_of_ble_eq_true rfl)) dX5_init_105 (w_room hB hc1)) hS hB hc1 (fun _ _ _ _ _ _ h => False.elim h) (fun r23 M21 H locs hp hM hS hB => ?_)
  refine x_putF X hC.1 hM hS (ci := 4) (C := RX5) (T := TX5) (N := 9) rfl in_X5 tyX5 tyX5_ok nmX5 0 (by decide) q1129 (fun _ h9 => h9) rfl hin0 rfl (w_nobj _ r23) (w_fobj _ r23) dX5_init_108 hp (fun M24 H locs hM hS hp => ?_)
  refine lv_aload_n hx hb dX5_init_111 rfl (lv_at hl 0 rfl) ?_
  refine x_new X hC hM hS hB (ci := 2) (C := RX3) (T := TX3) (N := 8) rfl in_X3 tyX3 tyX3_ok q1092 q223 q150 rfl (by decide) dX5_init_112 hp (fun a25 M26 H b27 cells slots hM hS hB hp => ?_)
  refine lv_dup hx hb dX5_init_115 rfl ?_
  obtain ⟨c29, hc1, hp⟩ := hp
  refine x_callV (vx_runI (As := []) (rest := [.ref a25, .ref t0]) X (P_X3_init_ok (l := l) hl0 hp) (cwI 0 hts (lw_meth q226) rfl rfl rfl (hts _ q150) (hts _ q1093) (hts _ q225) rfl (by decide +kernel) ⟨Nat.le_of_ble_eq_true rfl, Nat.le_of_ble_eq_true rfl⟩) ⟨wPc.blind, w_pre hC hM hS _⟩ rfl rfl hl.1 rfl (lv_room (Nat.le_of_ble_eq_true rfl)) dX5_init_116 (w_room hB hc1)) hS hB hc1 (fun _ _ _ _ _ _ h => False.elim h) (fun M28 H locs hp hM hS hB => ?_)
  refine x_putF X hC.1 hM hS (ci := 4) (C := RX5) (T := TX5) (N := 9) rfl in_X5 tyX5 tyX5_ok nmX5 1 (by decide) q1130 (fun _ h9 => h9) rfl hin0 rfl rfl rfl dX5_init_119 hp (fun M30 H locs hM hS hp => ?_)
  refine lv_aload_n hx hb dX5_init_122 rfl (lv_at hl 0 rfl) ?_
  refine x_new X hC hM hS hB (ci := 21) (C := RJ9) (T := TJ9) (N := 3) rfl in_J9 tyJ9 tyJ9_ok q1094 q469 q161 rfl (by decide) dX5_init_123 hp (fun a31 M32 H b33 cells slots hM hS hB hp => ?_)
  refine lv_dup hx hb dX5_init_126 rfl ?_
  obtain ⟨c35, hc1, hp⟩ := hp
  refine x_callV (vx_runI (As := []) (rest := [.ref a31, .ref t0]) X (P_J9_init_ok (l := l) hl0 hp) (cwI 0 hts (lw_meth q472) rfl rfl rfl (hts _ q161) (hts _ q1095) (hts _ q471) rfl (by decide +kernel) ⟨Nat.le_of_ble_eq_true rfl, Nat.le_of_ble_eq_true rfl⟩) ⟨wPc.blind, w_pre hC hM hS _⟩ rfl rfl hl.1 rfl (lv_room (Nat.le_of_ble_eq_true rfl)) dX5_init_127 (w_room hB hc1)) hS hB hc1 (fun _ _ _ _ _ _ h => False.elim h) (fun M34 H locs hp hM hS hB => ?_)
  refine x_putF X hC.1 hM hS (ci := 4) (C := RX5) (T := TX5) (N := 9) rfl in_X5 tyX5 tyX5_ok nmX5 2 (by decide) q1131 (fun _ h9 => h9) rfl hin0 rfl rfl rfl dX5_init_130 hp (fun M36 H locs hM hS hp => ?_)
  refine lv_aload_n hx hb dX5_init_133 rfl (lv_at hl 0 rfl) ?_
  refine x_ldcS X hC.1 (k := 26) (tx := "") (List.mem_of_getElem? (i := 16) rfl) dX5_init_134 ?_
  refine x_put X hC.1 hM hS (ci := 4) (C := RX5) (T := TX5) (N := 9) rfl in_X5 tyX5 tyX5_ok nmX5 7 (by decide) q1136 (fun _ h9 => h9) rfl rfl rfl dX5_init_136 hp (fun M37 H locs hM hS hp => ?_)
  refine lv_aload_n hx hb dX5_init_139 rfl (lv_at hl 0 rfl) ?_
  obtain ⟨hrec, hp⟩ := hp
  obtain ⟨c39, hc1, hp⟩ := hp
  refine x_callV (vx_runV (As := []) (rest := []) X (P_X5_advance_ok (l := l) hl0 hp) (cwV 0 hts (lw_V q1097 q1099 qs10 q179 q1100) rfl rfl rfl (by decide +kernel) ⟨Nat.le_of_ble_eq_true rfl, Nat.le_of_ble_eq_true rfl⟩) ⟨wPc.blind, w_recv hC.1 hM (ci := 4) (q := (RX5, TX5, 9)) rfl hrec, w_pre hC hM hS _⟩ rfl rfl hl.1 rfl (lv_room (Nat.le_of_ble_eq_true rfl)) dX5_init_140 (w_room hB hc1)) hS hB hc1 (fun _ _ _ _ _ _ h => False.elim h) (fun M38 H locs hp hM hS hB => ?_)
  exact x_vret X hr hlk hM hS (w_fin hB) dX5_init_143 ⟨rfl, hp⟩
def B_J13_init_3_X6_60 (G : wG) (Q : wM → Prop) (M : wM) : Prop :=
  Q M
def B_J13_init_3_X6_41 (G : wG) (Q : wM → Prop) (x0 : Nat) (x1 : Option Nat) (x2 : Option Nat) (x3 : Int32) (M : wM) : Prop :=
  oPut G M x0 5 3 (va_rf x1) (fun M1 => oPut G M1 x0 5 0 (va_rf x2) (fun M2 => oIf (x3 = 0) (oPut G M2 x0 5 2 (va_rf none) (fun M3 => B_J13_init_3_X6_60 G Q M3)) (B_J13_init_3_X6_60 G Q M2)))
def P_J13_init_3_X6 (G : wG) (t0 : Nat) (p1 : Option Nat) (p2 : Option Nat) (p3 : Int32) (p4 : Int32) (M : wM) (Q : wM → Prop) : Prop :=
  oPut G M t0 5 0 (.ref t0) (fun M1 => ∀ r2 : Option Nat, (oPut G M1 t0 5 1 (va_rf r2) (fun M3 => ∀ r4 : Option Nat, (oPut G M3 t0 5 2 (va_rf r4) (fun M5 => oIf (p4 = 0) (oPut G M5 t0 5 1 (va_rf none) (fun M6 => B_J13_init_3_X6_41 G Q t0 p1 p2 p3 M6)) (False))))))
set_option maxHeartbeats 4000000 in
set_option maxRecDepth 100000 in
theorem P_J13_init_3_X6_ok {l : Launch} (hl0 : l.stackTraces = false) {G : wG} {t0 : Nat} {p1 : Option Nat} {p2 : Option Nat} {p3 : Int32} {p4 : Int32} {M : wM} {Q : wM → Prop} (hp : P_J13_init_3_X6 G t0 p1 p2 p3 p4 M Q) : wMet l yJ13_init_3 (ws_ yJ13_init_3 cJ13_init_3 5 (none)) 12 400 G [.ref t0, va_rf p1, va_rf p2, .int p3, .int p4] M 0 (wqV Q) wX0 := by
  refine vx_ofW (cc := cJ13_init_3) (maxL := 5) (ret := none) (by decide) rfl ?_
  intro p e s m args below meth c s₁ B hml hnt hv
  obtain ⟨rfl, hM, hK, hZ, hz⟩ := hv
  have hC : wC G s := ⟨hK, hZ, hz⟩
  have hx := B.exec
  have hb := B.bytes
  have hr := B.returns
  have hts := atoms_spec (ws := (ws_ yJ13_init_3 cJ13_init_3 5 (none))) B.pre
  have hts : ∀ w ∈ lw_all, w.before _ s = true := fun w h => hts w (List.mem_cons_of_mem _ h)
  have hown : s.vm.findClass RJ13 = some m.cls := findClass_of_methodNamed B.named
  have hlk := B.notSynchronized
  have hin0 : meth.name = "<init>" := (name_of_methodNamed B.named B.method).1
  have X : CallFix p m c cJ13_init_3 5 s ([.ref t0, va_rf p1, va_rf p2, .int p3, .int p4] : List Value).toArray lw_all RJ13 := ⟨hx, hb, hml, hown, hts⟩
  have hS : va_S (wA G) s.heap s.heap [] := va_S.rf
  have hl := lv_entry ([.ref t0, va_rf p1, va_rf p2, .int p3, .int p4]) (n := 5) (by cases p1 <;> cases p2 <;> exact Nat.le_of_ble_eq_true rfl)
  rw [lg_entry_eq]
  generalize (lg_sl ([.ref t0, va_rf p1, va_rf p2, .int p3, .int p4]) ++ List.replicate (5 - (lg_sl ([.ref t0, va_rf p1, va_rf p2, .int p3, .int p4])).length) Slot.unset).toArray = ls at hl ⊢
  have hl : lv_has ls 5 [(0, .ref t0), (1, va_rf p1), (2, va_rf p2), (3, .int p3), (4, .int p4)] := by cases p1 <;> cases p2 <;> exact hl
  have hB60 : ∀ (M : wM) (H : Heap) (locs : List Loc) (ls : Array Slot), B_J13_init_3_X6_60 G Q M → wR G M H → va_S (wA G) s.heap H locs → lv_has ls 5 [] → W p l e (headSpec (ws_ yJ13_init_3 cJ13_init_3 5 (none)) ({ frames := 12, cells := 0, slots := 0, locals := 400 })).room s m ([.ref t0, va_rf p1, va_rf p2, .int p3, .int p4] : List Value).toArray below meth c H locs 0 0 (vx_MQ below (wQ G (wqV Q)) (wXC G wX0) ([.ref t0, va_rf p1, va_rf p2, .int p3, .int p4] : List Value).toArray s 0 0 (wA G)) (F0 m 60 ls []) := by
    intro M H locs ls hp hM hS hl
    exact x_vret X hr hlk hM hS ⟨Nat.le_refl _, Nat.le_refl _⟩ dJ13_init_3_60 ⟨rfl, hp⟩
  have hB41 : ∀ (x0 : Nat) (x1 : Option Nat) (x2 : Option Nat) (x3 : Int32) (M : wM) (H : Heap) (locs : List Loc) (ls : Array Slot), B_J13_init_3_X6_41 G Q x0 x1 x2 x3 M → wR G M H → va_S (wA G) s.heap H locs → lv_has ls 5 [(0, .ref x0), (1, va_rf x1), (2, va_rf x2), (3, .int x3)] → W p l e (headSpec (ws_ yJ13_init_3 cJ13_init_3 5 (none)) ({ frames := 12, cells := 0, slots := 0, locals := 400 })).room s m ([.ref t0, va_rf p1, va_rf p2, .int p3, .int p4] : List Value).toArray below meth c H locs 0 0 (vx_MQ below (wQ G (wqV Q)) (wXC G wX0) ([.ref t0, va_rf p1, va_rf p2, .int p3, .int p4] : List Value).toArray s 0 0 (wA G)) (F0 m 41 ls []) := by
    intro x0 x1 x2 x3 M H locs ls hp hM hS hl
    refine lv_aload_n hx hb dJ13_init_3_41 rfl (lv_at hl 0 rfl) ?_
    refine x_aload_n (r := x1) hx hb dJ13_init_3_42 rfl (lv_at hl 1 rfl) ?_
    refine x_put X hC.1 hM hS (ci := 5) (C := RX6) (T := TX6) (N := 8) rfl in_X6 tyX6 tyX6_ok nmX6 3 (by decide) q832 (fun _ h9 => h9) rfl (w_nobj _ x1) (w_fobj _ x1) dJ13_init_3_43 hp (fun M1 H locs hM hS hp => ?_)
    refine lv_aload_n hx hb dJ13_init_3_46 rfl (lv_at hl 0 rfl) ?_
    refine x_aload_n (r := x2) hx hb dJ13_init_3_47 rfl (lv_at hl 2 rfl) ?_
    refine x_put X hC.1 hM hS (ci := 5) (C := RX6) (T := TX6) (N := 8) rfl in_X6 tyX6 tyX6_ok nmX6 0 (by decide) q833 (fun _ h9 => h9) rfl (w_nobj _ x2) (w_fobj _ x2) dJ13_init_3_48 hp (fun M2 H locs hM hS hp => ?_)
    refine lv_iload_n hx hb dJ13_init_3_51 rfl (lv_at hl 3 rfl) ?_
    refine lv_if_ne (tgt := 60) hx hb dJ13_init_3_52 (by decide) (fun hc => ?_) (fun hc => ?_)
    · have hp := oIf.f hp hc
      exact hB60 _ _ _ _ hp hM hS (lv_sub hl [] rfl)
    · have hp := oIf.t hp hc
      refine lv_aload_n hx hb dJ13_init_3_55 rfl (lv_at hl 0 rfl) ?_
      refine lv_null hx hb dJ13_init_3_56 ?_
      refine x_put X hC.1 hM hS (ci := 5) (C := RX6) (T := TX6) (N := 8) rfl in_X6 tyX6 tyX6_ok nmX6 2 (by decide) q835 (fun _ h9 => h9) rfl (w_nobj _ none) (w_fobj _ none) dJ13_init_3_57 hp (fun M3 H locs hM hS hp => ?_)
      exact hB60 _ _ _ _ hp hM hS (lv_sub hl [] rfl)
  refine lv_aload_n hx hb dJ13_init_3_0 rfl (lv_at hl 0 rfl) ?_
  refine W.objInit hx hb hown (hts _ q573) (hts _ q218) (hts _ q219) rfl (by rw [hml]; exact hl.1) rfl dJ13_init_3_1 (Nat.le_of_ble_eq_true rfl) (Nat.le_of_ble_eq_true rfl) ?_
  refine W.eq (g2 := F0 m 4 ls []) rfl ?_
  refine lv_aload_n hx hb dJ13_init_3_4 rfl (lv_at hl 0 rfl) ?_
  refine lv_aload_n hx hb dJ13_init_3_5 rfl (lv_at hl 0 rfl) ?_
  refine x_put X hC.1 hM hS (ci := 5) (C := RX6) (T := TX6) (N := 8) rfl in_X6 tyX6 tyX6_ok nmX6 0 (by decide) q833 (fun _ h9 => h9) rfl rfl rfl dJ13_init_3_6 hp (fun M1 H locs hM hS hp => ?_)
  refine lv_aload_n hx hb dJ13_init_3_9 rfl (lv_at hl 0 rfl) ?_
  refine x_getsQ X hS hC.2.1.2.2.1.1 q574 (fun _ h9 => h9) dJ13_init_3_10 (fun r2 => ?_)
  have hp := hp r2
  refine x_put X hC.1 hM hS (ci := 5) (C := RX6) (T := TX6) (N := 8) rfl in_X6 tyX6 tyX6_ok nmX6 1 (by decide) q834 (fun _ h9 => h9) rfl (w_narr _ r2) (w_farr _ r2) dJ13_init_3_13 hp (fun M3 H locs hM hS hp => ?_)
  refine lv_aload_n hx hb dJ13_init_3_16 rfl (lv_at hl 0 rfl) ?_
  refine x_getsQ X hS hC.2.1.2.2.2.1 q576 (fun _ h9 => h9) dJ13_init_3_17 (fun r4 => ?_)
  have hp := hp r4
  refine x_put X hC.1 hM hS (ci := 5) (C := RX6) (T := TX6) (N := 8) rfl in_X6 tyX6 tyX6_ok nmX6 2 (by decide) q835 (fun _ h9 => h9) rfl (w_nobj _ r4) (w_fobj _ r4) dJ13_init_3_20 hp (fun M5 H locs hM hS hp => ?_)
  refine lv_iload hx hb dJ13_init_3_23 (lv_at hl 4 rfl) ?_
  refine lv_if_eq (tgt := 36) hx hb dJ13_init_3_25 (by decide) (fun hc => ?_) (fun hc => ?_)
  · have hp := oIf.t hp hc
    refine lv_aload_n hx hb dJ13_init_3_36 rfl (lv_at hl 0 rfl) ?_
    refine lv_null hx hb dJ13_init_3_37 ?_
    refine x_put X hC.1 hM hS (ci := 5) (C := RX6) (T := TX6) (N := 8) rfl in_X6 tyX6 tyX6_ok nmX6 1 (by decide) q834 (fun _ h9 => h9) rfl (w_narr _ none) (w_farr _ none) dJ13_init_3_38 hp (fun M6 H locs hM hS hp => ?_)
    exact hB41 _ _ _ _ _ _ _ _ hp hM hS (lv_sub hl [0, 1, 2, 3] rfl)
  · have hp := oIf.f hp hc
    exact hp.elim
def P_J14_init_2_X6 (G : wG) (t0 : Nat) (p1 : Option Nat) (p2 : Option Nat) (p3 : Int32) (p4 : Int32) (M : wM) (Q : wM → Prop) : Prop :=
  P_J13_init_3_X6 G t0 p1 p2 p3 p4 M (fun M1 => Q M1)
set_option maxHeartbeats 4000000 in
set_option maxRecDepth 100000 in
theorem P_J14_init_2_X6_ok {l : Launch} (hl0 : l.stackTraces = false) {G : wG} {t0 : Nat} {p1 : Option Nat} {p2 : Option Nat} {p3 : Int32} {p4 : Int32} {M : wM} {Q : wM → Prop} (hp : P_J14_init_2_X6 G t0 p1 p2 p3 p4 M Q) : wMet l yJ14_init_2 (ws_ yJ14_init_2 cJ14_init_2 5 (none)) 13 424 G [.ref t0, va_rf p1, va_rf p2, .int p3, .int p4] M 0 (wqV Q) wX0 := by
  refine vx_ofW (cc := cJ14_init_2) (maxL := 5) (ret := none) (by decide) rfl ?_
  intro p e s m args below meth c s₁ B hml hnt hv
  obtain ⟨rfl, hM, hK, hZ, hz⟩ := hv
  have hC : wC G s := ⟨hK, hZ, hz⟩
  have hx := B.exec
  have hb := B.bytes
  have hr := B.returns
  have hts := atoms_spec (ws := (ws_ yJ14_init_2 cJ14_init_2 5 (none))) B.pre
  have hts : ∀ w ∈ lw_all, w.before _ s = true := fun w h => hts w (List.mem_cons_of_mem _ h)
  have hown : s.vm.findClass RJ14 = some m.cls := findClass_of_methodNamed B.named
  have hlk := B.notSynchronized
  have hin0 : meth.name = "<init>" := (name_of_methodNamed B.named B.method).1
  have X : CallFix p m c cJ14_init_2 5 s ([.ref t0, va_rf p1, va_rf p2, .int p3, .int p4] : List Value).toArray lw_all RJ14 := ⟨hx, hb, hml, hown, hts⟩
  have hS : va_S (wA G) s.heap s.heap [] := va_S.rf
  have hl := lv_entry ([.ref t0, va_rf p1, va_rf p2, .int p3, .int p4]) (n := 5) (by cases p1 <;> cases p2 <;> exact Nat.le_of_ble_eq_true rfl)
  rw [lg_entry_eq]
  generalize (lg_sl ([.ref t0, va_rf p1, va_rf p2, .int p3, .int p4]) ++ List.replicate (5 - (lg_sl ([.ref t0, va_rf p1, va_rf p2, .int p3, .int p4])).length) Slot.unset).toArray = ls at hl ⊢
  have hl : lv_has ls 5 [(0, .ref t0), (1, va_rf p1), (2, va_rf p2), (3, .int p3), (4, .int p4)] := by cases p1 <;> cases p2 <;> exact hl
  refine lv_aload_n hx hb dJ14_init_2_0 rfl (lv_at hl 0 rfl) ?_
  refine x_aload_n (r := p1) hx hb dJ14_init_2_1 rfl (lv_at hl 1 rfl) ?_
  refine x_aload_n (r := p2) hx hb dJ14_init_2_2 rfl (lv_at hl 2 rfl) ?_
  refine lv_iload_n hx hb dJ14_init_2_3 rfl (lv_at hl 3 rfl) ?_
  refine lv_iload hx hb dJ14_init_2_4 (lv_at hl 4 rfl) ?_
  refine x_call0V (vx_runI (As := [va_rf p1, va_rf p2, .int p3, .int p4]) (rest := []) X (P_J13_init_3_X6_ok (l := l) hl0 hp) (cwI 4 hts (lw_meth q1261) rfl rfl rfl (hts _ q165) (hts _ q1259) (hts _ q1260) rfl (by decide +kernel) ⟨Nat.le_of_ble_eq_true rfl, Nat.le_of_ble_eq_true rfl⟩) ⟨wPc.blind, w_pre hC hM hS _⟩ rfl rfl hl.1 rfl (lv_room (Nat.le_of_ble_eq_true rfl)) dJ14_init_2_6 ⟨Nat.le_refl _, Nat.le_refl _⟩) hS ⟨Nat.le_refl _, Nat.le_refl _⟩ (fun _ _ _ _ _ _ h => False.elim h) (fun M1 H locs hp hM hS => ?_)
  exact x_vret X hr hlk hM hS ⟨Nat.le_refl _, Nat.le_refl _⟩ dJ14_init_2_9 ⟨rfl, hp⟩
def P_X6_init (G : wG) (t0 : Nat) (p1 : Int32) (p2 : Int32) (M : wM) (Q : wM → Prop) : Prop :=
  P_J14_init_2_X6 G t0 none none (0 : Int32) (0 : Int32) M (fun M1 => oPut G M1 t0 5 6 (.int p1) (fun M3 => oPut G M3 t0 5 7 (.int p2) (fun M4 => Q M4)))
set_option maxHeartbeats 4000000 in
set_option maxRecDepth 100000 in
theorem P_X6_init_ok {l : Launch} (hl0 : l.stackTraces = false) {G : wG} {t0 : Nat} {p1 : Int32} {p2 : Int32} {M : wM} {Q : wM → Prop} (hp : P_X6_init G t0 p1 p2 M Q) : wMet l yX6_init (ws_ yX6_init cX6_init 3 (none)) 14 448 G [.ref t0, .int p1, .int p2] M 0 (wqV Q) wX0 := by
  refine vx_ofW (cc := cX6_init) (maxL := 3) (ret := none) (by decide) rfl ?_
  intro p e s m args below meth c s₁ B hml hnt hv
  obtain ⟨rfl, hM, hK, hZ, hz⟩ := hv
  have hC : wC G s := ⟨hK, hZ, hz⟩
  have hx := B.exec
  have hb := B.bytes
  have hr := B.returns
  have hts := atoms_spec (ws := (ws_ yX6_init cX6_init 3 (none))) B.pre
  have hts : ∀ w ∈ lw_all, w.before _ s = true := fun w h => hts w (List.mem_cons_of_mem _ h)
  have hown : s.vm.findClass RX6 = some m.cls := findClass_of_methodNamed B.named
  have hlk := B.notSynchronized
  have hin0 : meth.name = "<init>" := (name_of_methodNamed B.named B.method).1
  have X : CallFix p m c cX6_init 3 s ([.ref t0, .int p1, .int p2] : List Value).toArray lw_all RX6 := ⟨hx, hb, hml, hown, hts⟩
  have hS : va_S (wA G) s.heap s.heap [] := va_S.rf
  have hl := lv_entry ([.ref t0, .int p1, .int p2]) (n := 3) (Nat.le_of_ble_eq_true rfl)
  rw [lg_entry_eq]
  generalize (lg_sl ([.ref t0, .int p1, .int p2]) ++ List.replicate (3 - (lg_sl ([.ref t0, .int p1, .int p2])).length) Slot.unset).toArray = ls at hl ⊢
  have hl : lv_has ls 3 [(0, .ref t0), (1, .int p1), (2, .int p2)] := hl
  refine lv_aload_n hx hb dX6_init_0 rfl (lv_at hl 0 rfl) ?_
  refine lv_null hx hb dX6_init_1 ?_
  refine lv_null hx hb dX6_init_2 ?_
  refine lv_iconst (v := 0) hx hb dX6_init_3 (by decide) ?_
  refine lv_iconst (v := 0) hx hb dX6_init_4 (by decide) ?_
  refine x_call0V (vx_runI (As := [va_rf none, va_rf none, .int (0 : Int32), .int (0 : Int32)]) (rest := []) X (P_J14_init_2_X6_ok (l := l) hl0 hp) (cwI 4 hts (lw_meth q1258) rfl rfl rfl (hts _ q166) (hts _ q1256) (hts _ q1257) rfl (by decide +kernel) ⟨Nat.le_of_ble_eq_true rfl, Nat.le_of_ble_eq_true rfl⟩) ⟨wPc.blind, w_pre hC hM hS _⟩ rfl rfl hl.1 rfl (lv_room (Nat.le_of_ble_eq_true rfl)) dX6_init_5 ⟨Nat.le_refl _, Nat.le_refl _⟩) hS ⟨Nat.le_refl _, Nat.le_refl _⟩ (fun _ _ _ _ _ _ h => False.elim h) (fun M1 H locs hp hM hS => ?_)
  refine lv_aload_n hx hb dX6_init_8 rfl (lv_at hl 0 rfl) ?_
  refine lv_iload_n hx hb dX6_init_9 rfl (lv_at hl 1 rfl) ?_
  refine x_putF X hC.1 hM hS (ci := 5) (C := RX6) (T := TX6) (N := 8) rfl in_X6 tyX6 tyX6_ok nmX6 6 (by decide) q1262 (fun _ h9 => h9) rfl hin0 rfl rfl rfl dX6_init_10 hp (fun M3 H locs hM hS hp => ?_)
  refine lv_aload_n hx hb dX6_init_13 rfl (lv_at hl 0 rfl) ?_
  refine lv_iload_n hx hb dX6_init_14 rfl (lv_at hl 2 rfl) ?_
  refine x_putF X hC.1 hM hS (ci := 5) (C := RX6) (T := TX6) (N := 8) rfl in_X6 tyX6 tyX6_ok nmX6 7 (by decide) q1264 (fun _ h9 => h9) rfl hin0 rfl rfl rfl dX6_init_15 hp (fun M4 H locs hM hS hp => ?_)
  exact x_vret X hr hlk hM hS ⟨Nat.le_refl _, Nat.le_refl _⟩ dX6_init_18 ⟨rfl, hp⟩
def P_X5_require (G : wG) (t0 : Nat) (p1 : Int32) (p2 : Int32) (b : Nat) (M : wM) (Q : wM → Prop) (Xp : String → Nat → wM → Prop) : Prop :=
  oIf (p1 = 0) (oNew G M b 5 [.null, .null, .null, .null, .null, .int 0, .int 0, .int 0] (fun a1 M2 b3 => oGetI M2 t0 4 4 (fun v4 => P_X6_init G a1 p2 v4 M2 (fun M5 => (∃ fs, M5 a1 = some (.inr (5, fs))) ∧ wz G ≤ a1 ∧ Xp "ParkingOffice$ParseException" a1 M5)))) (Q M)
set_option maxHeartbeats 4000000 in
set_option maxRecDepth 100000 in
theorem P_X5_require_ok {l : Launch} (hl0 : l.stackTraces = false) {G : wG} {t0 : Nat} {p1 : Int32} {p2 : Int32} {b : Nat} {M : wM} {Q : wM → Prop} {Xp : String → Nat → wM → Prop} (hp : P_X5_require G t0 p1 p2 b M Q Xp) : wMet l yX5_require (ws_ yX5_require cX5_require 3 (none)) 15 470 G [.ref t0, .int p1, .int p2] M b (wqV Q) Xp := by
  refine vx_ofW (cc := cX5_require) (maxL := 3) (ret := none) (by decide) rfl ?_
  intro p e s m args below meth c s₁ B hml hnt hv
  obtain ⟨rfl, hM, hK, hZ, hz⟩ := hv
  have hC : wC G s := ⟨hK, hZ, hz⟩
  have hx := B.exec
  have hb := B.bytes
  have hr := B.returns
  have hts := atoms_spec (ws := (ws_ yX5_require cX5_require 3 (none))) B.pre
  have hts : ∀ w ∈ lw_all, w.before _ s = true := fun w h => hts w (List.mem_cons_of_mem _ h)
  have hown : s.vm.findClass RX5 = some m.cls := findClass_of_methodNamed B.named
  have hlk := B.notSynchronized
  have X : CallFix p m c cX5_require 3 s ([.ref t0, .int p1, .int p2] : List Value).toArray lw_all RX5 := ⟨hx, hb, hml, hown, hts⟩
  have hS : va_S (wA G) s.heap s.heap [] := va_S.rf
  have hl := lv_entry ([.ref t0, .int p1, .int p2]) (n := 3) (Nat.le_of_ble_eq_true rfl)
  rw [lg_entry_eq]
  generalize (lg_sl ([.ref t0, .int p1, .int p2]) ++ List.replicate (3 - (lg_sl ([.ref t0, .int p1, .int p2])).length) Slot.unset).toArray = ls at hl ⊢
  have hl : lv_has ls 3 [(0, .ref t0), (1, .int p1), (2, .int p2)] := hl
  have hB : 0 + b ≤ ((headSpec (ws_ yX5_require cX5_require 3 (none)) ({ frames := 15, cells := b, slots := b, locals := 470 })).room).cells ∧ 0 + b ≤ ((headSpec (ws_ yX5_require cX5_require 3 (none)) ({ frames := 15, cells := b, slots := b, locals := 470 })).room).slots := ⟨Nat.le_of_eq (Nat.zero_add b), Nat.le_of_eq (Nat.zero_add b)⟩
  refine lv_iload_n hx hb dX5_require_0 rfl (lv_at hl 1 rfl) ?_
  refine lv_if_ne (tgt := 17) hx hb dX5_require_1 (by decide) (fun hc => ?_) (fun hc => ?_)
  · have hp := oIf.f hp hc
    exact x_vret X hr hlk hM hS (w_fin hB) dX5_require_17 ⟨rfl, hp⟩
  · have hp := oIf.t hp hc
    refine x_new X hC hM hS hB (ci := 5) (C := RX6) (T := TX6) (N := 8) rfl in_X6 tyX6 tyX6_ok q1244 q1245 q185 rfl (by decide) dX5_require_4 hp (fun a1 M2 H b3 cells slots hM hS hB hp => ?_)
    refine lv_dup hx hb dX5_require_7 rfl ?_
    refine lv_iload_n hx hb dX5_require_8 rfl (lv_at hl 2 rfl) ?_
    refine lv_aload_n hx hb dX5_require_9 rfl (lv_at hl 0 rfl) ?_
    refine x_getI X hC.1 hM (ci := 4) (C := RX5) (T := TX5) (N := 9) rfl in_X5 4 (by decide) q1133 (fun _ h9 => h9) dX5_require_10 hp (fun v4 hp => ?_)
    refine x_call0V (vx_runI (As := [.int p2, .int v4]) (rest := [.ref a1]) X (P_X6_init_ok (l := l) hl0 hp) (cwI 2 hts (lw_meth q1255) rfl rfl rfl (hts _ q185) (hts _ q1253) (hts _ q1254) rfl (by decide +kernel) ⟨Nat.le_of_ble_eq_true rfl, Nat.le_of_ble_eq_true rfl⟩) ⟨wPc.blind, w_pre hC hM hS _⟩ rfl rfl hl.1 rfl (lv_room (Nat.le_of_ble_eq_true rfl)) dX5_require_13 (w_room0 hB)) hS (w_room0 hB) (fun _ _ _ _ _ _ h => False.elim h) (fun M5 H locs hp hM hS => ?_)
    refine vx_athrow hx hb dX5_require_16 ?_
    obtain ⟨ce, h1, h2, h3⟩ := w_exc hC.1 hM (ci := 5) (q := (RX6, TX6, 8)) rfl hp.1 hp.2.1
    exact x_out hlk (fun x h => (hnt x h).elim) hM hS (w_fin hB) h1 h2 h3 hp.2.2
def P_X7_init (G : wG) (t0 : Nat) (p1 : Int32) (p2 : Int32) (p3 : Int32) (p4 : Int32) (M : wM) (Q : wM → Prop) : Prop :=
  oPut G M t0 6 0 (.int p1) (fun M1 => oPut G M1 t0 6 1 (.int p2) (fun M2 => oPut G M2 t0 6 2 (.int p3) (fun M3 => oPut G M3 t0 6 3 (.int p4) (fun M4 => Q M4))))
set_option maxHeartbeats 4000000 in
set_option maxRecDepth 100000 in
theorem P_X7_init_ok {l : Launch} (hl0 : l.stackTraces = false) {G : wG} {t0 : Nat} {p1 : Int32} {p2 : Int32} {p3 : Int32} {p4 : Int32} {M : wM} {Q : wM → Prop} (hp : P_X7_init G t0 p1 p2 p3 p4 M Q) : wMet l yX7_init (ws_ yX7_init cX7_init 5 (none)) 12 400 G [.ref t0, .int p1, .int p2, .int p3, .int p4] M 0 (wqV Q) wX0 := by
  refine vx_ofW (cc := cX7_init) (maxL := 5) (ret := none) (by decide) rfl ?_
  intro p e s m args below meth c s₁ B hml hnt hv
  obtain ⟨rfl, hM, hK, hZ, hz⟩ := hv
  have hC : wC G s := ⟨hK, hZ, hz⟩
  have hx := B.exec
  have hb := B.bytes
  have hr := B.returns
  have hts := atoms_spec (ws := (ws_ yX7_init cX7_init 5 (none))) B.pre
  have hts : ∀ w ∈ lw_all, w.before _ s = true := fun w h => hts w (List.mem_cons_of_mem _ h)
  have hown : s.vm.findClass RX7 = some m.cls := findClass_of_methodNamed B.named
  have hlk := B.notSynchronized
  have hin0 : meth.name = "<init>" := (name_of_methodNamed B.named B.method).1
  have X : CallFix p m c cX7_init 5 s ([.ref t0, .int p1, .int p2, .int p3, .int p4] : List Value).toArray lw_all RX7 := ⟨hx, hb, hml, hown, hts⟩
  have hS : va_S (wA G) s.heap s.heap [] := va_S.rf
  have hl := lv_entry ([.ref t0, .int p1, .int p2, .int p3, .int p4]) (n := 5) (Nat.le_of_ble_eq_true rfl)
  rw [lg_entry_eq]
  generalize (lg_sl ([.ref t0, .int p1, .int p2, .int p3, .int p4]) ++ List.replicate (5 - (lg_sl ([.ref t0, .int p1, .int p2, .int p3, .int p4])).length) Slot.unset).toArray = ls at hl ⊢
  have hl : lv_has ls 5 [(0, .ref t0), (1, .int p1), (2, .int p2), (3, .int p3), (4, .int p4)] := hl
  refine lv_aload_n hx hb dX7_init_0 rfl (lv_at hl 0 rfl) ?_
  refine W.objInit hx hb hown (hts _ q1405) (hts _ q218) (hts _ q219) rfl (by rw [hml]; exact hl.1) rfl dX7_init_1 (Nat.le_of_ble_eq_true rfl) (Nat.le_of_ble_eq_true rfl) ?_
  refine W.eq (g2 := F0 m 4 ls []) rfl ?_
  refine lv_aload_n hx hb dX7_init_4 rfl (lv_at hl 0 rfl) ?_
  refine lv_iload_n hx hb dX7_init_5 rfl (lv_at hl 1 rfl) ?_
  refine x_putF X hC.1 hM hS (ci := 6) (C := RX7) (T := TX7) (N := 4) rfl in_X7 tyX7 tyX7_ok nmX7 0 (by decide) q1406 (fun _ h9 => h9) rfl hin0 rfl rfl rfl dX7_init_6 hp (fun M1 H locs hM hS hp => ?_)
  refine lv_aload_n hx hb dX7_init_9 rfl (lv_at hl 0 rfl) ?_
  refine lv_iload_n hx hb dX7_init_10 rfl (lv_at hl 2 rfl) ?_
  refine x_putF X hC.1 hM hS (ci := 6) (C := RX7) (T := TX7) (N := 4) rfl in_X7 tyX7 tyX7_ok nmX7 1 (by decide) q1408 (fun _ h9 => h9) rfl hin0 rfl rfl rfl dX7_init_11 hp (fun M2 H locs hM hS hp => ?_)
  refine lv_aload_n hx hb dX7_init_14 rfl (lv_at hl 0 rfl) ?_
  refine lv_iload_n hx hb dX7_init_15 rfl (lv_at hl 3 rfl) ?_
  refine x_putF X hC.1 hM hS (ci := 6) (C := RX7) (T := TX7) (N := 4) rfl in_X7 tyX7 tyX7_ok nmX7 2 (by decide) q1410 (fun _ h9 => h9) rfl hin0 rfl rfl rfl dX7_init_16 hp (fun M3 H locs hM hS hp => ?_)
  refine lv_aload_n hx hb dX7_init_19 rfl (lv_at hl 0 rfl) ?_
  refine lv_iload hx hb dX7_init_20 (lv_at hl 4 rfl) ?_
  refine x_putF X hC.1 hM hS (ci := 6) (C := RX7) (T := TX7) (N := 4) rfl in_X7 tyX7 tyX7_ok nmX7 3 (by decide) q1412 (fun _ h9 => h9) rfl hin0 rfl rfl rfl dX7_init_22 hp (fun M4 H locs hM hS hp => ?_)
  exact x_vret X hr hlk hM hS ⟨Nat.le_refl _, Nat.le_refl _⟩ dX7_init_25 ⟨rfl, hp⟩
def B_J11_equals_22 (G : wG) (Q : Bool → wM → Prop) (y0 : Int32) (M : wM) : Prop :=
  ∃ r : Bool, y0 = wb r ∧ Q r M
def B_J11_equals_17 (G : wG) (Q : Bool → wM → Prop) (M : wM) : Prop :=
  B_J11_equals_22 G Q (1 : Int32) M
def B_J11_equals_21 (G : wG) (Q : Bool → wM → Prop) (M : wM) : Prop :=
  B_J11_equals_22 G Q (0 : Int32) M
def P_J11_equals (G : wG) (p1 : Nat) (p2 : Option Nat) (M : wM) (Q : Bool → wM → Prop) : Prop :=
  oIf ((some p1) = p2) (B_J11_equals_17 G Q M) (oIs M p1 24 (P_J19_equals G p1 p2 M (fun r3 M1 => oIf (r3 = true) (B_J11_equals_17 G Q M1) (B_J11_equals_21 G Q M1))))
set_option maxHeartbeats 4000000 in
set_option maxRecDepth 100000 in
theorem P_J11_equals_ok {l : Launch} (hl0 : l.stackTraces = false) {G : wG} {p1 : Nat} {p2 : Option Nat} {M : wM} {Q : Bool → wM → Prop} (hp : P_J11_equals G p1 p2 M Q) : wMet l yJ11_equals (ws_ yJ11_equals cJ11_equals 2 (Option.some Jvm.ClassFile.FieldType.boolean)) 14 444 G [.ref p1, va_rf p2] M 0 (wqZ Q) wX0 := by
  refine vx_ofW (cc := cJ11_equals) (maxL := 2) (ret := Option.some Jvm.ClassFile.FieldType.boolean) (by decide) rfl ?_
  intro p e s m args below meth c s₁ B hml hnt hv
  obtain ⟨rfl, hM, hK, hZ, hz⟩ := hv
  have hC : wC G s := ⟨hK, hZ, hz⟩
  have hx := B.exec
  have hb := B.bytes
  have hr := B.returns
  have hts := atoms_spec (ws := (ws_ yJ11_equals cJ11_equals 2 (Option.some Jvm.ClassFile.FieldType.boolean))) B.pre
  have hts : ∀ w ∈ lw_all, w.before _ s = true := fun w h => hts w (List.mem_cons_of_mem _ h)
  have hown : s.vm.findClass RJ11 = some m.cls := findClass_of_methodNamed B.named
  have hlk := B.notSynchronized
  have X : CallFix p m c cJ11_equals 2 s ([.ref p1, va_rf p2] : List Value).toArray lw_all RJ11 := ⟨hx, hb, hml, hown, hts⟩
  have hS : va_S (wA G) s.heap s.heap [] := va_S.rf
  have hl := lv_entry ([.ref p1, va_rf p2]) (n := 2) (by cases p2 <;> exact Nat.le_of_ble_eq_true rfl)
  rw [lg_entry_eq]
  generalize (lg_sl ([.ref p1, va_rf p2]) ++ List.replicate (2 - (lg_sl ([.ref p1, va_rf p2])).length) Slot.unset).toArray = ls at hl ⊢
  have hl : lv_has ls 2 [(0, .ref p1), (1, va_rf p2)] := by cases p2 <;> exact hl
  have hB22 : ∀ (y0 : Int32) (M : wM) (H : Heap) (locs : List Loc) (ls : Array Slot), B_J11_equals_22 G Q y0 M → wR G M H → va_S (wA G) s.heap H locs → lv_has ls 2 [] → W p l e (headSpec (ws_ yJ11_equals cJ11_equals 2 (Option.some Jvm.ClassFile.FieldType.boolean)) ({ frames := 14, cells := 0, slots := 0, locals := 444 })).room s m ([.ref p1, va_rf p2] : List Value).toArray below meth c H locs 0 0 (vx_MQ below (wQ G (wqZ Q)) (wXC G wX0) ([.ref p1, va_rf p2] : List Value).toArray s 0 0 (wA G)) (F0 m 22 ls [.int y0]) := by
    intro y0 M H locs ls hp hM hS hl
    obtain ⟨r, hr0, hp⟩ := hp
    exact x_zret X hr hlk hM hS ⟨Nat.le_refl _, Nat.le_refl _⟩ (by rw [hr0]; exact w_nz _) dJ11_equals_22 ⟨r, by rw [hr0], hp⟩
  have hB17 : ∀ (M : wM) (H : Heap) (locs : List Loc) (ls : Array Slot), B_J11_equals_17 G Q M → wR G M H → va_S (wA G) s.heap H locs → lv_has ls 2 [] → W p l e (headSpec (ws_ yJ11_equals cJ11_equals 2 (Option.some Jvm.ClassFile.FieldType.boolean)) ({ frames := 14, cells := 0, slots := 0, locals := 444 })).room s m ([.ref p1, va_rf p2] : List Value).toArray below meth c H locs 0 0 (vx_MQ below (wQ G (wqZ Q)) (wXC G wX0) ([.ref p1, va_rf p2] : List Value).toArray s 0 0 (wA G)) (F0 m 17 ls []) := by
    intro M H locs ls hp hM hS hl
    refine lv_iconst (v := 1) hx hb dJ11_equals_17 (by decide) ?_
    refine lv_goto (tgt := 22) hx hb dJ11_equals_18 (by decide) ?_
    exact hB22 _ _ _ _ _ hp hM hS (lv_sub hl [] rfl)
  have hB21 : ∀ (M : wM) (H : Heap) (locs : List Loc) (ls : Array Slot), B_J11_equals_21 G Q M → wR G M H → va_S (wA G) s.heap H locs → lv_has ls 2 [] → W p l e (headSpec (ws_ yJ11_equals cJ11_equals 2 (Option.some Jvm.ClassFile.FieldType.boolean)) ({ frames := 14, cells := 0, slots := 0, locals := 444 })).room s m ([.ref p1, va_rf p2] : List Value).toArray below meth c H locs 0 0 (vx_MQ below (wQ G (wqZ Q)) (wXC G wX0) ([.ref p1, va_rf p2] : List Value).toArray s 0 0 (wA G)) (F0 m 21 ls []) := by
    intro M H locs ls hp hM hS hl
    refine lv_iconst (v := 0) hx hb dJ11_equals_21 (by decide) ?_
    exact hB22 _ _ _ _ _ hp hM hS (lv_sub hl [] rfl)
  refine lv_aload_n hx hb dJ11_equals_0 rfl (lv_at hl 0 rfl) ?_
  refine x_aload_n (r := p2) hx hb dJ11_equals_1 rfl (lv_at hl 1 rfl) ?_
  refine lv_acmp_eq (rx := (some p1)) (ry := p2) (tgt := 17) hx hb dJ11_equals_2 (by decide) (fun hc => ?_) (fun hc => ?_)
  · have hp := oIf.t hp hc
    exact hB17 _ _ _ _ hp hM hS (lv_sub hl [] rfl)
  · have hp := oIf.f hp hc
    refine lv_aload_n hx hb dJ11_equals_5 rfl (lv_at hl 0 rfl) ?_
    refine lv_ifnull hx hb dJ11_equals_6 ?_
    refine lv_aload_n hx hb dJ11_equals_9 rfl (lv_at hl 0 rfl) ?_
    refine x_aload_n (r := p2) hx hb dJ11_equals_10 rfl (lv_at hl 1 rfl) ?_
    obtain ⟨hrec, hp⟩ := hp
    refine x_call0Z (vx_runU (As := [va_rf p2]) (rest := []) X (P_J19_equals_ok (l := l) hl0 hp) (va_cwA (owner := "java/lang/Object") 1 hts (lw_app (w_mem5 q1353 q1301 q1331 q1227 q171) (lw_meth q1229)) rfl rfl rfl (hC.1.2.2.1 _ q1298 rfl) (by decide +kernel) ⟨Nat.le_of_ble_eq_true rfl, Nat.le_of_ble_eq_true rfl⟩) ⟨wPc.blind, w_recv hC.1 hM (ci := 24) (q := (RJ19, TJ19, 4)) rfl hrec, w_pre hC hM hS _⟩ rfl rfl hl.1 rfl (lv_room (Nat.le_of_ble_eq_true rfl)) dJ11_equals_11 ⟨Nat.le_refl _, Nat.le_refl _⟩) hS ⟨Nat.le_refl _, Nat.le_refl _⟩ (fun _ _ _ _ _ _ h => False.elim h) (fun r3 M1 H locs hp hM hS => ?_)
    refine x_ifeqB (tgt := 21) hx hb dJ11_equals_14 (by decide) (fun hc => ?_) (fun hc => ?_)
    · have hp := oIf.bf hp hc
      exact hB21 _ _ _ _ hp hM hS (lv_sub hl [] rfl)
    · have hp := oIf.bt hp hc
      exact hB17 _ _ _ _ hp hM hS (lv_sub hl [] rfl)
def B_J30_indexOf_26 (G : wG) (rec26 : Nat → Nat → Int32 → wM → Prop) (Q : Int32 → wM → Prop) (x1 : Nat) (x2 : Nat) (x3 : Int32) (M : wM) : Prop :=
  oAlen (.object "java/lang/Object") M x2 (fun v1 => oIf (v1 ≤ x3) (Q (-1 : Int32) M) (oAald (.object "java/lang/Object") M x2 x3 (fun r2 => P_J11_equals G x1 r2 M (fun r5 M3 => oIf (r5 = true) (Q x3 M3) (rec26 x1 x2 (x3 + 1) M3)))))
def L_J30_indexOf_26 (G : wG) (Q : Int32 → wM → Prop) : Nat → Nat → Nat → Int32 → wM → Prop
  | 0 => fun _ _ _ _ => False
  | n + 1 => B_J30_indexOf_26 G (L_J30_indexOf_26 G Q n) Q
def B_J30_indexOf_19 (G : wG) (Q : Int32 → wM → Prop) (x0 : Nat) (x1 : Nat) (M : wM) : Prop :=
  oGetA M x0 26 0 (fun a1 => ∃ n, L_J30_indexOf_26 G Q n x1 a1 (0 : Int32) M)
def P_J30_indexOf (G : wG) (t0 : Nat) (p1 : Nat) (M : wM) (Q : Int32 → wM → Prop) : Prop :=
  oGetI M t0 26 1 (fun v1 => oIf (v1 = 0) (B_J30_indexOf_19 G Q t0 p1 M) (B_J30_indexOf_19 G Q t0 p1 M))
set_option maxHeartbeats 4000000 in
set_option maxRecDepth 100000 in
theorem P_J30_indexOf_ok {l : Launch} (hl0 : l.stackTraces = false) {G : wG} {t0 : Nat} {p1 : Nat} {M : wM} {Q : Int32 → wM → Prop} (hp : P_J30_indexOf G t0 p1 M Q) : wMet l yJ30_indexOf (ws_ yJ30_indexOf cJ30_indexOf 4 (Option.some Jvm.ClassFile.FieldType.int)) 15 465 G [.ref t0, .ref p1] M 0 (wqI Q) wX0 := by
  refine vx_ofW (cc := cJ30_indexOf) (maxL := 4) (ret := Option.some Jvm.ClassFile.FieldType.int) (by decide) rfl ?_
  intro p e s m args below meth c s₁ B hml hnt hv
  obtain ⟨rfl, hM, hK, hZ, hz⟩ := hv
  have hC : wC G s := ⟨hK, hZ, hz⟩
  have hx := B.exec
  have hb := B.bytes
  have hr := B.returns
  have hts := atoms_spec (ws := (ws_ yJ30_indexOf cJ30_indexOf 4 (Option.some Jvm.ClassFile.FieldType.int))) B.pre
  have hts : ∀ w ∈ lw_all, w.before _ s = true := fun w h => hts w (List.mem_cons_of_mem _ h)
  have hown : s.vm.findClass RJ30 = some m.cls := findClass_of_methodNamed B.named
  have hlk := B.notSynchronized
  have X : CallFix p m c cJ30_indexOf 4 s ([.ref t0, .ref p1] : List Value).toArray lw_all RJ30 := ⟨hx, hb, hml, hown, hts⟩
  have hS : va_S (wA G) s.heap s.heap [] := va_S.rf
  have hl := lv_entry ([.ref t0, .ref p1]) (n := 4) (Nat.le_of_ble_eq_true rfl)
  rw [lg_entry_eq]
  generalize (lg_sl ([.ref t0, .ref p1]) ++ List.replicate (4 - (lg_sl ([.ref t0, .ref p1])).length) Slot.unset).toArray = ls at hl ⊢
  have hl : lv_has ls 4 [(0, .ref t0), (1, .ref p1)] := hl
  have hB26 : ∀ (rec26 : Nat → Nat → Int32 → wM → Prop) (hrec26 : ∀ (x1 : Nat) (x2 : Nat) (x3 : Int32) (M : wM) (H : Heap) (locs : List Loc) (ls : Array Slot), rec26 x1 x2 x3 M → wR G M H → va_S (wA G) s.heap H locs → lv_has ls 4 [(1, .ref x1), (2, .ref x2), (3, .int x3)] → W p l e (headSpec (ws_ yJ30_indexOf cJ30_indexOf 4 (Option.some Jvm.ClassFile.FieldType.int)) ({ frames := 15, cells := 0, slots := 0, locals := 465 })).room s m ([.ref t0, .ref p1] : List Value).toArray below meth c H locs 0 0 (vx_MQ below (wQ G (wqI Q)) (wXC G wX0) ([.ref t0, .ref p1] : List Value).toArray s 0 0 (wA G)) (F0 m 26 ls [])), ∀ (x1 : Nat) (x2 : Nat) (x3 : Int32) (M : wM) (H : Heap) (locs : List Loc) (ls : Array Slot), B_J30_indexOf_26 G rec26 Q x1 x2 x3 M → wR G M H → va_S (wA G) s.heap H locs → lv_has ls 4 [(1, .ref x1), (2, .ref x2), (3, .int x3)] → W p l e (headSpec (ws_ yJ30_indexOf cJ30_indexOf 4 (Option.some Jvm.ClassFile.FieldType.int)) ({ frames := 15, cells := 0, slots := 0, locals := 465 })).room s m ([.ref t0, .ref p1] : List Value).toArray below meth c H locs 0 0 (vx_MQ below (wQ G (wqI Q)) (wXC G wX0) ([.ref t0, .ref p1] : List Value).toArray s 0 0 (wA G)) (F0 m 26 ls []) := by
    intro rec26 hrec26 x1 x2 x3 M H locs ls hp hM hS hl
    refine lv_iload_n hx hb dJ30_indexOf_26 rfl (lv_at hl 2 rfl) ?_
    refine lv_aload_n hx hb dJ30_indexOf_27 rfl (lv_at hl 1 rfl) ?_
    refine x_alen X hC.1 hM (ty := (.object "java/lang/Object")) (by decide) dJ30_indexOf_28 hp (fun v1 hp => ?_)
    refine lv_icmp_ge (tgt := 50) hx hb dJ30_indexOf_29 (by decide) (fun hc => ?_) (fun hc => ?_)
    · have hp := oIf.t hp hc
      refine lv_iconst (v := (-1)) hx hb dJ30_indexOf_50 (by decide) ?_
      exact x_iret X hr hlk hM hS ⟨Nat.le_refl _, Nat.le_refl _⟩ dJ30_indexOf_51 ⟨_, rfl, hp⟩
    · have hp := oIf.f hp hc
      refine lv_aload_n hx hb dJ30_indexOf_32 rfl (lv_at hl 0 rfl) ?_
      refine lv_aload_n hx hb dJ30_indexOf_33 rfl (lv_at hl 1 rfl) ?_
      refine lv_iload_n hx hb dJ30_indexOf_34 rfl (lv_at hl 2 rfl) ?_
      refine x_aald X hC.1 hM (ty := (.object "java/lang/Object")) (by decide) rfl dJ30_indexOf_35 hp (fun r2 hp => ?_)
      refine x_call0Z (vx_runS (As := [.ref x1, va_rf r2]) (rest := []) X (P_J11_equals_ok (l := l) hl0 hp) (va_cwS 2 hts (lw_S q1350 q1351 q163 q1352) rfl rfl rfl (by decide +kernel) ⟨Nat.le_of_ble_eq_true rfl, Nat.le_of_ble_eq_true rfl⟩) ⟨wPc.blind, w_pre hC hM hS _⟩ rfl rfl hl.1 rfl (lv_room (Nat.le_of_ble_eq_true rfl)) dJ30_indexOf_36 ⟨Nat.le_refl _, Nat.le_refl _⟩) hS ⟨Nat.le_refl _, Nat.le_refl _⟩ (fun _ _ _ _ _ _ h => False.elim h) (fun r5 M3 H locs hp hM hS => ?_)
      refine x_ifeqB (tgt := 44) hx hb dJ30_indexOf_39 (by decide) (fun hc => ?_) (fun hc => ?_)
      · have hp := oIf.bf hp hc
        refine lv_iinc (v := (x3 + 1)) (lv' := [(3, .int (x3 + 1)), (1, .ref x1), (2, .ref x2)]) hx hb dJ30_indexOf_44 hl (k := 2) rfl rfl (by decide) rfl (fun ls hl => ?_)
        refine lv_goto (tgt := 26) hx hb dJ30_indexOf_47 (by decide) ?_
        exact hrec26 _ _ _ _ _ _ _ hp hM hS (lv_sub hl [1, 2, 0] rfl)
      · have hp := oIf.bt hp hc
        refine lv_iload_n hx hb dJ30_indexOf_42 rfl (lv_at hl 2 rfl) ?_
        exact x_iret X hr hlk hM hS ⟨Nat.le_refl _, Nat.le_refl _⟩ dJ30_indexOf_43 ⟨_, rfl, hp⟩
  have hL26 : ∀ (n : Nat), ∀ (x1 : Nat) (x2 : Nat) (x3 : Int32) (M : wM) (H : Heap) (locs : List Loc) (ls : Array Slot), L_J30_indexOf_26 G Q n x1 x2 x3 M → wR G M H → va_S (wA G) s.heap H locs → lv_has ls 4 [(1, .ref x1), (2, .ref x2), (3, .int x3)] → W p l e (headSpec (ws_ yJ30_indexOf cJ30_indexOf 4 (Option.some Jvm.ClassFile.FieldType.int)) ({ frames := 15, cells := 0, slots := 0, locals := 465 })).room s m ([.ref t0, .ref p1] : List Value).toArray below meth c H locs 0 0 (vx_MQ below (wQ G (wqI Q)) (wXC G wX0) ([.ref t0, .ref p1] : List Value).toArray s 0 0 (wA G)) (F0 m 26 ls []) := by
    intro n
    induction n with
    | zero => intro _ _ _ _ _ _ _ hp; exact False.elim hp
    | succ n ih => intro x1 x2 x3 M H locs ls hp hM hS hl; exact hB26 (L_J30_indexOf_26 G Q n) ih _ _ _ _ _ _ _ hp hM hS hl
  have hB19 : ∀ (x0 : Nat) (x1 : Nat) (M : wM) (H : Heap) (locs : List Loc) (ls : Array Slot), B_J30_indexOf_19 G Q x0 x1 M → wR G M H → va_S (wA G) s.heap H locs → lv_has ls 4 [(0, .ref x0), (1, .ref x1)] → W p l e (headSpec (ws_ yJ30_indexOf cJ30_indexOf 4 (Option.some Jvm.ClassFile.FieldType.int)) ({ frames := 15, cells := 0, slots := 0, locals := 465 })).room s m ([.ref t0, .ref p1] : List Value).toArray below meth c H locs 0 0 (vx_MQ below (wQ G (wqI Q)) (wXC G wX0) ([.ref t0, .ref p1] : List Value).toArray s 0 0 (wA G)) (F0 m 19 ls []) := by
    intro x0 x1 M H locs ls hp hM hS hl
    refine lv_aload_n hx hb dJ30_indexOf_19 rfl (lv_at hl 0 rfl) ?_
    refine x_getA X hC.1 hM (ci := 26) (C := RJ30) (T := TJ30) (N := 2) rfl in_J30 0 (by decide) q1085 (fun _ h9 => h9) dJ30_indexOf_20 hp (fun a1 hp => ?_)
    refine lv_astore_n (lv' := [(2, .ref a1), (0, .ref x0), (1, .ref x1)]) hx hb dJ30_indexOf_23 rfl hl (by decide) rfl (fun ls hl => ?_)
    refine lv_iconst (v := 0) hx hb dJ30_indexOf_24 (by decide) ?_
    refine lv_istore_n (lv' := [(3, .int (0 : Int32)), (2, .ref a1), (0, .ref x0), (1, .ref x1)]) hx hb dJ30_indexOf_25 rfl hl (by decide) rfl (fun ls hl => ?_)
    obtain ⟨n, hp⟩ := hp
    exact hL26 n _ _ _ _ _ _ _ hp hM hS (lv_sub hl [3, 1, 0] rfl)
  refine lv_aload_n hx hb dJ30_indexOf_0 rfl (lv_at hl 0 rfl) ?_
  refine x_getI X hC.1 hM (ci := 26) (C := RJ30) (T := TJ30) (N := 2) rfl in_J30 1 (by decide) q1086 (fun _ h9 => h9) dJ30_indexOf_1 hp (fun v1 hp => ?_)
  refine lv_if_ne (tgt := 19) hx hb dJ30_indexOf_4 (by decide) (fun hc => ?_) (fun hc => ?_)
  · have hp := oIf.f hp hc
    exact hB19 _ _ _ _ _ _ hp hM hS (lv_sub hl [0, 1] rfl)
  · have hp := oIf.t hp hc
    refine lv_aload_n hx hb dJ30_indexOf_7 rfl (lv_at hl 1 rfl) ?_
    refine lv_ifnonnull (tgt := 19) hx hb dJ30_indexOf_8 (by decide) ?_
    exact hB19 _ _ _ _ _ _ hp hM hS (lv_sub hl [0, 1] rfl)
def B_J28_contains_J30_13 (G : wG) (Q : Bool → wM → Prop) (y0 : Int32) (M : wM) : Prop :=
  ∃ r : Bool, y0 = wb r ∧ Q r M
def P_J28_contains_J30 (G : wG) (t0 : Nat) (p1 : Nat) (M : wM) (Q : Bool → wM → Prop) : Prop :=
  oIs M t0 26 (P_J30_indexOf G t0 p1 M (fun v3 M1 => oIf (v3 < 0) (B_J28_contains_J30_13 G Q (0 : Int32) M1) (B_J28_contains_J30_13 G Q (1 : Int32) M1)))
set_option maxHeartbeats 4000000 in
set_option maxRecDepth 100000 in
theorem P_J28_contains_J30_ok {l : Launch} (hl0 : l.stackTraces = false) {G : wG} {t0 : Nat} {p1 : Nat} {M : wM} {Q : Bool → wM → Prop} (hp : P_J28_contains_J30 G t0 p1 M Q) : wMet l yJ28_contains (ws_ yJ28_contains cJ28_contains 2 (Option.some Jvm.ClassFile.FieldType.boolean)) 16 488 G [.ref t0, .ref p1] M 0 (wqZ Q) wX0 := by
  refine vx_ofW (cc := cJ28_contains) (maxL := 2) (ret := Option.some Jvm.ClassFile.FieldType.boolean) (by decide) rfl ?_
  intro p e s m args below meth c s₁ B hml hnt hv
  obtain ⟨rfl, hM, hK, hZ, hz⟩ := hv
  have hC : wC G s := ⟨hK, hZ, hz⟩
  have hx := B.exec
  have hb := B.bytes
  have hr := B.returns
  have hts := atoms_spec (ws := (ws_ yJ28_contains cJ28_contains 2 (Option.some Jvm.ClassFile.FieldType.boolean))) B.pre
  have hts : ∀ w ∈ lw_all, w.before _ s = true := fun w h => hts w (List.mem_cons_of_mem _ h)
  have hown : s.vm.findClass RJ28 = some m.cls := findClass_of_methodNamed B.named
  have hlk := B.notSynchronized
  have X : CallFix p m c cJ28_contains 2 s ([.ref t0, .ref p1] : List Value).toArray lw_all RJ28 := ⟨hx, hb, hml, hown, hts⟩
  have hS : va_S (wA G) s.heap s.heap [] := va_S.rf
  have hl := lv_entry ([.ref t0, .ref p1]) (n := 2) (Nat.le_of_ble_eq_true rfl)
  rw [lg_entry_eq]
  generalize (lg_sl ([.ref t0, .ref p1]) ++ List.replicate (2 - (lg_sl ([.ref t0, .ref p1])).length) Slot.unset).toArray = ls at hl ⊢
  have hl : lv_has ls 2 [(0, .ref t0), (1, .ref p1)] := hl
  have hB13 : ∀ (y0 : Int32) (M : wM) (H : Heap) (locs : List Loc) (ls : Array Slot), B_J28_contains_J30_13 G Q y0 M → wR G M H → va_S (wA G) s.heap H locs → lv_has ls 2 [] → W p l e (headSpec (ws_ yJ28_contains cJ28_contains 2 (Option.some Jvm.ClassFile.FieldType.boolean)) ({ frames := 16, cells := 0, slots := 0, locals := 488 })).room s m ([.ref t0, .ref p1] : List Value).toArray below meth c H locs 0 0 (vx_MQ below (wQ G (wqZ Q)) (wXC G wX0) ([.ref t0, .ref p1] : List Value).toArray s 0 0 (wA G)) (F0 m 13 ls [.int y0]) := by
    intro y0 M H locs ls hp hM hS hl
    obtain ⟨r, hr0, hp⟩ := hp
    exact x_zret X hr hlk hM hS ⟨Nat.le_refl _, Nat.le_refl _⟩ (by rw [hr0]; exact w_nz _) dJ28_contains_13 ⟨r, by rw [hr0], hp⟩
  refine lv_aload_n hx hb dJ28_contains_0 rfl (lv_at hl 0 rfl) ?_
  refine lv_aload_n hx hb dJ28_contains_1 rfl (lv_at hl 1 rfl) ?_
  obtain ⟨hrec, hp⟩ := hp
  refine x_call0I (w_runM (C := "java/util/ImmutableCollections$ListN") hC (As := [.ref p1]) (rest := []) X (P_J30_indexOf_ok (l := l) hl0 hp) q1349 q1348 q184 q1342 (wfw_22 hC.1).2.1 q1347 rfl (List.mem_of_getElem? (i := 0) rfl) (List.mem_of_getElem? (i := 1) rfl) rfl rfl ⟨Nat.le_of_ble_eq_true rfl, Nat.le_of_ble_eq_true rfl⟩ ⟨wPc.blind, w_recv hC.1 hM (ci := 26) (q := (RJ30, TJ30, 2)) rfl hrec, w_pre hC hM hS _⟩ rfl rfl hl.1 rfl (lv_room (Nat.le_of_ble_eq_true rfl)) dJ28_contains_2 ⟨Nat.le_refl _, Nat.le_refl _⟩) hS ⟨Nat.le_refl _, Nat.le_refl _⟩ (fun _ _ _ _ _ _ h => False.elim h) (fun v3 M1 H locs hp hM hS => ?_)
  refine lv_if_lt (tgt := 12) hx hb dJ28_contains_5 (by decide) (fun hc => ?_) (fun hc => ?_)
  · have hp := oIf.t hp hc
    refine lv_iconst (v := 0) hx hb dJ28_contains_12 (by decide) ?_
    exact hB13 _ _ _ _ _ hp hM hS (lv_sub hl [] rfl)
  · have hp := oIf.f hp hc
    refine lv_iconst (v := 1) hx hb dJ28_contains_8 (by decide) ?_
    refine lv_goto (tgt := 13) hx hb dJ28_contains_9 (by decide) ?_
    exact hB13 _ _ _ _ _ hp hM hS (lv_sub hl [] rfl)
def B_X5_name_41 (G : wG) (Q : Int32 → wM → Prop) (Xp : String → Nat → wM → Prop) (x0 : Nat) (x1 : Int32) (y0 : Int32) (M : wM) (bq : Nat) : Prop :=
  oIs M x0 4 (∃ c2, c2 ≤ bq ∧ P_X5_require G x0 y0 (1 : Int32) c2 M (fun M1 => oGetA M1 x0 4 1 (fun a3 => oGetA M1 a3 2 3 (fun a4 => oIs M1 a4 16 (P_J2_get G a4 x1 M1 (fun r7 M5 => oCast M5 r7 16 (oGetA M5 x0 4 7 (fun a8 => oRef r7 (fun a9 => oIs M5 a9 16 (P_J2_indexOf G a9 a8 M5 (fun v12 M10 => Q v12 M10)))))))))) (fun E q13 M14 => (E = "ParkingOffice$ParseException" ∧ Xp E q13 M14)))
def B_X5_name_40 (G : wG) (Q : Int32 → wM → Prop) (Xp : String → Nat → wM → Prop) (x0 : Nat) (x1 : Int32) (M : wM) (bq : Nat) : Prop :=
  B_X5_name_41 G Q Xp x0 x1 (0 : Int32) M bq
def P_X5_name (G : wG) (t0 : Nat) (p1 : Int32) (b : Nat) (M : wM) (Q : Int32 → wM → Prop) (Xp : String → Nat → wM → Prop) : Prop :=
  oGetI M t0 4 5 (fun v1 => oIf (v1 = (1 : Int32)) (oGetA M t0 4 7 (fun a2 => oIs M a2 24 (P_J19_length G a2 M (fun v5 M3 => oIf ((8 : Int32) < v5) (B_X5_name_40 G Q Xp t0 p1 M3 b) (oGetA M3 t0 4 0 (fun a6 => oGetA M3 t0 4 7 (fun a7 => oIs M3 a6 26 (P_J28_contains_J30 G a6 a7 M3 (fun r10 M8 => oIf (r10 = true) (B_X5_name_40 G Q Xp t0 p1 M8 b) (B_X5_name_41 G Q Xp t0 p1 (1 : Int32) M8 b)))))))))) (B_X5_name_40 G Q Xp t0 p1 M b))
set_option maxHeartbeats 4000000 in
set_option maxRecDepth 100000 in
theorem P_X5_name_ok {l : Launch} (hl0 : l.stackTraces = false) {G : wG} {t0 : Nat} {p1 : Int32} {b : Nat} {M : wM} {Q : Int32 → wM → Prop} {Xp : String → Nat → wM → Prop} (hp : P_X5_name G t0 p1 b M Q Xp) : wMet l yX5_name (ws_ yX5_name cX5_name 3 (Option.some Jvm.ClassFile.FieldType.int)) 17 509 G [.ref t0, .int p1] M b (wqI Q) Xp := by
  refine vx_ofW (cc := cX5_name) (maxL := 3) (ret := Option.some Jvm.ClassFile.FieldType.int) (by decide) rfl ?_
  intro p e s m args below meth c s₁ B hml hnt hv
  obtain ⟨rfl, hM, hK, hZ, hz⟩ := hv
  have hC : wC G s := ⟨hK, hZ, hz⟩
  have hx := B.exec
  have hb := B.bytes
  have hr := B.returns
  have hts := atoms_spec (ws := (ws_ yX5_name cX5_name 3 (Option.some Jvm.ClassFile.FieldType.int))) B.pre
  have hts : ∀ w ∈ lw_all, w.before _ s = true := fun w h => hts w (List.mem_cons_of_mem _ h)
  have hown : s.vm.findClass RX5 = some m.cls := findClass_of_methodNamed B.named
  have hlk := B.notSynchronized
  have X : CallFix p m c cX5_name 3 s ([.ref t0, .int p1] : List Value).toArray lw_all RX5 := ⟨hx, hb, hml, hown, hts⟩
  have hS : va_S (wA G) s.heap s.heap [] := va_S.rf
  have hl := lv_entry ([.ref t0, .int p1]) (n := 3) (Nat.le_of_ble_eq_true rfl)
  rw [lg_entry_eq]
  generalize (lg_sl ([.ref t0, .int p1]) ++ List.replicate (3 - (lg_sl ([.ref t0, .int p1])).length) Slot.unset).toArray = ls at hl ⊢
  have hl : lv_has ls 3 [(0, .ref t0), (1, .int p1)] := hl
  have hB : 0 + b ≤ ((headSpec (ws_ yX5_name cX5_name 3 (Option.some Jvm.ClassFile.FieldType.int)) ({ frames := 17, cells := b, slots := b, locals := 509 })).room).cells ∧ 0 + b ≤ ((headSpec (ws_ yX5_name cX5_name 3 (Option.some Jvm.ClassFile.FieldType.int)) ({ frames := 17, cells := b, slots := b, locals := 509 })).room).slots := ⟨Nat.le_of_eq (Nat.zero_add b), Nat.le_of_eq (Nat.zero_add b)⟩
  have hB41 : ∀ (x0 : Nat) (x1 : Int32) (y0 : Int32) (M : wM) (bq : Nat) (H : Heap) (locs : List Loc) (ls : Array Slot) (cells slots : Nat), B_X5_name_41 G Q Xp x0 x1 y0 M bq → wR G M H → va_S (wA G) s.heap H locs → (cells + bq ≤ ((headSpec (ws_ yX5_name cX5_name 3 (Option.some Jvm.ClassFile.FieldType.int)) ({ frames := 17, cells := b, slots := b, locals := 509 })).room).cells ∧ slots + bq ≤ ((headSpec (ws_ yX5_name cX5_name 3 (Option.some Jvm.ClassFile.FieldType.int)) ({ frames := 17, cells := b, slots := b, locals := 509 })).room).slots) → lv_has ls 3 [(0, .ref x0), (1, .int x1)] → W p l e (headSpec (ws_ yX5_name cX5_name 3 (Option.some Jvm.ClassFile.FieldType.int)) ({ frames := 17, cells := b, slots := b, locals := 509 })).room s m ([.ref t0, .int p1] : List Value).toArray below meth c H locs cells slots (vx_MQ below (wQ G (wqI Q)) (wXC G Xp) ([.ref t0, .int p1] : List Value).toArray s b b (wA G)) (F0 m 41 ls [.int y0]) := by
    intro x0 x1 y0 M bq H locs ls cells slots hp hM hS hB hl
    refine lv_istore_n (lv' := [(2, .int y0), (0, .ref x0), (1, .int x1)]) hx hb dX5_name_41 rfl hl (by decide) rfl (fun ls hl => ?_)
    refine lv_aload_n hx hb dX5_name_42 rfl (lv_at hl 1 rfl) ?_
    refine lv_iload_n hx hb dX5_name_43 rfl (lv_at hl 0 rfl) ?_
    refine lv_iconst (v := 1) hx hb dX5_name_44 (by decide) ?_
    obtain ⟨hrec, hp⟩ := hp
    obtain ⟨c2, hc1, hp⟩ := hp
    refine x_callV (vx_runV (As := [.int y0, .int (1 : Int32)]) (rest := []) X (P_X5_require_ok (l := l) hl0 hp) (cwV 2 hts (lw_V q1240 q1242 qs14 q179 q1243) rfl rfl rfl (by decide +kernel) ⟨Nat.le_of_ble_eq_true rfl, Nat.le_of_ble_eq_true rfl⟩) ⟨wPc.blind, w_recv hC.1 hM (ci := 4) (q := (RX5, TX5, 9)) rfl hrec, w_pre hC hM hS _⟩ rfl rfl hl.1 rfl (lv_room (Nat.le_of_ble_eq_true rfl)) dX5_name_45 (w_room hB hc1)) hS hB hc1 (fun E ce q13 M14 H locs hp hM hS hB hcell hcv hcl => ?_) (fun M1 H locs hp hM hS hB => ?_)
    · obtain ⟨rfl, hp⟩ := hp
      exact x_out hlk (fun x h => (hnt x h).elim) hM hS (w_fin hB) hcell hcv hcl hp
    · refine lv_aload_n hx hb dX5_name_48 rfl (lv_at hl 1 rfl) ?_
      refine x_getA X hC.1 hM (ci := 4) (C := RX5) (T := TX5) (N := 9) rfl in_X5 1 (by decide) q1130 (fun _ h9 => h9) dX5_name_49 hp (fun a3 hp => ?_)
      refine x_getAN X hC.1 hM (ci := 2) (C := RX3) (T := TX3) (N := 8) rfl in_X3 3 (by decide) q408 (fun _ h9 => h9) dX5_name_52 hp (fun a4 hp => ?_)
      refine lv_iload_n hx hb dX5_name_55 rfl (lv_at hl 2 rfl) ?_
      obtain ⟨hrec, hp⟩ := hp
      refine x_call0R5 (vx_runF (hC.1.1.1 16 (RJ2, TJ2, 3) rfl).2 (C := "java/util/ArrayList") (As := [.int x1]) (rest := []) X (P_J2_get_ok (l := l) hl0 hp) (va_cwF 1 hts (lw_app (w_mem4 q1367 q522 q524 q153) (lw_meth q526)) rfl rfl rfl (wfw_8 hC.1) (by decide +kernel) ⟨Nat.le_of_ble_eq_true rfl, Nat.le_of_ble_eq_true rfl⟩) ⟨wPc.blind, w_recv hC.1 hM (ci := 16) (q := (RJ2, TJ2, 3)) rfl hrec, w_pre hC hM hS _⟩ rfl rfl hl.1 rfl (lv_room (Nat.le_of_ble_eq_true rfl)) dX5_name_56 (w_room0 hB)) hS (w_room0 hB) (fun _ _ _ _ _ _ h => False.elim h) (fun r7 M5 H locs hp hM hS => ?_)
      refine x_cast (r := r7) X hC.1 hM q1368 (ci := 16) rfl (Or.inr q265) dX5_name_61 hp (fun hp => ?_)
      refine lv_aload_n hx hb dX5_name_64 rfl (lv_at hl 1 rfl) ?_
      refine x_getA X hC.1 hM (ci := 4) (C := RX5) (T := TX5) (N := 9) rfl in_X5 7 (by decide) q1136 (fun _ h9 => h9) dX5_name_65 hp (fun a8 hp => ?_)
      obtain ⟨a9, ea, hqa9⟩ := hp
      subst ea
      have hp := hqa9
      obtain ⟨hrec, hp⟩ := hp
      refine x_call0I5 (vx_runF (hC.1.1.1 16 (RJ2, TJ2, 3) rfl).2 (C := "java/util/ArrayList") (As := [.ref a8]) (rest := []) X (P_J2_indexOf_ok (l := l) hl0 hp) (va_cwF 1 hts (lw_app (w_mem4 q1370 q1372 q1291 q153) (lw_meth q1293)) rfl rfl rfl (wfw_9 hC.1) (by decide +kernel) ⟨Nat.le_of_ble_eq_true rfl, Nat.le_of_ble_eq_true rfl⟩) ⟨wPc.blind, w_recv hC.1 hM (ci := 16) (q := (RJ2, TJ2, 3)) rfl hrec, w_pre hC hM hS _⟩ rfl rfl hl.1 rfl (lv_room (Nat.le_of_ble_eq_true rfl)) dX5_name_68 (w_room0 hB)) hS (w_room0 hB) (fun _ _ _ _ _ _ h => False.elim h) (fun v12 M10 H locs hp hM hS => ?_)
      exact x_iret X hr hlk hM hS (w_fin hB) dX5_name_73 ⟨_, rfl, hp⟩
  have hB40 : ∀ (x0 : Nat) (x1 : Int32) (M : wM) (bq : Nat) (H : Heap) (locs : List Loc) (ls : Array Slot) (cells slots : Nat), B_X5_name_40 G Q Xp x0 x1 M bq → wR G M H → va_S (wA G) s.heap H locs → (cells + bq ≤ ((headSpec (ws_ yX5_name cX5_name 3 (Option.some Jvm.ClassFile.FieldType.int)) ({ frames := 17, cells := b, slots := b, locals := 509 })).room).cells ∧ slots + bq ≤ ((headSpec (ws_ yX5_name cX5_name 3 (Option.some Jvm.ClassFile.FieldType.int)) ({ frames := 17, cells := b, slots := b, locals := 509 })).room).slots) → lv_has ls 3 [(0, .ref x0), (1, .int x1)] → W p l e (headSpec (ws_ yX5_name cX5_name 3 (Option.some Jvm.ClassFile.FieldType.int)) ({ frames := 17, cells := b, slots := b, locals := 509 })).room s m ([.ref t0, .int p1] : List Value).toArray below meth c H locs cells slots (vx_MQ below (wQ G (wqI Q)) (wXC G Xp) ([.ref t0, .int p1] : List Value).toArray s b b (wA G)) (F0 m 40 ls []) := by
    intro x0 x1 M bq H locs ls cells slots hp hM hS hB hl
    refine lv_iconst (v := 0) hx hb dX5_name_40 (by decide) ?_
    exact hB41 _ _ _ _ _ _ _ _ _ _ hp hM hS hB (lv_sub hl [0, 1] rfl)
  refine lv_aload_n hx hb dX5_name_0 rfl (lv_at hl 0 rfl) ?_
  refine x_getI X hC.1 hM (ci := 4) (C := RX5) (T := TX5) (N := 9) rfl in_X5 5 (by decide) q1134 (fun _ h9 => h9) dX5_name_1 hp (fun v1 hp => ?_)
  refine lv_iconst (v := 1) hx hb dX5_name_4 (by decide) ?_
  refine lv_icmp_ne (tgt := 40) hx hb dX5_name_5 (by decide) (fun hc => ?_) (fun hc => ?_)
  · have hp := oIf.f hp hc
    exact hB40 _ _ _ _ _ _ _ _ _ hp hM hS hB (lv_sub hl [0, 1] rfl)
  · have hp := oIf.t hp hc
    refine lv_aload_n hx hb dX5_name_8 rfl (lv_at hl 0 rfl) ?_
    refine x_getA X hC.1 hM (ci := 4) (C := RX5) (T := TX5) (N := 9) rfl in_X5 7 (by decide) q1136 (fun _ h9 => h9) dX5_name_9 hp (fun a2 hp => ?_)
    obtain ⟨hrec, hp⟩ := hp
    refine x_call0I (vx_runV (As := []) (rest := []) X (P_J19_length_ok (l := l) hl0 hp) (cwV 0 hts (lw_V q1280 q695 q696 q171 q697) rfl rfl rfl (by decide +kernel) ⟨Nat.le_of_ble_eq_true rfl, Nat.le_of_ble_eq_true rfl⟩) ⟨wPc.blind, w_recv hC.1 hM (ci := 24) (q := (RJ19, TJ19, 4)) rfl hrec, w_pre hC hM hS _⟩ rfl rfl hl.1 rfl (lv_room (Nat.le_of_ble_eq_true rfl)) dX5_name_12 (w_room0 hB)) hS (w_room0 hB) (fun _ _ _ _ _ _ h => False.elim h) (fun v5 M3 H locs hp hM hS => ?_)
    refine lv_bipush (v := 8) hx hb dX5_name_15 (by decide) ?_
    refine lv_icmp_gt (tgt := 40) hx hb dX5_name_17 (by decide) (fun hc => ?_) (fun hc => ?_)
    · have hp := oIf.t hp hc
      exact hB40 _ _ _ _ _ _ _ _ _ hp hM hS hB (lv_sub hl [0, 1] rfl)
    · have hp := oIf.f hp hc
      refine lv_aload_n hx hb dX5_name_20 rfl (lv_at hl 0 rfl) ?_
      refine x_getA X hC.1 hM (ci := 4) (C := RX5) (T := TX5) (N := 9) rfl in_X5 0 (by decide) q1129 (fun _ h9 => h9) dX5_name_21 hp (fun a6 hp => ?_)
      refine lv_aload_n hx hb dX5_name_24 rfl (lv_at hl 0 rfl) ?_
      refine x_getA X hC.1 hM (ci := 4) (C := RX5) (T := TX5) (N := 9) rfl in_X5 7 (by decide) q1136 (fun _ h9 => h9) dX5_name_25 hp (fun a7 hp => ?_)
      obtain ⟨hrec, hp⟩ := hp
      refine x_call0Z5 (vx_runF (hC.1.1.1 26 (RJ30, TJ30, 2) rfl).2 (C := "java/util/ImmutableCollections$ListN") (As := [.ref a7]) (rest := []) X (P_J28_contains_J30_ok (l := l) hl0 hp) (va_cwF 1 hts (lw_app (w_mem4 q1282 q1354 q1338 q182) (lw_meth q1340)) rfl rfl rfl (wfw_20 hC.1) (by decide +kernel) ⟨Nat.le_of_ble_eq_true rfl, Nat.le_of_ble_eq_true rfl⟩) ⟨wPc.blind, w_recv hC.1 hM (ci := 26) (q := (RJ30, TJ30, 2)) rfl hrec, w_pre hC hM hS _⟩ rfl rfl hl.1 rfl (lv_room (Nat.le_of_ble_eq_true rfl)) dX5_name_28 (w_room0 hB)) hS (w_room0 hB) (fun _ _ _ _ _ _ h => False.elim h) (fun r10 M8 H locs hp hM hS => ?_)
      refine x_ifneB (tgt := 40) hx hb dX5_name_33 (by decide) (fun hc => ?_) (fun hc => ?_)
      · have hp := oIf.bt hp hc
        exact hB40 _ _ _ _ _ _ _ _ _ hp hM hS hB (lv_sub hl [0, 1] rfl)
      · have hp := oIf.bf hp hc
        refine lv_iconst (v := 1) hx hb dX5_name_36 (by decide) ?_
        refine lv_goto (tgt := 41) hx hb dX5_name_37 (by decide) ?_
        exact hB41 _ _ _ _ _ _ _ _ _ _ hp hM hS hB (lv_sub hl [0, 1] rfl)
def B_X5_newName_17 (G : wG) (Q : wM → Prop) (Xp : String → Nat → wM → Prop) (x0 : Nat) (x1 : Int32) (y0 : Int32) (y1 : Nat) (M : wM) (bq : Nat) : Prop :=
  oIs M y1 4 (∃ c2, c2 ≤ bq ∧ P_X5_require G y1 y0 (3 : Int32) c2 M (fun M1 => oGetA M1 x0 4 1 (fun a3 => oGetA M1 a3 2 3 (fun a4 => oIs M1 a4 16 (P_J2_get G a4 x1 M1 (fun r7 M5 => oCast M5 r7 16 (oGetA M5 x0 4 7 (fun a8 => oRef r7 (fun a9 => oIs M5 a9 16 (∃ c11, c11 ≤ (bq - c2) ∧ P_J2_add G a9 (some a8) c11 M5 (fun r12 M10 => oIs M10 x0 4 (∃ c14, c14 ≤ ((bq - c2) - c11) ∧ P_X5_advance G x0 c14 M10 (fun M13 => Q M13)))))))))))) (fun E q15 M16 => (E = "ParkingOffice$ParseException" ∧ Xp E q15 M16)))
def P_X5_newName (G : wG) (t0 : Nat) (p1 : Int32) (b : Nat) (M : wM) (Q : wM → Prop) (Xp : String → Nat → wM → Prop) : Prop :=
  oIs M t0 4 (∃ c2, c2 ≤ b ∧ P_X5_name G t0 p1 c2 M (fun v3 M1 => oIf (v3 = (-1 : Int32)) (B_X5_newName_17 G Q Xp t0 p1 (1 : Int32) t0 M1 (b - c2)) (B_X5_newName_17 G Q Xp t0 p1 (0 : Int32) t0 M1 (b - c2))) (fun E q4 M5 => (E = "ParkingOffice$ParseException" ∧ Xp E q4 M5)))
set_option maxHeartbeats 4000000 in
set_option maxRecDepth 100000 in
theorem P_X5_newName_ok {l : Launch} (hl0 : l.stackTraces = false) {G : wG} {t0 : Nat} {p1 : Int32} {b : Nat} {M : wM} {Q : wM → Prop} {Xp : String → Nat → wM → Prop} (hp : P_X5_newName G t0 p1 b M Q Xp) : wMet l yX5_newName (ws_ yX5_newName cX5_newName 3 (none)) 19 556 G [.ref t0, .int p1] M b (wqV Q) Xp := by
  refine vx_ofW (cc := cX5_newName) (maxL := 3) (ret := none) (by decide) rfl ?_
  intro p e s m args below meth c s₁ B hml hnt hv
  obtain ⟨rfl, hM, hK, hZ, hz⟩ := hv
  have hC : wC G s := ⟨hK, hZ, hz⟩
  have hx := B.exec
  have hb := B.bytes
  have hr := B.returns
  have hts := atoms_spec (ws := (ws_ yX5_newName cX5_newName 3 (none))) B.pre
  have hts : ∀ w ∈ lw_all, w.before _ s = true := fun w h => hts w (List.mem_cons_of_mem _ h)
  have hown : s.vm.findClass RX5 = some m.cls := findClass_of_methodNamed B.named
  have hlk := B.notSynchronized
  have X : CallFix p m c cX5_newName 3 s ([.ref t0, .int p1] : List Value).toArray lw_all RX5 := ⟨hx, hb, hml, hown, hts⟩
  have hS : va_S (wA G) s.heap s.heap [] := va_S.rf
  have hl := lv_entry ([.ref t0, .int p1]) (n := 3) (Nat.le_of_ble_eq_true rfl)
  rw [lg_entry_eq]
  generalize (lg_sl ([.ref t0, .int p1]) ++ List.replicate (3 - (lg_sl ([.ref t0, .int p1])).length) Slot.unset).toArray = ls at hl ⊢
  have hl : lv_has ls 3 [(0, .ref t0), (1, .int p1)] := hl
  have hB : 0 + b ≤ ((headSpec (ws_ yX5_newName cX5_newName 3 (none)) ({ frames := 19, cells := b, slots := b, locals := 556 })).room).cells ∧ 0 + b ≤ ((headSpec (ws_ yX5_newName cX5_newName 3 (none)) ({ frames := 19, cells := b, slots := b, locals := 556 })).room).slots := ⟨Nat.le_of_eq (Nat.zero_add b), Nat.le_of_eq (Nat.zero_add b)⟩
  have hB17 : ∀ (x0 : Nat) (x1 : Int32) (y0 : Int32) (y1 : Nat) (M : wM) (bq : Nat) (H : Heap) (locs : List Loc) (ls : Array Slot) (cells slots : Nat), B_X5_newName_17 G Q Xp x0 x1 y0 y1 M bq → wR G M H → va_S (wA G) s.heap H locs → (cells + bq ≤ ((headSpec (ws_ yX5_newName cX5_newName 3 (none)) ({ frames := 19, cells := b, slots := b, locals := 556 })).room).cells ∧ slots + bq ≤ ((headSpec (ws_ yX5_newName cX5_newName 3 (none)) ({ frames := 19, cells := b, slots := b, locals := 556 })).room).slots) → lv_has ls 3 [(0, .ref x0), (1, .int x1)] → W p l e (headSpec (ws_ yX5_newName cX5_newName 3 (none)) ({ frames := 19, cells := b, slots := b, locals := 556 })).room s m ([.ref t0, .int p1] : List Value).toArray below meth c H locs cells slots (vx_MQ below (wQ G (wqV Q)) (wXC G Xp) ([.ref t0, .int p1] : List Value).toArray s b b (wA G)) (F0 m 17 ls [.int y0, .ref y1]) := by
    intro x0 x1 y0 y1 M bq H locs ls cells slots hp hM hS hB hl
    refine lv_iconst (v := 3) hx hb dX5_newName_17 (by decide) ?_
    obtain ⟨hrec, hp⟩ := hp
    obtain ⟨c2, hc1, hp⟩ := hp
    refine x_callV (vx_runV (As := [.int y0, .int (3 : Int32)]) (rest := []) X (P_X5_require_ok (l := l) hl0 hp) (cwV 2 hts (lw_V q1240 q1242 qs14 q179 q1243) rfl rfl rfl (by decide +kernel) ⟨Nat.le_of_ble_eq_true rfl, Nat.le_of_ble_eq_true rfl⟩) ⟨wPc.blind, w_recv hC.1 hM (ci := 4) (q := (RX5, TX5, 9)) rfl hrec, w_pre hC hM hS _⟩ rfl rfl hl.1 rfl (lv_room (Nat.le_of_ble_eq_true rfl)) dX5_newName_18 (w_room hB hc1)) hS hB hc1 (fun E ce q15 M16 H locs hp hM hS hB hcell hcv hcl => ?_) (fun M1 H locs hp hM hS hB => ?_)
    · obtain ⟨rfl, hp⟩ := hp
      exact x_out hlk (fun x h => (hnt x h).elim) hM hS (w_fin hB) hcell hcv hcl hp
    · refine lv_aload_n hx hb dX5_newName_21 rfl (lv_at hl 0 rfl) ?_
      refine x_getA X hC.1 hM (ci := 4) (C := RX5) (T := TX5) (N := 9) rfl in_X5 1 (by decide) q1130 (fun _ h9 => h9) dX5_newName_22 hp (fun a3 hp => ?_)
      refine x_getAN X hC.1 hM (ci := 2) (C := RX3) (T := TX3) (N := 8) rfl in_X3 3 (by decide) q408 (fun _ h9 => h9) dX5_newName_25 hp (fun a4 hp => ?_)
      refine lv_iload_n hx hb dX5_newName_28 rfl (lv_at hl 1 rfl) ?_
      obtain ⟨hrec, hp⟩ := hp
      refine x_call0R5 (vx_runF (hC.1.1.1 16 (RJ2, TJ2, 3) rfl).2 (C := "java/util/ArrayList") (As := [.int x1]) (rest := []) X (P_J2_get_ok (l := l) hl0 hp) (va_cwF 1 hts (lw_app (w_mem4 q1367 q522 q524 q153) (lw_meth q526)) rfl rfl rfl (wfw_8 hC.1) (by decide +kernel) ⟨Nat.le_of_ble_eq_true rfl, Nat.le_of_ble_eq_true rfl⟩) ⟨wPc.blind, w_recv hC.1 hM (ci := 16) (q := (RJ2, TJ2, 3)) rfl hrec, w_pre hC hM hS _⟩ rfl rfl hl.1 rfl (lv_room (Nat.le_of_ble_eq_true rfl)) dX5_newName_29 (w_room0 hB)) hS (w_room0 hB) (fun _ _ _ _ _ _ h => False.elim h) (fun r7 M5 H locs hp hM hS => ?_)
      refine x_cast (r := r7) X hC.1 hM q1368 (ci := 16) rfl (Or.inr q265) dX5_newName_34 hp (fun hp => ?_)
      refine lv_aload_n hx hb dX5_newName_37 rfl (lv_at hl 0 rfl) ?_
      refine x_getA X hC.1 hM (ci := 4) (C := RX5) (T := TX5) (N := 9) rfl in_X5 7 (by decide) q1136 (fun _ h9 => h9) dX5_newName_38 hp (fun a8 hp => ?_)
      obtain ⟨a9, ea, hqa9⟩ := hp
      subst ea
      have hp := hqa9
      obtain ⟨hrec, hp⟩ := hp
      obtain ⟨c11, hc1, hp⟩ := hp
      refine x_callZ5 (vx_runF (hC.1.1.1 16 (RJ2, TJ2, 3) rfl).2 (C := "java/util/ArrayList") (As := [va_rf (some a8)]) (rest := []) X (P_J2_add_ok (l := l) hl0 hp) (va_cwF 1 hts (lw_app (w_mem4 q1383 q266 q268 q153) (lw_meth q270)) rfl rfl rfl (wfw_5 hC.1) (by decide +kernel) ⟨Nat.le_of_ble_eq_true rfl, Nat.le_of_ble_eq_true rfl⟩) ⟨wPc.blind, w_recv hC.1 hM (ci := 16) (q := (RJ2, TJ2, 3)) rfl hrec, w_pre hC hM hS _⟩ rfl rfl hl.1 rfl (lv_room (Nat.le_of_ble_eq_true rfl)) dX5_newName_41 (w_room hB hc1)) hS hB hc1 (fun _ _ _ _ _ _ h => False.elim h) (fun r12 M10 H locs hp hM hS hB => ?_)
      refine lv_pop hx hb dX5_newName_46 rfl ?_
      refine lv_aload_n hx hb dX5_newName_47 rfl (lv_at hl 0 rfl) ?_
      obtain ⟨hrec, hp⟩ := hp
      obtain ⟨c14, hc1, hp⟩ := hp
      refine x_callV (vx_runV (As := []) (rest := []) X (P_X5_advance_ok (l := l) hl0 hp) (cwV 0 hts (lw_V q1097 q1099 qs10 q179 q1100) rfl rfl rfl (by decide +kernel) ⟨Nat.le_of_ble_eq_true rfl, Nat.le_of_ble_eq_true rfl⟩) ⟨wPc.blind, w_recv hC.1 hM (ci := 4) (q := (RX5, TX5, 9)) rfl hrec, w_pre hC hM hS _⟩ rfl rfl hl.1 rfl (lv_room (Nat.le_of_ble_eq_true rfl)) dX5_newName_48 (w_room hB hc1)) hS hB hc1 (fun _ _ _ _ _ _ h => False.elim h) (fun M13 H locs hp hM hS hB => ?_)
      exact x_vret X hr hlk hM hS (w_fin hB) dX5_newName_51 ⟨rfl, hp⟩
  refine lv_aload_n hx hb dX5_newName_0 rfl (lv_at hl 0 rfl) ?_
  refine lv_iload_n hx hb dX5_newName_1 rfl (lv_at hl 1 rfl) ?_
  obtain ⟨hrec, hp⟩ := hp
  obtain ⟨c2, hc1, hp⟩ := hp
  refine x_callI (vx_runV (As := [.int p1]) (rest := []) X (P_X5_name_ok (l := l) hl0 hp) (cwV 1 hts (lw_V q1276 q1278 qs16 q179 q1279) rfl rfl rfl (by decide +kernel) ⟨Nat.le_of_ble_eq_true rfl, Nat.le_of_ble_eq_true rfl⟩) ⟨wPc.blind, w_recv hC.1 hM (ci := 4) (q := (RX5, TX5, 9)) rfl hrec, w_pre hC hM hS _⟩ rfl rfl hl.1 rfl (lv_room (Nat.le_of_ble_eq_true rfl)) dX5_newName_2 (w_room hB hc1)) hS hB hc1 (fun E ce q4 M5 H locs hp hM hS hB hcell hcv hcl => ?_) (fun v3 M1 H locs hp hM hS hB => ?_)
  · obtain ⟨rfl, hp⟩ := hp
    exact x_out hlk (fun x h => (hnt x h).elim) hM hS (w_fin hB) hcell hcv hcl hp
  · refine lv_istore_n (lv' := [(2, .int v3), (0, .ref t0), (1, .int p1)]) hx hb dX5_newName_5 rfl hl (by decide) rfl (fun ls hl => ?_)
    refine lv_aload_n hx hb dX5_newName_6 rfl (lv_at hl 1 rfl) ?_
    refine lv_iload_n hx hb dX5_newName_7 rfl (lv_at hl 0 rfl) ?_
    refine lv_iconst (v := (-1)) hx hb dX5_newName_8 (by decide) ?_
    refine lv_icmp_ne (tgt := 16) hx hb dX5_newName_9 (by decide) (fun hc => ?_) (fun hc => ?_)
    · have hp := oIf.f hp hc
      refine lv_iconst (v := 0) hx hb dX5_newName_16 (by decide) ?_
      exact hB17 _ _ _ _ _ _ _ _ _ _ _ hp hM hS hB (lv_sub hl [1, 2] rfl)
    · have hp := oIf.t hp hc
      refine lv_iconst (v := 1) hx hb dX5_newName_12 (by decide) ?_
      refine lv_goto (tgt := 17) hx hb dX5_newName_13 (by decide) ?_
      exact hB17 _ _ _ _ _ _ _ _ _ _ _ hp hM hS hB (lv_sub hl [1, 2] rfl)
def B_X5_accept_33 (G : wG) (Q : Bool → wM → Prop) (x2 : Int32) (M : wM) (bq : Nat) : Prop :=
  ∃ r : Bool, x2 = wb r ∧ Q r M
def B_X5_accept_24 (G : wG) (Q : Bool → wM → Prop) (x0 : Nat) (y0 : Int32) (M : wM) (bq : Nat) : Prop :=
  oIf (y0 = 0) (B_X5_accept_33 G Q y0 M bq) (oIs M x0 4 (∃ c2, c2 ≤ bq ∧ P_X5_advance G x0 c2 M (fun M1 => B_X5_accept_33 G Q y0 M1 (bq - c2))))
def B_X5_accept_23 (G : wG) (Q : Bool → wM → Prop) (x0 : Nat) (M : wM) (bq : Nat) : Prop :=
  B_X5_accept_24 G Q x0 (0 : Int32) M bq
def P_X5_accept (G : wG) (t0 : Nat) (p1 : Nat) (b : Nat) (M : wM) (Q : Bool → wM → Prop) : Prop :=
  oGetI M t0 4 5 (fun v1 => oIf (v1 = (1 : Int32)) (oGetA M t0 4 7 (fun a2 => oIs M a2 24 (P_J19_equals G a2 (some p1) M (fun r5 M3 => oIf (r5 = true) (B_X5_accept_24 G Q t0 (1 : Int32) M3 b) (B_X5_accept_23 G Q t0 M3 b))))) (B_X5_accept_23 G Q t0 M b))
set_option maxHeartbeats 4000000 in
set_option maxRecDepth 100000 in
theorem P_X5_accept_ok {l : Launch} (hl0 : l.stackTraces = false) {G : wG} {t0 : Nat} {p1 : Nat} {b : Nat} {M : wM} {Q : Bool → wM → Prop} (hp : P_X5_accept G t0 p1 b M Q) : wMet l yX5_accept (ws_ yX5_accept cX5_accept 3 (Option.some Jvm.ClassFile.FieldType.boolean)) 19 556 G [.ref t0, .ref p1] M b (wqZ Q) wX0 := by
  refine vx_ofW (cc := cX5_accept) (maxL := 3) (ret := Option.some Jvm.ClassFile.FieldType.boolean) (by decide) rfl ?_
  intro p e s m args below meth c s₁ B hml hnt hv
  obtain ⟨rfl, hM, hK, hZ, hz⟩ := hv
  have hC : wC G s := ⟨hK, hZ, hz⟩
  have hx := B.exec
  have hb := B.bytes
  have hr := B.returns
  have hts := atoms_spec (ws := (ws_ yX5_accept cX5_accept 3 (Option.some Jvm.ClassFile.FieldType.boolean))) B.pre
  have hts : ∀ w ∈ lw_all, w.before _ s = true := fun w h => hts w (List.mem_cons_of_mem _ h)
  have hown : s.vm.findClass RX5 = some m.cls := findClass_of_methodNamed B.named
  have hlk := B.notSynchronized
  have X : CallFix p m c cX5_accept 3 s ([.ref t0, .ref p1] : List Value).toArray lw_all RX5 := ⟨hx, hb, hml, hown, hts⟩
  have hS : va_S (wA G) s.heap s.heap [] := va_S.rf
  have hl := lv_entry ([.ref t0, .ref p1]) (n := 3) (Nat.le_of_ble_eq_true rfl)
  rw [lg_entry_eq]
  generalize (lg_sl ([.ref t0, .ref p1]) ++ List.replicate (3 - (lg_sl ([.ref t0, .ref p1])).length) Slot.unset).toArray = ls at hl ⊢
  have hl : lv_has ls 3 [(0, .ref t0), (1, .ref p1)] := hl
  have hB : 0 + b ≤ ((headSpec (ws_ yX5_accept cX5_accept 3 (Option.some Jvm.ClassFile.FieldType.boolean)) ({ frames := 19, cells := b, slots := b, locals := 556 })).room).cells ∧ 0 + b ≤ ((headSpec (ws_ yX5_accept cX5_accept 3 (Option.some Jvm.ClassFile.FieldType.boolean)) ({ frames := 19, cells := b, slots := b, locals := 556 })).room).slots := ⟨Nat.le_of_eq (Nat.zero_add b), Nat.le_of_eq (Nat.zero_add b)⟩
  have hB33 : ∀ (x2 : Int32) (M : wM) (bq : Nat) (H : Heap) (locs : List Loc) (ls : Array Slot) (cells slots : Nat), B_X5_accept_33 G Q x2 M bq → wR G M H → va_S (wA G) s.heap H locs → (cells + bq ≤ ((headSpec (ws_ yX5_accept cX5_accept 3 (Option.some Jvm.ClassFile.FieldType.boolean)) ({ frames := 19, cells := b, slots := b, locals := 556 })).room).cells ∧ slots + bq ≤ ((headSpec (ws_ yX5_accept cX5_accept 3 (Option.some Jvm.ClassFile.FieldType.boolean)) ({ frames := 19, cells := b, slots := b, locals := 556 })).room).slots) → lv_has ls 3 [(2, .int x2)] → W p l e (headSpec (ws_ yX5_accept cX5_accept 3 (Option.some Jvm.ClassFile.FieldType.boolean)) ({ frames := 19, cells := b, slots := b, locals := 556 })).room s m ([.ref t0, .ref p1] : List Value).toArray below meth c H locs cells slots (vx_MQ below (wQ G (wqZ Q)) (wXC G wX0) ([.ref t0, .ref p1] : List Value).toArray s b b (wA G)) (F0 m 33 ls []) := by
    intro x2 M bq H locs ls cells slots hp hM hS hB hl
    refine lv_iload_n hx hb dX5_accept_33 rfl (lv_at hl 0 rfl) ?_
    obtain ⟨r, hr0, hp⟩ := hp
    exact x_zret X hr hlk hM hS (w_fin hB) (by rw [hr0]; exact w_nz _) dX5_accept_34 ⟨r, by rw [hr0], hp⟩
  have hB24 : ∀ (x0 : Nat) (y0 : Int32) (M : wM) (bq : Nat) (H : Heap) (locs : List Loc) (ls : Array Slot) (cells slots : Nat), B_X5_accept_24 G Q x0 y0 M bq → wR G M H → va_S (wA G) s.heap H locs → (cells + bq ≤ ((headSpec (ws_ yX5_accept cX5_accept 3 (Option.some Jvm.ClassFile.FieldType.boolean)) ({ frames := 19, cells := b, slots := b, locals := 556 })).room).cells ∧ slots + bq ≤ ((headSpec (ws_ yX5_accept cX5_accept 3 (Option.some Jvm.ClassFile.FieldType.boolean)) ({ frames := 19, cells := b, slots := b, locals := 556 })).room).slots) → lv_has ls 3 [(0, .ref x0)] → W p l e (headSpec (ws_ yX5_accept cX5_accept 3 (Option.some Jvm.ClassFile.FieldType.boolean)) ({ frames := 19, cells := b, slots := b, locals := 556 })).room s m ([.ref t0, .ref p1] : List Value).toArray below meth c H locs cells slots (vx_MQ below (wQ G (wqZ Q)) (wXC G wX0) ([.ref t0, .ref p1] : List Value).toArray s b b (wA G)) (F0 m 24 ls [.int y0]) := by
    intro x0 y0 M bq H locs ls cells slots hp hM hS hB hl
    refine lv_istore_n (lv' := [(2, .int y0), (0, .ref x0)]) hx hb dX5_accept_24 rfl hl (by decide) rfl (fun ls hl => ?_)
    refine lv_iload_n hx hb dX5_accept_25 rfl (lv_at hl 0 rfl) ?_
    refine lv_if_eq (tgt := 33) hx hb dX5_accept_26 (by decide) (fun hc => ?_) (fun hc => ?_)
    · have hp := oIf.t hp hc
      exact hB33 _ _ _ _ _ _ _ _ hp hM hS hB (lv_sub hl [0] rfl)
    · have hp := oIf.f hp hc
      refine lv_aload_n hx hb dX5_accept_29 rfl (lv_at hl 1 rfl) ?_
      obtain ⟨hrec, hp⟩ := hp
      obtain ⟨c2, hc1, hp⟩ := hp
      refine x_callV (vx_runV (As := []) (rest := []) X (P_X5_advance_ok (l := l) hl0 hp) (cwV 0 hts (lw_V q1097 q1099 qs10 q179 q1100) rfl rfl rfl (by decide +kernel) ⟨Nat.le_of_ble_eq_true rfl, Nat.le_of_ble_eq_true rfl⟩) ⟨wPc.blind, w_recv hC.1 hM (ci := 4) (q := (RX5, TX5, 9)) rfl hrec, w_pre hC hM hS _⟩ rfl rfl hl.1 rfl (lv_room (Nat.le_of_ble_eq_true rfl)) dX5_accept_30 (w_room hB hc1)) hS hB hc1 (fun _ _ _ _ _ _ h => False.elim h) (fun M1 H locs hp hM hS hB => ?_)
      exact hB33 _ _ _ _ _ _ _ _ hp hM hS hB (lv_sub hl [0] rfl)
  have hB23 : ∀ (x0 : Nat) (M : wM) (bq : Nat) (H : Heap) (locs : List Loc) (ls : Array Slot) (cells slots : Nat), B_X5_accept_23 G Q x0 M bq → wR G M H → va_S (wA G) s.heap H locs → (cells + bq ≤ ((headSpec (ws_ yX5_accept cX5_accept 3 (Option.some Jvm.ClassFile.FieldType.boolean)) ({ frames := 19, cells := b, slots := b, locals := 556 })).room).cells ∧ slots + bq ≤ ((headSpec (ws_ yX5_accept cX5_accept 3 (Option.some Jvm.ClassFile.FieldType.boolean)) ({ frames := 19, cells := b, slots := b, locals := 556 })).room).slots) → lv_has ls 3 [(0, .ref x0)] → W p l e (headSpec (ws_ yX5_accept cX5_accept 3 (Option.some Jvm.ClassFile.FieldType.boolean)) ({ frames := 19, cells := b, slots := b, locals := 556 })).room s m ([.ref t0, .ref p1] : List Value).toArray below meth c H locs cells slots (vx_MQ below (wQ G (wqZ Q)) (wXC G wX0) ([.ref t0, .ref p1] : List Value).toArray s b b (wA G)) (F0 m 23 ls []) := by
    intro x0 M bq H locs ls cells slots hp hM hS hB hl
    refine lv_iconst (v := 0) hx hb dX5_accept_23 (by decide) ?_
    exact hB24 _ _ _ _ _ _ _ _ _ hp hM hS hB (lv_sub hl [0] rfl)
  refine lv_aload_n hx hb dX5_accept_0 rfl (lv_at hl 0 rfl) ?_
  refine x_getI X hC.1 hM (ci := 4) (C := RX5) (T := TX5) (N := 9) rfl in_X5 5 (by decide) q1134 (fun _ h9 => h9) dX5_accept_1 hp (fun v1 hp => ?_)
  refine lv_iconst (v := 1) hx hb dX5_accept_4 (by decide) ?_
  refine lv_icmp_ne (tgt := 23) hx hb dX5_accept_5 (by decide) (fun hc => ?_) (fun hc => ?_)
  · have hp := oIf.f hp hc
    exact hB23 _ _ _ _ _ _ _ _ hp hM hS hB (lv_sub hl [0] rfl)
  · have hp := oIf.t hp hc
    refine lv_aload_n hx hb dX5_accept_8 rfl (lv_at hl 0 rfl) ?_
    refine x_getA X hC.1 hM (ci := 4) (C := RX5) (T := TX5) (N := 9) rfl in_X5 7 (by decide) q1136 (fun _ h9 => h9) dX5_accept_9 hp (fun a2 hp => ?_)
    refine lv_aload_n hx hb dX5_accept_12 rfl (lv_at hl 1 rfl) ?_
    obtain ⟨hrec, hp⟩ := hp
    refine x_call0Z (vx_runV (As := [va_rf (some p1)]) (rest := []) X (P_J19_equals_ok (l := l) hl0 hp) (cwV 1 hts (lw_V q1226 q1227 q1228 q171 q1229) rfl rfl rfl (by decide +kernel) ⟨Nat.le_of_ble_eq_true rfl, Nat.le_of_ble_eq_true rfl⟩) ⟨wPc.blind, w_recv hC.1 hM (ci := 24) (q := (RJ19, TJ19, 4)) rfl hrec, w_pre hC hM hS _⟩ rfl rfl hl.1 rfl (lv_room (Nat.le_of_ble_eq_true rfl)) dX5_accept_13 (w_room0 hB)) hS (w_room0 hB) (fun _ _ _ _ _ _ h => False.elim h) (fun r5 M3 H locs hp hM hS => ?_)
    refine x_ifeqB (tgt := 23) hx hb dX5_accept_16 (by decide) (fun hc => ?_) (fun hc => ?_)
    · have hp := oIf.bf hp hc
      exact hB23 _ _ _ _ _ _ _ _ hp hM hS hB (lv_sub hl [0] rfl)
    · have hp := oIf.bt hp hc
      refine lv_iconst (v := 1) hx hb dX5_accept_19 (by decide) ?_
      refine lv_goto (tgt := 24) hx hb dX5_accept_20 (by decide) ?_
      exact hB24 _ _ _ _ _ _ _ _ _ hp hM hS hB (lv_sub hl [0] rfl)
def P_X5_expect (G : wG) (t0 : Nat) (p1 : Nat) (b : Nat) (M : wM) (Q : wM → Prop) (Xp : String → Nat → wM → Prop) : Prop :=
  oIs M t0 4 (∃ c2, c2 ≤ b ∧ P_X5_accept G t0 p1 c2 M (fun r3 M1 => oIs M1 t0 4 (∃ c5, c5 ≤ (b - c2) ∧ P_X5_require G t0 (wb r3) (1 : Int32) c5 M1 (fun M4 => Q M4) (fun E q6 M7 => (E = "ParkingOffice$ParseException" ∧ Xp E q6 M7)))))
set_option maxHeartbeats 4000000 in
set_option maxRecDepth 100000 in
theorem P_X5_expect_ok {l : Launch} (hl0 : l.stackTraces = false) {G : wG} {t0 : Nat} {p1 : Nat} {b : Nat} {M : wM} {Q : wM → Prop} {Xp : String → Nat → wM → Prop} (hp : P_X5_expect G t0 p1 b M Q Xp) : wMet l yX5_expect (ws_ yX5_expect cX5_expect 3 (none)) 20 578 G [.ref t0, .ref p1] M b (wqV Q) Xp := by
  refine vx_ofW (cc := cX5_expect) (maxL := 3) (ret := none) (by decide) rfl ?_
  intro p e s m args below meth c s₁ B hml hnt hv
  obtain ⟨rfl, hM, hK, hZ, hz⟩ := hv
  have hC : wC G s := ⟨hK, hZ, hz⟩
  have hx := B.exec
  have hb := B.bytes
  have hr := B.returns
  have hts := atoms_spec (ws := (ws_ yX5_expect cX5_expect 3 (none))) B.pre
  have hts : ∀ w ∈ lw_all, w.before _ s = true := fun w h => hts w (List.mem_cons_of_mem _ h)
  have hown : s.vm.findClass RX5 = some m.cls := findClass_of_methodNamed B.named
  have hlk := B.notSynchronized
  have X : CallFix p m c cX5_expect 3 s ([.ref t0, .ref p1] : List Value).toArray lw_all RX5 := ⟨hx, hb, hml, hown, hts⟩
  have hS : va_S (wA G) s.heap s.heap [] := va_S.rf
  have hl := lv_entry ([.ref t0, .ref p1]) (n := 3) (Nat.le_of_ble_eq_true rfl)
  rw [lg_entry_eq]
  generalize (lg_sl ([.ref t0, .ref p1]) ++ List.replicate (3 - (lg_sl ([.ref t0, .ref p1])).length) Slot.unset).toArray = ls at hl ⊢
  have hl : lv_has ls 3 [(0, .ref t0), (1, .ref p1)] := hl
  have hB : 0 + b ≤ ((headSpec (ws_ yX5_expect cX5_expect 3 (none)) ({ frames := 20, cells := b, slots := b, locals := 578 })).room).cells ∧ 0 + b ≤ ((headSpec (ws_ yX5_expect cX5_expect 3 (none)) ({ frames := 20, cells := b, slots := b, locals := 578 })).room).slots := ⟨Nat.le_of_eq (Nat.zero_add b), Nat.le_of_eq (Nat.zero_add b)⟩
  refine lv_aload_n hx hb dX5_expect_0 rfl (lv_at hl 0 rfl) ?_
  refine lv_aload_n hx hb dX5_expect_1 rfl (lv_at hl 1 rfl) ?_
  obtain ⟨hrec, hp⟩ := hp
  obtain ⟨c2, hc1, hp⟩ := hp
  refine x_callZ (vx_runV (As := [.ref p1]) (rest := []) X (P_X5_accept_ok (l := l) hl0 hp) (cwV 1 hts (lw_V q1392 q1394 qs19 q179 q1395) rfl rfl rfl (by decide +kernel) ⟨Nat.le_of_ble_eq_true rfl, Nat.le_of_ble_eq_true rfl⟩) ⟨wPc.blind, w_recv hC.1 hM (ci := 4) (q := (RX5, TX5, 9)) rfl hrec, w_pre hC hM hS _⟩ rfl rfl hl.1 rfl (lv_room (Nat.le_of_ble_eq_true rfl)) dX5_expect_2 (w_room hB hc1)) hS hB hc1 (fun _ _ _ _ _ _ h => False.elim h) (fun r3 M1 H locs hp hM hS hB => ?_)
  refine lv_istore_n (lv' := [(2, .int (wb r3)), (0, .ref t0), (1, .ref p1)]) hx hb dX5_expect_5 rfl hl (by decide) rfl (fun ls hl => ?_)
  refine lv_aload_n hx hb dX5_expect_6 rfl (lv_at hl 1 rfl) ?_
  refine lv_iload_n hx hb dX5_expect_7 rfl (lv_at hl 0 rfl) ?_
  refine lv_iconst (v := 1) hx hb dX5_expect_8 (by decide) ?_
  obtain ⟨hrec, hp⟩ := hp
  obtain ⟨c5, hc1, hp⟩ := hp
  refine x_callV (vx_runV (As := [.int (wb r3), .int (1 : Int32)]) (rest := []) X (P_X5_require_ok (l := l) hl0 hp) (cwV 2 hts (lw_V q1240 q1242 qs14 q179 q1243) rfl rfl rfl (by decide +kernel) ⟨Nat.le_of_ble_eq_true rfl, Nat.le_of_ble_eq_true rfl⟩) ⟨wPc.blind, w_recv hC.1 hM (ci := 4) (q := (RX5, TX5, 9)) rfl hrec, w_pre hC hM hS _⟩ rfl rfl hl.1 rfl (lv_room (Nat.le_of_ble_eq_true rfl)) dX5_expect_9 (w_room hB hc1)) hS hB hc1 (fun E ce q6 M7 H locs hp hM hS hB hcell hcv hcl => ?_) (fun M4 H locs hp hM hS hB => ?_)
  · obtain ⟨rfl, hp⟩ := hp
    exact x_out hlk (fun x h => (hnt x h).elim) hM hS (w_fin hB) hcell hcv hcl hp
  · exact x_vret X hr hlk hM hS (w_fin hB) dX5_expect_12 ⟨rfl, hp⟩
def B_X5_number_14 (G : wG) (Q : Int32 → wM → Prop) (Xp : String → Nat → wM → Prop) (x0 : Nat) (x1 : Int32) (x2 : Int32) (y0 : Int32) (y1 : Nat) (M : wM) (bq : Nat) : Prop :=
  oIs M y1 4 (∃ c2, c2 ≤ bq ∧ P_X5_require G y1 y0 (1 : Int32) c2 M (fun M1 => oGetI M1 x0 4 6 (fun v3 => P_X1_inRange G v3 x1 x2 M1 (fun r6 M4 => oIs M4 x0 4 (∃ c8, c8 ≤ (bq - c2) ∧ P_X5_require G x0 (wb r6) (2 : Int32) c8 M4 (fun M7 => oGetI M7 x0 4 6 (fun v9 => oIs M7 x0 4 (∃ c11, c11 ≤ ((bq - c2) - c8) ∧ P_X5_advance G x0 c11 M7 (fun M10 => Q v9 M10)))) (fun E q12 M13 => (E = "ParkingOffice$ParseException" ∧ Xp E q12 M13)))))) (fun E q14 M15 => (E = "ParkingOffice$ParseException" ∧ Xp E q14 M15)))
def P_X5_number (G : wG) (t0 : Nat) (p1 : Int32) (p2 : Int32) (b : Nat) (M : wM) (Q : Int32 → wM → Prop) (Xp : String → Nat → wM → Prop) : Prop :=
  oGetI M t0 4 5 (fun v1 => oIf (v1 = (2 : Int32)) (B_X5_number_14 G Q Xp t0 p1 p2 (1 : Int32) t0 M b) (B_X5_number_14 G Q Xp t0 p1 p2 (0 : Int32) t0 M b))
set_option maxHeartbeats 4000000 in
set_option maxRecDepth 100000 in
theorem P_X5_number_ok {l : Launch} (hl0 : l.stackTraces = false) {G : wG} {t0 : Nat} {p1 : Int32} {p2 : Int32} {b : Nat} {M : wM} {Q : Int32 → wM → Prop} {Xp : String → Nat → wM → Prop} (hp : P_X5_number G t0 p1 p2 b M Q Xp) : wMet l yX5_number (ws_ yX5_number cX5_number 4 (Option.some Jvm.ClassFile.FieldType.int)) 19 556 G [.ref t0, .int p1, .int p2] M b (wqI Q) Xp := by
  refine vx_ofW (cc := cX5_number) (maxL := 4) (ret := Option.some Jvm.ClassFile.FieldType.int) (by decide) rfl ?_
  intro p e s m args below meth c s₁ B hml hnt hv
  obtain ⟨rfl, hM, hK, hZ, hz⟩ := hv
  have hC : wC G s := ⟨hK, hZ, hz⟩
  have hx := B.exec
  have hb := B.bytes
  have hr := B.returns
  have hts := atoms_spec (ws := (ws_ yX5_number cX5_number 4 (Option.some Jvm.ClassFile.FieldType.int))) B.pre
  have hts : ∀ w ∈ lw_all, w.before _ s = true := fun w h => hts w (List.mem_cons_of_mem _ h)
  have hown : s.vm.findClass RX5 = some m.cls := findClass_of_methodNamed B.named
  have hlk := B.notSynchronized
  have X : CallFix p m c cX5_number 4 s ([.ref t0, .int p1, .int p2] : List Value).toArray lw_all RX5 := ⟨hx, hb, hml, hown, hts⟩
  have hS : va_S (wA G) s.heap s.heap [] := va_S.rf
  have hl := lv_entry ([.ref t0, .int p1, .int p2]) (n := 4) (Nat.le_of_ble_eq_true rfl)
  rw [lg_entry_eq]
  generalize (lg_sl ([.ref t0, .int p1, .int p2]) ++ List.replicate (4 - (lg_sl ([.ref t0, .int p1, .int p2])).length) Slot.unset).toArray = ls at hl ⊢
  have hl : lv_has ls 4 [(0, .ref t0), (1, .int p1), (2, .int p2)] := hl
  have hB : 0 + b ≤ ((headSpec (ws_ yX5_number cX5_number 4 (Option.some Jvm.ClassFile.FieldType.int)) ({ frames := 19, cells := b, slots := b, locals := 556 })).room).cells ∧ 0 + b ≤ ((headSpec (ws_ yX5_number cX5_number 4 (Option.some Jvm.ClassFile.FieldType.int)) ({ frames := 19, cells := b, slots := b, locals := 556 })).room).slots := ⟨Nat.le_of_eq (Nat.zero_add b), Nat.le_of_eq (Nat.zero_add b)⟩
  have hB14 : ∀ (x0 : Nat) (x1 : Int32) (x2 : Int32) (y0 : Int32) (y1 : Nat) (M : wM) (bq : Nat) (H : Heap) (locs : List Loc) (ls : Array Slot) (cells slots : Nat), B_X5_number_14 G Q Xp x0 x1 x2 y0 y1 M bq → wR G M H → va_S (wA G) s.heap H locs → (cells + bq ≤ ((headSpec (ws_ yX5_number cX5_number 4 (Option.some Jvm.ClassFile.FieldType.int)) ({ frames := 19, cells := b, slots := b, locals := 556 })).room).cells ∧ slots + bq ≤ ((headSpec (ws_ yX5_number cX5_number 4 (Option.some Jvm.ClassFile.FieldType.int)) ({ frames := 19, cells := b, slots := b, locals := 556 })).room).slots) → lv_has ls 4 [(0, .ref x0), (1, .int x1), (2, .int x2)] → W p l e (headSpec (ws_ yX5_number cX5_number 4 (Option.some Jvm.ClassFile.FieldType.int)) ({ frames := 19, cells := b, slots := b, locals := 556 })).room s m ([.ref t0, .int p1, .int p2] : List Value).toArray below meth c H locs cells slots (vx_MQ below (wQ G (wqI Q)) (wXC G Xp) ([.ref t0, .int p1, .int p2] : List Value).toArray s b b (wA G)) (F0 m 14 ls [.int y0, .ref y1]) := by
    intro x0 x1 x2 y0 y1 M bq H locs ls cells slots hp hM hS hB hl
    refine lv_iconst (v := 1) hx hb dX5_number_14 (by decide) ?_
    obtain ⟨hrec, hp⟩ := hp
    obtain ⟨c2, hc1, hp⟩ := hp
    refine x_callV (vx_runV (As := [.int y0, .int (1 : Int32)]) (rest := []) X (P_X5_require_ok (l := l) hl0 hp) (cwV 2 hts (lw_V q1240 q1242 qs14 q179 q1243) rfl rfl rfl (by decide +kernel) ⟨Nat.le_of_ble_eq_true rfl, Nat.le_of_ble_eq_true rfl⟩) ⟨wPc.blind, w_recv hC.1 hM (ci := 4) (q := (RX5, TX5, 9)) rfl hrec, w_pre hC hM hS _⟩ rfl rfl hl.1 rfl (lv_room (Nat.le_of_ble_eq_true rfl)) dX5_number_15 (w_room hB hc1)) hS hB hc1 (fun E ce q14 M15 H locs hp hM hS hB hcell hcv hcl => ?_) (fun M1 H locs hp hM hS hB => ?_)
    · obtain ⟨rfl, hp⟩ := hp
      exact x_out hlk (fun x h => (hnt x h).elim) hM hS (w_fin hB) hcell hcv hcl hp
    · refine lv_aload_n hx hb dX5_number_18 rfl (lv_at hl 0 rfl) ?_
      refine lv_aload_n hx hb dX5_number_19 rfl (lv_at hl 0 rfl) ?_
      refine x_getI X hC.1 hM (ci := 4) (C := RX5) (T := TX5) (N := 9) rfl in_X5 6 (by decide) q1135 (fun _ h9 => h9) dX5_number_20 hp (fun v3 hp => ?_)
      refine lv_iload_n hx hb dX5_number_23 rfl (lv_at hl 1 rfl) ?_
      refine lv_iload_n hx hb dX5_number_24 rfl (lv_at hl 2 rfl) ?_
      refine x_call0Z (vx_runSN (As := [.int v3, .int x1, .int x2]) (rest := [.ref x0]) X (P_X1_inRange_ok (l := l) hl0 hp) ⟨va_cnB 3 hts (lw_meth q1014) rfl rfl rfl (hC.1.2.2.1 _ q1105 rfl) (hts _ q148) (by decide +kernel) ⟨Nat.le_of_ble_eq_true rfl, Nat.le_of_ble_eq_true rfl⟩, hts _ q1013, trivial⟩ ⟨wPc.blind, w_pre hC hM hS _⟩ rfl rfl hl.1 rfl (lv_room (Nat.le_of_ble_eq_true rfl)) dX5_number_25 (w_room0 hB)) hS (w_room0 hB) (fun _ _ _ _ _ _ h => False.elim h) (fun r6 M4 H locs hp hM hS => ?_)
      refine lv_iconst (v := 2) hx hb dX5_number_28 (by decide) ?_
      obtain ⟨hrec, hp⟩ := hp
      obtain ⟨c8, hc1, hp⟩ := hp
      refine x_callV (vx_runV (As := [.int (wb r6), .int (2 : Int32)]) (rest := []) X (P_X5_require_ok (l := l) hl0 hp) (cwV 2 hts (lw_V q1240 q1242 qs14 q179 q1243) rfl rfl rfl (by decide +kernel) ⟨Nat.le_of_ble_eq_true rfl, Nat.le_of_ble_eq_true rfl⟩) ⟨wPc.blind, w_recv hC.1 hM (ci := 4) (q := (RX5, TX5, 9)) rfl hrec, w_pre hC hM hS _⟩ rfl rfl hl.1 rfl (lv_room (Nat.le_of_ble_eq_true rfl)) dX5_number_29 (w_room hB hc1)) hS hB hc1 (fun E ce q12 M13 H locs hp hM hS hB hcell hcv hcl => ?_) (fun M7 H locs hp hM hS hB => ?_)
      · obtain ⟨rfl, hp⟩ := hp
        exact x_out hlk (fun x h => (hnt x h).elim) hM hS (w_fin hB) hcell hcv hcl hp
      · refine lv_aload_n hx hb dX5_number_32 rfl (lv_at hl 0 rfl) ?_
        refine x_getI X hC.1 hM (ci := 4) (C := RX5) (T := TX5) (N := 9) rfl in_X5 6 (by decide) q1135 (fun _ h9 => h9) dX5_number_33 hp (fun v9 hp => ?_)
        refine lv_istore_n (lv' := [(3, .int v9), (0, .ref x0), (1, .int x1), (2, .int x2)]) hx hb dX5_number_36 rfl hl (by decide) rfl (fun ls hl => ?_)
        refine lv_aload_n hx hb dX5_number_37 rfl (lv_at hl 1 rfl) ?_
        obtain ⟨hrec, hp⟩ := hp
        obtain ⟨c11, hc1, hp⟩ := hp
        refine x_callV (vx_runV (As := []) (rest := []) X (P_X5_advance_ok (l := l) hl0 hp) (cwV 0 hts (lw_V q1097 q1099 qs10 q179 q1100) rfl rfl rfl (by decide +kernel) ⟨Nat.le_of_ble_eq_true rfl, Nat.le_of_ble_eq_true rfl⟩) ⟨wPc.blind, w_recv hC.1 hM (ci := 4) (q := (RX5, TX5, 9)) rfl hrec, w_pre hC hM hS _⟩ rfl rfl hl.1 rfl (lv_room (Nat.le_of_ble_eq_true rfl)) dX5_number_38 (w_room hB hc1)) hS hB hc1 (fun _ _ _ _ _ _ h => False.elim h) (fun M10 H locs hp hM hS hB => ?_)
        refine lv_iload_n hx hb dX5_number_41 rfl (lv_at hl 0 rfl) ?_
        exact x_iret X hr hlk hM hS (w_fin hB) dX5_number_42 ⟨_, rfl, hp⟩
  refine lv_aload_n hx hb dX5_number_0 rfl (lv_at hl 0 rfl) ?_
  refine lv_aload_n hx hb dX5_number_1 rfl (lv_at hl 0 rfl) ?_
  refine x_getI X hC.1 hM (ci := 4) (C := RX5) (T := TX5) (N := 9) rfl in_X5 5 (by decide) q1134 (fun _ h9 => h9) dX5_number_2 hp (fun v1 hp => ?_)
  refine lv_iconst (v := 2) hx hb dX5_number_5 (by decide) ?_
  refine lv_icmp_ne (tgt := 13) hx hb dX5_number_6 (by decide) (fun hc => ?_) (fun hc => ?_)
  · have hp := oIf.f hp hc
    refine lv_iconst (v := 0) hx hb dX5_number_13 (by decide) ?_
    exact hB14 _ _ _ _ _ _ _ _ _ _ _ _ hp hM hS hB (lv_sub hl [0, 1, 2] rfl)
  · have hp := oIf.t hp hc
    refine lv_iconst (v := 1) hx hb dX5_number_9 (by decide) ?_
    refine lv_goto (tgt := 14) hx hb dX5_number_10 (by decide) ?_
    exact hB14 _ _ _ _ _ _ _ _ _ _ _ _ hp hM hS hB (lv_sub hl [0, 1, 2] rfl)
def P_X5_numberBehind (G : wG) (t0 : Nat) (p1 : Nat) (p2 : Int32) (p3 : Int32) (b : Nat) (M : wM) (Q : Int32 → wM → Prop) (Xp : String → Nat → wM → Prop) : Prop :=
  oIs M t0 4 (∃ c2, c2 ≤ b ∧ P_X5_expect G t0 p1 c2 M (fun M1 => oIs M1 t0 4 (∃ c4, c4 ≤ (b - c2) ∧ P_X5_number G t0 p2 p3 c4 M1 (fun v5 M3 => Q v5 M3) (fun E q6 M7 => (E = "ParkingOffice$ParseException" ∧ Xp E q6 M7)))) (fun E q8 M9 => (E = "ParkingOffice$ParseException" ∧ Xp E q8 M9)))
set_option maxHeartbeats 4000000 in
set_option maxRecDepth 100000 in
theorem P_X5_numberBehind_ok {l : Launch} (hl0 : l.stackTraces = false) {G : wG} {t0 : Nat} {p1 : Nat} {p2 : Int32} {p3 : Int32} {b : Nat} {M : wM} {Q : Int32 → wM → Prop} {Xp : String → Nat → wM → Prop} (hp : P_X5_numberBehind G t0 p1 p2 p3 b M Q Xp) : wMet l yX5_numberBehind (ws_ yX5_numberBehind cX5_numberBehind 4 (Option.some Jvm.ClassFile.FieldType.int)) 21 600 G [.ref t0, .ref p1, .int p2, .int p3] M b (wqI Q) Xp := by
  refine vx_ofW (cc := cX5_numberBehind) (maxL := 4) (ret := Option.some Jvm.ClassFile.FieldType.int) (by decide) rfl ?_
  intro p e s m args below meth c s₁ B hml hnt hv
  obtain ⟨rfl, hM, hK, hZ, hz⟩ := hv
  have hC : wC G s := ⟨hK, hZ, hz⟩
  have hx := B.exec
  have hb := B.bytes
  have hr := B.returns
  have hts := atoms_spec (ws := (ws_ yX5_numberBehind cX5_numberBehind 4 (Option.some Jvm.ClassFile.FieldType.int))) B.pre
  have hts : ∀ w ∈ lw_all, w.before _ s = true := fun w h => hts w (List.mem_cons_of_mem _ h)
  have hown : s.vm.findClass RX5 = some m.cls := findClass_of_methodNamed B.named
  have hlk := B.notSynchronized
  have X : CallFix p m c cX5_numberBehind 4 s ([.ref t0, .ref p1, .int p2, .int p3] : List Value).toArray lw_all RX5 := ⟨hx, hb, hml, hown, hts⟩
  have hS : va_S (wA G) s.heap s.heap [] := va_S.rf
  have hl := lv_entry ([.ref t0, .ref p1, .int p2, .int p3]) (n := 4) (Nat.le_of_ble_eq_true rfl)
  rw [lg_entry_eq]
  generalize (lg_sl ([.ref t0, .ref p1, .int p2, .int p3]) ++ List.replicate (4 - (lg_sl ([.ref t0, .ref p1, .int p2, .int p3])).length) Slot.unset).toArray = ls at hl ⊢
  have hl : lv_has ls 4 [(0, .ref t0), (1, .ref p1), (2, .int p2), (3, .int p3)] := hl
  have hB : 0 + b ≤ ((headSpec (ws_ yX5_numberBehind cX5_numberBehind 4 (Option.some Jvm.ClassFile.FieldType.int)) ({ frames := 21, cells := b, slots := b, locals := 600 })).room).cells ∧ 0 + b ≤ ((headSpec (ws_ yX5_numberBehind cX5_numberBehind 4 (Option.some Jvm.ClassFile.FieldType.int)) ({ frames := 21, cells := b, slots := b, locals := 600 })).room).slots := ⟨Nat.le_of_eq (Nat.zero_add b), Nat.le_of_eq (Nat.zero_add b)⟩
  refine lv_aload_n hx hb dX5_numberBehind_0 rfl (lv_at hl 0 rfl) ?_
  refine lv_aload_n hx hb dX5_numberBehind_1 rfl (lv_at hl 1 rfl) ?_
  obtain ⟨hrec, hp⟩ := hp
  obtain ⟨c2, hc1, hp⟩ := hp
  refine x_callV (vx_runV (As := [.ref p1]) (rest := []) X (P_X5_expect_ok (l := l) hl0 hp) (cwV 1 hts (lw_V q1388 q1390 qs18 q179 q1391) rfl rfl rfl (by decide +kernel) ⟨Nat.le_of_ble_eq_true rfl, Nat.le_of_ble_eq_true rfl⟩) ⟨wPc.blind, w_recv hC.1 hM (ci := 4) (q := (RX5, TX5, 9)) rfl hrec, w_pre hC hM hS _⟩ rfl rfl hl.1 rfl (lv_room (Nat.le_of_ble_eq_true rfl)) dX5_numberBehind_2 (w_room hB hc1)) hS hB hc1 (fun E ce q8 M9 H locs hp hM hS hB hcell hcv hcl => ?_) (fun M1 H locs hp hM hS hB => ?_)
  · obtain ⟨rfl, hp⟩ := hp
    exact x_out hlk (fun x h => (hnt x h).elim) hM hS (w_fin hB) hcell hcv hcl hp
  · refine lv_aload_n hx hb dX5_numberBehind_5 rfl (lv_at hl 0 rfl) ?_
    refine lv_iload_n hx hb dX5_numberBehind_6 rfl (lv_at hl 2 rfl) ?_
    refine lv_iload_n hx hb dX5_numberBehind_7 rfl (lv_at hl 3 rfl) ?_
    obtain ⟨hrec, hp⟩ := hp
    obtain ⟨c4, hc1, hp⟩ := hp
    refine x_callI (vx_runV (As := [.int p2, .int p3]) (rest := []) X (P_X5_number_ok (l := l) hl0 hp) (cwV 2 hts (lw_V q1396 q1398 qs20 q179 q1399) rfl rfl rfl (by decide +kernel) ⟨Nat.le_of_ble_eq_true rfl, Nat.le_of_ble_eq_true rfl⟩) ⟨wPc.blind, w_recv hC.1 hM (ci := 4) (q := (RX5, TX5, 9)) rfl hrec, w_pre hC hM hS _⟩ rfl rfl hl.1 rfl (lv_room (Nat.le_of_ble_eq_true rfl)) dX5_numberBehind_8 (w_room hB hc1)) hS hB hc1 (fun E ce q6 M7 H locs hp hM hS hB hcell hcv hcl => ?_) (fun v5 M3 H locs hp hM hS hB => ?_)
    · obtain ⟨rfl, hp⟩ := hp
      exact x_out hlk (fun x h => (hnt x h).elim) hM hS (w_fin hB) hcell hcv hcl hp
    · exact x_iret X hr hlk hM hS (w_fin hB) dX5_numberBehind_11 ⟨_, rfl, hp⟩
def B_X5_zone_86 (G : wG) (Q : wM → Prop) (Xp : String → Nat → wM → Prop) (x0 : Nat) (x1 : Int32) (x2 : Int32) (x3 : Int32) (y0 : Int32) (M : wM) (bq : Nat) : Prop :=
  oGetA M x0 4 1 (fun a1 => oGetA M a1 2 0 (fun a2 => oNew G M bq 6 [.int 0, .int 0, .int 0, .int 0] (fun a3 M4 b5 => P_X7_init G a3 x1 x2 x3 y0 M4 (fun M6 => oIs M6 a2 16 (∃ c9, c9 ≤ b5 ∧ P_J2_add G a2 (some a3) c9 M6 (fun r10 M8 => Q M8))))))
def B_X5_zone_23 (G : wG) (Q : wM → Prop) (Xp : String → Nat → wM → Prop) (x0 : Nat) (y0 : Int32) (y1 : Nat) (M : wM) (bq : Nat) : Prop :=
  oIs M y1 4 (∃ c2, c2 ≤ bq ∧ P_X5_require G y1 y0 (4 : Int32) c2 M (fun M1 => oIs M1 x0 4 (∃ c4, c4 ≤ (bq - c2) ∧ P_X5_advance G x0 c4 M1 (fun M3 => oIs M3 x0 4 (∃ c6, c6 ≤ ((bq - c2) - c4) ∧ P_X5_newName G x0 (0 : Int32) c6 M3 (fun M5 => oIs M5 x0 4 (∃ c8, c8 ≤ (((bq - c2) - c4) - c6) ∧ P_X5_numberBehind G x0 (G.2.2.2 11) (0 : Int32) (40 : Int32) c8 M5 (fun v9 M7 => oIs M7 x0 4 (∃ c11, c11 ≤ ((((bq - c2) - c4) - c6) - c8) ∧ P_X5_numberBehind G x0 (G.2.2.2 12) (0 : Int32) (23 : Int32) c11 M7 (fun v12 M10 => oIs M10 x0 4 (∃ c14, c14 ≤ (((((bq - c2) - c4) - c6) - c8) - c11) ∧ P_X5_number G x0 (v12 + (1 : Int32)) (24 : Int32) c14 M10 (fun v15 M13 => oIs M13 x0 4 (∃ c17, c17 ≤ ((((((bq - c2) - c4) - c6) - c8) - c11) - c14) ∧ P_X5_accept G x0 (G.2.2.2 13) c17 M13 (fun r18 M16 => oIf (r18 = true) (oIs M16 x0 4 (∃ c20, c20 ≤ (((((((bq - c2) - c4) - c6) - c8) - c11) - c14) - c17) ∧ P_X5_number G x0 (0 : Int32) (120 : Int32) c20 M16 (fun v21 M19 => B_X5_zone_86 G Q Xp x0 v9 v12 v15 v21 M19 ((((((((bq - c2) - c4) - c6) - c8) - c11) - c14) - c17) - c20)) (fun E q22 M23 => (E = "ParkingOffice$ParseException" ∧ Xp E q22 M23)))) (B_X5_zone_86 G Q Xp x0 v9 v12 v15 (0 : Int32) M16 (((((((bq - c2) - c4) - c6) - c8) - c11) - c14) - c17))))) (fun E q24 M25 => (E = "ParkingOffice$ParseException" ∧ Xp E q24 M25)))) (fun E q26 M27 => (E = "ParkingOffice$ParseException" ∧ Xp E q26 M27)))) (fun E q28 M29 => (E = "ParkingOffice$ParseException" ∧ Xp E q28 M29)))) (fun E q30 M31 => (E = "ParkingOffice$ParseException" ∧ Xp E q30 M31)))))) (fun E q32 M33 => (E = "ParkingOffice$ParseException" ∧ Xp E q32 M33)))
def P_X5_zone (G : wG) (t0 : Nat) (b : Nat) (M : wM) (Q : wM → Prop) (Xp : String → Nat → wM → Prop) : Prop :=
  oGetA M t0 4 1 (fun a1 => oGetA M a1 2 0 (fun a2 => oIs M a2 16 (P_J2_size G a2 M (fun v5 M3 => oIf ((6 : Int32) ≤ v5) (B_X5_zone_23 G Q Xp t0 (0 : Int32) t0 M3 b) (B_X5_zone_23 G Q Xp t0 (1 : Int32) t0 M3 b)))))
set_option maxHeartbeats 4000000 in
set_option maxRecDepth 100000 in
theorem P_X5_zone_ok {l : Launch} (hl0 : l.stackTraces = false) {G : wG} {t0 : Nat} {b : Nat} {M : wM} {Q : wM → Prop} {Xp : String → Nat → wM → Prop} (hp : P_X5_zone G t0 b M Q Xp) : wMet l yX5_zone (ws_ yX5_zone cX5_zone 5 (none)) 22 623 G [.ref t0] M b (wqV Q) Xp := by
  refine vx_ofW (cc := cX5_zone) (maxL := 5) (ret := none) (by decide) rfl ?_
  intro p e s m args below meth c s₁ B hml hnt hv
  obtain ⟨rfl, hM, hK, hZ, hz⟩ := hv
  have hC : wC G s := ⟨hK, hZ, hz⟩
  have hx := B.exec
  have hb := B.bytes
  have hr := B.returns
  have hts := atoms_spec (ws := (ws_ yX5_zone cX5_zone 5 (none))) B.pre
  have hts : ∀ w ∈ lw_all, w.before _ s = true := fun w h => hts w (List.mem_cons_of_mem _ h)
  have hown : s.vm.findClass RX5 = some m.cls := findClass_of_methodNamed B.named
  have hlk := B.notSynchronized
  have X : CallFix p m c cX5_zone 5 s ([.ref t0] : List Value).toArray lw_all RX5 := ⟨hx, hb, hml, hown, hts⟩
  have hS : va_S (wA G) s.heap s.heap [] := va_S.rf
  have hl := lv_entry ([.ref t0]) (n := 5) (Nat.le_of_ble_eq_true rfl)
  rw [lg_entry_eq]
  generalize (lg_sl ([.ref t0]) ++ List.replicate (5 - (lg_sl ([.ref t0])).length) Slot.unset).toArray = ls at hl ⊢
  have hl : lv_has ls 5 [(0, .ref t0)] := hl
  have hB : 0 + b ≤ ((headSpec (ws_ yX5_zone cX5_zone 5 (none)) ({ frames := 22, cells := b, slots := b, locals := 623 })).room).cells ∧ 0 + b ≤ ((headSpec (ws_ yX5_zone cX5_zone 5 (none)) ({ frames := 22, cells := b, slots := b, locals := 623 })).room).slots := ⟨Nat.le_of_eq (Nat.zero_add b), Nat.le_of_eq (Nat.zero_add b)⟩
  have hB86 : ∀ (x0 : Nat) (x1 : Int32) (x2 : Int32) (x3 : Int32) (y0 : Int32) (M : wM) (bq : Nat) (H : Heap) (locs : List Loc) (ls : Array Slot) (cells slots : Nat), B_X5_zone_86 G Q Xp x0 x1 x2 x3 y0 M bq → wR G M H → va_S (wA G) s.heap H locs → (cells + bq ≤ ((headSpec (ws_ yX5_zone cX5_zone 5 (none)) ({ frames := 22, cells := b, slots := b, locals := 623 })).room).cells ∧ slots + bq ≤ ((headSpec (ws_ yX5_zone cX5_zone 5 (none)) ({ frames := 22, cells := b, slots := b, locals := 623 })).room).slots) → lv_has ls 5 [(0, .ref x0), (1, .int x1), (2, .int x2), (3, .int x3)] → W p l e (headSpec (ws_ yX5_zone cX5_zone 5 (none)) ({ frames := 22, cells := b, slots := b, locals := 623 })).room s m ([.ref t0] : List Value).toArray below meth c H locs cells slots (vx_MQ below (wQ G (wqV Q)) (wXC G Xp) ([.ref t0] : List Value).toArray s b b (wA G)) (F0 m 86 ls [.int y0]) := by
    intro x0 x1 x2 x3 y0 M bq H locs ls cells slots hp hM hS hB hl
    refine lv_istore (lv' := [(4, .int y0), (0, .ref x0), (1, .int x1), (2, .int x2), (3, .int x3)]) hx hb dX5_zone_86 hl (by decide) rfl (fun ls hl => ?_)
    refine lv_aload_n hx hb dX5_zone_88 rfl (lv_at hl 1 rfl) ?_
    refine x_getA X hC.1 hM (ci := 4) (C := RX5) (T := TX5) (N := 9) rfl in_X5 1 (by decide) q1130 (fun _ h9 => h9) dX5_zone_89 hp (fun a1 hp => ?_)
    refine x_getAN X hC.1 hM (ci := 2) (C := RX3) (T := TX3) (N := 8) rfl in_X3 0 (by decide) q397 (fun _ h9 => h9) dX5_zone_92 hp (fun a2 hp => ?_)
    refine x_new X hC hM hS hB (ci := 6) (C := RX7) (T := TX7) (N := 4) rfl in_X7 tyX7 tyX7_ok q1400 q1401 q186 rfl (by decide) dX5_zone_95 hp (fun a3 M4 H b5 cells slots hM hS hB hp => ?_)
    refine lv_dup hx hb dX5_zone_98 rfl ?_
    refine lv_iload_n hx hb dX5_zone_99 rfl (lv_at hl 2 rfl) ?_
    refine lv_iload_n hx hb dX5_zone_100 rfl (lv_at hl 3 rfl) ?_
    refine lv_iload_n hx hb dX5_zone_101 rfl (lv_at hl 4 rfl) ?_
    refine lv_iload hx hb dX5_zone_102 (lv_at hl 0 rfl) ?_
    refine x_call0V (vx_runI (As := [.int x1, .int x2, .int x3, .int y0]) (rest := [.ref a3, .ref a2]) X (P_X7_init_ok (l := l) hl0 hp) (cwI 4 hts (lw_meth q1404) rfl rfl rfl (hts _ q186) (hts _ q1402) (hts _ q1403) rfl (by decide +kernel) ⟨Nat.le_of_ble_eq_true rfl, Nat.le_of_ble_eq_true rfl⟩) ⟨wPc.blind, w_pre hC hM hS _⟩ rfl rfl hl.1 rfl (lv_room (Nat.le_of_ble_eq_true rfl)) dX5_zone_104 (w_room0 hB)) hS (w_room0 hB) (fun _ _ _ _ _ _ h => False.elim h) (fun M6 H locs hp hM hS => ?_)
    obtain ⟨hrec, hp⟩ := hp
    obtain ⟨c9, hc1, hp⟩ := hp
    refine x_callZ5 (vx_runF (hC.1.1.1 16 (RJ2, TJ2, 3) rfl).2 (C := "java/util/ArrayList") (As := [va_rf (some a3)]) (rest := []) X (P_J2_add_ok (l := l) hl0 hp) (va_cwF 1 hts (lw_app (w_mem4 q1383 q266 q268 q153) (lw_meth q270)) rfl rfl rfl (wfw_5 hC.1) (by decide +kernel) ⟨Nat.le_of_ble_eq_true rfl, Nat.le_of_ble_eq_true rfl⟩) ⟨wPc.blind, w_recv hC.1 hM (ci := 16) (q := (RJ2, TJ2, 3)) rfl hrec, w_pre hC hM hS _⟩ rfl rfl hl.1 rfl (lv_room (Nat.le_of_ble_eq_true rfl)) dX5_zone_107 (w_room hB hc1)) hS hB hc1 (fun _ _ _ _ _ _ h => False.elim h) (fun r10 M8 H locs hp hM hS hB => ?_)
    refine lv_pop hx hb dX5_zone_112 rfl ?_
    exact x_vret X hr hlk hM hS (w_fin hB) dX5_zone_113 ⟨rfl, hp⟩
  have hB23 : ∀ (x0 : Nat) (y0 : Int32) (y1 : Nat) (M : wM) (bq : Nat) (H : Heap) (locs : List Loc) (ls : Array Slot) (cells slots : Nat), B_X5_zone_23 G Q Xp x0 y0 y1 M bq → wR G M H → va_S (wA G) s.heap H locs → (cells + bq ≤ ((headSpec (ws_ yX5_zone cX5_zone 5 (none)) ({ frames := 22, cells := b, slots := b, locals := 623 })).room).cells ∧ slots + bq ≤ ((headSpec (ws_ yX5_zone cX5_zone 5 (none)) ({ frames := 22, cells := b, slots := b, locals := 623 })).room).slots) → lv_has ls 5 [(0, .ref x0)] → W p l e (headSpec (ws_ yX5_zone cX5_zone 5 (none)) ({ frames := 22, cells := b, slots := b, locals := 623 })).room s m ([.ref t0] : List Value).toArray below meth c H locs cells slots (vx_MQ below (wQ G (wqV Q)) (wXC G Xp) ([.ref t0] : List Value).toArray s b b (wA G)) (F0 m 23 ls [.int y0, .ref y1]) := by
    intro x0 y0 y1 M bq H locs ls cells slots hp hM hS hB hl
    refine lv_iconst (v := 4) hx hb dX5_zone_23 (by decide) ?_
    obtain ⟨hrec, hp⟩ := hp
    obtain ⟨c2, hc1, hp⟩ := hp
    refine x_callV (vx_runV (As := [.int y0, .int (4 : Int32)]) (rest := []) X (P_X5_require_ok (l := l) hl0 hp) (cwV 2 hts (lw_V q1240 q1242 qs14 q179 q1243) rfl rfl rfl (by decide +kernel) ⟨Nat.le_of_ble_eq_true rfl, Nat.le_of_ble_eq_true rfl⟩) ⟨wPc.blind, w_recv hC.1 hM (ci := 4) (q := (RX5, TX5, 9)) rfl hrec, w_pre hC hM hS _⟩ rfl rfl hl.1 rfl (lv_room (Nat.le_of_ble_eq_true rfl)) dX5_zone_24 (w_room hB hc1)) hS hB hc1 (fun E ce q32 M33 H locs hp hM hS hB hcell hcv hcl => ?_) (fun M1 H locs hp hM hS hB => ?_)
    · obtain ⟨rfl, hp⟩ := hp
      exact x_out hlk (fun x h => (hnt x h).elim) hM hS (w_fin hB) hcell hcv hcl hp
    · refine lv_aload_n hx hb dX5_zone_27 rfl (lv_at hl 0 rfl) ?_
      obtain ⟨hrec, hp⟩ := hp
      obtain ⟨c4, hc1, hp⟩ := hp
      refine x_callV (vx_runV (As := []) (rest := []) X (P_X5_advance_ok (l := l) hl0 hp) (cwV 0 hts (lw_V q1097 q1099 qs10 q179 q1100) rfl rfl rfl (by decide +kernel) ⟨Nat.le_of_ble_eq_true rfl, Nat.le_of_ble_eq_true rfl⟩) ⟨wPc.blind, w_recv hC.1 hM (ci := 4) (q := (RX5, TX5, 9)) rfl hrec, w_pre hC hM hS _⟩ rfl rfl hl.1 rfl (lv_room (Nat.le_of_ble_eq_true rfl)) dX5_zone_28 (w_room hB hc1)) hS hB hc1 (fun _ _ _ _ _ _ h => False.elim h) (fun M3 H locs hp hM hS hB => ?_)
      refine lv_aload_n hx hb dX5_zone_31 rfl (lv_at hl 0 rfl) ?_
      refine lv_iconst (v := 0) hx hb dX5_zone_32 (by decide) ?_
      obtain ⟨hrec, hp⟩ := hp
      obtain ⟨c6, hc1, hp⟩ := hp
      refine x_callV (vx_runV (As := [.int (0 : Int32)]) (rest := []) X (P_X5_newName_ok (l := l) hl0 hp) (cwV 1 hts (lw_V q1272 q1274 qs15 q179 q1275) rfl rfl rfl (by decide +kernel) ⟨Nat.le_of_ble_eq_true rfl, Nat.le_of_ble_eq_true rfl⟩) ⟨wPc.blind, w_recv hC.1 hM (ci := 4) (q := (RX5, TX5, 9)) rfl hrec, w_pre hC hM hS _⟩ rfl rfl hl.1 rfl (lv_room (Nat.le_of_ble_eq_true rfl)) dX5_zone_33 (w_room hB hc1)) hS hB hc1 (fun E ce q30 M31 H locs hp hM hS hB hcell hcv hcl => ?_) (fun M5 H locs hp hM hS hB => ?_)
      · obtain ⟨rfl, hp⟩ := hp
        exact x_out hlk (fun x h => (hnt x h).elim) hM hS (w_fin hB) hcell hcv hcl hp
      · refine lv_aload_n hx hb dX5_zone_36 rfl (lv_at hl 0 rfl) ?_
        refine x_ldcS X hC.1 (k := 11) (tx := "limit") (List.mem_of_getElem? (i := 1) rfl) dX5_zone_37 ?_
        refine lv_iconst (v := 0) hx hb dX5_zone_39 (by decide) ?_
        refine lv_bipush (v := 40) hx hb dX5_zone_40 (by decide) ?_
        obtain ⟨hrec, hp⟩ := hp
        obtain ⟨c8, hc1, hp⟩ := hp
        refine x_callI (vx_runV (As := [.ref (G.2.2.2 11), .int (0 : Int32), .int (40 : Int32)]) (rest := []) X (P_X5_numberBehind_ok (l := l) hl0 hp) (cwV 3 hts (lw_V q1384 q1386 qs17 q179 q1387) rfl rfl rfl (by decide +kernel) ⟨Nat.le_of_ble_eq_true rfl, Nat.le_of_ble_eq_true rfl⟩) ⟨wPc.blind, w_recv hC.1 hM (ci := 4) (q := (RX5, TX5, 9)) rfl hrec, w_pre hC hM hS _⟩ rfl rfl hl.1 rfl (lv_room (Nat.le_of_ble_eq_true rfl)) dX5_zone_42 (w_room hB hc1)) hS hB hc1 (fun E ce q28 M29 H locs hp hM hS hB hcell hcv hcl => ?_) (fun v9 M7 H locs hp hM hS hB => ?_)
        · obtain ⟨rfl, hp⟩ := hp
          exact x_out hlk (fun x h => (hnt x h).elim) hM hS (w_fin hB) hcell hcv hcl hp
        · refine lv_istore_n (lv' := [(1, .int v9), (0, .ref x0)]) hx hb dX5_zone_45 rfl hl (by decide) rfl (fun ls hl => ?_)
          refine lv_aload_n hx hb dX5_zone_46 rfl (lv_at hl 1 rfl) ?_
          refine x_ldcS X hC.1 (k := 12) (tx := "hours") (List.mem_of_getElem? (i := 2) rfl) dX5_zone_47 ?_
          refine lv_iconst (v := 0) hx hb dX5_zone_49 (by decide) ?_
          refine lv_bipush (v := 23) hx hb dX5_zone_50 (by decide) ?_
          obtain ⟨hrec, hp⟩ := hp
          obtain ⟨c11, hc1, hp⟩ := hp
          refine x_callI (vx_runV (As := [.ref (G.2.2.2 12), .int (0 : Int32), .int (23 : Int32)]) (rest := []) X (P_X5_numberBehind_ok (l := l) hl0 hp) (cwV 3 hts (lw_V q1384 q1386 qs17 q179 q1387) rfl rfl rfl (by decide +kernel) ⟨Nat.le_of_ble_eq_true rfl, Nat.le_of_ble_eq_true rfl⟩) ⟨wPc.blind, w_recv hC.1 hM (ci := 4) (q := (RX5, TX5, 9)) rfl hrec, w_pre hC hM hS _⟩ rfl rfl hl.1 rfl (lv_room (Nat.le_of_ble_eq_true rfl)) dX5_zone_52 (w_room hB hc1)) hS hB hc1 (fun E ce q26 M27 H locs hp hM hS hB hcell hcv hcl => ?_) (fun v12 M10 H locs hp hM hS hB => ?_)
          · obtain ⟨rfl, hp⟩ := hp
            exact x_out hlk (fun x h => (hnt x h).elim) hM hS (w_fin hB) hcell hcv hcl hp
          · refine lv_istore_n (lv' := [(2, .int v12), (1, .int v9), (0, .ref x0)]) hx hb dX5_zone_55 rfl hl (by decide) rfl (fun ls hl => ?_)
            refine lv_aload_n hx hb dX5_zone_56 rfl (lv_at hl 2 rfl) ?_
            refine lv_iload_n hx hb dX5_zone_57 rfl (lv_at hl 0 rfl) ?_
            refine lv_iconst (v := 1) hx hb dX5_zone_58 (by decide) ?_
            refine lv_iadd hx hb dX5_zone_59 ?_
            refine lv_bipush (v := 24) hx hb dX5_zone_60 (by decide) ?_
            obtain ⟨hrec, hp⟩ := hp
            obtain ⟨c14, hc1, hp⟩ := hp
            refine x_callI (vx_runV (As := [.int (v12 + (1 : Int32)), .int (24 : Int32)]) (rest := []) X (P_X5_number_ok (l := l) hl0 hp) (cwV 2 hts (lw_V q1396 q1398 qs20 q179 q1399) rfl rfl rfl (by decide +kernel) ⟨Nat.le_of_ble_eq_true rfl, Nat.le_of_ble_eq_true rfl⟩) ⟨wPc.blind, w_recv hC.1 hM (ci := 4) (q := (RX5, TX5, 9)) rfl hrec, w_pre hC hM hS _⟩ rfl rfl hl.1 rfl (lv_room (Nat.le_of_ble_eq_true rfl)) dX5_zone_62 (w_room hB hc1)) hS hB hc1 (fun E ce q24 M25 H locs hp hM hS hB hcell hcv hcl => ?_) (fun v15 M13 H locs hp hM hS hB => ?_)
            · obtain ⟨rfl, hp⟩ := hp
              exact x_out hlk (fun x h => (hnt x h).elim) hM hS (w_fin hB) hcell hcv hcl hp
            · refine lv_istore_n (lv' := [(3, .int v15), (2, .int v12), (1, .int v9), (0, .ref x0)]) hx hb dX5_zone_65 rfl hl (by decide) rfl (fun ls hl => ?_)
              refine lv_aload_n hx hb dX5_zone_66 rfl (lv_at hl 3 rfl) ?_
              refine x_ldcS X hC.1 (k := 13) (tx := "grace") (List.mem_of_getElem? (i := 3) rfl) dX5_zone_67 ?_
              obtain ⟨hrec, hp⟩ := hp
              obtain ⟨c17, hc1, hp⟩ := hp
              refine x_callZ (vx_runV (As := [.ref (G.2.2.2 13)]) (rest := []) X (P_X5_accept_ok (l := l) hl0 hp) (cwV 1 hts (lw_V q1392 q1394 qs19 q179 q1395) rfl rfl rfl (by decide +kernel) ⟨Nat.le_of_ble_eq_true rfl, Nat.le_of_ble_eq_true rfl⟩) ⟨wPc.blind, w_recv hC.1 hM (ci := 4) (q := (RX5, TX5, 9)) rfl hrec, w_pre hC hM hS _⟩ rfl rfl hl.1 rfl (lv_room (Nat.le_of_ble_eq_true rfl)) dX5_zone_69 (w_room hB hc1)) hS hB hc1 (fun _ _ _ _ _ _ h => False.elim h) (fun r18 M16 H locs hp hM hS hB => ?_)
              refine x_ifeqB (tgt := 85) hx hb dX5_zone_72 (by decide) (fun hc => ?_) (fun hc => ?_)
              · have hp := oIf.bf hp hc
                refine lv_iconst (v := 0) hx hb dX5_zone_85 (by decide) ?_
                exact hB86 _ _ _ _ _ _ _ _ _ _ _ _ hp hM hS hB (lv_sub hl [3, 2, 1, 0] rfl)
              · have hp := oIf.bt hp hc
                refine lv_aload_n hx hb dX5_zone_75 rfl (lv_at hl 3 rfl) ?_
                refine lv_iconst (v := 0) hx hb dX5_zone_76 (by decide) ?_
                refine lv_bipush (v := 120) hx hb dX5_zone_77 (by decide) ?_
                obtain ⟨hrec, hp⟩ := hp
                obtain ⟨c20, hc1, hp⟩ := hp
                refine x_callI (vx_runV (As := [.int (0 : Int32), .int (120 : Int32)]) (rest := []) X (P_X5_number_ok (l := l) hl0 hp) (cwV 2 hts (lw_V q1396 q1398 qs20 q179 q1399) rfl rfl rfl (by decide +kernel) ⟨Nat.le_of_ble_eq_true rfl, Nat.le_of_ble_eq_true rfl⟩) ⟨wPc.blind, w_recv hC.1 hM (ci := 4) (q := (RX5, TX5, 9)) rfl hrec, w_pre hC hM hS _⟩ rfl rfl hl.1 rfl (lv_room (Nat.le_of_ble_eq_true rfl)) dX5_zone_79 (w_room hB hc1)) hS hB hc1 (fun E ce q22 M23 H locs hp hM hS hB hcell hcv hcl => ?_) (fun v21 M19 H locs hp hM hS hB => ?_)
                · obtain ⟨rfl, hp⟩ := hp
                  exact x_out hlk (fun x h => (hnt x h).elim) hM hS (w_fin hB) hcell hcv hcl hp
                · refine lv_goto (tgt := 86) hx hb dX5_zone_82 (by decide) ?_
                  exact hB86 _ _ _ _ _ _ _ _ _ _ _ _ hp hM hS hB (lv_sub hl [3, 2, 1, 0] rfl)
  refine lv_aload_n hx hb dX5_zone_0 rfl (lv_at hl 0 rfl) ?_
  refine lv_aload_n hx hb dX5_zone_1 rfl (lv_at hl 0 rfl) ?_
  refine x_getA X hC.1 hM (ci := 4) (C := RX5) (T := TX5) (N := 9) rfl in_X5 1 (by decide) q1130 (fun _ h9 => h9) dX5_zone_2 hp (fun a1 hp => ?_)
  refine x_getAN X hC.1 hM (ci := 2) (C := RX3) (T := TX3) (N := 8) rfl in_X3 0 (by decide) q397 (fun _ h9 => h9) dX5_zone_5 hp (fun a2 hp => ?_)
  obtain ⟨hrec, hp⟩ := hp
  refine x_call0I5 (vx_runF (hC.1.1.1 16 (RJ2, TJ2, 3) rfl).2 (C := "java/util/ArrayList") (As := []) (rest := [.ref t0]) X (P_J2_size_ok (l := l) hl0 hp) (va_cwF 0 hts (lw_app (w_mem4 q1239 q496 q498 q153) (lw_meth q500)) rfl rfl rfl (wfw_13 hC.1) (by decide +kernel) ⟨Nat.le_of_ble_eq_true rfl, Nat.le_of_ble_eq_true rfl⟩) ⟨wPc.blind, w_recv hC.1 hM (ci := 16) (q := (RJ2, TJ2, 3)) rfl hrec, w_pre hC hM hS _⟩ rfl rfl hl.1 rfl (lv_room (Nat.le_of_ble_eq_true rfl)) dX5_zone_8 (w_room0 hB)) hS (w_room0 hB) (fun _ _ _ _ _ _ h => False.elim h) (fun v5 M3 H locs hp hM hS => ?_)
  refine lv_bipush (v := 6) hx hb dX5_zone_13 (by decide) ?_
  refine lv_icmp_ge (tgt := 22) hx hb dX5_zone_15 (by decide) (fun hc => ?_) (fun hc => ?_)
  · have hp := oIf.t hp hc
    refine lv_iconst (v := 0) hx hb dX5_zone_22 (by decide) ?_
    exact hB23 _ _ _ _ _ _ _ _ _ _ hp hM hS hB (lv_sub hl [0] rfl)
  · have hp := oIf.f hp hc
    refine lv_iconst (v := 1) hx hb dX5_zone_18 (by decide) ?_
    refine lv_goto (tgt := 23) hx hb dX5_zone_19 (by decide) ?_
    exact hB23 _ _ _ _ _ _ _ _ _ _ hp hM hS hB (lv_sub hl [0] rfl)
def P_X8_init (G : wG) (t0 : Nat) (p1 : Int32) (p2 : Int32) (p3 : Int32) (M : wM) (Q : wM → Prop) : Prop :=
  oPut G M t0 7 0 (.int p1) (fun M1 => oPut G M1 t0 7 1 (.int p2) (fun M2 => oPut G M2 t0 7 2 (.int p3) (fun M3 => Q M3)))
set_option maxHeartbeats 4000000 in
set_option maxRecDepth 100000 in
theorem P_X8_init_ok {l : Launch} (hl0 : l.stackTraces = false) {G : wG} {t0 : Nat} {p1 : Int32} {p2 : Int32} {p3 : Int32} {M : wM} {Q : wM → Prop} (hp : P_X8_init G t0 p1 p2 p3 M Q) : wMet l yX8_init (ws_ yX8_init cX8_init 4 (none)) 12 400 G [.ref t0, .int p1, .int p2, .int p3] M 0 (wqV Q) wX0 := by
  refine vx_ofW (cc := cX8_init) (maxL := 4) (ret := none) (by decide) rfl ?_
  intro p e s m args below meth c s₁ B hml hnt hv
  obtain ⟨rfl, hM, hK, hZ, hz⟩ := hv
  have hC : wC G s := ⟨hK, hZ, hz⟩
  have hx := B.exec
  have hb := B.bytes
  have hr := B.returns
  have hts := atoms_spec (ws := (ws_ yX8_init cX8_init 4 (none))) B.pre
  have hts : ∀ w ∈ lw_all, w.before _ s = true := fun w h => hts w (List.mem_cons_of_mem _ h)
  have hown : s.vm.findClass RX8 = some m.cls := findClass_of_methodNamed B.named
  have hlk := B.notSynchronized
  have hin0 : meth.name = "<init>" := (name_of_methodNamed B.named B.method).1
  have X : CallFix p m c cX8_init 4 s ([.ref t0, .int p1, .int p2, .int p3] : List Value).toArray lw_all RX8 := ⟨hx, hb, hml, hown, hts⟩
  have hS : va_S (wA G) s.heap s.heap [] := va_S.rf
  have hl := lv_entry ([.ref t0, .int p1, .int p2, .int p3]) (n := 4) (Nat.le_of_ble_eq_true rfl)
  rw [lg_entry_eq]
  generalize (lg_sl ([.ref t0, .int p1, .int p2, .int p3]) ++ List.replicate (4 - (lg_sl ([.ref t0, .int p1, .int p2, .int p3])).length) Slot.unset).toArray = ls at hl ⊢
  have hl : lv_has ls 4 [(0, .ref t0), (1, .int p1), (2, .int p2), (3, .int p3)] := hl
  refine lv_aload_n hx hb dX8_init_0 rfl (lv_at hl 0 rfl) ?_
  refine W.objInit hx hb hown (hts _ q1437) (hts _ q218) (hts _ q219) rfl (by rw [hml]; exact hl.1) rfl dX8_init_1 (Nat.le_of_ble_eq_true rfl) (Nat.le_of_ble_eq_true rfl) ?_
  refine W.eq (g2 := F0 m 4 ls []) rfl ?_
  refine lv_aload_n hx hb dX8_init_4 rfl (lv_at hl 0 rfl) ?_
  refine lv_iload_n hx hb dX8_init_5 rfl (lv_at hl 1 rfl) ?_
  refine x_putF X hC.1 hM hS (ci := 7) (C := RX8) (T := TX8) (N := 3) rfl in_X8 tyX8 tyX8_ok nmX8 0 (by decide) q1438 (fun _ h9 => h9) rfl hin0 rfl rfl rfl dX8_init_6 hp (fun M1 H locs hM hS hp => ?_)
  refine lv_aload_n hx hb dX8_init_9 rfl (lv_at hl 0 rfl) ?_
  refine lv_iload_n hx hb dX8_init_10 rfl (lv_at hl 2 rfl) ?_
  refine x_putF X hC.1 hM hS (ci := 7) (C := RX8) (T := TX8) (N := 3) rfl in_X8 tyX8 tyX8_ok nmX8 1 (by decide) q1442 (fun _ h9 => h9) rfl hin0 rfl rfl rfl dX8_init_11 hp (fun M2 H locs hM hS hp => ?_)
  refine lv_aload_n hx hb dX8_init_14 rfl (lv_at hl 0 rfl) ?_
  refine lv_iload_n hx hb dX8_init_15 rfl (lv_at hl 3 rfl) ?_
  refine x_putF X hC.1 hM hS (ci := 7) (C := RX8) (T := TX8) (N := 3) rfl in_X8 tyX8 tyX8_ok nmX8 2 (by decide) q1445 (fun _ h9 => h9) rfl hin0 rfl rfl rfl dX8_init_16 hp (fun M3 H locs hM hS hp => ?_)
  exact x_vret X hr hlk hM hS ⟨Nat.le_refl _, Nat.le_refl _⟩ dX8_init_19 ⟨rfl, hp⟩
def B_X5_knownName_17 (G : wG) (Q : Int32 → wM → Prop) (Xp : String → Nat → wM → Prop) (x0 : Nat) (x2 : Int32) (y0 : Int32) (y1 : Nat) (M : wM) (bq : Nat) : Prop :=
  oIs M y1 4 (∃ c2, c2 ≤ bq ∧ P_X5_require G y1 y0 (3 : Int32) c2 M (fun M1 => oIs M1 x0 4 (∃ c4, c4 ≤ (bq - c2) ∧ P_X5_advance G x0 c4 M1 (fun M3 => Q x2 M3))) (fun E q5 M6 => (E = "ParkingOffice$ParseException" ∧ Xp E q5 M6)))
def P_X5_knownName (G : wG) (t0 : Nat) (p1 : Int32) (b : Nat) (M : wM) (Q : Int32 → wM → Prop) (Xp : String → Nat → wM → Prop) : Prop :=
  oIs M t0 4 (∃ c2, c2 ≤ b ∧ P_X5_name G t0 p1 c2 M (fun v3 M1 => oIf (v3 = (-1 : Int32)) (B_X5_knownName_17 G Q Xp t0 v3 (0 : Int32) t0 M1 (b - c2)) (B_X5_knownName_17 G Q Xp t0 v3 (1 : Int32) t0 M1 (b - c2))) (fun E q4 M5 => (E = "ParkingOffice$ParseException" ∧ Xp E q4 M5)))
set_option maxHeartbeats 4000000 in
set_option maxRecDepth 100000 in
theorem P_X5_knownName_ok {l : Launch} (hl0 : l.stackTraces = false) {G : wG} {t0 : Nat} {p1 : Int32} {b : Nat} {M : wM} {Q : Int32 → wM → Prop} {Xp : String → Nat → wM → Prop} (hp : P_X5_knownName G t0 p1 b M Q Xp) : wMet l yX5_knownName (ws_ yX5_knownName cX5_knownName 3 (Option.some Jvm.ClassFile.FieldType.int)) 19 556 G [.ref t0, .int p1] M b (wqI Q) Xp := by
  refine vx_ofW (cc := cX5_knownName) (maxL := 3) (ret := Option.some Jvm.ClassFile.FieldType.int) (by decide) rfl ?_
  intro p e s m args below meth c s₁ B hml hnt hv
  obtain ⟨rfl, hM, hK, hZ, hz⟩ := hv
  have hC : wC G s := ⟨hK, hZ, hz⟩
  have hx := B.exec
  have hb := B.bytes
  have hr := B.returns
  have hts := atoms_spec (ws := (ws_ yX5_knownName cX5_knownName 3 (Option.some Jvm.ClassFile.FieldType.int))) B.pre
  have hts : ∀ w ∈ lw_all, w.before _ s = true := fun w h => hts w (List.mem_cons_of_mem _ h)
  have hown : s.vm.findClass RX5 = some m.cls := findClass_of_methodNamed B.named
  have hlk := B.notSynchronized
  have X : CallFix p m c cX5_knownName 3 s ([.ref t0, .int p1] : List Value).toArray lw_all RX5 := ⟨hx, hb, hml, hown, hts⟩
  have hS : va_S (wA G) s.heap s.heap [] := va_S.rf
  have hl := lv_entry ([.ref t0, .int p1]) (n := 3) (Nat.le_of_ble_eq_true rfl)
  rw [lg_entry_eq]
  generalize (lg_sl ([.ref t0, .int p1]) ++ List.replicate (3 - (lg_sl ([.ref t0, .int p1])).length) Slot.unset).toArray = ls at hl ⊢
  have hl : lv_has ls 3 [(0, .ref t0), (1, .int p1)] := hl
  have hB : 0 + b ≤ ((headSpec (ws_ yX5_knownName cX5_knownName 3 (Option.some Jvm.ClassFile.FieldType.int)) ({ frames := 19, cells := b, slots := b, locals := 556 })).room).cells ∧ 0 + b ≤ ((headSpec (ws_ yX5_knownName cX5_knownName 3 (Option.some Jvm.ClassFile.FieldType.int)) ({ frames := 19, cells := b, slots := b, locals := 556 })).room).slots := ⟨Nat.le_of_eq (Nat.zero_add b), Nat.le_of_eq (Nat.zero_add b)⟩
  have hB17 : ∀ (x0 : Nat) (x2 : Int32) (y0 : Int32) (y1 : Nat) (M : wM) (bq : Nat) (H : Heap) (locs : List Loc) (ls : Array Slot) (cells slots : Nat), B_X5_knownName_17 G Q Xp x0 x2 y0 y1 M bq → wR G M H → va_S (wA G) s.heap H locs → (cells + bq ≤ ((headSpec (ws_ yX5_knownName cX5_knownName 3 (Option.some Jvm.ClassFile.FieldType.int)) ({ frames := 19, cells := b, slots := b, locals := 556 })).room).cells ∧ slots + bq ≤ ((headSpec (ws_ yX5_knownName cX5_knownName 3 (Option.some Jvm.ClassFile.FieldType.int)) ({ frames := 19, cells := b, slots := b, locals := 556 })).room).slots) → lv_has ls 3 [(0, .ref x0), (2, .int x2)] → W p l e (headSpec (ws_ yX5_knownName cX5_knownName 3 (Option.some Jvm.ClassFile.FieldType.int)) ({ frames := 19, cells := b, slots := b, locals := 556 })).room s m ([.ref t0, .int p1] : List Value).toArray below meth c H locs cells slots (vx_MQ below (wQ G (wqI Q)) (wXC G Xp) ([.ref t0, .int p1] : List Value).toArray s b b (wA G)) (F0 m 17 ls [.int y0, .ref y1]) := by
    intro x0 x2 y0 y1 M bq H locs ls cells slots hp hM hS hB hl
    refine lv_iconst (v := 3) hx hb dX5_knownName_17 (by decide) ?_
    obtain ⟨hrec, hp⟩ := hp
    obtain ⟨c2, hc1, hp⟩ := hp
    refine x_callV (vx_runV (As := [.int y0, .int (3 : Int32)]) (rest := []) X (P_X5_require_ok (l := l) hl0 hp) (cwV 2 hts (lw_V q1240 q1242 qs14 q179 q1243) rfl rfl rfl (by decide +kernel) ⟨Nat.le_of_ble_eq_true rfl, Nat.le_of_ble_eq_true rfl⟩) ⟨wPc.blind, w_recv hC.1 hM (ci := 4) (q := (RX5, TX5, 9)) rfl hrec, w_pre hC hM hS _⟩ rfl rfl hl.1 rfl (lv_room (Nat.le_of_ble_eq_true rfl)) dX5_knownName_18 (w_room hB hc1)) hS hB hc1 (fun E ce q5 M6 H locs hp hM hS hB hcell hcv hcl => ?_) (fun M1 H locs hp hM hS hB => ?_)
    · obtain ⟨rfl, hp⟩ := hp
      exact x_out hlk (fun x h => (hnt x h).elim) hM hS (w_fin hB) hcell hcv hcl hp
    · refine lv_aload_n hx hb dX5_knownName_21 rfl (lv_at hl 0 rfl) ?_
      obtain ⟨hrec, hp⟩ := hp
      obtain ⟨c4, hc1, hp⟩ := hp
      refine x_callV (vx_runV (As := []) (rest := []) X (P_X5_advance_ok (l := l) hl0 hp) (cwV 0 hts (lw_V q1097 q1099 qs10 q179 q1100) rfl rfl rfl (by decide +kernel) ⟨Nat.le_of_ble_eq_true rfl, Nat.le_of_ble_eq_true rfl⟩) ⟨wPc.blind, w_recv hC.1 hM (ci := 4) (q := (RX5, TX5, 9)) rfl hrec, w_pre hC hM hS _⟩ rfl rfl hl.1 rfl (lv_room (Nat.le_of_ble_eq_true rfl)) dX5_knownName_22 (w_room hB hc1)) hS hB hc1 (fun _ _ _ _ _ _ h => False.elim h) (fun M3 H locs hp hM hS hB => ?_)
      refine lv_iload_n hx hb dX5_knownName_25 rfl (lv_at hl 1 rfl) ?_
      exact x_iret X hr hlk hM hS (w_fin hB) dX5_knownName_26 ⟨_, rfl, hp⟩
  refine lv_aload_n hx hb dX5_knownName_0 rfl (lv_at hl 0 rfl) ?_
  refine lv_iload_n hx hb dX5_knownName_1 rfl (lv_at hl 1 rfl) ?_
  obtain ⟨hrec, hp⟩ := hp
  obtain ⟨c2, hc1, hp⟩ := hp
  refine x_callI (vx_runV (As := [.int p1]) (rest := []) X (P_X5_name_ok (l := l) hl0 hp) (cwV 1 hts (lw_V q1276 q1278 qs16 q179 q1279) rfl rfl rfl (by decide +kernel) ⟨Nat.le_of_ble_eq_true rfl, Nat.le_of_ble_eq_true rfl⟩) ⟨wPc.blind, w_recv hC.1 hM (ci := 4) (q := (RX5, TX5, 9)) rfl hrec, w_pre hC hM hS _⟩ rfl rfl hl.1 rfl (lv_room (Nat.le_of_ble_eq_true rfl)) dX5_knownName_2 (w_room hB hc1)) hS hB hc1 (fun E ce q4 M5 H locs hp hM hS hB hcell hcv hcl => ?_) (fun v3 M1 H locs hp hM hS hB => ?_)
  · obtain ⟨rfl, hp⟩ := hp
    exact x_out hlk (fun x h => (hnt x h).elim) hM hS (w_fin hB) hcell hcv hcl hp
  · refine lv_istore_n (lv' := [(2, .int v3), (0, .ref t0), (1, .int p1)]) hx hb dX5_knownName_5 rfl hl (by decide) rfl (fun ls hl => ?_)
    refine lv_aload_n hx hb dX5_knownName_6 rfl (lv_at hl 1 rfl) ?_
    refine lv_iload_n hx hb dX5_knownName_7 rfl (lv_at hl 0 rfl) ?_
    refine lv_iconst (v := (-1)) hx hb dX5_knownName_8 (by decide) ?_
    refine lv_icmp_eq (tgt := 16) hx hb dX5_knownName_9 (by decide) (fun hc => ?_) (fun hc => ?_)
    · have hp := oIf.t hp hc
      refine lv_iconst (v := 0) hx hb dX5_knownName_16 (by decide) ?_
      exact hB17 _ _ _ _ _ _ _ _ _ _ _ hp hM hS hB (lv_sub hl [1, 0] rfl)
    · have hp := oIf.f hp hc
      refine lv_iconst (v := 1) hx hb dX5_knownName_12 (by decide) ?_
      refine lv_goto (tgt := 17) hx hb dX5_knownName_13 (by decide) ?_
      exact hB17 _ _ _ _ _ _ _ _ _ _ _ hp hM hS hB (lv_sub hl [1, 0] rfl)
def B_X5_street_105 (G : wG) (Q : wM → Prop) (Xp : String → Nat → wM → Prop) (x0 : Nat) (x1 : Int32) (x2 : Int32) (x3 : Int32) (M : wM) (bq : Nat) : Prop :=
  oGetA M x0 4 1 (fun a1 => oGetA M a1 2 1 (fun a2 => oNew G M bq 7 [.int 0, .int 0, .int 0] (fun a3 M4 b5 => P_X8_init G a3 x1 x2 x3 M4 (fun M6 => oIs M6 a2 16 (∃ c9, c9 ≤ b5 ∧ P_J2_add G a2 (some a3) c9 M6 (fun r10 M8 => Q M8))))))
def B_X5_street_94 (G : wG) (Q : wM → Prop) (Xp : String → Nat → wM → Prop) (x0 : Nat) (x1 : Int32) (x2 : Int32) (x4 : Int32) (y0 : Int32) (y1 : Nat) (M : wM) (bq : Nat) : Prop :=
  oIs M y1 4 (∃ c2, c2 ≤ bq ∧ P_X5_require G y1 y0 (3 : Int32) c2 M (fun M1 => oIs M1 x0 4 (∃ c4, c4 ≤ (bq - c2) ∧ P_X5_advance G x0 c4 M1 (fun M3 => B_X5_street_105 G Q Xp x0 x1 x2 x4 M3 ((bq - c2) - c4)))) (fun E q5 M6 => (E = "ParkingOffice$ParseException" ∧ Xp E q5 M6)))
def B_X5_street_93 (G : wG) (Q : wM → Prop) (Xp : String → Nat → wM → Prop) (x0 : Nat) (x1 : Int32) (x2 : Int32) (x4 : Int32) (y0 : Nat) (M : wM) (bq : Nat) : Prop :=
  B_X5_street_94 G Q Xp x0 x1 x2 x4 (0 : Int32) y0 M bq
def B_X5_street_23 (G : wG) (Q : wM → Prop) (Xp : String → Nat → wM → Prop) (x0 : Nat) (y0 : Int32) (y1 : Nat) (M : wM) (bq : Nat) : Prop :=
  oIs M y1 4 (∃ c2, c2 ≤ bq ∧ P_X5_require G y1 y0 (4 : Int32) c2 M (fun M1 => oIs M1 x0 4 (∃ c4, c4 ≤ (bq - c2) ∧ P_X5_advance G x0 c4 M1 (fun M3 => oIs M3 x0 4 (∃ c6, c6 ≤ ((bq - c2) - c4) ∧ P_X5_newName G x0 (1 : Int32) c6 M3 (fun M5 => oIs M5 x0 4 (∃ c8, c8 ≤ (((bq - c2) - c4) - c6) ∧ P_X5_expect G x0 (G.2.2.2 15) c8 M5 (fun M7 => oIs M7 x0 4 (∃ c10, c10 ≤ ((((bq - c2) - c4) - c6) - c8) ∧ P_X5_knownName G x0 (0 : Int32) c10 M7 (fun v11 M9 => oIs M9 x0 4 (∃ c13, c13 ≤ (((((bq - c2) - c4) - c6) - c8) - c10) ∧ P_X5_numberBehind G x0 (G.2.2.2 16) (0 : Int32) (60 : Int32) c13 M9 (fun v14 M12 => oIs M12 x0 4 (∃ c16, c16 ≤ ((((((bq - c2) - c4) - c6) - c8) - c10) - c13) ∧ P_X5_accept G x0 (G.2.2.2 17) c16 M12 (fun r17 M15 => oIf (r17 = true) (oIs M15 x0 4 (∃ c19, c19 ≤ (((((((bq - c2) - c4) - c6) - c8) - c10) - c13) - c16) ∧ P_X5_name G x0 (0 : Int32) c19 M15 (fun v20 M18 => oIf (v20 = (-1 : Int32)) (B_X5_street_93 G Q Xp x0 v11 v14 v20 x0 M18 ((((((((bq - c2) - c4) - c6) - c8) - c10) - c13) - c16) - c19)) (oIf (v20 = v11) (B_X5_street_93 G Q Xp x0 v11 v14 v20 x0 M18 ((((((((bq - c2) - c4) - c6) - c8) - c10) - c13) - c16) - c19)) (B_X5_street_94 G Q Xp x0 v11 v14 v20 (1 : Int32) x0 M18 ((((((((bq - c2) - c4) - c6) - c8) - c10) - c13) - c16) - c19)))) (fun E q21 M22 => (E = "ParkingOffice$ParseException" ∧ Xp E q21 M22)))) (B_X5_street_105 G Q Xp x0 v11 v14 (-1 : Int32) M15 (((((((bq - c2) - c4) - c6) - c8) - c10) - c13) - c16))))) (fun E q23 M24 => (E = "ParkingOffice$ParseException" ∧ Xp E q23 M24)))) (fun E q25 M26 => (E = "ParkingOffice$ParseException" ∧ Xp E q25 M26)))) (fun E q27 M28 => (E = "ParkingOffice$ParseException" ∧ Xp E q27 M28)))) (fun E q29 M30 => (E = "ParkingOffice$ParseException" ∧ Xp E q29 M30)))))) (fun E q31 M32 => (E = "ParkingOffice$ParseException" ∧ Xp E q31 M32)))
def P_X5_street (G : wG) (t0 : Nat) (b : Nat) (M : wM) (Q : wM → Prop) (Xp : String → Nat → wM → Prop) : Prop :=
  oGetA M t0 4 1 (fun a1 => oGetA M a1 2 1 (fun a2 => oIs M a2 16 (P_J2_size G a2 M (fun v5 M3 => oIf ((12 : Int32) ≤ v5) (B_X5_street_23 G Q Xp t0 (0 : Int32) t0 M3 b) (B_X5_street_23 G Q Xp t0 (1 : Int32) t0 M3 b)))))
set_option maxHeartbeats 4000000 in
set_option maxRecDepth 100000 in
theorem P_X5_street_ok {l : Launch} (hl0 : l.stackTraces = false) {G : wG} {t0 : Nat} {b : Nat} {M : wM} {Q : wM → Prop} {Xp : String → Nat → wM → Prop} (hp : P_X5_street G t0 b M Q Xp) : wMet l yX5_street (ws_ yX5_street cX5_street 5 (none)) 22 623 G [.ref t0] M b (wqV Q) Xp := by
  refine vx_ofW (cc := cX5_street) (maxL := 5) (ret := none) (by decide) rfl ?_
  intro p e s m args below meth c s₁ B hml hnt hv
  obtain ⟨rfl, hM, hK, hZ, hz⟩ := hv
  have hC : wC G s := ⟨hK, hZ, hz⟩
  have hx := B.exec
  have hb := B.bytes
  have hr := B.returns
  have hts := atoms_spec (ws := (ws_ yX5_street cX5_street 5 (none))) B.pre
  have hts : ∀ w ∈ lw_all, w.before _ s = true := fun w h => hts w (List.mem_cons_of_mem _ h)
  have hown : s.vm.findClass RX5 = some m.cls := findClass_of_methodNamed B.named
  have hlk := B.notSynchronized
  have X : CallFix p m c cX5_street 5 s ([.ref t0] : List Value).toArray lw_all RX5 := ⟨hx, hb, hml, hown, hts⟩
  have hS : va_S (wA G) s.heap s.heap [] := va_S.rf
  have hl := lv_entry ([.ref t0]) (n := 5) (Nat.le_of_ble_eq_true rfl)
  rw [lg_entry_eq]
  generalize (lg_sl ([.ref t0]) ++ List.replicate (5 - (lg_sl ([.ref t0])).length) Slot.unset).toArray = ls at hl ⊢
  have hl : lv_has ls 5 [(0, .ref t0)] := hl
  have hB : 0 + b ≤ ((headSpec (ws_ yX5_street cX5_street 5 (none)) ({ frames := 22, cells := b, slots := b, locals := 623 })).room).cells ∧ 0 + b ≤ ((headSpec (ws_ yX5_street cX5_street 5 (none)) ({ frames := 22, cells := b, slots := b, locals := 623 })).room).slots := ⟨Nat.le_of_eq (Nat.zero_add b), Nat.le_of_eq (Nat.zero_add b)⟩
  have hB105 : ∀ (x0 : Nat) (x1 : Int32) (x2 : Int32) (x3 : Int32) (M : wM) (bq : Nat) (H : Heap) (locs : List Loc) (ls : Array Slot) (cells slots : Nat), B_X5_street_105 G Q Xp x0 x1 x2 x3 M bq → wR G M H → va_S (wA G) s.heap H locs → (cells + bq ≤ ((headSpec (ws_ yX5_street cX5_street 5 (none)) ({ frames := 22, cells := b, slots := b, locals := 623 })).room).cells ∧ slots + bq ≤ ((headSpec (ws_ yX5_street cX5_street 5 (none)) ({ frames := 22, cells := b, slots := b, locals := 623 })).room).slots) → lv_has ls 5 [(0, .ref x0), (1, .int x1), (2, .int x2), (3, .int x3)] → W p l e (headSpec (ws_ yX5_street cX5_street 5 (none)) ({ frames := 22, cells := b, slots := b, locals := 623 })).room s m ([.ref t0] : List Value).toArray below meth c H locs cells slots (vx_MQ below (wQ G (wqV Q)) (wXC G Xp) ([.ref t0] : List Value).toArray s b b (wA G)) (F0 m 105 ls []) := by
    intro x0 x1 x2 x3 M bq H locs ls cells slots hp hM hS hB hl
    refine lv_aload_n hx hb dX5_street_105 rfl (lv_at hl 0 rfl) ?_
    refine x_getA X hC.1 hM (ci := 4) (C := RX5) (T := TX5) (N := 9) rfl in_X5 1 (by decide) q1130 (fun _ h9 => h9) dX5_street_106 hp (fun a1 hp => ?_)
    refine x_getAN X hC.1 hM (ci := 2) (C := RX3) (T := TX3) (N := 8) rfl in_X3 1 (by decide) q400 (fun _ h9 => h9) dX5_street_109 hp (fun a2 hp => ?_)
    refine x_new X hC hM hS hB (ci := 7) (C := RX8) (T := TX8) (N := 3) rfl in_X8 tyX8 tyX8_ok q1432 q1433 q187 rfl (by decide) dX5_street_112 hp (fun a3 M4 H b5 cells slots hM hS hB hp => ?_)
    refine lv_dup hx hb dX5_street_115 rfl ?_
    refine lv_iload_n hx hb dX5_street_116 rfl (lv_at hl 1 rfl) ?_
    refine lv_iload_n hx hb dX5_street_117 rfl (lv_at hl 2 rfl) ?_
    refine lv_iload_n hx hb dX5_street_118 rfl (lv_at hl 3 rfl) ?_
    refine x_call0V (vx_runI (As := [.int x1, .int x2, .int x3]) (rest := [.ref a3, .ref a2]) X (P_X8_init_ok (l := l) hl0 hp) (cwI 3 hts (lw_meth q1436) rfl rfl rfl (hts _ q187) (hts _ q1434) (hts _ q1435) rfl (by decide +kernel) ⟨Nat.le_of_ble_eq_true rfl, Nat.le_of_ble_eq_true rfl⟩) ⟨wPc.blind, w_pre hC hM hS _⟩ rfl rfl hl.1 rfl (lv_room (Nat.le_of_ble_eq_true rfl)) dX5_street_119 (w_room0 hB)) hS (w_room0 hB) (fun _ _ _ _ _ _ h => False.elim h) (fun M6 H locs hp hM hS => ?_)
    obtain ⟨hrec, hp⟩ := hp
    obtain ⟨c9, hc1, hp⟩ := hp
    refine x_callZ5 (vx_runF (hC.1.1.1 16 (RJ2, TJ2, 3) rfl).2 (C := "java/util/ArrayList") (As := [va_rf (some a3)]) (rest := []) X (P_J2_add_ok (l := l) hl0 hp) (va_cwF 1 hts (lw_app (w_mem4 q1383 q266 q268 q153) (lw_meth q270)) rfl rfl rfl (wfw_5 hC.1) (by decide +kernel) ⟨Nat.le_of_ble_eq_true rfl, Nat.le_of_ble_eq_true rfl⟩) ⟨wPc.blind, w_recv hC.1 hM (ci := 16) (q := (RJ2, TJ2, 3)) rfl hrec, w_pre hC hM hS _⟩ rfl rfl hl.1 rfl (lv_room (Nat.le_of_ble_eq_true rfl)) dX5_street_122 (w_room hB hc1)) hS hB hc1 (fun _ _ _ _ _ _ h => False.elim h) (fun r10 M8 H locs hp hM hS hB => ?_)
    refine lv_pop hx hb dX5_street_127 rfl ?_
    exact x_vret X hr hlk hM hS (w_fin hB) dX5_street_128 ⟨rfl, hp⟩
  have hB94 : ∀ (x0 : Nat) (x1 : Int32) (x2 : Int32) (x4 : Int32) (y0 : Int32) (y1 : Nat) (M : wM) (bq : Nat) (H : Heap) (locs : List Loc) (ls : Array Slot) (cells slots : Nat), B_X5_street_94 G Q Xp x0 x1 x2 x4 y0 y1 M bq → wR G M H → va_S (wA G) s.heap H locs → (cells + bq ≤ ((headSpec (ws_ yX5_street cX5_street 5 (none)) ({ frames := 22, cells := b, slots := b, locals := 623 })).room).cells ∧ slots + bq ≤ ((headSpec (ws_ yX5_street cX5_street 5 (none)) ({ frames := 22, cells := b, slots := b, locals := 623 })).room).slots) → lv_has ls 5 [(0, .ref x0), (1, .int x1), (2, .int x2), (4, .int x4)] → W p l e (headSpec (ws_ yX5_street cX5_street 5 (none)) ({ frames := 22, cells := b, slots := b, locals := 623 })).room s m ([.ref t0] : List Value).toArray below meth c H locs cells slots (vx_MQ below (wQ G (wqV Q)) (wXC G Xp) ([.ref t0] : List Value).toArray s b b (wA G)) (F0 m 94 ls [.int y0, .ref y1]) := by
    intro x0 x1 x2 x4 y0 y1 M bq H locs ls cells slots hp hM hS hB hl
    refine lv_iconst (v := 3) hx hb dX5_street_94 (by decide) ?_
    obtain ⟨hrec, hp⟩ := hp
    obtain ⟨c2, hc1, hp⟩ := hp
    refine x_callV (vx_runV (As := [.int y0, .int (3 : Int32)]) (rest := []) X (P_X5_require_ok (l := l) hl0 hp) (cwV 2 hts (lw_V q1240 q1242 qs14 q179 q1243) rfl rfl rfl (by decide +kernel) ⟨Nat.le_of_ble_eq_true rfl, Nat.le_of_ble_eq_true rfl⟩) ⟨wPc.blind, w_recv hC.1 hM (ci := 4) (q := (RX5, TX5, 9)) rfl hrec, w_pre hC hM hS _⟩ rfl rfl hl.1 rfl (lv_room (Nat.le_of_ble_eq_true rfl)) dX5_street_95 (w_room hB hc1)) hS hB hc1 (fun E ce q5 M6 H locs hp hM hS hB hcell hcv hcl => ?_) (fun M1 H locs hp hM hS hB => ?_)
    · obtain ⟨rfl, hp⟩ := hp
      exact x_out hlk (fun x h => (hnt x h).elim) hM hS (w_fin hB) hcell hcv hcl hp
    · refine lv_aload_n hx hb dX5_street_98 rfl (lv_at hl 0 rfl) ?_
      obtain ⟨hrec, hp⟩ := hp
      obtain ⟨c4, hc1, hp⟩ := hp
      refine x_callV (vx_runV (As := []) (rest := []) X (P_X5_advance_ok (l := l) hl0 hp) (cwV 0 hts (lw_V q1097 q1099 qs10 q179 q1100) rfl rfl rfl (by decide +kernel) ⟨Nat.le_of_ble_eq_true rfl, Nat.le_of_ble_eq_true rfl⟩) ⟨wPc.blind, w_recv hC.1 hM (ci := 4) (q := (RX5, TX5, 9)) rfl hrec, w_pre hC hM hS _⟩ rfl rfl hl.1 rfl (lv_room (Nat.le_of_ble_eq_true rfl)) dX5_street_99 (w_room hB hc1)) hS hB hc1 (fun _ _ _ _ _ _ h => False.elim h) (fun M3 H locs hp hM hS hB => ?_)
      refine lv_iload hx hb dX5_street_102 (lv_at hl 3 rfl) ?_
      refine lv_istore_n (lv' := [(3, .int x4), (0, .ref x0), (1, .int x1), (2, .int x2), (4, .int x4)]) hx hb dX5_street_104 rfl hl (by decide) rfl (fun ls hl => ?_)
      exact hB105 _ _ _ _ _ _ _ _ _ _ _ hp hM hS hB (lv_sub hl [1, 2, 3, 0] rfl)
  have hB93 : ∀ (x0 : Nat) (x1 : Int32) (x2 : Int32) (x4 : Int32) (y0 : Nat) (M : wM) (bq : Nat) (H : Heap) (locs : List Loc) (ls : Array Slot) (cells slots : Nat), B_X5_street_93 G Q Xp x0 x1 x2 x4 y0 M bq → wR G M H → va_S (wA G) s.heap H locs → (cells + bq ≤ ((headSpec (ws_ yX5_street cX5_street 5 (none)) ({ frames := 22, cells := b, slots := b, locals := 623 })).room).cells ∧ slots + bq ≤ ((headSpec (ws_ yX5_street cX5_street 5 (none)) ({ frames := 22, cells := b, slots := b, locals := 623 })).room).slots) → lv_has ls 5 [(0, .ref x0), (1, .int x1), (2, .int x2), (4, .int x4)] → W p l e (headSpec (ws_ yX5_street cX5_street 5 (none)) ({ frames := 22, cells := b, slots := b, locals := 623 })).room s m ([.ref t0] : List Value).toArray below meth c H locs cells slots (vx_MQ below (wQ G (wqV Q)) (wXC G Xp) ([.ref t0] : List Value).toArray s b b (wA G)) (F0 m 93 ls [.ref y0]) := by
    intro x0 x1 x2 x4 y0 M bq H locs ls cells slots hp hM hS hB hl
    refine lv_iconst (v := 0) hx hb dX5_street_93 (by decide) ?_
    exact hB94 _ _ _ _ _ _ _ _ _ _ _ _ _ hp hM hS hB (lv_sub hl [0, 1, 2, 3] rfl)
  have hB23 : ∀ (x0 : Nat) (y0 : Int32) (y1 : Nat) (M : wM) (bq : Nat) (H : Heap) (locs : List Loc) (ls : Array Slot) (cells slots : Nat), B_X5_street_23 G Q Xp x0 y0 y1 M bq → wR G M H → va_S (wA G) s.heap H locs → (cells + bq ≤ ((headSpec (ws_ yX5_street cX5_street 5 (none)) ({ frames := 22, cells := b, slots := b, locals := 623 })).room).cells ∧ slots + bq ≤ ((headSpec (ws_ yX5_street cX5_street 5 (none)) ({ frames := 22, cells := b, slots := b, locals := 623 })).room).slots) → lv_has ls 5 [(0, .ref x0)] → W p l e (headSpec (ws_ yX5_street cX5_street 5 (none)) ({ frames := 22, cells := b, slots := b, locals := 623 })).room s m ([.ref t0] : List Value).toArray below meth c H locs cells slots (vx_MQ below (wQ G (wqV Q)) (wXC G Xp) ([.ref t0] : List Value).toArray s b b (wA G)) (F0 m 23 ls [.int y0, .ref y1]) := by
    intro x0 y0 y1 M bq H locs ls cells slots hp hM hS hB hl
    refine lv_iconst (v := 4) hx hb dX5_street_23 (by decide) ?_
    obtain ⟨hrec, hp⟩ := hp
    obtain ⟨c2, hc1, hp⟩ := hp
    refine x_callV (vx_runV (As := [.int y0, .int (4 : Int32)]) (rest := []) X (P_X5_require_ok (l := l) hl0 hp) (cwV 2 hts (lw_V q1240 q1242 qs14 q179 q1243) rfl rfl rfl (by decide +kernel) ⟨Nat.le_of_ble_eq_true rfl, Nat.le_of_ble_eq_true rfl⟩) ⟨wPc.blind, w_recv hC.1 hM (ci := 4) (q := (RX5, TX5, 9)) rfl hrec, w_pre hC hM hS _⟩ rfl rfl hl.1 rfl (lv_room (Nat.le_of_ble_eq_true rfl)) dX5_street_24 (w_room hB hc1)) hS hB hc1 (fun E ce q31 M32 H locs hp hM hS hB hcell hcv hcl => ?_) (fun M1 H locs hp hM hS hB => ?_)
    · obtain ⟨rfl, hp⟩ := hp
      exact x_out hlk (fun x h => (hnt x h).elim) hM hS (w_fin hB) hcell hcv hcl hp
    · refine lv_aload_n hx hb dX5_street_27 rfl (lv_at hl 0 rfl) ?_
      obtain ⟨hrec, hp⟩ := hp
      obtain ⟨c4, hc1, hp⟩ := hp
      refine x_callV (vx_runV (As := []) (rest := []) X (P_X5_advance_ok (l := l) hl0 hp) (cwV 0 hts (lw_V q1097 q1099 qs10 q179 q1100) rfl rfl rfl (by decide +kernel) ⟨Nat.le_of_ble_eq_true rfl, Nat.le_of_ble_eq_true rfl⟩) ⟨wPc.blind, w_recv hC.1 hM (ci := 4) (q := (RX5, TX5, 9)) rfl hrec, w_pre hC hM hS _⟩ rfl rfl hl.1 rfl (lv_room (Nat.le_of_ble_eq_true rfl)) dX5_street_28 (w_room hB hc1)) hS hB hc1 (fun _ _ _ _ _ _ h => False.elim h) (fun M3 H locs hp hM hS hB => ?_)
      refine lv_aload_n hx hb dX5_street_31 rfl (lv_at hl 0 rfl) ?_
      refine lv_iconst (v := 1) hx hb dX5_street_32 (by decide) ?_
      obtain ⟨hrec, hp⟩ := hp
      obtain ⟨c6, hc1, hp⟩ := hp
      refine x_callV (vx_runV (As := [.int (1 : Int32)]) (rest := []) X (P_X5_newName_ok (l := l) hl0 hp) (cwV 1 hts (lw_V q1272 q1274 qs15 q179 q1275) rfl rfl rfl (by decide +kernel) ⟨Nat.le_of_ble_eq_true rfl, Nat.le_of_ble_eq_true rfl⟩) ⟨wPc.blind, w_recv hC.1 hM (ci := 4) (q := (RX5, TX5, 9)) rfl hrec, w_pre hC hM hS _⟩ rfl rfl hl.1 rfl (lv_room (Nat.le_of_ble_eq_true rfl)) dX5_street_33 (w_room hB hc1)) hS hB hc1 (fun E ce q29 M30 H locs hp hM hS hB hcell hcv hcl => ?_) (fun M5 H locs hp hM hS hB => ?_)
      · obtain ⟨rfl, hp⟩ := hp
        exact x_out hlk (fun x h => (hnt x h).elim) hM hS (w_fin hB) hcell hcv hcl hp
      · refine lv_aload_n hx hb dX5_street_36 rfl (lv_at hl 0 rfl) ?_
        refine x_ldcS X hC.1 (k := 15) (tx := "in") (List.mem_of_getElem? (i := 5) rfl) dX5_street_37 ?_
        obtain ⟨hrec, hp⟩ := hp
        obtain ⟨c8, hc1, hp⟩ := hp
        refine x_callV (vx_runV (As := [.ref (G.2.2.2 15)]) (rest := []) X (P_X5_expect_ok (l := l) hl0 hp) (cwV 1 hts (lw_V q1388 q1390 qs18 q179 q1391) rfl rfl rfl (by decide +kernel) ⟨Nat.le_of_ble_eq_true rfl, Nat.le_of_ble_eq_true rfl⟩) ⟨wPc.blind, w_recv hC.1 hM (ci := 4) (q := (RX5, TX5, 9)) rfl hrec, w_pre hC hM hS _⟩ rfl rfl hl.1 rfl (lv_room (Nat.le_of_ble_eq_true rfl)) dX5_street_39 (w_room hB hc1)) hS hB hc1 (fun E ce q27 M28 H locs hp hM hS hB hcell hcv hcl => ?_) (fun M7 H locs hp hM hS hB => ?_)
        · obtain ⟨rfl, hp⟩ := hp
          exact x_out hlk (fun x h => (hnt x h).elim) hM hS (w_fin hB) hcell hcv hcl hp
        · refine lv_aload_n hx hb dX5_street_42 rfl (lv_at hl 0 rfl) ?_
          refine lv_iconst (v := 0) hx hb dX5_street_43 (by decide) ?_
          obtain ⟨hrec, hp⟩ := hp
          obtain ⟨c10, hc1, hp⟩ := hp
          refine x_callI (vx_runV (As := [.int (0 : Int32)]) (rest := []) X (P_X5_knownName_ok (l := l) hl0 hp) (cwV 1 hts (lw_V q1428 q1430 qs22 q179 q1431) rfl rfl rfl (by decide +kernel) ⟨Nat.le_of_ble_eq_true rfl, Nat.le_of_ble_eq_true rfl⟩) ⟨wPc.blind, w_recv hC.1 hM (ci := 4) (q := (RX5, TX5, 9)) rfl hrec, w_pre hC hM hS _⟩ rfl rfl hl.1 rfl (lv_room (Nat.le_of_ble_eq_true rfl)) dX5_street_44 (w_room hB hc1)) hS hB hc1 (fun E ce q25 M26 H locs hp hM hS hB hcell hcv hcl => ?_) (fun v11 M9 H locs hp hM hS hB => ?_)
          · obtain ⟨rfl, hp⟩ := hp
            exact x_out hlk (fun x h => (hnt x h).elim) hM hS (w_fin hB) hcell hcv hcl hp
          · refine lv_istore_n (lv' := [(1, .int v11), (0, .ref x0)]) hx hb dX5_street_47 rfl hl (by decide) rfl (fun ls hl => ?_)
            refine lv_aload_n hx hb dX5_street_48 rfl (lv_at hl 1 rfl) ?_
            refine x_ldcS X hC.1 (k := 16) (tx := "spaces") (List.mem_of_getElem? (i := 6) rfl) dX5_street_49 ?_
            refine lv_iconst (v := 0) hx hb dX5_street_51 (by decide) ?_
            refine lv_bipush (v := 60) hx hb dX5_street_52 (by decide) ?_
            obtain ⟨hrec, hp⟩ := hp
            obtain ⟨c13, hc1, hp⟩ := hp
            refine x_callI (vx_runV (As := [.ref (G.2.2.2 16), .int (0 : Int32), .int (60 : Int32)]) (rest := []) X (P_X5_numberBehind_ok (l := l) hl0 hp) (cwV 3 hts (lw_V q1384 q1386 qs17 q179 q1387) rfl rfl rfl (by decide +kernel) ⟨Nat.le_of_ble_eq_true rfl, Nat.le_of_ble_eq_true rfl⟩) ⟨wPc.blind, w_recv hC.1 hM (ci := 4) (q := (RX5, TX5, 9)) rfl hrec, w_pre hC hM hS _⟩ rfl rfl hl.1 rfl (lv_room (Nat.le_of_ble_eq_true rfl)) dX5_street_54 (w_room hB hc1)) hS hB hc1 (fun E ce q23 M24 H locs hp hM hS hB hcell hcv hcl => ?_) (fun v14 M12 H locs hp hM hS hB => ?_)
            · obtain ⟨rfl, hp⟩ := hp
              exact x_out hlk (fun x h => (hnt x h).elim) hM hS (w_fin hB) hcell hcv hcl hp
            · refine lv_istore_n (lv' := [(2, .int v14), (1, .int v11), (0, .ref x0)]) hx hb dX5_street_57 rfl hl (by decide) rfl (fun ls hl => ?_)
              refine lv_iconst (v := (-1)) hx hb dX5_street_58 (by decide) ?_
              refine lv_istore_n (lv' := [(3, .int (-1 : Int32)), (2, .int v14), (1, .int v11), (0, .ref x0)]) hx hb dX5_street_59 rfl hl (by decide) rfl (fun ls hl => ?_)
              refine lv_aload_n hx hb dX5_street_60 rfl (lv_at hl 3 rfl) ?_
              refine x_ldcS X hC.1 (k := 17) (tx := "with") (List.mem_of_getElem? (i := 7) rfl) dX5_street_61 ?_
              obtain ⟨hrec, hp⟩ := hp
              obtain ⟨c16, hc1, hp⟩ := hp
              refine x_callZ (vx_runV (As := [.ref (G.2.2.2 17)]) (rest := []) X (P_X5_accept_ok (l := l) hl0 hp) (cwV 1 hts (lw_V q1392 q1394 qs19 q179 q1395) rfl rfl rfl (by decide +kernel) ⟨Nat.le_of_ble_eq_true rfl, Nat.le_of_ble_eq_true rfl⟩) ⟨wPc.blind, w_recv hC.1 hM (ci := 4) (q := (RX5, TX5, 9)) rfl hrec, w_pre hC hM hS _⟩ rfl rfl hl.1 rfl (lv_room (Nat.le_of_ble_eq_true rfl)) dX5_street_63 (w_room hB hc1)) hS hB hc1 (fun _ _ _ _ _ _ h => False.elim h) (fun r17 M15 H locs hp hM hS hB => ?_)
              refine x_ifeqB (tgt := 105) hx hb dX5_street_66 (by decide) (fun hc => ?_) (fun hc => ?_)
              · have hp := oIf.bf hp hc
                exact hB105 _ _ _ _ _ _ _ _ _ _ _ hp hM hS hB (lv_sub hl [3, 2, 1, 0] rfl)
              · have hp := oIf.bt hp hc
                refine lv_aload_n hx hb dX5_street_69 rfl (lv_at hl 3 rfl) ?_
                refine lv_iconst (v := 0) hx hb dX5_street_70 (by decide) ?_
                obtain ⟨hrec, hp⟩ := hp
                obtain ⟨c19, hc1, hp⟩ := hp
                refine x_callI (vx_runV (As := [.int (0 : Int32)]) (rest := []) X (P_X5_name_ok (l := l) hl0 hp) (cwV 1 hts (lw_V q1276 q1278 qs16 q179 q1279) rfl rfl rfl (by decide +kernel) ⟨Nat.le_of_ble_eq_true rfl, Nat.le_of_ble_eq_true rfl⟩) ⟨wPc.blind, w_recv hC.1 hM (ci := 4) (q := (RX5, TX5, 9)) rfl hrec, w_pre hC hM hS _⟩ rfl rfl hl.1 rfl (lv_room (Nat.le_of_ble_eq_true rfl)) dX5_street_71 (w_room hB hc1)) hS hB hc1 (fun E ce q21 M22 H locs hp hM hS hB hcell hcv hcl => ?_) (fun v20 M18 H locs hp hM hS hB => ?_)
                · obtain ⟨rfl, hp⟩ := hp
                  exact x_out hlk (fun x h => (hnt x h).elim) hM hS (w_fin hB) hcell hcv hcl hp
                · refine lv_istore (lv' := [(4, .int v20), (3, .int (-1 : Int32)), (2, .int v14), (1, .int v11), (0, .ref x0)]) hx hb dX5_street_74 hl (by decide) rfl (fun ls hl => ?_)
                  refine lv_aload_n hx hb dX5_street_76 rfl (lv_at hl 4 rfl) ?_
                  refine lv_iload hx hb dX5_street_77 (lv_at hl 0 rfl) ?_
                  refine lv_iconst (v := (-1)) hx hb dX5_street_79 (by decide) ?_
                  refine lv_icmp_eq (tgt := 93) hx hb dX5_street_80 (by decide) (fun hc => ?_) (fun hc => ?_)
                  · have hp := oIf.t hp hc
                    exact hB93 _ _ _ _ _ _ _ _ _ _ _ _ hp hM hS hB (lv_sub hl [4, 3, 2, 0] rfl)
                  · have hp := oIf.f hp hc
                    refine lv_iload hx hb dX5_street_83 (lv_at hl 0 rfl) ?_
                    refine lv_iload_n hx hb dX5_street_85 rfl (lv_at hl 3 rfl) ?_
                    refine lv_icmp_eq (tgt := 93) hx hb dX5_street_86 (by decide) (fun hc => ?_) (fun hc => ?_)
                    · have hp := oIf.t hp hc
                      exact hB93 _ _ _ _ _ _ _ _ _ _ _ _ hp hM hS hB (lv_sub hl [4, 3, 2, 0] rfl)
                    · have hp := oIf.f hp hc
                      refine lv_iconst (v := 1) hx hb dX5_street_89 (by decide) ?_
                      refine lv_goto (tgt := 94) hx hb dX5_street_90 (by decide) ?_
                      exact hB94 _ _ _ _ _ _ _ _ _ _ _ _ _ hp hM hS hB (lv_sub hl [4, 3, 2, 0] rfl)
  refine lv_aload_n hx hb dX5_street_0 rfl (lv_at hl 0 rfl) ?_
  refine lv_aload_n hx hb dX5_street_1 rfl (lv_at hl 0 rfl) ?_
  refine x_getA X hC.1 hM (ci := 4) (C := RX5) (T := TX5) (N := 9) rfl in_X5 1 (by decide) q1130 (fun _ h9 => h9) dX5_street_2 hp (fun a1 hp => ?_)
  refine x_getAN X hC.1 hM (ci := 2) (C := RX3) (T := TX3) (N := 8) rfl in_X3 1 (by decide) q400 (fun _ h9 => h9) dX5_street_5 hp (fun a2 hp => ?_)
  obtain ⟨hrec, hp⟩ := hp
  refine x_call0I5 (vx_runF (hC.1.1.1 16 (RJ2, TJ2, 3) rfl).2 (C := "java/util/ArrayList") (As := []) (rest := [.ref t0]) X (P_J2_size_ok (l := l) hl0 hp) (va_cwF 0 hts (lw_app (w_mem4 q1239 q496 q498 q153) (lw_meth q500)) rfl rfl rfl (wfw_13 hC.1) (by decide +kernel) ⟨Nat.le_of_ble_eq_true rfl, Nat.le_of_ble_eq_true rfl⟩) ⟨wPc.blind, w_recv hC.1 hM (ci := 16) (q := (RJ2, TJ2, 3)) rfl hrec, w_pre hC hM hS _⟩ rfl rfl hl.1 rfl (lv_room (Nat.le_of_ble_eq_true rfl)) dX5_street_8 (w_room0 hB)) hS (w_room0 hB) (fun _ _ _ _ _ _ h => False.elim h) (fun v5 M3 H locs hp hM hS => ?_)
  refine lv_bipush (v := 12) hx hb dX5_street_13 (by decide) ?_
  refine lv_icmp_ge (tgt := 22) hx hb dX5_street_15 (by decide) (fun hc => ?_) (fun hc => ?_)
  · have hp := oIf.t hp hc
    refine lv_iconst (v := 0) hx hb dX5_street_22 (by decide) ?_
    exact hB23 _ _ _ _ _ _ _ _ _ _ hp hM hS hB (lv_sub hl [0] rfl)
  · have hp := oIf.f hp hc
    refine lv_iconst (v := 1) hx hb dX5_street_18 (by decide) ?_
    refine lv_goto (tgt := 23) hx hb dX5_street_19 (by decide) ?_
    exact hB23 _ _ _ _ _ _ _ _ _ _ hp hM hS hB (lv_sub hl [0] rfl)
def P_X9_init (G : wG) (t0 : Nat) (p1 : Int32) (p2 : Int32) (p3 : Int32) (M : wM) (Q : wM → Prop) : Prop :=
  oPut G M t0 8 0 (.int p1) (fun M1 => oPut G M1 t0 8 1 (.int p2) (fun M2 => oPut G M2 t0 8 2 (.int p3) (fun M3 => Q M3)))
set_option maxHeartbeats 4000000 in
set_option maxRecDepth 100000 in
theorem P_X9_init_ok {l : Launch} (hl0 : l.stackTraces = false) {G : wG} {t0 : Nat} {p1 : Int32} {p2 : Int32} {p3 : Int32} {M : wM} {Q : wM → Prop} (hp : P_X9_init G t0 p1 p2 p3 M Q) : wMet l yX9_init (ws_ yX9_init cX9_init 4 (none)) 12 400 G [.ref t0, .int p1, .int p2, .int p3] M 0 (wqV Q) wX0 := by
  refine vx_ofW (cc := cX9_init) (maxL := 4) (ret := none) (by decide) rfl ?_
  intro p e s m args below meth c s₁ B hml hnt hv
  obtain ⟨rfl, hM, hK, hZ, hz⟩ := hv
  have hC : wC G s := ⟨hK, hZ, hz⟩
  have hx := B.exec
  have hb := B.bytes
  have hr := B.returns
  have hts := atoms_spec (ws := (ws_ yX9_init cX9_init 4 (none))) B.pre
  have hts : ∀ w ∈ lw_all, w.before _ s = true := fun w h => hts w (List.mem_cons_of_mem _ h)
  have hown : s.vm.findClass RX9 = some m.cls := findClass_of_methodNamed B.named
  have hlk := B.notSynchronized
  have hin0 : meth.name = "<init>" := (name_of_methodNamed B.named B.method).1
  have X : CallFix p m c cX9_init 4 s ([.ref t0, .int p1, .int p2, .int p3] : List Value).toArray lw_all RX9 := ⟨hx, hb, hml, hown, hts⟩
  have hS : va_S (wA G) s.heap s.heap [] := va_S.rf
  have hl := lv_entry ([.ref t0, .int p1, .int p2, .int p3]) (n := 4) (Nat.le_of_ble_eq_true rfl)
  rw [lg_entry_eq]
  generalize (lg_sl ([.ref t0, .int p1, .int p2, .int p3]) ++ List.replicate (4 - (lg_sl ([.ref t0, .int p1, .int p2, .int p3])).length) Slot.unset).toArray = ls at hl ⊢
  have hl : lv_has ls 4 [(0, .ref t0), (1, .int p1), (2, .int p2), (3, .int p3)] := hl
  refine lv_aload_n hx hb dX9_init_0 rfl (lv_at hl 0 rfl) ?_
  refine W.objInit hx hb hown (hts _ q1464) (hts _ q218) (hts _ q219) rfl (by rw [hml]; exact hl.1) rfl dX9_init_1 (Nat.le_of_ble_eq_true rfl) (Nat.le_of_ble_eq_true rfl) ?_
  refine W.eq (g2 := F0 m 4 ls []) rfl ?_
  refine lv_aload_n hx hb dX9_init_4 rfl (lv_at hl 0 rfl) ?_
  refine lv_iload_n hx hb dX9_init_5 rfl (lv_at hl 1 rfl) ?_
  refine x_putF X hC.1 hM hS (ci := 8) (C := RX9) (T := TX9) (N := 3) rfl in_X9 tyX9 tyX9_ok nmX9 0 (by decide) q1465 (fun _ h9 => h9) rfl hin0 rfl rfl rfl dX9_init_6 hp (fun M1 H locs hM hS hp => ?_)
  refine lv_aload_n hx hb dX9_init_9 rfl (lv_at hl 0 rfl) ?_
  refine lv_iload_n hx hb dX9_init_10 rfl (lv_at hl 2 rfl) ?_
  refine x_putF X hC.1 hM hS (ci := 8) (C := RX9) (T := TX9) (N := 3) rfl in_X9 tyX9 tyX9_ok nmX9 1 (by decide) q1468 (fun _ h9 => h9) rfl hin0 rfl rfl rfl dX9_init_11 hp (fun M2 H locs hM hS hp => ?_)
  refine lv_aload_n hx hb dX9_init_14 rfl (lv_at hl 0 rfl) ?_
  refine lv_iload_n hx hb dX9_init_15 rfl (lv_at hl 3 rfl) ?_
  refine x_putF X hC.1 hM hS (ci := 8) (C := RX9) (T := TX9) (N := 3) rfl in_X9 tyX9 tyX9_ok nmX9 2 (by decide) q1471 (fun _ h9 => h9) rfl hin0 rfl rfl rfl dX9_init_16 hp (fun M3 H locs hM hS hp => ?_)
  exact x_vret X hr hlk hM hS ⟨Nat.le_refl _, Nat.le_refl _⟩ dX9_init_19 ⟨rfl, hp⟩
def B_X5_house_23 (G : wG) (Q : wM → Prop) (Xp : String → Nat → wM → Prop) (x0 : Nat) (y0 : Int32) (y1 : Nat) (M : wM) (bq : Nat) : Prop :=
  oIs M y1 4 (∃ c2, c2 ≤ bq ∧ P_X5_require G y1 y0 (4 : Int32) c2 M (fun M1 => oIs M1 x0 4 (∃ c4, c4 ≤ (bq - c2) ∧ P_X5_advance G x0 c4 M1 (fun M3 => oIs M3 x0 4 (∃ c6, c6 ≤ ((bq - c2) - c4) ∧ P_X5_newName G x0 (2 : Int32) c6 M3 (fun M5 => oIs M5 x0 4 (∃ c8, c8 ≤ (((bq - c2) - c4) - c6) ∧ P_X5_expect G x0 (G.2.2.2 19) c8 M5 (fun M7 => oIs M7 x0 4 (∃ c10, c10 ≤ ((((bq - c2) - c4) - c6) - c8) ∧ P_X5_knownName G x0 (1 : Int32) c10 M7 (fun v11 M9 => oIs M9 x0 4 (∃ c13, c13 ≤ (((((bq - c2) - c4) - c6) - c8) - c10) ∧ P_X5_numberBehind G x0 (G.2.2.2 20) (1 : Int32) (3 : Int32) c13 M9 (fun v14 M12 => oGetA M12 x0 4 1 (fun a15 => oGetA M12 a15 2 2 (fun a16 => oNew G M12 ((((((bq - c2) - c4) - c6) - c8) - c10) - c13) 8 [.int 0, .int 0, .int 0] (fun a17 M18 b19 => oIs M18 x0 4 (∃ c21, c21 ≤ b19 ∧ P_X5_numberBehind G x0 (G.2.2.2 21) (0 : Int32) (100 : Int32) c21 M18 (fun v22 M20 => P_X9_init G a17 v11 v14 v22 M20 (fun M23 => oIs M23 a16 16 (∃ c26, c26 ≤ (b19 - c21) ∧ P_J2_add G a16 (some a17) c26 M23 (fun r27 M25 => Q M25)))) (fun E q28 M29 => (E = "ParkingOffice$ParseException" ∧ Xp E q28 M29))))))) (fun E q30 M31 => (E = "ParkingOffice$ParseException" ∧ Xp E q30 M31)))) (fun E q32 M33 => (E = "ParkingOffice$ParseException" ∧ Xp E q32 M33)))) (fun E q34 M35 => (E = "ParkingOffice$ParseException" ∧ Xp E q34 M35)))) (fun E q36 M37 => (E = "ParkingOffice$ParseException" ∧ Xp E q36 M37)))))) (fun E q38 M39 => (E = "ParkingOffice$ParseException" ∧ Xp E q38 M39)))
def P_X5_house (G : wG) (t0 : Nat) (b : Nat) (M : wM) (Q : wM → Prop) (Xp : String → Nat → wM → Prop) : Prop :=
  oGetA M t0 4 1 (fun a1 => oGetA M a1 2 2 (fun a2 => oIs M a2 16 (P_J2_size G a2 M (fun v5 M3 => oIf ((16 : Int32) ≤ v5) (B_X5_house_23 G Q Xp t0 (0 : Int32) t0 M3 b) (B_X5_house_23 G Q Xp t0 (1 : Int32) t0 M3 b)))))
set_option maxHeartbeats 4000000 in
set_option maxRecDepth 100000 in
theorem P_X5_house_ok {l : Launch} (hl0 : l.stackTraces = false) {G : wG} {t0 : Nat} {b : Nat} {M : wM} {Q : wM → Prop} {Xp : String → Nat → wM → Prop} (hp : P_X5_house G t0 b M Q Xp) : wMet l yX5_house (ws_ yX5_house cX5_house 3 (none)) 22 623 G [.ref t0] M b (wqV Q) Xp := by
  refine vx_ofW (cc := cX5_house) (maxL := 3) (ret := none) (by decide) rfl ?_
  intro p e s m args below meth c s₁ B hml hnt hv
  obtain ⟨rfl, hM, hK, hZ, hz⟩ := hv
  have hC : wC G s := ⟨hK, hZ, hz⟩
  have hx := B.exec
  have hb := B.bytes
  have hr := B.returns
  have hts := atoms_spec (ws := (ws_ yX5_house cX5_house 3 (none))) B.pre
  have hts : ∀ w ∈ lw_all, w.before _ s = true := fun w h => hts w (List.mem_cons_of_mem _ h)
  have hown : s.vm.findClass RX5 = some m.cls := findClass_of_methodNamed B.named
  have hlk := B.notSynchronized
  have X : CallFix p m c cX5_house 3 s ([.ref t0] : List Value).toArray lw_all RX5 := ⟨hx, hb, hml, hown, hts⟩
  have hS : va_S (wA G) s.heap s.heap [] := va_S.rf
  have hl := lv_entry ([.ref t0]) (n := 3) (Nat.le_of_ble_eq_true rfl)
  rw [lg_entry_eq]
  generalize (lg_sl ([.ref t0]) ++ List.replicate (3 - (lg_sl ([.ref t0])).length) Slot.unset).toArray = ls at hl ⊢
  have hl : lv_has ls 3 [(0, .ref t0)] := hl
  have hB : 0 + b ≤ ((headSpec (ws_ yX5_house cX5_house 3 (none)) ({ frames := 22, cells := b, slots := b, locals := 623 })).room).cells ∧ 0 + b ≤ ((headSpec (ws_ yX5_house cX5_house 3 (none)) ({ frames := 22, cells := b, slots := b, locals := 623 })).room).slots := ⟨Nat.le_of_eq (Nat.zero_add b), Nat.le_of_eq (Nat.zero_add b)⟩
  have hB23 : ∀ (x0 : Nat) (y0 : Int32) (y1 : Nat) (M : wM) (bq : Nat) (H : Heap) (locs : List Loc) (ls : Array Slot) (cells slots : Nat), B_X5_house_23 G Q Xp x0 y0 y1 M bq → wR G M H → va_S (wA G) s.heap H locs → (cells + bq ≤ ((headSpec (ws_ yX5_house cX5_house 3 (none)) ({ frames := 22, cells := b, slots := b, locals := 623 })).room).cells ∧ slots + bq ≤ ((headSpec (ws_ yX5_house cX5_house 3 (none)) ({ frames := 22, cells := b, slots := b, locals := 623 })).room).slots) → lv_has ls 3 [(0, .ref x0)] → W p l e (headSpec (ws_ yX5_house cX5_house 3 (none)) ({ frames := 22, cells := b, slots := b, locals := 623 })).room s m ([.ref t0] : List Value).toArray below meth c H locs cells slots (vx_MQ below (wQ G (wqV Q)) (wXC G Xp) ([.ref t0] : List Value).toArray s b b (wA G)) (F0 m 23 ls [.int y0, .ref y1]) := by
    intro x0 y0 y1 M bq H locs ls cells slots hp hM hS hB hl
    refine lv_iconst (v := 4) hx hb dX5_house_23 (by decide) ?_
    obtain ⟨hrec, hp⟩ := hp
    obtain ⟨c2, hc1, hp⟩ := hp
    refine x_callV (vx_runV (As := [.int y0, .int (4 : Int32)]) (rest := []) X (P_X5_require_ok (l := l) hl0 hp) (cwV 2 hts (lw_V q1240 q1242 qs14 q179 q1243) rfl rfl rfl (by decide +kernel) ⟨Nat.le_of_ble_eq_true rfl, Nat.le_of_ble_eq_true rfl⟩) ⟨wPc.blind, w_recv hC.1 hM (ci := 4) (q := (RX5, TX5, 9)) rfl hrec, w_pre hC hM hS _⟩ rfl rfl hl.1 rfl (lv_room (Nat.le_of_ble_eq_true rfl)) dX5_house_24 (w_room hB hc1)) hS hB hc1 (fun E ce q38 M39 H locs hp hM hS hB hcell hcv hcl => ?_) (fun M1 H locs hp hM hS hB => ?_)
    · obtain ⟨rfl, hp⟩ := hp
      exact x_out hlk (fun x h => (hnt x h).elim) hM hS (w_fin hB) hcell hcv hcl hp
    · refine lv_aload_n hx hb dX5_house_27 rfl (lv_at hl 0 rfl) ?_
      obtain ⟨hrec, hp⟩ := hp
      obtain ⟨c4, hc1, hp⟩ := hp
      refine x_callV (vx_runV (As := []) (rest := []) X (P_X5_advance_ok (l := l) hl0 hp) (cwV 0 hts (lw_V q1097 q1099 qs10 q179 q1100) rfl rfl rfl (by decide +kernel) ⟨Nat.le_of_ble_eq_true rfl, Nat.le_of_ble_eq_true rfl⟩) ⟨wPc.blind, w_recv hC.1 hM (ci := 4) (q := (RX5, TX5, 9)) rfl hrec, w_pre hC hM hS _⟩ rfl rfl hl.1 rfl (lv_room (Nat.le_of_ble_eq_true rfl)) dX5_house_28 (w_room hB hc1)) hS hB hc1 (fun _ _ _ _ _ _ h => False.elim h) (fun M3 H locs hp hM hS hB => ?_)
      refine lv_aload_n hx hb dX5_house_31 rfl (lv_at hl 0 rfl) ?_
      refine lv_iconst (v := 2) hx hb dX5_house_32 (by decide) ?_
      obtain ⟨hrec, hp⟩ := hp
      obtain ⟨c6, hc1, hp⟩ := hp
      refine x_callV (vx_runV (As := [.int (2 : Int32)]) (rest := []) X (P_X5_newName_ok (l := l) hl0 hp) (cwV 1 hts (lw_V q1272 q1274 qs15 q179 q1275) rfl rfl rfl (by decide +kernel) ⟨Nat.le_of_ble_eq_true rfl, Nat.le_of_ble_eq_true rfl⟩) ⟨wPc.blind, w_recv hC.1 hM (ci := 4) (q := (RX5, TX5, 9)) rfl hrec, w_pre hC hM hS _⟩ rfl rfl hl.1 rfl (lv_room (Nat.le_of_ble_eq_true rfl)) dX5_house_33 (w_room hB hc1)) hS hB hc1 (fun E ce q36 M37 H locs hp hM hS hB hcell hcv hcl => ?_) (fun M5 H locs hp hM hS hB => ?_)
      · obtain ⟨rfl, hp⟩ := hp
        exact x_out hlk (fun x h => (hnt x h).elim) hM hS (w_fin hB) hcell hcv hcl hp
      · refine lv_aload_n hx hb dX5_house_36 rfl (lv_at hl 0 rfl) ?_
        refine x_ldcS X hC.1 (k := 19) (tx := "at") (List.mem_of_getElem? (i := 9) rfl) dX5_house_37 ?_
        obtain ⟨hrec, hp⟩ := hp
        obtain ⟨c8, hc1, hp⟩ := hp
        refine x_callV (vx_runV (As := [.ref (G.2.2.2 19)]) (rest := []) X (P_X5_expect_ok (l := l) hl0 hp) (cwV 1 hts (lw_V q1388 q1390 qs18 q179 q1391) rfl rfl rfl (by decide +kernel) ⟨Nat.le_of_ble_eq_true rfl, Nat.le_of_ble_eq_true rfl⟩) ⟨wPc.blind, w_recv hC.1 hM (ci := 4) (q := (RX5, TX5, 9)) rfl hrec, w_pre hC hM hS _⟩ rfl rfl hl.1 rfl (lv_room (Nat.le_of_ble_eq_true rfl)) dX5_house_39 (w_room hB hc1)) hS hB hc1 (fun E ce q34 M35 H locs hp hM hS hB hcell hcv hcl => ?_) (fun M7 H locs hp hM hS hB => ?_)
        · obtain ⟨rfl, hp⟩ := hp
          exact x_out hlk (fun x h => (hnt x h).elim) hM hS (w_fin hB) hcell hcv hcl hp
        · refine lv_aload_n hx hb dX5_house_42 rfl (lv_at hl 0 rfl) ?_
          refine lv_iconst (v := 1) hx hb dX5_house_43 (by decide) ?_
          obtain ⟨hrec, hp⟩ := hp
          obtain ⟨c10, hc1, hp⟩ := hp
          refine x_callI (vx_runV (As := [.int (1 : Int32)]) (rest := []) X (P_X5_knownName_ok (l := l) hl0 hp) (cwV 1 hts (lw_V q1428 q1430 qs22 q179 q1431) rfl rfl rfl (by decide +kernel) ⟨Nat.le_of_ble_eq_true rfl, Nat.le_of_ble_eq_true rfl⟩) ⟨wPc.blind, w_recv hC.1 hM (ci := 4) (q := (RX5, TX5, 9)) rfl hrec, w_pre hC hM hS _⟩ rfl rfl hl.1 rfl (lv_room (Nat.le_of_ble_eq_true rfl)) dX5_house_44 (w_room hB hc1)) hS hB hc1 (fun E ce q32 M33 H locs hp hM hS hB hcell hcv hcl => ?_) (fun v11 M9 H locs hp hM hS hB => ?_)
          · obtain ⟨rfl, hp⟩ := hp
            exact x_out hlk (fun x h => (hnt x h).elim) hM hS (w_fin hB) hcell hcv hcl hp
          · refine lv_istore_n (lv' := [(1, .int v11), (0, .ref x0)]) hx hb dX5_house_47 rfl hl (by decide) rfl (fun ls hl => ?_)
            refine lv_aload_n hx hb dX5_house_48 rfl (lv_at hl 1 rfl) ?_
            refine x_ldcS X hC.1 (k := 20) (tx := "cars") (List.mem_of_getElem? (i := 10) rfl) dX5_house_49 ?_
            refine lv_iconst (v := 1) hx hb dX5_house_51 (by decide) ?_
            refine lv_iconst (v := 3) hx hb dX5_house_52 (by decide) ?_
            obtain ⟨hrec, hp⟩ := hp
            obtain ⟨c13, hc1, hp⟩ := hp
            refine x_callI (vx_runV (As := [.ref (G.2.2.2 20), .int (1 : Int32), .int (3 : Int32)]) (rest := []) X (P_X5_numberBehind_ok (l := l) hl0 hp) (cwV 3 hts (lw_V q1384 q1386 qs17 q179 q1387) rfl rfl rfl (by decide +kernel) ⟨Nat.le_of_ble_eq_true rfl, Nat.le_of_ble_eq_true rfl⟩) ⟨wPc.blind, w_recv hC.1 hM (ci := 4) (q := (RX5, TX5, 9)) rfl hrec, w_pre hC hM hS _⟩ rfl rfl hl.1 rfl (lv_room (Nat.le_of_ble_eq_true rfl)) dX5_house_53 (w_room hB hc1)) hS hB hc1 (fun E ce q30 M31 H locs hp hM hS hB hcell hcv hcl => ?_) (fun v14 M12 H locs hp hM hS hB => ?_)
            · obtain ⟨rfl, hp⟩ := hp
              exact x_out hlk (fun x h => (hnt x h).elim) hM hS (w_fin hB) hcell hcv hcl hp
            · refine lv_istore_n (lv' := [(2, .int v14), (1, .int v11), (0, .ref x0)]) hx hb dX5_house_56 rfl hl (by decide) rfl (fun ls hl => ?_)
              refine lv_aload_n hx hb dX5_house_57 rfl (lv_at hl 2 rfl) ?_
              refine x_getA X hC.1 hM (ci := 4) (C := RX5) (T := TX5) (N := 9) rfl in_X5 1 (by decide) q1130 (fun _ h9 => h9) dX5_house_58 hp (fun a15 hp => ?_)
              refine x_getAN X hC.1 hM (ci := 2) (C := RX3) (T := TX3) (N := 8) rfl in_X3 2 (by decide) q406 (fun _ h9 => h9) dX5_house_61 hp (fun a16 hp => ?_)
              refine x_new X hC hM hS hB (ci := 8) (C := RX9) (T := TX9) (N := 3) rfl in_X9 tyX9 tyX9_ok q1459 q1460 q188 rfl (by decide) dX5_house_64 hp (fun a17 M18 H b19 cells slots hM hS hB hp => ?_)
              refine lv_dup hx hb dX5_house_67 rfl ?_
              refine lv_iload_n hx hb dX5_house_68 rfl (lv_at hl 1 rfl) ?_
              refine lv_iload_n hx hb dX5_house_69 rfl (lv_at hl 0 rfl) ?_
              refine lv_aload_n hx hb dX5_house_70 rfl (lv_at hl 2 rfl) ?_
              refine x_ldcS X hC.1 (k := 21) (tx := "book") (List.mem_of_getElem? (i := 11) rfl) dX5_house_71 ?_
              refine lv_iconst (v := 0) hx hb dX5_house_73 (by decide) ?_
              refine lv_bipush (v := 100) hx hb dX5_house_74 (by decide) ?_
              obtain ⟨hrec, hp⟩ := hp
              obtain ⟨c21, hc1, hp⟩ := hp
              refine x_callI (vx_runV (As := [.ref (G.2.2.2 21), .int (0 : Int32), .int (100 : Int32)]) (rest := [.int v14, .int v11, .ref a17, .ref a17, .ref a16]) X (P_X5_numberBehind_ok (l := l) hl0 hp) (cwV 3 hts (lw_V q1384 q1386 qs17 q179 q1387) rfl rfl rfl (by decide +kernel) ⟨Nat.le_of_ble_eq_true rfl, Nat.le_of_ble_eq_true rfl⟩) ⟨wPc.blind, w_recv hC.1 hM (ci := 4) (q := (RX5, TX5, 9)) rfl hrec, w_pre hC hM hS _⟩ rfl rfl hl.1 rfl (lv_room (Nat.le_of_ble_eq_true rfl)) dX5_house_76 (w_room hB hc1)) hS hB hc1 (fun E ce q28 M29 H locs hp hM hS hB hcell hcv hcl => ?_) (fun v22 M20 H locs hp hM hS hB => ?_)
              · obtain ⟨rfl, hp⟩ := hp
                exact x_out hlk (fun x h => (hnt x h).elim) hM hS (w_fin hB) hcell hcv hcl hp
              · refine x_call0V (vx_runI (As := [.int v11, .int v14, .int v22]) (rest := [.ref a17, .ref a16]) X (P_X9_init_ok (l := l) hl0 hp) (cwI 3 hts (lw_meth q1463) rfl rfl rfl (hts _ q188) (hts _ q1461) (hts _ q1462) rfl (by decide +kernel) ⟨Nat.le_of_ble_eq_true rfl, Nat.le_of_ble_eq_true rfl⟩) ⟨wPc.blind, w_pre hC hM hS _⟩ rfl rfl hl.1 rfl (lv_room (Nat.le_of_ble_eq_true rfl)) dX5_house_79 (w_room0 hB)) hS (w_room0 hB) (fun _ _ _ _ _ _ h => False.elim h) (fun M23 H locs hp hM hS => ?_)
                obtain ⟨hrec, hp⟩ := hp
                obtain ⟨c26, hc1, hp⟩ := hp
                refine x_callZ5 (vx_runF (hC.1.1.1 16 (RJ2, TJ2, 3) rfl).2 (C := "java/util/ArrayList") (As := [va_rf (some a17)]) (rest := []) X (P_J2_add_ok (l := l) hl0 hp) (va_cwF 1 hts (lw_app (w_mem4 q1383 q266 q268 q153) (lw_meth q270)) rfl rfl rfl (wfw_5 hC.1) (by decide +kernel) ⟨Nat.le_of_ble_eq_true rfl, Nat.le_of_ble_eq_true rfl⟩) ⟨wPc.blind, w_recv hC.1 hM (ci := 16) (q := (RJ2, TJ2, 3)) rfl hrec, w_pre hC hM hS _⟩ rfl rfl hl.1 rfl (lv_room (Nat.le_of_ble_eq_true rfl)) dX5_house_82 (w_room hB hc1)) hS hB hc1 (fun _ _ _ _ _ _ h => False.elim h) (fun r27 M25 H locs hp hM hS hB => ?_)
                refine lv_pop hx hb dX5_house_87 rfl ?_
                exact x_vret X hr hlk hM hS (w_fin hB) dX5_house_88 ⟨rfl, hp⟩
  refine lv_aload_n hx hb dX5_house_0 rfl (lv_at hl 0 rfl) ?_
  refine lv_aload_n hx hb dX5_house_1 rfl (lv_at hl 0 rfl) ?_
  refine x_getA X hC.1 hM (ci := 4) (C := RX5) (T := TX5) (N := 9) rfl in_X5 1 (by decide) q1130 (fun _ h9 => h9) dX5_house_2 hp (fun a1 hp => ?_)
  refine x_getAN X hC.1 hM (ci := 2) (C := RX3) (T := TX3) (N := 8) rfl in_X3 2 (by decide) q406 (fun _ h9 => h9) dX5_house_5 hp (fun a2 hp => ?_)
  obtain ⟨hrec, hp⟩ := hp
  refine x_call0I5 (vx_runF (hC.1.1.1 16 (RJ2, TJ2, 3) rfl).2 (C := "java/util/ArrayList") (As := []) (rest := [.ref t0]) X (P_J2_size_ok (l := l) hl0 hp) (va_cwF 0 hts (lw_app (w_mem4 q1239 q496 q498 q153) (lw_meth q500)) rfl rfl rfl (wfw_13 hC.1) (by decide +kernel) ⟨Nat.le_of_ble_eq_true rfl, Nat.le_of_ble_eq_true rfl⟩) ⟨wPc.blind, w_recv hC.1 hM (ci := 16) (q := (RJ2, TJ2, 3)) rfl hrec, w_pre hC hM hS _⟩ rfl rfl hl.1 rfl (lv_room (Nat.le_of_ble_eq_true rfl)) dX5_house_8 (w_room0 hB)) hS (w_room0 hB) (fun _ _ _ _ _ _ h => False.elim h) (fun v5 M3 H locs hp hM hS => ?_)
  refine lv_bipush (v := 16) hx hb dX5_house_13 (by decide) ?_
  refine lv_icmp_ge (tgt := 22) hx hb dX5_house_15 (by decide) (fun hc => ?_) (fun hc => ?_)
  · have hp := oIf.t hp hc
    refine lv_iconst (v := 0) hx hb dX5_house_22 (by decide) ?_
    exact hB23 _ _ _ _ _ _ _ _ _ _ hp hM hS hB (lv_sub hl [0] rfl)
  · have hp := oIf.f hp hc
    refine lv_iconst (v := 1) hx hb dX5_house_18 (by decide) ?_
    refine lv_goto (tgt := 23) hx hb dX5_house_19 (by decide) ?_
    exact hB23 _ _ _ _ _ _ _ _ _ _ hp hM hS hB (lv_sub hl [0] rfl)
def B_J9_expandTo_22 (G : wG) (Q : wM → Prop) (M : wM) (bq : Nat) : Prop :=
  Q M
def P_J9_expandTo (G : wG) (t0 : Nat) (p1 : Int32) (b : Nat) (M : wM) (Q : wM → Prop) : Prop :=
  oGetI M t0 21 1 (fun v1 => oIf ((p1 + (1 : Int32)) ≤ v1) (B_J9_expandTo_22 G Q M b) (oIs M t0 21 (∃ c3, c3 ≤ b ∧ P_J9_ensureCapacity G t0 (p1 + (1 : Int32)) c3 M (fun M2 => oPut G M2 t0 21 1 (.int (p1 + (1 : Int32))) (fun M4 => B_J9_expandTo_22 G Q M4 (b - c3))))))
set_option maxHeartbeats 4000000 in
set_option maxRecDepth 100000 in
theorem P_J9_expandTo_ok {l : Launch} (hl0 : l.stackTraces = false) {G : wG} {t0 : Nat} {p1 : Int32} {b : Nat} {M : wM} {Q : wM → Prop} (hp : P_J9_expandTo G t0 p1 b M Q) : wMet l yJ9_expandTo (ws_ yJ9_expandTo cJ9_expandTo 3 (none)) 14 444 G [.ref t0, .int p1] M b (wqV Q) wX0 := by
  refine vx_ofW (cc := cJ9_expandTo) (maxL := 3) (ret := none) (by decide) rfl ?_
  intro p e s m args below meth c s₁ B hml hnt hv
  obtain ⟨rfl, hM, hK, hZ, hz⟩ := hv
  have hC : wC G s := ⟨hK, hZ, hz⟩
  have hx := B.exec
  have hb := B.bytes
  have hr := B.returns
  have hts := atoms_spec (ws := (ws_ yJ9_expandTo cJ9_expandTo 3 (none))) B.pre
  have hts : ∀ w ∈ lw_all, w.before _ s = true := fun w h => hts w (List.mem_cons_of_mem _ h)
  have hown : s.vm.findClass RJ9 = some m.cls := findClass_of_methodNamed B.named
  have hlk := B.notSynchronized
  have X : CallFix p m c cJ9_expandTo 3 s ([.ref t0, .int p1] : List Value).toArray lw_all RJ9 := ⟨hx, hb, hml, hown, hts⟩
  have hS : va_S (wA G) s.heap s.heap [] := va_S.rf
  have hl := lv_entry ([.ref t0, .int p1]) (n := 3) (Nat.le_of_ble_eq_true rfl)
  rw [lg_entry_eq]
  generalize (lg_sl ([.ref t0, .int p1]) ++ List.replicate (3 - (lg_sl ([.ref t0, .int p1])).length) Slot.unset).toArray = ls at hl ⊢
  have hl : lv_has ls 3 [(0, .ref t0), (1, .int p1)] := hl
  have hB : 0 + b ≤ ((headSpec (ws_ yJ9_expandTo cJ9_expandTo 3 (none)) ({ frames := 14, cells := b, slots := b, locals := 444 })).room).cells ∧ 0 + b ≤ ((headSpec (ws_ yJ9_expandTo cJ9_expandTo 3 (none)) ({ frames := 14, cells := b, slots := b, locals := 444 })).room).slots := ⟨Nat.le_of_eq (Nat.zero_add b), Nat.le_of_eq (Nat.zero_add b)⟩
  have hB22 : ∀ (M : wM) (bq : Nat) (H : Heap) (locs : List Loc) (ls : Array Slot) (cells slots : Nat), B_J9_expandTo_22 G Q M bq → wR G M H → va_S (wA G) s.heap H locs → (cells + bq ≤ ((headSpec (ws_ yJ9_expandTo cJ9_expandTo 3 (none)) ({ frames := 14, cells := b, slots := b, locals := 444 })).room).cells ∧ slots + bq ≤ ((headSpec (ws_ yJ9_expandTo cJ9_expandTo 3 (none)) ({ frames := 14, cells := b, slots := b, locals := 444 })).room).slots) → lv_has ls 3 [] → W p l e (headSpec (ws_ yJ9_expandTo cJ9_expandTo 3 (none)) ({ frames := 14, cells := b, slots := b, locals := 444 })).room s m ([.ref t0, .int p1] : List Value).toArray below meth c H locs cells slots (vx_MQ below (wQ G (wqV Q)) (wXC G wX0) ([.ref t0, .int p1] : List Value).toArray s b b (wA G)) (F0 m 22 ls []) := by
    intro M bq H locs ls cells slots hp hM hS hB hl
    exact x_vret X hr hlk hM hS (w_fin hB) dJ9_expandTo_22 ⟨rfl, hp⟩
  refine lv_iload_n hx hb dJ9_expandTo_0 rfl (lv_at hl 1 rfl) ?_
  refine lv_iconst (v := 1) hx hb dJ9_expandTo_1 (by decide) ?_
  refine lv_iadd hx hb dJ9_expandTo_2 ?_
  refine lv_istore_n (lv' := [(2, .int (p1 + (1 : Int32))), (0, .ref t0), (1, .int p1)]) hx hb dJ9_expandTo_3 rfl hl (by decide) rfl (fun ls hl => ?_)
  refine lv_aload_n hx hb dJ9_expandTo_4 rfl (lv_at hl 1 rfl) ?_
  refine x_getI X hC.1 hM (ci := 21) (C := RJ9) (T := TJ9) (N := 3) rfl in_J9 1 (by decide) q482 (fun _ h9 => h9) dJ9_expandTo_5 hp (fun v1 hp => ?_)
  refine lv_iload_n hx hb dJ9_expandTo_8 rfl (lv_at hl 0 rfl) ?_
  refine lv_icmp_ge (tgt := 22) hx hb dJ9_expandTo_9 (by decide) (fun hc => ?_) (fun hc => ?_)
  · have hp := oIf.t hp hc
    exact hB22 _ _ _ _ _ _ _ hp hM hS hB (lv_sub hl [] rfl)
  · have hp := oIf.f hp hc
    refine lv_aload_n hx hb dJ9_expandTo_12 rfl (lv_at hl 1 rfl) ?_
    refine lv_iload_n hx hb dJ9_expandTo_13 rfl (lv_at hl 0 rfl) ?_
    obtain ⟨hrec, hp⟩ := hp
    obtain ⟨c3, hc1, hp⟩ := hp
    refine x_callV (vx_runV (As := [.int (p1 + (1 : Int32))]) (rest := []) X (P_J9_ensureCapacity_ok (l := l) hl0 hp) (cwV 1 hts (lw_V q1511 q1513 qs27 q161 q1514) rfl rfl rfl (by decide +kernel) ⟨Nat.le_of_ble_eq_true rfl, Nat.le_of_ble_eq_true rfl⟩) ⟨wPc.blind, w_recv hC.1 hM (ci := 21) (q := (RJ9, TJ9, 3)) rfl hrec, w_pre hC hM hS _⟩ rfl rfl hl.1 rfl (lv_room (Nat.le_of_ble_eq_true rfl)) dJ9_expandTo_14 (w_room hB hc1)) hS hB hc1 (fun _ _ _ _ _ _ h => False.elim h) (fun M2 H locs hp hM hS hB => ?_)
    refine lv_aload_n hx hb dJ9_expandTo_17 rfl (lv_at hl 1 rfl) ?_
    refine lv_iload_n hx hb dJ9_expandTo_18 rfl (lv_at hl 0 rfl) ?_
    refine x_put X hC.1 hM hS (ci := 21) (C := RJ9) (T := TJ9) (N := 3) rfl in_J9 tyJ9 tyJ9_ok nmJ9 1 (by decide) q482 (fun _ h9 => h9) rfl rfl rfl dJ9_expandTo_19 hp (fun M4 H locs hM hS hp => ?_)
    exact hB22 _ _ _ _ _ _ _ hp hM hS hB (lv_sub hl [] rfl)
def P_J9_set (G : wG) (t0 : Nat) (p1 : Int32) (b : Nat) (M : wM) (Q : wM → Prop) : Prop :=
  oIf (0 ≤ p1) (P_J9_wordIndex G p1 M (fun v3 M1 => oIs M1 t0 21 (∃ c5, c5 ≤ b ∧ P_J9_expandTo G t0 v3 c5 M1 (fun M4 => oGetA M4 t0 21 0 (fun a6 => oLald M4 a6 v3 (fun v7 => oLast G M4 a6 v3 (v7 ||| ((1 : Int64) <<< (p1.toInt64 &&& 63))) (fun M8 => oIs M8 t0 21 (P_J9_checkInvariants G t0 M8 (fun M9 => Q M9))))))))) (False)
set_option maxHeartbeats 4000000 in
set_option maxRecDepth 100000 in
theorem P_J9_set_ok {l : Launch} (hl0 : l.stackTraces = false) {G : wG} {t0 : Nat} {p1 : Int32} {b : Nat} {M : wM} {Q : wM → Prop} (hp : P_J9_set G t0 p1 b M Q) : wMet l yJ9_set (ws_ yJ9_set cJ9_set 3 (none)) 15 466 G [.ref t0, .int p1] M b (wqV Q) wX0 := by
  refine vx_ofW (cc := cJ9_set) (maxL := 3) (ret := none) (by decide) rfl ?_
  intro p e s m args below meth c s₁ B hml hnt hv
  obtain ⟨rfl, hM, hK, hZ, hz⟩ := hv
  have hC : wC G s := ⟨hK, hZ, hz⟩
  have hx := B.exec
  have hb := B.bytes
  have hr := B.returns
  have hts := atoms_spec (ws := (ws_ yJ9_set cJ9_set 3 (none))) B.pre
  have hts : ∀ w ∈ lw_all, w.before _ s = true := fun w h => hts w (List.mem_cons_of_mem _ h)
  have hown : s.vm.findClass RJ9 = some m.cls := findClass_of_methodNamed B.named
  have hlk := B.notSynchronized
  have X : CallFix p m c cJ9_set 3 s ([.ref t0, .int p1] : List Value).toArray lw_all RJ9 := ⟨hx, hb, hml, hown, hts⟩
  have hS : va_S (wA G) s.heap s.heap [] := va_S.rf
  have hl := lv_entry ([.ref t0, .int p1]) (n := 3) (Nat.le_of_ble_eq_true rfl)
  rw [lg_entry_eq]
  generalize (lg_sl ([.ref t0, .int p1]) ++ List.replicate (3 - (lg_sl ([.ref t0, .int p1])).length) Slot.unset).toArray = ls at hl ⊢
  have hl : lv_has ls 3 [(0, .ref t0), (1, .int p1)] := hl
  have hB : 0 + b ≤ ((headSpec (ws_ yJ9_set cJ9_set 3 (none)) ({ frames := 15, cells := b, slots := b, locals := 466 })).room).cells ∧ 0 + b ≤ ((headSpec (ws_ yJ9_set cJ9_set 3 (none)) ({ frames := 15, cells := b, slots := b, locals := 466 })).room).slots := ⟨Nat.le_of_eq (Nat.zero_add b), Nat.le_of_eq (Nat.zero_add b)⟩
  refine lv_iload_n hx hb dJ9_set_0 rfl (lv_at hl 1 rfl) ?_
  refine lv_if_ge (tgt := 31) hx hb dJ9_set_1 (by decide) (fun hc => ?_) (fun hc => ?_)
  · have hp := oIf.t hp hc
    refine lv_iload_n hx hb dJ9_set_31 rfl (lv_at hl 1 rfl) ?_
    refine x_call0I (vx_runS (As := [.int p1]) (rest := []) X (P_J9_wordIndex_ok (l := l) hl0 hp) (va_cwS 1 hts (lw_S q478 q479 q161 q480) rfl rfl rfl (by decide +kernel) ⟨Nat.le_of_ble_eq_true rfl, Nat.le_of_ble_eq_true rfl⟩) ⟨wPc.blind, w_pre hC hM hS _⟩ rfl rfl hl.1 rfl (lv_room (Nat.le_of_ble_eq_true rfl)) dJ9_set_32 (w_room0 hB)) hS (w_room0 hB) (fun _ _ _ _ _ _ h => False.elim h) (fun v3 M1 H locs hp hM hS => ?_)
    refine lv_istore_n (lv' := [(2, .int v3), (0, .ref t0), (1, .int p1)]) hx hb dJ9_set_35 rfl hl (by decide) rfl (fun ls hl => ?_)
    refine lv_aload_n hx hb dJ9_set_36 rfl (lv_at hl 1 rfl) ?_
    refine lv_iload_n hx hb dJ9_set_37 rfl (lv_at hl 0 rfl) ?_
    obtain ⟨hrec, hp⟩ := hp
    obtain ⟨c5, hc1, hp⟩ := hp
    refine x_callV (vx_runV (As := [.int v3]) (rest := []) X (P_J9_expandTo_ok (l := l) hl0 hp) (cwV 1 hts (lw_V q1507 q1509 qs26 q161 q1510) rfl rfl rfl (by decide +kernel) ⟨Nat.le_of_ble_eq_true rfl, Nat.le_of_ble_eq_true rfl⟩) ⟨wPc.blind, w_recv hC.1 hM (ci := 21) (q := (RJ9, TJ9, 3)) rfl hrec, w_pre hC hM hS _⟩ rfl rfl hl.1 rfl (lv_room (Nat.le_of_ble_eq_true rfl)) dJ9_set_38 (w_room hB hc1)) hS hB hc1 (fun _ _ _ _ _ _ h => False.elim h) (fun M4 H locs hp hM hS hB => ?_)
    refine lv_aload_n hx hb dJ9_set_41 rfl (lv_at hl 1 rfl) ?_
    refine x_getA X hC.1 hM (ci := 21) (C := RJ9) (T := TJ9) (N := 3) rfl in_J9 0 (by decide) q481 (fun _ h9 => h9) dJ9_set_42 hp (fun a6 hp => ?_)
    refine lv_iload_n hx hb dJ9_set_45 rfl (lv_at hl 0 rfl) ?_
    refine lv_dup2_11 hx hb dJ9_set_46 rfl rfl ?_
    refine x_lald X hC.1 hM dJ9_set_47 hp (fun v7 hp => ?_)
    refine lv_lconst (v := 1) hx hb dJ9_set_48 (by decide) ?_
    refine lv_iload_n hx hb dJ9_set_49 rfl (lv_at hl 2 rfl) ?_
    refine lv_lshl (v := ((1 : Int64) <<< (p1.toInt64 &&& 63))) hx hb dJ9_set_50 rfl ?_
    refine lv_lor hx hb dJ9_set_51 ?_
    refine x_last X hC.1 hM hS dJ9_set_52 hp (fun M8 H locs hM hS hp => ?_)
    refine lv_aload_n hx hb dJ9_set_53 rfl (lv_at hl 1 rfl) ?_
    obtain ⟨hrec, hp⟩ := hp
    refine x_call0V (vx_runV (As := []) (rest := []) X (P_J9_checkInvariants_ok (l := l) hl0 hp) (cwV 0 hts (lw_V q1497 q1499 qs25 q161 q1500) rfl rfl rfl (by decide +kernel) ⟨Nat.le_of_ble_eq_true rfl, Nat.le_of_ble_eq_true rfl⟩) ⟨wPc.blind, w_recv hC.1 hM (ci := 21) (q := (RJ9, TJ9, 3)) rfl hrec, w_pre hC hM hS _⟩ rfl rfl hl.1 rfl (lv_room (Nat.le_of_ble_eq_true rfl)) dJ9_set_54 (w_room0 hB)) hS (w_room0 hB) (fun _ _ _ _ _ _ h => False.elim h) (fun M9 H locs hp hM hS => ?_)
    exact x_vret X hr hlk hM hS (w_fin hB) dJ9_set_57 ⟨rfl, hp⟩
  · have hp := oIf.f hp hc
    exact hp.elim
def B_X5_single_17 (G : wG) (Q : Int32 → wM → Prop) (Xp : String → Nat → wM → Prop) (x0 : Nat) (x1 : Int32) (x2 : Int32) (x3 : Int32) (y0 : Int32) (y1 : Nat) (M : wM) (bq : Nat) : Prop :=
  oIs M y1 4 (∃ c2, c2 ≤ bq ∧ P_X5_require G y1 y0 (3 : Int32) c2 M (fun M1 => oGetA M1 x0 4 2 (fun a3 => oIs M1 a3 21 (∃ c5, c5 ≤ (bq - c2) ∧ P_J9_set G a3 x1 c5 M1 (fun M4 => oIs M4 x0 4 (∃ c7, c7 ≤ ((bq - c2) - c5) ∧ P_X5_advance G x0 c7 M4 (fun M6 => oIs M6 x0 4 (∃ c9, c9 ≤ (((bq - c2) - c5) - c7) ∧ P_X5_number G x0 x2 x3 c9 M6 (fun v10 M8 => Q v10 M8) (fun E q11 M12 => (E = "ParkingOffice$ParseException" ∧ Xp E q11 M12))))))))) (fun E q13 M14 => (E = "ParkingOffice$ParseException" ∧ Xp E q13 M14)))
def P_X5_single (G : wG) (t0 : Nat) (p1 : Int32) (p2 : Int32) (p3 : Int32) (b : Nat) (M : wM) (Q : Int32 → wM → Prop) (Xp : String → Nat → wM → Prop) : Prop :=
  oGetA M t0 4 2 (fun a1 => oIs M a1 21 (P_J9_get G a1 p1 M (fun r4 M2 => oIf (r4 = true) (B_X5_single_17 G Q Xp t0 p1 p2 p3 (0 : Int32) t0 M2 b) (B_X5_single_17 G Q Xp t0 p1 p2 p3 (1 : Int32) t0 M2 b))))
set_option maxHeartbeats 4000000 in
set_option maxRecDepth 100000 in
theorem P_X5_single_ok {l : Launch} (hl0 : l.stackTraces = false) {G : wG} {t0 : Nat} {p1 : Int32} {p2 : Int32} {p3 : Int32} {b : Nat} {M : wM} {Q : Int32 → wM → Prop} {Xp : String → Nat → wM → Prop} (hp : P_X5_single G t0 p1 p2 p3 b M Q Xp) : wMet l yX5_single (ws_ yX5_single cX5_single 4 (Option.some Jvm.ClassFile.FieldType.int)) 20 579 G [.ref t0, .int p1, .int p2, .int p3] M b (wqI Q) Xp := by
  refine vx_ofW (cc := cX5_single) (maxL := 4) (ret := Option.some Jvm.ClassFile.FieldType.int) (by decide) rfl ?_
  intro p e s m args below meth c s₁ B hml hnt hv
  obtain ⟨rfl, hM, hK, hZ, hz⟩ := hv
  have hC : wC G s := ⟨hK, hZ, hz⟩
  have hx := B.exec
  have hb := B.bytes
  have hr := B.returns
  have hts := atoms_spec (ws := (ws_ yX5_single cX5_single 4 (Option.some Jvm.ClassFile.FieldType.int))) B.pre
  have hts : ∀ w ∈ lw_all, w.before _ s = true := fun w h => hts w (List.mem_cons_of_mem _ h)
  have hown : s.vm.findClass RX5 = some m.cls := findClass_of_methodNamed B.named
  have hlk := B.notSynchronized
  have X : CallFix p m c cX5_single 4 s ([.ref t0, .int p1, .int p2, .int p3] : List Value).toArray lw_all RX5 := ⟨hx, hb, hml, hown, hts⟩
  have hS : va_S (wA G) s.heap s.heap [] := va_S.rf
  have hl := lv_entry ([.ref t0, .int p1, .int p2, .int p3]) (n := 4) (Nat.le_of_ble_eq_true rfl)
  rw [lg_entry_eq]
  generalize (lg_sl ([.ref t0, .int p1, .int p2, .int p3]) ++ List.replicate (4 - (lg_sl ([.ref t0, .int p1, .int p2, .int p3])).length) Slot.unset).toArray = ls at hl ⊢
  have hl : lv_has ls 4 [(0, .ref t0), (1, .int p1), (2, .int p2), (3, .int p3)] := hl
  have hB : 0 + b ≤ ((headSpec (ws_ yX5_single cX5_single 4 (Option.some Jvm.ClassFile.FieldType.int)) ({ frames := 20, cells := b, slots := b, locals := 579 })).room).cells ∧ 0 + b ≤ ((headSpec (ws_ yX5_single cX5_single 4 (Option.some Jvm.ClassFile.FieldType.int)) ({ frames := 20, cells := b, slots := b, locals := 579 })).room).slots := ⟨Nat.le_of_eq (Nat.zero_add b), Nat.le_of_eq (Nat.zero_add b)⟩
  have hB17 : ∀ (x0 : Nat) (x1 : Int32) (x2 : Int32) (x3 : Int32) (y0 : Int32) (y1 : Nat) (M : wM) (bq : Nat) (H : Heap) (locs : List Loc) (ls : Array Slot) (cells slots : Nat), B_X5_single_17 G Q Xp x0 x1 x2 x3 y0 y1 M bq → wR G M H → va_S (wA G) s.heap H locs → (cells + bq ≤ ((headSpec (ws_ yX5_single cX5_single 4 (Option.some Jvm.ClassFile.FieldType.int)) ({ frames := 20, cells := b, slots := b, locals := 579 })).room).cells ∧ slots + bq ≤ ((headSpec (ws_ yX5_single cX5_single 4 (Option.some Jvm.ClassFile.FieldType.int)) ({ frames := 20, cells := b, slots := b, locals := 579 })).room).slots) → lv_has ls 4 [(0, .ref x0), (1, .int x1), (2, .int x2), (3, .int x3)] → W p l e (headSpec (ws_ yX5_single cX5_single 4 (Option.some Jvm.ClassFile.FieldType.int)) ({ frames := 20, cells := b, slots := b, locals := 579 })).room s m ([.ref t0, .int p1, .int p2, .int p3] : List Value).toArray below meth c H locs cells slots (vx_MQ below (wQ G (wqI Q)) (wXC G Xp) ([.ref t0, .int p1, .int p2, .int p3] : List Value).toArray s b b (wA G)) (F0 m 17 ls [.int y0, .ref y1]) := by
    intro x0 x1 x2 x3 y0 y1 M bq H locs ls cells slots hp hM hS hB hl
    refine lv_iconst (v := 3) hx hb dX5_single_17 (by decide) ?_
    obtain ⟨hrec, hp⟩ := hp
    obtain ⟨c2, hc1, hp⟩ := hp
    refine x_callV (vx_runV (As := [.int y0, .int (3 : Int32)]) (rest := []) X (P_X5_require_ok (l := l) hl0 hp) (cwV 2 hts (lw_V q1240 q1242 qs14 q179 q1243) rfl rfl rfl (by decide +kernel) ⟨Nat.le_of_ble_eq_true rfl, Nat.le_of_ble_eq_true rfl⟩) ⟨wPc.blind, w_recv hC.1 hM (ci := 4) (q := (RX5, TX5, 9)) rfl hrec, w_pre hC hM hS _⟩ rfl rfl hl.1 rfl (lv_room (Nat.le_of_ble_eq_true rfl)) dX5_single_18 (w_room hB hc1)) hS hB hc1 (fun E ce q13 M14 H locs hp hM hS hB hcell hcv hcl => ?_) (fun M1 H locs hp hM hS hB => ?_)
    · obtain ⟨rfl, hp⟩ := hp
      exact x_out hlk (fun x h => (hnt x h).elim) hM hS (w_fin hB) hcell hcv hcl hp
    · refine lv_aload_n hx hb dX5_single_21 rfl (lv_at hl 0 rfl) ?_
      refine x_getA X hC.1 hM (ci := 4) (C := RX5) (T := TX5) (N := 9) rfl in_X5 2 (by decide) q1131 (fun _ h9 => h9) dX5_single_22 hp (fun a3 hp => ?_)
      refine lv_iload_n hx hb dX5_single_25 rfl (lv_at hl 1 rfl) ?_
      obtain ⟨hrec, hp⟩ := hp
      obtain ⟨c5, hc1, hp⟩ := hp
      refine x_callV (vx_runV (As := [.int x1]) (rest := []) X (P_J9_set_ok (l := l) hl0 hp) (cwV 1 hts (lw_V q1503 q1504 q1505 q161 q1506) rfl rfl rfl (by decide +kernel) ⟨Nat.le_of_ble_eq_true rfl, Nat.le_of_ble_eq_true rfl⟩) ⟨wPc.blind, w_recv hC.1 hM (ci := 21) (q := (RJ9, TJ9, 3)) rfl hrec, w_pre hC hM hS _⟩ rfl rfl hl.1 rfl (lv_room (Nat.le_of_ble_eq_true rfl)) dX5_single_26 (w_room hB hc1)) hS hB hc1 (fun _ _ _ _ _ _ h => False.elim h) (fun M4 H locs hp hM hS hB => ?_)
      refine lv_aload_n hx hb dX5_single_29 rfl (lv_at hl 0 rfl) ?_
      obtain ⟨hrec, hp⟩ := hp
      obtain ⟨c7, hc1, hp⟩ := hp
      refine x_callV (vx_runV (As := []) (rest := []) X (P_X5_advance_ok (l := l) hl0 hp) (cwV 0 hts (lw_V q1097 q1099 qs10 q179 q1100) rfl rfl rfl (by decide +kernel) ⟨Nat.le_of_ble_eq_true rfl, Nat.le_of_ble_eq_true rfl⟩) ⟨wPc.blind, w_recv hC.1 hM (ci := 4) (q := (RX5, TX5, 9)) rfl hrec, w_pre hC hM hS _⟩ rfl rfl hl.1 rfl (lv_room (Nat.le_of_ble_eq_true rfl)) dX5_single_30 (w_room hB hc1)) hS hB hc1 (fun _ _ _ _ _ _ h => False.elim h) (fun M6 H locs hp hM hS hB => ?_)
      refine lv_aload_n hx hb dX5_single_33 rfl (lv_at hl 0 rfl) ?_
      refine lv_iload_n hx hb dX5_single_34 rfl (lv_at hl 2 rfl) ?_
      refine lv_iload_n hx hb dX5_single_35 rfl (lv_at hl 3 rfl) ?_
      obtain ⟨hrec, hp⟩ := hp
      obtain ⟨c9, hc1, hp⟩ := hp
      refine x_callI (vx_runV (As := [.int x2, .int x3]) (rest := []) X (P_X5_number_ok (l := l) hl0 hp) (cwV 2 hts (lw_V q1396 q1398 qs20 q179 q1399) rfl rfl rfl (by decide +kernel) ⟨Nat.le_of_ble_eq_true rfl, Nat.le_of_ble_eq_true rfl⟩) ⟨wPc.blind, w_recv hC.1 hM (ci := 4) (q := (RX5, TX5, 9)) rfl hrec, w_pre hC hM hS _⟩ rfl rfl hl.1 rfl (lv_room (Nat.le_of_ble_eq_true rfl)) dX5_single_36 (w_room hB hc1)) hS hB hc1 (fun E ce q11 M12 H locs hp hM hS hB hcell hcv hcl => ?_) (fun v10 M8 H locs hp hM hS hB => ?_)
      · obtain ⟨rfl, hp⟩ := hp
        exact x_out hlk (fun x h => (hnt x h).elim) hM hS (w_fin hB) hcell hcv hcl hp
      · exact x_iret X hr hlk hM hS (w_fin hB) dX5_single_39 ⟨_, rfl, hp⟩
  refine lv_aload_n hx hb dX5_single_0 rfl (lv_at hl 0 rfl) ?_
  refine lv_aload_n hx hb dX5_single_1 rfl (lv_at hl 0 rfl) ?_
  refine x_getA X hC.1 hM (ci := 4) (C := RX5) (T := TX5) (N := 9) rfl in_X5 2 (by decide) q1131 (fun _ h9 => h9) dX5_single_2 hp (fun a1 hp => ?_)
  refine lv_iload_n hx hb dX5_single_5 rfl (lv_at hl 1 rfl) ?_
  obtain ⟨hrec, hp⟩ := hp
  refine x_call0Z (vx_runV (As := [.int p1]) (rest := [.ref t0]) X (P_J9_get_ok (l := l) hl0 hp) (cwV 1 hts (lw_V q1485 q1486 q1487 q161 q1488) rfl rfl rfl (by decide +kernel) ⟨Nat.le_of_ble_eq_true rfl, Nat.le_of_ble_eq_true rfl⟩) ⟨wPc.blind, w_recv hC.1 hM (ci := 21) (q := (RJ9, TJ9, 3)) rfl hrec, w_pre hC hM hS _⟩ rfl rfl hl.1 rfl (lv_room (Nat.le_of_ble_eq_true rfl)) dX5_single_6 (w_room0 hB)) hS (w_room0 hB) (fun _ _ _ _ _ _ h => False.elim h) (fun r4 M2 H locs hp hM hS => ?_)
  refine x_ifneB (tgt := 16) hx hb dX5_single_9 (by decide) (fun hc => ?_) (fun hc => ?_)
  · have hp := oIf.bt hp hc
    refine lv_iconst (v := 0) hx hb dX5_single_16 (by decide) ?_
    exact hB17 _ _ _ _ _ _ _ _ _ _ _ _ _ hp hM hS hB (lv_sub hl [0, 1, 2, 3] rfl)
  · have hp := oIf.bf hp hc
    refine lv_iconst (v := 1) hx hb dX5_single_12 (by decide) ?_
    refine lv_goto (tgt := 17) hx hb dX5_single_13 (by decide) ?_
    exact hB17 _ _ _ _ _ _ _ _ _ _ _ _ _ hp hM hS hB (lv_sub hl [0, 1, 2, 3] rfl)
def B_X5_fine_57 (G : wG) (Q : wM → Prop) (Xp : String → Nat → wM → Prop) (x0 : Nat) (y0 : Int32) (y1 : Nat) (M : wM) (bq : Nat) : Prop :=
  oIs M y1 4 (∃ c2, c2 ≤ bq ∧ P_X5_require G y1 y0 (3 : Int32) c2 M (fun M1 => oGetA M1 x0 4 2 (fun a3 => oGetI M1 x0 4 6 (fun v4 => oIs M1 a3 21 (∃ c6, c6 ≤ (bq - c2) ∧ P_J9_set G a3 v4 c6 M1 (fun M5 => oIs M5 x0 4 (∃ c8, c8 ≤ ((bq - c2) - c6) ∧ P_X5_number G x0 (1 : Int32) (6 : Int32) c8 M5 (fun v9 M7 => oGetA M7 x0 4 1 (fun a10 => oGetA M7 a10 2 4 (fun a11 => oIs M7 x0 4 (∃ c13, c13 ≤ (((bq - c2) - c6) - c8) ∧ P_X5_number G x0 (0 : Int32) (999 : Int32) c13 M7 (fun v14 M12 => oIast G M12 a11 v9 v14 (fun M15 => Q M15)) (fun E q16 M17 => (E = "ParkingOffice$ParseException" ∧ Xp E q16 M17)))))) (fun E q18 M19 => (E = "ParkingOffice$ParseException" ∧ Xp E q18 M19)))))))) (fun E q20 M21 => (E = "ParkingOffice$ParseException" ∧ Xp E q20 M21)))
def B_X5_fine_18 (G : wG) (Q : wM → Prop) (Xp : String → Nat → wM → Prop) (x0 : Nat) (y0 : Int32) (y1 : Nat) (M : wM) (bq : Nat) : Prop :=
  oIs M y1 4 (∃ c2, c2 ≤ bq ∧ P_X5_require G y1 y0 (1 : Int32) c2 M (fun M1 => oGetI M1 x0 4 6 (fun v3 => P_X1_inRange G v3 (1 : Int32) (6 : Int32) M1 (fun r6 M4 => oIs M4 x0 4 (∃ c8, c8 ≤ (bq - c2) ∧ P_X5_require G x0 (wb r6) (2 : Int32) c8 M4 (fun M7 => oGetA M7 x0 4 2 (fun a9 => oGetI M7 x0 4 6 (fun v10 => oIs M7 a9 21 (P_J9_get G a9 v10 M7 (fun r13 M11 => oIf (r13 = true) (B_X5_fine_57 G Q Xp x0 (0 : Int32) x0 M11 ((bq - c2) - c8)) (B_X5_fine_57 G Q Xp x0 (1 : Int32) x0 M11 ((bq - c2) - c8))))))) (fun E q14 M15 => (E = "ParkingOffice$ParseException" ∧ Xp E q14 M15)))))) (fun E q16 M17 => (E = "ParkingOffice$ParseException" ∧ Xp E q16 M17)))
def P_X5_fine (G : wG) (t0 : Nat) (b : Nat) (M : wM) (Q : wM → Prop) (Xp : String → Nat → wM → Prop) : Prop :=
  oIs M t0 4 (∃ c2, c2 ≤ b ∧ P_X5_advance G t0 c2 M (fun M1 => oGetI M1 t0 4 5 (fun v3 => oIf (v3 = (2 : Int32)) (B_X5_fine_18 G Q Xp t0 (1 : Int32) t0 M1 (b - c2)) (B_X5_fine_18 G Q Xp t0 (0 : Int32) t0 M1 (b - c2)))))
set_option maxHeartbeats 4000000 in
set_option maxRecDepth 100000 in
theorem P_X5_fine_ok {l : Launch} (hl0 : l.stackTraces = false) {G : wG} {t0 : Nat} {b : Nat} {M : wM} {Q : wM → Prop} {Xp : String → Nat → wM → Prop} (hp : P_X5_fine G t0 b M Q Xp) : wMet l yX5_fine (ws_ yX5_fine cX5_fine 2 (none)) 20 579 G [.ref t0] M b (wqV Q) Xp := by
  refine vx_ofW (cc := cX5_fine) (maxL := 2) (ret := none) (by decide) rfl ?_
  intro p e s m args below meth c s₁ B hml hnt hv
  obtain ⟨rfl, hM, hK, hZ, hz⟩ := hv
  have hC : wC G s := ⟨hK, hZ, hz⟩
  have hx := B.exec
  have hb := B.bytes
  have hr := B.returns
  have hts := atoms_spec (ws := (ws_ yX5_fine cX5_fine 2 (none))) B.pre
  have hts : ∀ w ∈ lw_all, w.before _ s = true := fun w h => hts w (List.mem_cons_of_mem _ h)
  have hown : s.vm.findClass RX5 = some m.cls := findClass_of_methodNamed B.named
  have hlk := B.notSynchronized
  have X : CallFix p m c cX5_fine 2 s ([.ref t0] : List Value).toArray lw_all RX5 := ⟨hx, hb, hml, hown, hts⟩
  have hS : va_S (wA G) s.heap s.heap [] := va_S.rf
  have hl := lv_entry ([.ref t0]) (n := 2) (Nat.le_of_ble_eq_true rfl)
  rw [lg_entry_eq]
  generalize (lg_sl ([.ref t0]) ++ List.replicate (2 - (lg_sl ([.ref t0])).length) Slot.unset).toArray = ls at hl ⊢
  have hl : lv_has ls 2 [(0, .ref t0)] := hl
  have hB : 0 + b ≤ ((headSpec (ws_ yX5_fine cX5_fine 2 (none)) ({ frames := 20, cells := b, slots := b, locals := 579 })).room).cells ∧ 0 + b ≤ ((headSpec (ws_ yX5_fine cX5_fine 2 (none)) ({ frames := 20, cells := b, slots := b, locals := 579 })).room).slots := ⟨Nat.le_of_eq (Nat.zero_add b), Nat.le_of_eq (Nat.zero_add b)⟩
  have hB57 : ∀ (x0 : Nat) (y0 : Int32) (y1 : Nat) (M : wM) (bq : Nat) (H : Heap) (locs : List Loc) (ls : Array Slot) (cells slots : Nat), B_X5_fine_57 G Q Xp x0 y0 y1 M bq → wR G M H → va_S (wA G) s.heap H locs → (cells + bq ≤ ((headSpec (ws_ yX5_fine cX5_fine 2 (none)) ({ frames := 20, cells := b, slots := b, locals := 579 })).room).cells ∧ slots + bq ≤ ((headSpec (ws_ yX5_fine cX5_fine 2 (none)) ({ frames := 20, cells := b, slots := b, locals := 579 })).room).slots) → lv_has ls 2 [(0, .ref x0)] → W p l e (headSpec (ws_ yX5_fine cX5_fine 2 (none)) ({ frames := 20, cells := b, slots := b, locals := 579 })).room s m ([.ref t0] : List Value).toArray below meth c H locs cells slots (vx_MQ below (wQ G (wqV Q)) (wXC G Xp) ([.ref t0] : List Value).toArray s b b (wA G)) (F0 m 57 ls [.int y0, .ref y1]) := by
    intro x0 y0 y1 M bq H locs ls cells slots hp hM hS hB hl
    refine lv_iconst (v := 3) hx hb dX5_fine_57 (by decide) ?_
    obtain ⟨hrec, hp⟩ := hp
    obtain ⟨c2, hc1, hp⟩ := hp
    refine x_callV (vx_runV (As := [.int y0, .int (3 : Int32)]) (rest := []) X (P_X5_require_ok (l := l) hl0 hp) (cwV 2 hts (lw_V q1240 q1242 qs14 q179 q1243) rfl rfl rfl (by decide +kernel) ⟨Nat.le_of_ble_eq_true rfl, Nat.le_of_ble_eq_true rfl⟩) ⟨wPc.blind, w_recv hC.1 hM (ci := 4) (q := (RX5, TX5, 9)) rfl hrec, w_pre hC hM hS _⟩ rfl rfl hl.1 rfl (lv_room (Nat.le_of_ble_eq_true rfl)) dX5_fine_58 (w_room hB hc1)) hS hB hc1 (fun E ce q20 M21 H locs hp hM hS hB hcell hcv hcl => ?_) (fun M1 H locs hp hM hS hB => ?_)
    · obtain ⟨rfl, hp⟩ := hp
      exact x_out hlk (fun x h => (hnt x h).elim) hM hS (w_fin hB) hcell hcv hcl hp
    · refine lv_aload_n hx hb dX5_fine_61 rfl (lv_at hl 0 rfl) ?_
      refine x_getA X hC.1 hM (ci := 4) (C := RX5) (T := TX5) (N := 9) rfl in_X5 2 (by decide) q1131 (fun _ h9 => h9) dX5_fine_62 hp (fun a3 hp => ?_)
      refine lv_aload_n hx hb dX5_fine_65 rfl (lv_at hl 0 rfl) ?_
      refine x_getI X hC.1 hM (ci := 4) (C := RX5) (T := TX5) (N := 9) rfl in_X5 6 (by decide) q1135 (fun _ h9 => h9) dX5_fine_66 hp (fun v4 hp => ?_)
      obtain ⟨hrec, hp⟩ := hp
      obtain ⟨c6, hc1, hp⟩ := hp
      refine x_callV (vx_runV (As := [.int v4]) (rest := []) X (P_J9_set_ok (l := l) hl0 hp) (cwV 1 hts (lw_V q1503 q1504 q1505 q161 q1506) rfl rfl rfl (by decide +kernel) ⟨Nat.le_of_ble_eq_true rfl, Nat.le_of_ble_eq_true rfl⟩) ⟨wPc.blind, w_recv hC.1 hM (ci := 21) (q := (RJ9, TJ9, 3)) rfl hrec, w_pre hC hM hS _⟩ rfl rfl hl.1 rfl (lv_room (Nat.le_of_ble_eq_true rfl)) dX5_fine_69 (w_room hB hc1)) hS hB hc1 (fun _ _ _ _ _ _ h => False.elim h) (fun M5 H locs hp hM hS hB => ?_)
      refine lv_aload_n hx hb dX5_fine_72 rfl (lv_at hl 0 rfl) ?_
      refine lv_iconst (v := 1) hx hb dX5_fine_73 (by decide) ?_
      refine lv_bipush (v := 6) hx hb dX5_fine_74 (by decide) ?_
      obtain ⟨hrec, hp⟩ := hp
      obtain ⟨c8, hc1, hp⟩ := hp
      refine x_callI (vx_runV (As := [.int (1 : Int32), .int (6 : Int32)]) (rest := []) X (P_X5_number_ok (l := l) hl0 hp) (cwV 2 hts (lw_V q1396 q1398 qs20 q179 q1399) rfl rfl rfl (by decide +kernel) ⟨Nat.le_of_ble_eq_true rfl, Nat.le_of_ble_eq_true rfl⟩) ⟨wPc.blind, w_recv hC.1 hM (ci := 4) (q := (RX5, TX5, 9)) rfl hrec, w_pre hC hM hS _⟩ rfl rfl hl.1 rfl (lv_room (Nat.le_of_ble_eq_true rfl)) dX5_fine_76 (w_room hB hc1)) hS hB hc1 (fun E ce q18 M19 H locs hp hM hS hB hcell hcv hcl => ?_) (fun v9 M7 H locs hp hM hS hB => ?_)
      · obtain ⟨rfl, hp⟩ := hp
        exact x_out hlk (fun x h => (hnt x h).elim) hM hS (w_fin hB) hcell hcv hcl hp
      · refine lv_istore_n (lv' := [(1, .int v9), (0, .ref x0)]) hx hb dX5_fine_79 rfl hl (by decide) rfl (fun ls hl => ?_)
        refine lv_aload_n hx hb dX5_fine_80 rfl (lv_at hl 1 rfl) ?_
        refine x_getA X hC.1 hM (ci := 4) (C := RX5) (T := TX5) (N := 9) rfl in_X5 1 (by decide) q1130 (fun _ h9 => h9) dX5_fine_81 hp (fun a10 hp => ?_)
        refine x_getAN X hC.1 hM (ci := 2) (C := RX3) (T := TX3) (N := 8) rfl in_X3 4 (by decide) q411 (fun _ h9 => h9) dX5_fine_84 hp (fun a11 hp => ?_)
        refine lv_iload_n hx hb dX5_fine_87 rfl (lv_at hl 0 rfl) ?_
        refine lv_aload_n hx hb dX5_fine_88 rfl (lv_at hl 1 rfl) ?_
        refine lv_iconst (v := 0) hx hb dX5_fine_89 (by decide) ?_
        refine lv_sipush (v := 999) hx hb dX5_fine_90 (by decide) ?_
        obtain ⟨hrec, hp⟩ := hp
        obtain ⟨c13, hc1, hp⟩ := hp
        refine x_callI (vx_runV (As := [.int (0 : Int32), .int (999 : Int32)]) (rest := [.int v9, .ref a11]) X (P_X5_number_ok (l := l) hl0 hp) (cwV 2 hts (lw_V q1396 q1398 qs20 q179 q1399) rfl rfl rfl (by decide +kernel) ⟨Nat.le_of_ble_eq_true rfl, Nat.le_of_ble_eq_true rfl⟩) ⟨wPc.blind, w_recv hC.1 hM (ci := 4) (q := (RX5, TX5, 9)) rfl hrec, w_pre hC hM hS _⟩ rfl rfl hl.1 rfl (lv_room (Nat.le_of_ble_eq_true rfl)) dX5_fine_93 (w_room hB hc1)) hS hB hc1 (fun E ce q16 M17 H locs hp hM hS hB hcell hcv hcl => ?_) (fun v14 M12 H locs hp hM hS hB => ?_)
        · obtain ⟨rfl, hp⟩ := hp
          exact x_out hlk (fun x h => (hnt x h).elim) hM hS (w_fin hB) hcell hcv hcl hp
        · refine x_iast X hC.1 hM hS dX5_fine_96 hp (fun M15 H locs hM hS hp => ?_)
          exact x_vret X hr hlk hM hS (w_fin hB) dX5_fine_97 ⟨rfl, hp⟩
  have hB18 : ∀ (x0 : Nat) (y0 : Int32) (y1 : Nat) (M : wM) (bq : Nat) (H : Heap) (locs : List Loc) (ls : Array Slot) (cells slots : Nat), B_X5_fine_18 G Q Xp x0 y0 y1 M bq → wR G M H → va_S (wA G) s.heap H locs → (cells + bq ≤ ((headSpec (ws_ yX5_fine cX5_fine 2 (none)) ({ frames := 20, cells := b, slots := b, locals := 579 })).room).cells ∧ slots + bq ≤ ((headSpec (ws_ yX5_fine cX5_fine 2 (none)) ({ frames := 20, cells := b, slots := b, locals := 579 })).room).slots) → lv_has ls 2 [(0, .ref x0)] → W p l e (headSpec (ws_ yX5_fine cX5_fine 2 (none)) ({ frames := 20, cells := b, slots := b, locals := 579 })).room s m ([.ref t0] : List Value).toArray below meth c H locs cells slots (vx_MQ below (wQ G (wqV Q)) (wXC G Xp) ([.ref t0] : List Value).toArray s b b (wA G)) (F0 m 18 ls [.int y0, .ref y1]) := by
    intro x0 y0 y1 M bq H locs ls cells slots hp hM hS hB hl
    refine lv_iconst (v := 1) hx hb dX5_fine_18 (by decide) ?_
    obtain ⟨hrec, hp⟩ := hp
    obtain ⟨c2, hc1, hp⟩ := hp
    refine x_callV (vx_runV (As := [.int y0, .int (1 : Int32)]) (rest := []) X (P_X5_require_ok (l := l) hl0 hp) (cwV 2 hts (lw_V q1240 q1242 qs14 q179 q1243) rfl rfl rfl (by decide +kernel) ⟨Nat.le_of_ble_eq_true rfl, Nat.le_of_ble_eq_true rfl⟩) ⟨wPc.blind, w_recv hC.1 hM (ci := 4) (q := (RX5, TX5, 9)) rfl hrec, w_pre hC hM hS _⟩ rfl rfl hl.1 rfl (lv_room (Nat.le_of_ble_eq_true rfl)) dX5_fine_19 (w_room hB hc1)) hS hB hc1 (fun E ce q16 M17 H locs hp hM hS hB hcell hcv hcl => ?_) (fun M1 H locs hp hM hS hB => ?_)
    · obtain ⟨rfl, hp⟩ := hp
      exact x_out hlk (fun x h => (hnt x h).elim) hM hS (w_fin hB) hcell hcv hcl hp
    · refine lv_aload_n hx hb dX5_fine_22 rfl (lv_at hl 0 rfl) ?_
      refine lv_aload_n hx hb dX5_fine_23 rfl (lv_at hl 0 rfl) ?_
      refine x_getI X hC.1 hM (ci := 4) (C := RX5) (T := TX5) (N := 9) rfl in_X5 6 (by decide) q1135 (fun _ h9 => h9) dX5_fine_24 hp (fun v3 hp => ?_)
      refine lv_iconst (v := 1) hx hb dX5_fine_27 (by decide) ?_
      refine lv_bipush (v := 6) hx hb dX5_fine_28 (by decide) ?_
      refine x_call0Z (vx_runSN (As := [.int v3, .int (1 : Int32), .int (6 : Int32)]) (rest := [.ref x0]) X (P_X1_inRange_ok (l := l) hl0 hp) ⟨va_cnB 3 hts (lw_meth q1014) rfl rfl rfl (hC.1.2.2.1 _ q1105 rfl) (hts _ q148) (by decide +kernel) ⟨Nat.le_of_ble_eq_true rfl, Nat.le_of_ble_eq_true rfl⟩, hts _ q1013, trivial⟩ ⟨wPc.blind, w_pre hC hM hS _⟩ rfl rfl hl.1 rfl (lv_room (Nat.le_of_ble_eq_true rfl)) dX5_fine_30 (w_room0 hB)) hS (w_room0 hB) (fun _ _ _ _ _ _ h => False.elim h) (fun r6 M4 H locs hp hM hS => ?_)
      refine lv_iconst (v := 2) hx hb dX5_fine_33 (by decide) ?_
      obtain ⟨hrec, hp⟩ := hp
      obtain ⟨c8, hc1, hp⟩ := hp
      refine x_callV (vx_runV (As := [.int (wb r6), .int (2 : Int32)]) (rest := []) X (P_X5_require_ok (l := l) hl0 hp) (cwV 2 hts (lw_V q1240 q1242 qs14 q179 q1243) rfl rfl rfl (by decide +kernel) ⟨Nat.le_of_ble_eq_true rfl, Nat.le_of_ble_eq_true rfl⟩) ⟨wPc.blind, w_recv hC.1 hM (ci := 4) (q := (RX5, TX5, 9)) rfl hrec, w_pre hC hM hS _⟩ rfl rfl hl.1 rfl (lv_room (Nat.le_of_ble_eq_true rfl)) dX5_fine_34 (w_room hB hc1)) hS hB hc1 (fun E ce q14 M15 H locs hp hM hS hB hcell hcv hcl => ?_) (fun M7 H locs hp hM hS hB => ?_)
      · obtain ⟨rfl, hp⟩ := hp
        exact x_out hlk (fun x h => (hnt x h).elim) hM hS (w_fin hB) hcell hcv hcl hp
      · refine lv_aload_n hx hb dX5_fine_37 rfl (lv_at hl 0 rfl) ?_
        refine lv_aload_n hx hb dX5_fine_38 rfl (lv_at hl 0 rfl) ?_
        refine x_getA X hC.1 hM (ci := 4) (C := RX5) (T := TX5) (N := 9) rfl in_X5 2 (by decide) q1131 (fun _ h9 => h9) dX5_fine_39 hp (fun a9 hp => ?_)
        refine lv_aload_n hx hb dX5_fine_42 rfl (lv_at hl 0 rfl) ?_
        refine x_getI X hC.1 hM (ci := 4) (C := RX5) (T := TX5) (N := 9) rfl in_X5 6 (by decide) q1135 (fun _ h9 => h9) dX5_fine_43 hp (fun v10 hp => ?_)
        obtain ⟨hrec, hp⟩ := hp
        refine x_call0Z (vx_runV (As := [.int v10]) (rest := [.ref x0]) X (P_J9_get_ok (l := l) hl0 hp) (cwV 1 hts (lw_V q1485 q1486 q1487 q161 q1488) rfl rfl rfl (by decide +kernel) ⟨Nat.le_of_ble_eq_true rfl, Nat.le_of_ble_eq_true rfl⟩) ⟨wPc.blind, w_recv hC.1 hM (ci := 21) (q := (RJ9, TJ9, 3)) rfl hrec, w_pre hC hM hS _⟩ rfl rfl hl.1 rfl (lv_room (Nat.le_of_ble_eq_true rfl)) dX5_fine_46 (w_room0 hB)) hS (w_room0 hB) (fun _ _ _ _ _ _ h => False.elim h) (fun r13 M11 H locs hp hM hS => ?_)
        refine x_ifneB (tgt := 56) hx hb dX5_fine_49 (by decide) (fun hc => ?_) (fun hc => ?_)
        · have hp := oIf.bt hp hc
          refine lv_iconst (v := 0) hx hb dX5_fine_56 (by decide) ?_
          exact hB57 _ _ _ _ _ _ _ _ _ _ hp hM hS hB (lv_sub hl [0] rfl)
        · have hp := oIf.bf hp hc
          refine lv_iconst (v := 1) hx hb dX5_fine_52 (by decide) ?_
          refine lv_goto (tgt := 57) hx hb dX5_fine_53 (by decide) ?_
          exact hB57 _ _ _ _ _ _ _ _ _ _ hp hM hS hB (lv_sub hl [0] rfl)
  refine lv_aload_n hx hb dX5_fine_0 rfl (lv_at hl 0 rfl) ?_
  obtain ⟨hrec, hp⟩ := hp
  obtain ⟨c2, hc1, hp⟩ := hp
  refine x_callV (vx_runV (As := []) (rest := []) X (P_X5_advance_ok (l := l) hl0 hp) (cwV 0 hts (lw_V q1097 q1099 qs10 q179 q1100) rfl rfl rfl (by decide +kernel) ⟨Nat.le_of_ble_eq_true rfl, Nat.le_of_ble_eq_true rfl⟩) ⟨wPc.blind, w_recv hC.1 hM (ci := 4) (q := (RX5, TX5, 9)) rfl hrec, w_pre hC hM hS _⟩ rfl rfl hl.1 rfl (lv_room (Nat.le_of_ble_eq_true rfl)) dX5_fine_1 (w_room hB hc1)) hS hB hc1 (fun _ _ _ _ _ _ h => False.elim h) (fun M1 H locs hp hM hS hB => ?_)
  refine lv_aload_n hx hb dX5_fine_4 rfl (lv_at hl 0 rfl) ?_
  refine lv_aload_n hx hb dX5_fine_5 rfl (lv_at hl 0 rfl) ?_
  refine x_getI X hC.1 hM (ci := 4) (C := RX5) (T := TX5) (N := 9) rfl in_X5 5 (by decide) q1134 (fun _ h9 => h9) dX5_fine_6 hp (fun v3 hp => ?_)
  refine lv_iconst (v := 2) hx hb dX5_fine_9 (by decide) ?_
  refine lv_icmp_ne (tgt := 17) hx hb dX5_fine_10 (by decide) (fun hc => ?_) (fun hc => ?_)
  · have hp := oIf.f hp hc
    refine lv_iconst (v := 0) hx hb dX5_fine_17 (by decide) ?_
    exact hB18 _ _ _ _ _ _ _ _ _ _ hp hM hS hB (lv_sub hl [0] rfl)
  · have hp := oIf.t hp hc
    refine lv_iconst (v := 1) hx hb dX5_fine_13 (by decide) ?_
    refine lv_goto (tgt := 18) hx hb dX5_fine_14 (by decide) ?_
    exact hB18 _ _ _ _ _ _ _ _ _ _ hp hM hS hB (lv_sub hl [0] rfl)
def B_J3_signedHashCode_8 (G : wG) (rec8 : Int32 → Nat → Int32 → Int32 → wM → Prop) (Q : Int32 → wM → Prop) (x0 : Int32) (x1 : Nat) (x4 : Int32) (x5 : Int32) (M : wM) : Prop :=
  oIf (x4 ≤ x5) (Q x0 M) (oIald .byte M x1 x5 (fun v1 => rec8 (((31 : Int32) * x0) + (v1 &&& (255 : Int32))) x1 x4 (x5 + 1) M))
def L_J3_signedHashCode_8 (G : wG) (Q : Int32 → wM → Prop) : Nat → Int32 → Nat → Int32 → Int32 → wM → Prop
  | 0 => fun _ _ _ _ _ => False
  | n + 1 => B_J3_signedHashCode_8 G (L_J3_signedHashCode_8 G Q n) Q
def P_J3_signedHashCode (G : wG) (p1 : Int32) (p2 : Nat) (p3 : Int32) (p4 : Int32) (M : wM) (Q : Int32 → wM → Prop) : Prop :=
  ∃ n, L_J3_signedHashCode_8 G Q n p1 p2 (p3 + p4) p3 M
set_option maxHeartbeats 4000000 in
set_option maxRecDepth 100000 in
theorem P_J3_signedHashCode_ok {l : Launch} (hl0 : l.stackTraces = false) {G : wG} {p1 : Int32} {p2 : Nat} {p3 : Int32} {p4 : Int32} {M : wM} {Q : Int32 → wM → Prop} (hp : P_J3_signedHashCode G p1 p2 p3 p4 M Q) : wMet l yJ3_signedHashCode (ws_ yJ3_signedHashCode cJ3_signedHashCode 6 (Option.some Jvm.ClassFile.FieldType.int)) 12 400 G [.int p1, .ref p2, .int p3, .int p4] M 0 (wqI Q) wX0 := by
  refine vx_ofW (cc := cJ3_signedHashCode) (maxL := 6) (ret := Option.some Jvm.ClassFile.FieldType.int) (by decide) rfl ?_
  intro p e s m args below meth c s₁ B hml hnt hv
  obtain ⟨rfl, hM, hK, hZ, hz⟩ := hv
  have hC : wC G s := ⟨hK, hZ, hz⟩
  have hx := B.exec
  have hb := B.bytes
  have hr := B.returns
  have hts := atoms_spec (ws := (ws_ yJ3_signedHashCode cJ3_signedHashCode 6 (Option.some Jvm.ClassFile.FieldType.int))) B.pre
  have hts : ∀ w ∈ lw_all, w.before _ s = true := fun w h => hts w (List.mem_cons_of_mem _ h)
  have hown : s.vm.findClass RJ3 = some m.cls := findClass_of_methodNamed B.named
  have hlk := B.notSynchronized
  have X : CallFix p m c cJ3_signedHashCode 6 s ([.int p1, .ref p2, .int p3, .int p4] : List Value).toArray lw_all RJ3 := ⟨hx, hb, hml, hown, hts⟩
  have hS : va_S (wA G) s.heap s.heap [] := va_S.rf
  have hl := lv_entry ([.int p1, .ref p2, .int p3, .int p4]) (n := 6) (Nat.le_of_ble_eq_true rfl)
  rw [lg_entry_eq]
  generalize (lg_sl ([.int p1, .ref p2, .int p3, .int p4]) ++ List.replicate (6 - (lg_sl ([.int p1, .ref p2, .int p3, .int p4])).length) Slot.unset).toArray = ls at hl ⊢
  have hl : lv_has ls 6 [(0, .int p1), (1, .ref p2), (2, .int p3), (3, .int p4)] := hl
  have hB8 : ∀ (rec8 : Int32 → Nat → Int32 → Int32 → wM → Prop) (hrec8 : ∀ (x0 : Int32) (x1 : Nat) (x4 : Int32) (x5 : Int32) (M : wM) (H : Heap) (locs : List Loc) (ls : Array Slot), rec8 x0 x1 x4 x5 M → wR G M H → va_S (wA G) s.heap H locs → lv_has ls 6 [(0, .int x0), (1, .ref x1), (4, .int x4), (5, .int x5)] → W p l e (headSpec (ws_ yJ3_signedHashCode cJ3_signedHashCode 6 (Option.some Jvm.ClassFile.FieldType.int)) ({ frames := 12, cells := 0, slots := 0, locals := 400 })).room s m ([.int p1, .ref p2, .int p3, .int p4] : List Value).toArray below meth c H locs 0 0 (vx_MQ below (wQ G (wqI Q)) (wXC G wX0) ([.int p1, .ref p2, .int p3, .int p4] : List Value).toArray s 0 0 (wA G)) (F0 m 8 ls [])), ∀ (x0 : Int32) (x1 : Nat) (x4 : Int32) (x5 : Int32) (M : wM) (H : Heap) (locs : List Loc) (ls : Array Slot), B_J3_signedHashCode_8 G rec8 Q x0 x1 x4 x5 M → wR G M H → va_S (wA G) s.heap H locs → lv_has ls 6 [(0, .int x0), (1, .ref x1), (4, .int x4), (5, .int x5)] → W p l e (headSpec (ws_ yJ3_signedHashCode cJ3_signedHashCode 6 (Option.some Jvm.ClassFile.FieldType.int)) ({ frames := 12, cells := 0, slots := 0, locals := 400 })).room s m ([.int p1, .ref p2, .int p3, .int p4] : List Value).toArray below meth c H locs 0 0 (vx_MQ below (wQ G (wqI Q)) (wXC G wX0) ([.int p1, .ref p2, .int p3, .int p4] : List Value).toArray s 0 0 (wA G)) (F0 m 8 ls []) := by
    intro rec8 hrec8 x0 x1 x4 x5 M H locs ls hp hM hS hl
    refine lv_iload hx hb dJ3_signedHashCode_8 (lv_at hl 3 rfl) ?_
    refine lv_iload hx hb dJ3_signedHashCode_10 (lv_at hl 2 rfl) ?_
    refine lv_icmp_ge (tgt := 35) hx hb dJ3_signedHashCode_12 (by decide) (fun hc => ?_) (fun hc => ?_)
    · have hp := oIf.t hp hc
      refine lv_iload_n hx hb dJ3_signedHashCode_35 rfl (lv_at hl 0 rfl) ?_
      exact x_iret X hr hlk hM hS ⟨Nat.le_refl _, Nat.le_refl _⟩ dJ3_signedHashCode_36 ⟨_, rfl, hp⟩
    · have hp := oIf.f hp hc
      refine lv_bipush (v := 31) hx hb dJ3_signedHashCode_15 (by decide) ?_
      refine lv_iload_n hx hb dJ3_signedHashCode_17 rfl (lv_at hl 0 rfl) ?_
      refine lv_imul hx hb dJ3_signedHashCode_18 ?_
      refine lv_aload_n hx hb dJ3_signedHashCode_19 rfl (lv_at hl 1 rfl) ?_
      refine lv_iload hx hb dJ3_signedHashCode_20 (lv_at hl 3 rfl) ?_
      refine x_bald X hC.1 hM dJ3_signedHashCode_22 hp (fun v1 hp => ?_)
      refine lv_sipush (v := 255) hx hb dJ3_signedHashCode_23 (by decide) ?_
      refine lv_iand hx hb dJ3_signedHashCode_26 ?_
      refine lv_iadd hx hb dJ3_signedHashCode_27 ?_
      refine lv_istore_n (lv' := [(0, .int (((31 : Int32) * x0) + (v1 &&& (255 : Int32)))), (1, .ref x1), (4, .int x4), (5, .int x5)]) hx hb dJ3_signedHashCode_28 rfl hl (by decide) rfl (fun ls hl => ?_)
      refine lv_iinc (v := (x5 + 1)) (lv' := [(5, .int (x5 + 1)), (0, .int (((31 : Int32) * x0) + (v1 &&& (255 : Int32)))), (1, .ref x1), (4, .int x4)]) hx hb dJ3_signedHashCode_29 hl (k := 3) rfl rfl (by decide) rfl (fun ls hl => ?_)
      refine lv_goto (tgt := 8) hx hb dJ3_signedHashCode_32 (by decide) ?_
      exact hrec8 _ _ _ _ _ _ _ _ hp hM hS (lv_sub hl [1, 2, 3, 0] rfl)
  have hL8 : ∀ (n : Nat), ∀ (x0 : Int32) (x1 : Nat) (x4 : Int32) (x5 : Int32) (M : wM) (H : Heap) (locs : List Loc) (ls : Array Slot), L_J3_signedHashCode_8 G Q n x0 x1 x4 x5 M → wR G M H → va_S (wA G) s.heap H locs → lv_has ls 6 [(0, .int x0), (1, .ref x1), (4, .int x4), (5, .int x5)] → W p l e (headSpec (ws_ yJ3_signedHashCode cJ3_signedHashCode 6 (Option.some Jvm.ClassFile.FieldType.int)) ({ frames := 12, cells := 0, slots := 0, locals := 400 })).room s m ([.int p1, .ref p2, .int p3, .int p4] : List Value).toArray below meth c H locs 0 0 (vx_MQ below (wQ G (wqI Q)) (wXC G wX0) ([.int p1, .ref p2, .int p3, .int p4] : List Value).toArray s 0 0 (wA G)) (F0 m 8 ls []) := by
    intro n
    induction n with
    | zero => intro _ _ _ _ _ _ _ _ hp; exact False.elim hp
    | succ n ih => intro x0 x1 x4 x5 M H locs ls hp hM hS hl; exact hB8 (L_J3_signedHashCode_8 G Q n) ih _ _ _ _ _ _ _ _ hp hM hS hl
  refine lv_iload_n hx hb dJ3_signedHashCode_0 rfl (lv_at hl 2 rfl) ?_
  refine lv_iload_n hx hb dJ3_signedHashCode_1 rfl (lv_at hl 3 rfl) ?_
  refine lv_iadd hx hb dJ3_signedHashCode_2 ?_
  refine lv_istore (lv' := [(4, .int (p3 + p4)), (0, .int p1), (1, .ref p2), (2, .int p3), (3, .int p4)]) hx hb dJ3_signedHashCode_3 hl (by decide) rfl (fun ls hl => ?_)
  refine lv_iload_n hx hb dJ3_signedHashCode_5 rfl (lv_at hl 3 rfl) ?_
  refine lv_istore (lv' := [(5, .int p3), (4, .int (p3 + p4)), (0, .int p1), (1, .ref p2), (2, .int p3), (3, .int p4)]) hx hb dJ3_signedHashCode_6 hl (by decide) rfl (fun ls hl => ?_)
  obtain ⟨n, hp⟩ := hp
  exact hL8 n _ _ _ _ _ _ _ _ hp hM hS (lv_sub hl [2, 3, 1, 0] rfl)
def B_J3_hashCode_2_8 (G : wG) (rec8 : Int32 → Nat → Int32 → Int32 → wM → Prop) (Q : Int32 → wM → Prop) (x0 : Int32) (x1 : Nat) (x4 : Int32) (x5 : Int32) (M : wM) : Prop :=
  oIf (x4 ≤ x5) (Q x0 M) (oIald .byte M x1 x5 (fun v1 => rec8 (((31 : Int32) * x0) + v1) x1 x4 (x5 + 1) M))
def L_J3_hashCode_2_8 (G : wG) (Q : Int32 → wM → Prop) : Nat → Int32 → Nat → Int32 → Int32 → wM → Prop
  | 0 => fun _ _ _ _ _ => False
  | n + 1 => B_J3_hashCode_2_8 G (L_J3_hashCode_2_8 G Q n) Q
def P_J3_hashCode_2 (G : wG) (p1 : Int32) (p2 : Nat) (p3 : Int32) (p4 : Int32) (M : wM) (Q : Int32 → wM → Prop) : Prop :=
  ∃ n, L_J3_hashCode_2_8 G Q n p1 p2 (p3 + p4) p3 M
set_option maxHeartbeats 4000000 in
set_option maxRecDepth 100000 in
theorem P_J3_hashCode_2_ok {l : Launch} (hl0 : l.stackTraces = false) {G : wG} {p1 : Int32} {p2 : Nat} {p3 : Int32} {p4 : Int32} {M : wM} {Q : Int32 → wM → Prop} (hp : P_J3_hashCode_2 G p1 p2 p3 p4 M Q) : wMet l yJ3_hashCode_2 (ws_ yJ3_hashCode_2 cJ3_hashCode_2 6 (Option.some Jvm.ClassFile.FieldType.int)) 12 400 G [.int p1, .ref p2, .int p3, .int p4] M 0 (wqI Q) wX0 := by
  refine vx_ofW (cc := cJ3_hashCode_2) (maxL := 6) (ret := Option.some Jvm.ClassFile.FieldType.int) (by decide) rfl ?_
  intro p e s m args below meth c s₁ B hml hnt hv
  obtain ⟨rfl, hM, hK, hZ, hz⟩ := hv
  have hC : wC G s := ⟨hK, hZ, hz⟩
  have hx := B.exec
  have hb := B.bytes
  have hr := B.returns
  have hts := atoms_spec (ws := (ws_ yJ3_hashCode_2 cJ3_hashCode_2 6 (Option.some Jvm.ClassFile.FieldType.int))) B.pre
  have hts : ∀ w ∈ lw_all, w.before _ s = true := fun w h => hts w (List.mem_cons_of_mem _ h)
  have hown : s.vm.findClass RJ3 = some m.cls := findClass_of_methodNamed B.named
  have hlk := B.notSynchronized
  have X : CallFix p m c cJ3_hashCode_2 6 s ([.int p1, .ref p2, .int p3, .int p4] : List Value).toArray lw_all RJ3 := ⟨hx, hb, hml, hown, hts⟩
  have hS : va_S (wA G) s.heap s.heap [] := va_S.rf
  have hl := lv_entry ([.int p1, .ref p2, .int p3, .int p4]) (n := 6) (Nat.le_of_ble_eq_true rfl)
  rw [lg_entry_eq]
  generalize (lg_sl ([.int p1, .ref p2, .int p3, .int p4]) ++ List.replicate (6 - (lg_sl ([.int p1, .ref p2, .int p3, .int p4])).length) Slot.unset).toArray = ls at hl ⊢
  have hl : lv_has ls 6 [(0, .int p1), (1, .ref p2), (2, .int p3), (3, .int p4)] := hl
  have hB8 : ∀ (rec8 : Int32 → Nat → Int32 → Int32 → wM → Prop) (hrec8 : ∀ (x0 : Int32) (x1 : Nat) (x4 : Int32) (x5 : Int32) (M : wM) (H : Heap) (locs : List Loc) (ls : Array Slot), rec8 x0 x1 x4 x5 M → wR G M H → va_S (wA G) s.heap H locs → lv_has ls 6 [(0, .int x0), (1, .ref x1), (4, .int x4), (5, .int x5)] → W p l e (headSpec (ws_ yJ3_hashCode_2 cJ3_hashCode_2 6 (Option.some Jvm.ClassFile.FieldType.int)) ({ frames := 12, cells := 0, slots := 0, locals := 400 })).room s m ([.int p1, .ref p2, .int p3, .int p4] : List Value).toArray below meth c H locs 0 0 (vx_MQ below (wQ G (wqI Q)) (wXC G wX0) ([.int p1, .ref p2, .int p3, .int p4] : List Value).toArray s 0 0 (wA G)) (F0 m 8 ls [])), ∀ (x0 : Int32) (x1 : Nat) (x4 : Int32) (x5 : Int32) (M : wM) (H : Heap) (locs : List Loc) (ls : Array Slot), B_J3_hashCode_2_8 G rec8 Q x0 x1 x4 x5 M → wR G M H → va_S (wA G) s.heap H locs → lv_has ls 6 [(0, .int x0), (1, .ref x1), (4, .int x4), (5, .int x5)] → W p l e (headSpec (ws_ yJ3_hashCode_2 cJ3_hashCode_2 6 (Option.some Jvm.ClassFile.FieldType.int)) ({ frames := 12, cells := 0, slots := 0, locals := 400 })).room s m ([.int p1, .ref p2, .int p3, .int p4] : List Value).toArray below meth c H locs 0 0 (vx_MQ below (wQ G (wqI Q)) (wXC G wX0) ([.int p1, .ref p2, .int p3, .int p4] : List Value).toArray s 0 0 (wA G)) (F0 m 8 ls []) := by
    intro rec8 hrec8 x0 x1 x4 x5 M H locs ls hp hM hS hl
    refine lv_iload hx hb dJ3_hashCode_2_8 (lv_at hl 3 rfl) ?_
    refine lv_iload hx hb dJ3_hashCode_2_10 (lv_at hl 2 rfl) ?_
    refine lv_icmp_ge (tgt := 31) hx hb dJ3_hashCode_2_12 (by decide) (fun hc => ?_) (fun hc => ?_)
    · have hp := oIf.t hp hc
      refine lv_iload_n hx hb dJ3_hashCode_2_31 rfl (lv_at hl 0 rfl) ?_
      exact x_iret X hr hlk hM hS ⟨Nat.le_refl _, Nat.le_refl _⟩ dJ3_hashCode_2_32 ⟨_, rfl, hp⟩
    · have hp := oIf.f hp hc
      refine lv_bipush (v := 31) hx hb dJ3_hashCode_2_15 (by decide) ?_
      refine lv_iload_n hx hb dJ3_hashCode_2_17 rfl (lv_at hl 0 rfl) ?_
      refine lv_imul hx hb dJ3_hashCode_2_18 ?_
      refine lv_aload_n hx hb dJ3_hashCode_2_19 rfl (lv_at hl 1 rfl) ?_
      refine lv_iload hx hb dJ3_hashCode_2_20 (lv_at hl 3 rfl) ?_
      refine x_bald X hC.1 hM dJ3_hashCode_2_22 hp (fun v1 hp => ?_)
      refine lv_iadd hx hb dJ3_hashCode_2_23 ?_
      refine lv_istore_n (lv' := [(0, .int (((31 : Int32) * x0) + v1)), (1, .ref x1), (4, .int x4), (5, .int x5)]) hx hb dJ3_hashCode_2_24 rfl hl (by decide) rfl (fun ls hl => ?_)
      refine lv_iinc (v := (x5 + 1)) (lv' := [(5, .int (x5 + 1)), (0, .int (((31 : Int32) * x0) + v1)), (1, .ref x1), (4, .int x4)]) hx hb dJ3_hashCode_2_25 hl (k := 3) rfl rfl (by decide) rfl (fun ls hl => ?_)
      refine lv_goto (tgt := 8) hx hb dJ3_hashCode_2_28 (by decide) ?_
      exact hrec8 _ _ _ _ _ _ _ _ hp hM hS (lv_sub hl [1, 2, 3, 0] rfl)
  have hL8 : ∀ (n : Nat), ∀ (x0 : Int32) (x1 : Nat) (x4 : Int32) (x5 : Int32) (M : wM) (H : Heap) (locs : List Loc) (ls : Array Slot), L_J3_hashCode_2_8 G Q n x0 x1 x4 x5 M → wR G M H → va_S (wA G) s.heap H locs → lv_has ls 6 [(0, .int x0), (1, .ref x1), (4, .int x4), (5, .int x5)] → W p l e (headSpec (ws_ yJ3_hashCode_2 cJ3_hashCode_2 6 (Option.some Jvm.ClassFile.FieldType.int)) ({ frames := 12, cells := 0, slots := 0, locals := 400 })).room s m ([.int p1, .ref p2, .int p3, .int p4] : List Value).toArray below meth c H locs 0 0 (vx_MQ below (wQ G (wqI Q)) (wXC G wX0) ([.int p1, .ref p2, .int p3, .int p4] : List Value).toArray s 0 0 (wA G)) (F0 m 8 ls []) := by
    intro n
    induction n with
    | zero => intro _ _ _ _ _ _ _ _ hp; exact False.elim hp
    | succ n ih => intro x0 x1 x4 x5 M H locs ls hp hM hS hl; exact hB8 (L_J3_hashCode_2_8 G Q n) ih _ _ _ _ _ _ _ _ hp hM hS hl
  refine lv_iload_n hx hb dJ3_hashCode_2_0 rfl (lv_at hl 2 rfl) ?_
  refine lv_iload_n hx hb dJ3_hashCode_2_1 rfl (lv_at hl 3 rfl) ?_
  refine lv_iadd hx hb dJ3_hashCode_2_2 ?_
  refine lv_istore (lv' := [(4, .int (p3 + p4)), (0, .int p1), (1, .ref p2), (2, .int p3), (3, .int p4)]) hx hb dJ3_hashCode_2_3 hl (by decide) rfl (fun ls hl => ?_)
  refine lv_iload_n hx hb dJ3_hashCode_2_5 rfl (lv_at hl 3 rfl) ?_
  refine lv_istore (lv' := [(5, .int p3), (4, .int (p3 + p4)), (0, .int p1), (1, .ref p2), (2, .int p3), (3, .int p4)]) hx hb dJ3_hashCode_2_6 hl (by decide) rfl (fun ls hl => ?_)
  obtain ⟨n, hp⟩ := hp
  exact hL8 n _ _ _ _ _ _ _ _ hp hM hS (lv_sub hl [2, 3, 1, 0] rfl)
def B_J3_vectorizedHashCode_157 (G : wG) (Q : Int32 → wM → Prop) (y0 : Int32) (M : wM) : Prop :=
  Q y0 M
def P_J3_vectorizedHashCode (G : wG) (p1 : Option Nat) (p2 : Int32) (p3 : Int32) (p4 : Int32) (p5 : Int32) (M : wM) (Q : Int32 → wM → Prop) : Prop :=
  oIf (p5 = (4 : Int32)) (oRef p1 (fun a1 => oIsB M a1 (P_J3_signedHashCode G p4 a1 p2 p3 M (fun v4 M2 => B_J3_vectorizedHashCode_157 G Q v4 M2)))) (oIf (p5 = (5 : Int32)) (False) (oIf (p5 = (6 : Int32)) (False) (oIf (p5 = (7 : Int32)) (False) (oIf (p5 = (8 : Int32)) (oRef p1 (fun a5 => oIsB M a5 (P_J3_hashCode_2 G p4 a5 p2 p3 M (fun v8 M6 => B_J3_vectorizedHashCode_157 G Q v8 M6)))) (oIf (p5 = (9 : Int32)) (False) (oIf (p5 = (10 : Int32)) (False) (False)))))))
set_option maxHeartbeats 4000000 in
set_option maxRecDepth 100000 in
theorem P_J3_vectorizedHashCode_ok {l : Launch} (hl0 : l.stackTraces = false) {G : wG} {p1 : Option Nat} {p2 : Int32} {p3 : Int32} {p4 : Int32} {p5 : Int32} {M : wM} {Q : Int32 → wM → Prop} (hp : P_J3_vectorizedHashCode G p1 p2 p3 p4 p5 M Q) : wMet l yJ3_vectorizedHashCode (ws_ yJ3_vectorizedHashCode cJ3_vectorizedHashCode 5 (Option.some Jvm.ClassFile.FieldType.int)) 13 425 G [va_rf p1, .int p2, .int p3, .int p4, .int p5] M 0 (wqI Q) wX0 := by
  refine vx_ofW (cc := cJ3_vectorizedHashCode) (maxL := 5) (ret := Option.some Jvm.ClassFile.FieldType.int) (by decide) rfl ?_
  intro p e s m args below meth c s₁ B hml hnt hv
  obtain ⟨rfl, hM, hK, hZ, hz⟩ := hv
  have hC : wC G s := ⟨hK, hZ, hz⟩
  have hx := B.exec
  have hb := B.bytes
  have hr := B.returns
  have hts := atoms_spec (ws := (ws_ yJ3_vectorizedHashCode cJ3_vectorizedHashCode 5 (Option.some Jvm.ClassFile.FieldType.int))) B.pre
  have hts : ∀ w ∈ lw_all, w.before _ s = true := fun w h => hts w (List.mem_cons_of_mem _ h)
  have hown : s.vm.findClass RJ3 = some m.cls := findClass_of_methodNamed B.named
  have hlk := B.notSynchronized
  have X : CallFix p m c cJ3_vectorizedHashCode 5 s ([va_rf p1, .int p2, .int p3, .int p4, .int p5] : List Value).toArray lw_all RJ3 := ⟨hx, hb, hml, hown, hts⟩
  have hS : va_S (wA G) s.heap s.heap [] := va_S.rf
  have hl := lv_entry ([va_rf p1, .int p2, .int p3, .int p4, .int p5]) (n := 5) (by cases p1 <;> exact Nat.le_of_ble_eq_true rfl)
  rw [lg_entry_eq]
  generalize (lg_sl ([va_rf p1, .int p2, .int p3, .int p4, .int p5]) ++ List.replicate (5 - (lg_sl ([va_rf p1, .int p2, .int p3, .int p4, .int p5])).length) Slot.unset).toArray = ls at hl ⊢
  have hl : lv_has ls 5 [(0, va_rf p1), (1, .int p2), (2, .int p3), (3, .int p4), (4, .int p5)] := by cases p1 <;> exact hl
  have hB157 : ∀ (y0 : Int32) (M : wM) (H : Heap) (locs : List Loc) (ls : Array Slot), B_J3_vectorizedHashCode_157 G Q y0 M → wR G M H → va_S (wA G) s.heap H locs → lv_has ls 5 [] → W p l e (headSpec (ws_ yJ3_vectorizedHashCode cJ3_vectorizedHashCode 5 (Option.some Jvm.ClassFile.FieldType.int)) ({ frames := 13, cells := 0, slots := 0, locals := 425 })).room s m ([va_rf p1, .int p2, .int p3, .int p4, .int p5] : List Value).toArray below meth c H locs 0 0 (vx_MQ below (wQ G (wqI Q)) (wXC G wX0) ([va_rf p1, .int p2, .int p3, .int p4, .int p5] : List Value).toArray s 0 0 (wA G)) (F0 m 157 ls [.int y0]) := by
    intro y0 M H locs ls hp hM hS hl
    exact x_iret X hr hlk hM hS ⟨Nat.le_refl _, Nat.le_refl _⟩ dJ3_vectorizedHashCode_157 ⟨_, rfl, hp⟩
  refine lv_iload hx hb dJ3_vectorizedHashCode_0 (lv_at hl 4 rfl) ?_
  by_cases hc0 : p5 = (4 : Int32)
  · have hp := oIf.t hp hc0
    refine lv_tableIn (off := 42) (tgt := 44) hx hb dJ3_vectorizedHashCode_2 (by rw [hc0]; decide) (by rw [hc0]; decide) (by rw [hc0]; rfl) (by decide) ?_
    refine lv_iload_n hx hb dJ3_vectorizedHashCode_44 rfl (lv_at hl 3 rfl) ?_
    refine x_aload_n (r := p1) hx hb dJ3_vectorizedHashCode_45 rfl (lv_at hl 0 rfl) ?_
    obtain ⟨a1, ea, hqa1⟩ := hp
    subst ea
    have hp := hqa1
    have hl : lv_has ls 5 [(0, .ref a1), (1, .int p2), (2, .int p3), (3, .int p4), (4, .int p5)] := hl
    refine x_castB X hC.1 hM q1179 dJ3_vectorizedHashCode_46 hp (fun hp => ?_)
    refine lv_iload_n hx hb dJ3_vectorizedHashCode_49 rfl (lv_at hl 1 rfl) ?_
    refine lv_iload_n hx hb dJ3_vectorizedHashCode_50 rfl (lv_at hl 2 rfl) ?_
    refine x_call0I (vx_runS (As := [.int p4, .ref a1, .int p2, .int p3]) (rest := []) X (P_J3_signedHashCode_ok (l := l) hl0 hp) (va_cwS 4 hts (lw_S q1180 q1181 q154 q1182) rfl rfl rfl (by decide +kernel) ⟨Nat.le_of_ble_eq_true rfl, Nat.le_of_ble_eq_true rfl⟩) ⟨wPc.blind, w_pre hC hM hS _⟩ rfl rfl hl.1 rfl (lv_room (Nat.le_of_ble_eq_true rfl)) dJ3_vectorizedHashCode_51 ⟨Nat.le_refl _, Nat.le_refl _⟩) hS ⟨Nat.le_refl _, Nat.le_refl _⟩ (fun _ _ _ _ _ _ h => False.elim h) (fun v4 M2 H locs hp hM hS => ?_)
    refine lv_goto (tgt := 157) hx hb dJ3_vectorizedHashCode_54 (by decide) ?_
    exact hB157 _ _ _ _ _ hp hM hS (lv_sub hl [] rfl)
  · have hp := oIf.f hp hc0
    by_cases hc1 : p5 = (5 : Int32)
    · have hp := oIf.t hp hc1
      refine lv_tableIn (off := 55) (tgt := 57) hx hb dJ3_vectorizedHashCode_2 (by rw [hc1]; decide) (by rw [hc1]; decide) (by rw [hc1]; rfl) (by decide) ?_
      exact hp.elim
    · have hp := oIf.f hp hc1
      by_cases hc2 : p5 = (6 : Int32)
      · have hp := oIf.t hp hc2
        refine lv_tableIn (off := 127) (tgt := 129) hx hb dJ3_vectorizedHashCode_2 (by rw [hc2]; decide) (by rw [hc2]; decide) (by rw [hc2]; rfl) (by decide) ?_
        exact hp.elim
      · have hp := oIf.f hp hc2
        by_cases hc3 : p5 = (7 : Int32)
        · have hp := oIf.t hp hc3
          refine lv_tableIn (off := 127) (tgt := 129) hx hb dJ3_vectorizedHashCode_2 (by rw [hc3]; decide) (by rw [hc3]; decide) (by rw [hc3]; rfl) (by decide) ?_
          exact hp.elim
        · have hp := oIf.f hp hc3
          by_cases hc4 : p5 = (8 : Int32)
          · have hp := oIf.t hp hc4
            refine lv_tableIn (off := 88) (tgt := 90) hx hb dJ3_vectorizedHashCode_2 (by rw [hc4]; decide) (by rw [hc4]; decide) (by rw [hc4]; rfl) (by decide) ?_
            refine lv_iload_n hx hb dJ3_vectorizedHashCode_90 rfl (lv_at hl 3 rfl) ?_
            refine x_aload_n (r := p1) hx hb dJ3_vectorizedHashCode_91 rfl (lv_at hl 0 rfl) ?_
            obtain ⟨a5, ea, hqa5⟩ := hp
            subst ea
            have hp := hqa5
            have hl : lv_has ls 5 [(0, .ref a5), (1, .int p2), (2, .int p3), (3, .int p4), (4, .int p5)] := hl
            refine x_castB X hC.1 hM q1179 dJ3_vectorizedHashCode_92 hp (fun hp => ?_)
            refine lv_iload_n hx hb dJ3_vectorizedHashCode_95 rfl (lv_at hl 1 rfl) ?_
            refine lv_iload_n hx hb dJ3_vectorizedHashCode_96 rfl (lv_at hl 2 rfl) ?_
            refine x_call0I (vx_runS (As := [.int p4, .ref a5, .int p2, .int p3]) (rest := []) X (P_J3_hashCode_2_ok (l := l) hl0 hp) (va_cwS 4 hts (lw_S q1203 q1204 q154 q1205) rfl rfl rfl (by decide +kernel) ⟨Nat.le_of_ble_eq_true rfl, Nat.le_of_ble_eq_true rfl⟩) ⟨wPc.blind, w_pre hC hM hS _⟩ rfl rfl hl.1 rfl (lv_room (Nat.le_of_ble_eq_true rfl)) dJ3_vectorizedHashCode_97 ⟨Nat.le_refl _, Nat.le_refl _⟩) hS ⟨Nat.le_refl _, Nat.le_refl _⟩ (fun _ _ _ _ _ _ h => False.elim h) (fun v8 M6 H locs hp hM hS => ?_)
            refine lv_goto (tgt := 157) hx hb dJ3_vectorizedHashCode_100 (by decide) ?_
            exact hB157 _ _ _ _ _ hp hM hS (lv_sub hl [] rfl)
          · have hp := oIf.f hp hc4
            by_cases hc5 : p5 = (9 : Int32)
            · have hp := oIf.t hp hc5
              refine lv_tableIn (off := 101) (tgt := 103) hx hb dJ3_vectorizedHashCode_2 (by rw [hc5]; decide) (by rw [hc5]; decide) (by rw [hc5]; rfl) (by decide) ?_
              exact hp.elim
            · have hp := oIf.f hp hc5
              by_cases hc6 : p5 = (10 : Int32)
              · have hp := oIf.t hp hc6
                refine lv_tableIn (off := 114) (tgt := 116) hx hb dJ3_vectorizedHashCode_2 (by rw [hc6]; decide) (by rw [hc6]; decide) (by rw [hc6]; rfl) (by decide) ?_
                exact hp.elim
              · have hp := oIf.f hp hc6
                refine lv_tableOut (tgt := 129) hx hb dJ3_vectorizedHashCode_2 (w_tsw 4 7 (by decide) (by decide) (fun i hi => ?_)) (by decide) ?_
                · have hi2 : i = 0 ∨ i = 1 ∨ i = 2 ∨ i = 3 ∨ i = 4 ∨ i = 5 ∨ i = 6 := by omega
                  rcases hi2 with rfl | rfl | rfl | rfl | rfl | rfl | rfl
                  · exact fun h => hc0 (h.trans (by decide))
                  · exact fun h => hc1 (h.trans (by decide))
                  · exact fun h => hc2 (h.trans (by decide))
                  · exact fun h => hc3 (h.trans (by decide))
                  · exact fun h => hc4 (h.trans (by decide))
                  · exact fun h => hc5 (h.trans (by decide))
                  · exact fun h => hc6 (h.trans (by decide))
                · exact hp.elim
def B_J21_hashCode_51 (G : wG) (Q : Int32 → wM → Prop) (y0 : Int32) (M : wM) : Prop :=
  Q y0 M
def P_J21_hashCode (G : wG) (p1 : Nat) (M : wM) (Q : Int32 → wM → Prop) : Prop :=
  oAlen .byte M p1 (fun v1 => oIf (v1 = (0 : Int32)) (B_J21_hashCode_51 G Q (0 : Int32) M) (oIf (v1 = (1 : Int32)) (oIald .byte M p1 (0 : Int32) (fun v6 => B_J21_hashCode_51 G Q (v6 &&& (255 : Int32)) M)) (oAlen .byte M p1 (fun v2 => P_J3_vectorizedHashCode G (some p1) (0 : Int32) v2 (0 : Int32) (4 : Int32) M (fun v5 M3 => B_J21_hashCode_51 G Q v5 M3)))))
set_option maxHeartbeats 4000000 in
set_option maxRecDepth 100000 in
theorem P_J21_hashCode_ok {l : Launch} (hl0 : l.stackTraces = false) {G : wG} {p1 : Nat} {M : wM} {Q : Int32 → wM → Prop} (hp : P_J21_hashCode G p1 M Q) : wMet l yJ21_hashCode (ws_ yJ21_hashCode cJ21_hashCode 1 (Option.some Jvm.ClassFile.FieldType.int)) 14 449 G [.ref p1] M 0 (wqI Q) wX0 := by
  refine vx_ofW (cc := cJ21_hashCode) (maxL := 1) (ret := Option.some Jvm.ClassFile.FieldType.int) (by decide) rfl ?_
  intro p e s m args below meth c s₁ B hml hnt hv
  obtain ⟨rfl, hM, hK, hZ, hz⟩ := hv
  have hC : wC G s := ⟨hK, hZ, hz⟩
  have hx := B.exec
  have hb := B.bytes
  have hr := B.returns
  have hts := atoms_spec (ws := (ws_ yJ21_hashCode cJ21_hashCode 1 (Option.some Jvm.ClassFile.FieldType.int))) B.pre
  have hts : ∀ w ∈ lw_all, w.before _ s = true := fun w h => hts w (List.mem_cons_of_mem _ h)
  have hown : s.vm.findClass RJ21 = some m.cls := findClass_of_methodNamed B.named
  have hlk := B.notSynchronized
  have X : CallFix p m c cJ21_hashCode 1 s ([.ref p1] : List Value).toArray lw_all RJ21 := ⟨hx, hb, hml, hown, hts⟩
  have hS : va_S (wA G) s.heap s.heap [] := va_S.rf
  have hl := lv_entry ([.ref p1]) (n := 1) (Nat.le_of_ble_eq_true rfl)
  rw [lg_entry_eq]
  generalize (lg_sl ([.ref p1]) ++ List.replicate (1 - (lg_sl ([.ref p1])).length) Slot.unset).toArray = ls at hl ⊢
  have hl : lv_has ls 1 [(0, .ref p1)] := hl
  have hB51 : ∀ (y0 : Int32) (M : wM) (H : Heap) (locs : List Loc) (ls : Array Slot), B_J21_hashCode_51 G Q y0 M → wR G M H → va_S (wA G) s.heap H locs → lv_has ls 1 [] → W p l e (headSpec (ws_ yJ21_hashCode cJ21_hashCode 1 (Option.some Jvm.ClassFile.FieldType.int)) ({ frames := 14, cells := 0, slots := 0, locals := 449 })).room s m ([.ref p1] : List Value).toArray below meth c H locs 0 0 (vx_MQ below (wQ G (wqI Q)) (wXC G wX0) ([.ref p1] : List Value).toArray s 0 0 (wA G)) (F0 m 51 ls [.int y0]) := by
    intro y0 M H locs ls hp hM hS hl
    exact x_iret X hr hlk hM hS ⟨Nat.le_refl _, Nat.le_refl _⟩ dJ21_hashCode_51 ⟨_, rfl, hp⟩
  refine lv_aload_n hx hb dJ21_hashCode_0 rfl (lv_at hl 0 rfl) ?_
  refine x_alen X hC.1 hM (ty := .byte) (by decide) dJ21_hashCode_1 hp (fun v1 hp => ?_)
  by_cases hc0 : v1 = (0 : Int32)
  · have hp := oIf.t hp hc0
    refine lv_lookup (off := 26) (tgt := 28) hx hb dJ21_hashCode_2 (by decide) (by rw [hc0]; rfl) (by decide) ?_
    refine lv_iconst (v := 0) hx hb dJ21_hashCode_28 (by decide) ?_
    refine lv_goto (tgt := 51) hx hb dJ21_hashCode_29 (by decide) ?_
    exact hB51 _ _ _ _ _ hp hM hS (lv_sub hl [] rfl)
  · have hp := oIf.f hp hc0
    by_cases hc1 : v1 = (1 : Int32)
    · have hp := oIf.t hp hc1
      refine lv_lookup (off := 30) (tgt := 32) hx hb dJ21_hashCode_2 (by decide) (by rw [hc1]; rfl) (by decide) ?_
      refine lv_aload_n hx hb dJ21_hashCode_32 rfl (lv_at hl 0 rfl) ?_
      refine lv_iconst (v := 0) hx hb dJ21_hashCode_33 (by decide) ?_
      refine x_bald X hC.1 hM dJ21_hashCode_34 hp (fun v6 hp => ?_)
      refine lv_sipush (v := 255) hx hb dJ21_hashCode_35 (by decide) ?_
      refine lv_iand hx hb dJ21_hashCode_38 ?_
      refine lv_goto (tgt := 51) hx hb dJ21_hashCode_39 (by decide) ?_
      exact hB51 _ _ _ _ _ hp hM hS (lv_sub hl [] rfl)
    · have hp := oIf.f hp hc1
      refine lv_lookup (off := 40) (tgt := 42) hx hb dJ21_hashCode_2 (by decide) ?_ (by decide) ?_
      · show Op.lookupswitch.offset [(0, 26), (1, 30)] 40 _ = _
        rw [lv_osw hc0 (by decide)]
        rw [lv_osw hc1 (by decide)]
        rfl
      · refine lv_aload_n hx hb dJ21_hashCode_42 rfl (lv_at hl 0 rfl) ?_
        refine lv_iconst (v := 0) hx hb dJ21_hashCode_43 (by decide) ?_
        refine lv_aload_n hx hb dJ21_hashCode_44 rfl (lv_at hl 0 rfl) ?_
        refine x_alen X hC.1 hM (ty := .byte) (by decide) dJ21_hashCode_45 hp (fun v2 hp => ?_)
        refine lv_iconst (v := 0) hx hb dJ21_hashCode_46 (by decide) ?_
        refine lv_iconst (v := 4) hx hb dJ21_hashCode_47 (by decide) ?_
        refine x_call0I (vx_runS (As := [va_rf (some p1), .int (0 : Int32), .int v2, .int (0 : Int32), .int (4 : Int32)]) (rest := []) X (P_J3_vectorizedHashCode_ok (l := l) hl0 hp) (va_cwS 5 hts (lw_S q1176 q1177 q154 q1178) rfl rfl rfl (by decide +kernel) ⟨Nat.le_of_ble_eq_true rfl, Nat.le_of_ble_eq_true rfl⟩) ⟨wPc.blind, w_pre hC hM hS _⟩ rfl rfl hl.1 rfl (lv_room (Nat.le_of_ble_eq_true rfl)) dJ21_hashCode_48 ⟨Nat.le_refl _, Nat.le_refl _⟩) hS ⟨Nat.le_refl _, Nat.le_refl _⟩ (fun _ _ _ _ _ _ h => False.elim h) (fun v5 M3 H locs hp hM hS => ?_)
        exact hB51 _ _ _ _ _ hp hM hS (lv_sub hl [] rfl)

set_option maxRecDepth 100000
def P_J8_get (G : wG) (t0 : Nat) (p1 : Int32) (M : wM) (Q : Option Nat → wM → Prop) : Prop :=
  oIs M t0 17 (P_J8_checkElementIndex G t0 p1 M (fun M1 => oIs M1 t0 17 (P_J8_node G t0 p1 M1 (fun r5 M3 => oRef r5 (fun a6 => oGetR M3 a6 18 0 (fun r7 => Q r7 M3))))))
set_option maxHeartbeats 4000000 in
set_option maxRecDepth 100000 in
theorem P_J8_get_ok {l : Launch} (hl0 : l.stackTraces = false) {G : wG} {t0 : Nat} {p1 : Int32} {M : wM} {Q : Option Nat → wM → Prop} (hp : P_J8_get G t0 p1 M Q) : wMet l yJ8_get (ws_ yJ8_get cJ8_get 2 (Option.some (Jvm.ClassFile.FieldType.object "java/lang/Object"))) 14 442 G [.ref t0, .int p1] M 0 (wqR Q) wX0 := by
  refine vx_ofW (cc := cJ8_get) (maxL := 2) (ret := Option.some (Jvm.ClassFile.FieldType.object "java/lang/Object")) (by decide) rfl ?_
  intro p e s m args below meth c s₁ B hml hnt hv
  obtain ⟨rfl, hM, hK, hZ, hz⟩ := hv
  have hC : wC G s := ⟨hK, hZ, hz⟩
  have hx := B.exec
  have hb := B.bytes
  have hr := B.returns
  have hts := atoms_spec (ws := (ws_ yJ8_get cJ8_get 2 (Option.some (Jvm.ClassFile.FieldType.object "java/lang/Object")))) B.pre
  have hts : ∀ w ∈ lw_all, w.before _ s = true := fun w h => hts w (List.mem_cons_of_mem _ h)
  have hown : s.vm.findClass RJ8 = some m.cls := findClass_of_methodNamed B.named
  have hlk := B.notSynchronized
  have X : CallFix p m c cJ8_get 2 s ([.ref t0, .int p1] : List Value).toArray lw_all RJ8 := ⟨hx, hb, hml, hown, hts⟩
  have hS : va_S (wA G) s.heap s.heap [] := va_S.rf
  have hl := lv_entry ([.ref t0, .int p1]) (n := 2) (Nat.le_of_ble_eq_true rfl)
  rw [lg_entry_eq]
  generalize (lg_sl ([.ref t0, .int p1]) ++ List.replicate (2 - (lg_sl ([.ref t0, .int p1])).length) Slot.unset).toArray = ls at hl ⊢
  have hl : lv_has ls 2 [(0, .ref t0), (1, .int p1)] := hl
  refine lv_aload_n hx hb dJ8_get_0 rfl (lv_at hl 0 rfl) ?_
  refine lv_iload_n hx hb dJ8_get_1 rfl (lv_at hl 1 rfl) ?_
  obtain ⟨hrec, hp⟩ := hp
  refine x_call0V (vx_runV (As := [.int p1]) (rest := []) X (P_J8_checkElementIndex_ok (l := l) hl0 hp) (cwV 1 hts (lw_V q886 q888 qs5 q160 q889) rfl rfl rfl (by decide +kernel) ⟨Nat.le_of_ble_eq_true rfl, Nat.le_of_ble_eq_true rfl⟩) ⟨wPc.blind, w_recv hC.1 hM (ci := 17) (q := (RJ8, TJ8, 4)) rfl hrec, w_pre hC hM hS _⟩ rfl rfl hl.1 rfl (lv_room (Nat.le_of_ble_eq_true rfl)) dJ8_get_2 ⟨Nat.le_refl _, Nat.le_refl _⟩) hS ⟨Nat.le_refl _, Nat.le_refl _⟩ (fun _ _ _ _ _ _ h => False.elim h) (fun M1 H locs hp hM hS => ?_)
  refine lv_aload_n hx hb dJ8_get_5 rfl (lv_at hl 0 rfl) ?_
  refine lv_iload_n hx hb dJ8_get_6 rfl (lv_at hl 1 rfl) ?_
  obtain ⟨hrec, hp⟩ := hp
  refine x_call0R (vx_runV (As := [.int p1]) (rest := []) X (P_J8_node_ok (l := l) hl0 hp) (cwV 1 hts (lw_V q907 q908 q909 q160 q910) rfl rfl rfl (by decide +kernel) ⟨Nat.le_of_ble_eq_true rfl, Nat.le_of_ble_eq_true rfl⟩) ⟨wPc.blind, w_recv hC.1 hM (ci := 17) (q := (RJ8, TJ8, 4)) rfl hrec, w_pre hC hM hS _⟩ rfl rfl hl.1 rfl (lv_room (Nat.le_of_ble_eq_true rfl)) dJ8_get_7 ⟨Nat.le_refl _, Nat.le_refl _⟩) hS ⟨Nat.le_refl _, Nat.le_refl _⟩ (fun _ _ _ _ _ _ h => False.elim h) (fun r5 M3 H locs hp hM hS => ?_)
  obtain ⟨a6, ea, hqa6⟩ := hp
  subst ea
  have hp := hqa6
  refine x_getR X hC.1 hM (ci := 18) (C := RJ6) (T := TJ6) (N := 3) rfl in_J6 0 (by decide) q381 (fun _ h9 => h9) dJ8_get_10 hp (fun r7 hp => ?_)
  exact x_aret (v := r7) X hr (by first | exact Or.inl ⟨_, rfl⟩ | exact Or.inr ⟨_, rfl⟩) hlk hM hS ⟨Nat.le_refl _, Nat.le_refl _⟩ dJ8_get_13 ⟨r7, rfl, hp⟩
def B_X2_queue_120 (G : wG) (rec10 : Nat → Int32 → Nat → Int32 → wM → Nat → Prop) (Q : Option Nat → wM → Prop) (x0 : Nat) (x1 : Int32) (x2 : Nat) (x3 : Int32) (M : wM) (bq : Nat) : Prop :=
  rec10 x0 x1 x2 (x3 + 1) M bq
def B_X2_queue_110 (G : wG) (rec10 : Nat → Int32 → Nat → Int32 → wM → Nat → Prop) (Q : Option Nat → wM → Prop) (x0 : Nat) (x1 : Int32) (x2 : Nat) (x3 : Int32) (x5 : Int32) (M : wM) (bq : Nat) : Prop :=
  ∃ c2, c2 ≤ bq ∧ P_J23_valueOf G x3 c2 M (fun r3 M1 => oIs M1 x2 17 (∃ c5, c5 ≤ (bq - c2) ∧ P_J8_add_2 G x2 x5 r3 c5 M1 (fun M4 => B_X2_queue_120 G rec10 Q x0 x1 x2 x3 M4 ((bq - c2) - c5))))
def B_X2_queue_64 (G : wG) (rec10 : Nat → Int32 → Nat → Int32 → wM → Nat → Prop) (rec64 : Nat → Int32 → Nat → Int32 → Nat → Int32 → wM → Nat → Prop) (Q : Option Nat → wM → Prop) (x0 : Nat) (x1 : Int32) (x2 : Nat) (x3 : Int32) (x4 : Nat) (x5 : Int32) (M : wM) (bq : Nat) : Prop :=
  oIf (x5 ≤ 0) (B_X2_queue_110 G rec10 Q x0 x1 x2 x3 x5 M bq) (oGetA M x0 1 1 (fun a1 => oIs M x2 17 (P_J8_get G x2 (x5 - (1 : Int32)) M (fun r4 M2 => oCast M2 r4 25 (oRef r4 (fun a5 => oIs M2 a5 25 (P_J23_intValue G a5 M2 (fun v8 M6 => oIs M6 a1 16 (P_J2_get G a1 v8 M6 (fun r11 M9 => oCast M9 r11 9 (oRef r11 (fun a12 => oIs M9 x0 1 (P_X2_isAhead G x0 x4 a12 M9 (fun r15 M13 => oIf (r15 = true) (rec64 x0 x1 x2 x3 x4 (x5 + (-1)) M13 bq) (B_X2_queue_110 G rec10 Q x0 x1 x2 x3 x5 M13 bq)))))))))))))))
def L_X2_queue_64 (G : wG) (rec10 : Nat → Int32 → Nat → Int32 → wM → Nat → Prop) (Q : Option Nat → wM → Prop) : Nat → Nat → Int32 → Nat → Int32 → Nat → Int32 → wM → Nat → Prop
  | 0 => fun _ _ _ _ _ _ _ _ => False
  | n + 1 => B_X2_queue_64 G rec10 (L_X2_queue_64 G rec10 Q n) Q
def B_X2_queue_10 (G : wG) (rec10 : Nat → Int32 → Nat → Int32 → wM → Nat → Prop) (Q : Option Nat → wM → Prop) (x0 : Nat) (x1 : Int32) (x2 : Nat) (x3 : Int32) (M : wM) (bq : Nat) : Prop :=
  oGetA M x0 1 1 (fun a1 => oIs M a1 16 (P_J2_size G a1 M (fun v4 M2 => oIf (v4 ≤ x3) (Q (some x2) M2) (oGetA M2 x0 1 1 (fun a5 => oIs M2 a5 16 (P_J2_get G a5 x3 M2 (fun r8 M6 => oCast M6 r8 9 (oRef r8 (fun a9 => oGetI M6 a9 9 2 (fun v10 => oIf (v10 = x1) (oGetI M6 a9 9 4 (fun v11 => oIf (v11 = 0) (oIs M6 x2 17 (P_J8_size G x2 M6 (fun v14 M12 => ∃ n, L_X2_queue_64 G rec10 Q n x0 x1 x2 x3 a9 v14 M12 bq))) (B_X2_queue_120 G rec10 Q x0 x1 x2 x3 M6 bq))) (B_X2_queue_120 G rec10 Q x0 x1 x2 x3 M6 bq)))))))))))
def L_X2_queue_10 (G : wG) (Q : Option Nat → wM → Prop) : Nat → Nat → Int32 → Nat → Int32 → wM → Nat → Prop
  | 0 => fun _ _ _ _ _ _ => False
  | n + 1 => B_X2_queue_10 G (L_X2_queue_10 G Q n) Q
def P_X2_queue (G : wG) (t0 : Nat) (p1 : Int32) (b : Nat) (M : wM) (Q : Option Nat → wM → Prop) : Prop :=
  oNew G M b 17 [.int 0, .int 0, .null, .null] (fun a1 M2 b3 => P_J8_init G a1 M2 (fun M4 => ∃ n, L_X2_queue_10 G Q n t0 p1 a1 (0 : Int32) M4 b3))
set_option maxHeartbeats 4000000 in
set_option maxRecDepth 100000 in
theorem P_X2_queue_ok {l : Launch} (hl0 : l.stackTraces = false) {G : wG} {t0 : Nat} {p1 : Int32} {b : Nat} {M : wM} {Q : Option Nat → wM → Prop} (hp : P_X2_queue G t0 p1 b M Q) : wMet l yX2_queue (ws_ yX2_queue cX2_queue 6 (Option.some (Jvm.ClassFile.FieldType.object "java/util/List"))) 17 509 G [.ref t0, .int p1] M b (wqR Q) wX0 := by
  refine vx_ofW (cc := cX2_queue) (maxL := 6) (ret := Option.some (Jvm.ClassFile.FieldType.object "java/util/List")) (by decide) rfl ?_
  intro p e s m args below meth c s₁ B hml hnt hv
  obtain ⟨rfl, hM, hK, hZ, hz⟩ := hv
  have hC : wC G s := ⟨hK, hZ, hz⟩
  have hx := B.exec
  have hb := B.bytes
  have hr := B.returns
  have hts := atoms_spec (ws := (ws_ yX2_queue cX2_queue 6 (Option.some (Jvm.ClassFile.FieldType.object "java/util/List")))) B.pre
  have hts : ∀ w ∈ lw_all, w.before _ s = true := fun w h => hts w (List.mem_cons_of_mem _ h)
  have hown : s.vm.findClass RX2 = some m.cls := findClass_of_methodNamed B.named
  have hlk := B.notSynchronized
  have X : CallFix p m c cX2_queue 6 s ([.ref t0, .int p1] : List Value).toArray lw_all RX2 := ⟨hx, hb, hml, hown, hts⟩
  have hS : va_S (wA G) s.heap s.heap [] := va_S.rf
  have hl := lv_entry ([.ref t0, .int p1]) (n := 6) (Nat.le_of_ble_eq_true rfl)
  rw [lg_entry_eq]
  generalize (lg_sl ([.ref t0, .int p1]) ++ List.replicate (6 - (lg_sl ([.ref t0, .int p1])).length) Slot.unset).toArray = ls at hl ⊢
  have hl : lv_has ls 6 [(0, .ref t0), (1, .int p1)] := hl
  have hB : 0 + b ≤ ((headSpec (ws_ yX2_queue cX2_queue 6 (Option.some (Jvm.ClassFile.FieldType.object "java/util/List"))) ({ frames := 17, cells := b, slots := b, locals := 509 })).room).cells ∧ 0 + b ≤ ((headSpec (ws_ yX2_queue cX2_queue 6 (Option.some (Jvm.ClassFile.FieldType.object "java/util/List"))) ({ frames := 17, cells := b, slots := b, locals := 509 })).room).slots := ⟨Nat.le_of_eq (Nat.zero_add b), Nat.le_of_eq (Nat.zero_add b)⟩
  have hB120 : ∀ (rec10 : Nat → Int32 → Nat → Int32 → wM → Nat → Prop) (hrec10 : ∀ (x0 : Nat) (x1 : Int32) (x2 : Nat) (x3 : Int32) (M : wM) (bq : Nat) (H : Heap) (locs : List Loc) (ls : Array Slot) (cells slots : Nat), rec10 x0 x1 x2 x3 M bq → wR G M H → va_S (wA G) s.heap H locs → (cells + bq ≤ ((headSpec (ws_ yX2_queue cX2_queue 6 (Option.some (Jvm.ClassFile.FieldType.object "java/util/List"))) ({ frames := 17, cells := b, slots := b, locals := 509 })).room).cells ∧ slots + bq ≤ ((headSpec (ws_ yX2_queue cX2_queue 6 (Option.some (Jvm.ClassFile.FieldType.object "java/util/List"))) ({ frames := 17, cells := b, slots := b, locals := 509 })).room).slots) → lv_has ls 6 [(0, .ref x0), (1, .int x1), (2, .ref x2), (3, .int x3)] → W p l e (headSpec (ws_ yX2_queue cX2_queue 6 (Option.some (Jvm.ClassFile.FieldType.object "java/util/List"))) ({ frames := 17, cells := b, slots := b, locals := 509 })).room s m ([.ref t0, .int p1] : List Value).toArray below meth c H locs cells slots (vx_MQ below (wQ G (wqR Q)) (wXC G wX0) ([.ref t0, .int p1] : List Value).toArray s b b (wA G)) (F0 m 10 ls [])), ∀ (x0 : Nat) (x1 : Int32) (x2 : Nat) (x3 : Int32) (M : wM) (bq : Nat) (H : Heap) (locs : List Loc) (ls : Array Slot) (cells slots : Nat), B_X2_queue_120 G rec10 Q x0 x1 x2 x3 M bq → wR G M H → va_S (wA G) s.heap H locs → (cells + bq ≤ ((headSpec (ws_ yX2_queue cX2_queue 6 (Option.some (Jvm.ClassFile.FieldType.object "java/util/List"))) ({ frames := 17, cells := b, slots := b, locals := 509 })).room).cells ∧ slots + bq ≤ ((headSpec (ws_ yX2_queue cX2_queue 6 (Option.some (Jvm.ClassFile.FieldType.object "java/util/List"))) ({ frames := 17, cells := b, slots := b, locals := 509 })).room).slots) → lv_has ls 6 [(0, .ref x0), (1, .int x1), (2, .ref x2), (3, .int x3)] → W p l e (headSpec (ws_ yX2_queue cX2_queue 6 (Option.some (Jvm.ClassFile.FieldType.object "java/util/List"))) ({ frames := 17, cells := b, slots := b, locals := 509 })).room s m ([.ref t0, .int p1] : List Value).toArray below meth c H locs cells slots (vx_MQ below (wQ G (wqR Q)) (wXC G wX0) ([.ref t0, .int p1] : List Value).toArray s b b (wA G)) (F0 m 120 ls []) := by
    intro rec10 hrec10 x0 x1 x2 x3 M bq H locs ls cells slots hp hM hS hB hl
    refine lv_iinc (v := (x3 + 1)) (lv' := [(3, .int (x3 + 1)), (0, .ref x0), (1, .int x1), (2, .ref x2)]) hx hb dX2_queue_120 hl (k := 3) rfl rfl (by decide) rfl (fun ls hl => ?_)
    refine lv_goto (tgt := 10) hx hb dX2_queue_123 (by decide) ?_
    exact hrec10 _ _ _ _ _ _ _ _ _ _ _ hp hM hS hB (lv_sub hl [1, 2, 3, 0] rfl)
  have hB110 : ∀ (rec10 : Nat → Int32 → Nat → Int32 → wM → Nat → Prop) (hrec10 : ∀ (x0 : Nat) (x1 : Int32) (x2 : Nat) (x3 : Int32) (M : wM) (bq : Nat) (H : Heap) (locs : List Loc) (ls : Array Slot) (cells slots : Nat), rec10 x0 x1 x2 x3 M bq → wR G M H → va_S (wA G) s.heap H locs → (cells + bq ≤ ((headSpec (ws_ yX2_queue cX2_queue 6 (Option.some (Jvm.ClassFile.FieldType.object "java/util/List"))) ({ frames := 17, cells := b, slots := b, locals := 509 })).room).cells ∧ slots + bq ≤ ((headSpec (ws_ yX2_queue cX2_queue 6 (Option.some (Jvm.ClassFile.FieldType.object "java/util/List"))) ({ frames := 17, cells := b, slots := b, locals := 509 })).room).slots) → lv_has ls 6 [(0, .ref x0), (1, .int x1), (2, .ref x2), (3, .int x3)] → W p l e (headSpec (ws_ yX2_queue cX2_queue 6 (Option.some (Jvm.ClassFile.FieldType.object "java/util/List"))) ({ frames := 17, cells := b, slots := b, locals := 509 })).room s m ([.ref t0, .int p1] : List Value).toArray below meth c H locs cells slots (vx_MQ below (wQ G (wqR Q)) (wXC G wX0) ([.ref t0, .int p1] : List Value).toArray s b b (wA G)) (F0 m 10 ls [])), ∀ (x0 : Nat) (x1 : Int32) (x2 : Nat) (x3 : Int32) (x5 : Int32) (M : wM) (bq : Nat) (H : Heap) (locs : List Loc) (ls : Array Slot) (cells slots : Nat), B_X2_queue_110 G rec10 Q x0 x1 x2 x3 x5 M bq → wR G M H → va_S (wA G) s.heap H locs → (cells + bq ≤ ((headSpec (ws_ yX2_queue cX2_queue 6 (Option.some (Jvm.ClassFile.FieldType.object "java/util/List"))) ({ frames := 17, cells := b, slots := b, locals := 509 })).room).cells ∧ slots + bq ≤ ((headSpec (ws_ yX2_queue cX2_queue 6 (Option.some (Jvm.ClassFile.FieldType.object "java/util/List"))) ({ frames := 17, cells := b, slots := b, locals := 509 })).room).slots) → lv_has ls 6 [(0, .ref x0), (1, .int x1), (2, .ref x2), (3, .int x3), (5, .int x5)] → W p l e (headSpec (ws_ yX2_queue cX2_queue 6 (Option.some (Jvm.ClassFile.FieldType.object "java/util/List"))) ({ frames := 17, cells := b, slots := b, locals := 509 })).room s m ([.ref t0, .int p1] : List Value).toArray below meth c H locs cells slots (vx_MQ below (wQ G (wqR Q)) (wXC G wX0) ([.ref t0, .int p1] : List Value).toArray s b b (wA G)) (F0 m 110 ls []) := by
    intro rec10 hrec10 x0 x1 x2 x3 x5 M bq H locs ls cells slots hp hM hS hB hl
    refine lv_aload_n hx hb dX2_queue_110 rfl (lv_at hl 2 rfl) ?_
    refine lv_iload hx hb dX2_queue_111 (lv_at hl 4 rfl) ?_
    refine lv_iload_n hx hb dX2_queue_113 rfl (lv_at hl 3 rfl) ?_
    obtain ⟨c2, hc1, hp⟩ := hp
    refine x_callR (vx_runS (As := [.int x3]) (rest := [.int x5, .ref x2]) X (P_J23_valueOf_ok (l := l) hl0 hp) (va_cwS 1 hts (lw_S q2377 q2378 q175 q2379) rfl rfl rfl (by decide +kernel) ⟨Nat.le_of_ble_eq_true rfl, Nat.le_of_ble_eq_true rfl⟩) ⟨wPc.blind, w_pre hC hM hS _⟩ rfl rfl hl.1 rfl (lv_room (Nat.le_of_ble_eq_true rfl)) dX2_queue_114 (w_room hB hc1)) hS hB hc1 (fun _ _ _ _ _ _ h => False.elim h) (fun r3 M1 H locs hp hM hS hB => ?_)
    obtain ⟨hrec, hp⟩ := hp
    obtain ⟨c5, hc1, hp⟩ := hp
    refine x_callV (vx_runV (As := [.int x5, va_rf r3]) (rest := []) X (P_J8_add_2_ok (l := l) hl0 hp) (cwV 2 hts (lw_V q2396 q2397 q2398 q160 q2399) rfl rfl rfl (by decide +kernel) ⟨Nat.le_of_ble_eq_true rfl, Nat.le_of_ble_eq_true rfl⟩) ⟨wPc.blind, w_recv hC.1 hM (ci := 17) (q := (RJ8, TJ8, 4)) rfl hrec, w_pre hC hM hS _⟩ rfl rfl hl.1 rfl (lv_room (Nat.le_of_ble_eq_true rfl)) dX2_queue_117 (w_room hB hc1)) hS hB hc1 (fun _ _ _ _ _ _ h => False.elim h) (fun M4 H locs hp hM hS hB => ?_)
    exact hB120 rec10 hrec10 _ _ _ _ _ _ _ _ _ _ _ hp hM hS hB (lv_sub hl [0, 1, 2, 3] rfl)
  have hB64 : ∀ (rec10 : Nat → Int32 → Nat → Int32 → wM → Nat → Prop) (hrec10 : ∀ (x0 : Nat) (x1 : Int32) (x2 : Nat) (x3 : Int32) (M : wM) (bq : Nat) (H : Heap) (locs : List Loc) (ls : Array Slot) (cells slots : Nat), rec10 x0 x1 x2 x3 M bq → wR G M H → va_S (wA G) s.heap H locs → (cells + bq ≤ ((headSpec (ws_ yX2_queue cX2_queue 6 (Option.some (Jvm.ClassFile.FieldType.object "java/util/List"))) ({ frames := 17, cells := b, slots := b, locals := 509 })).room).cells ∧ slots + bq ≤ ((headSpec (ws_ yX2_queue cX2_queue 6 (Option.some (Jvm.ClassFile.FieldType.object "java/util/List"))) ({ frames := 17, cells := b, slots := b, locals := 509 })).room).slots) → lv_has ls 6 [(0, .ref x0), (1, .int x1), (2, .ref x2), (3, .int x3)] → W p l e (headSpec (ws_ yX2_queue cX2_queue 6 (Option.some (Jvm.ClassFile.FieldType.object "java/util/List"))) ({ frames := 17, cells := b, slots := b, locals := 509 })).room s m ([.ref t0, .int p1] : List Value).toArray below meth c H locs cells slots (vx_MQ below (wQ G (wqR Q)) (wXC G wX0) ([.ref t0, .int p1] : List Value).toArray s b b (wA G)) (F0 m 10 ls [])) (rec64 : Nat → Int32 → Nat → Int32 → Nat → Int32 → wM → Nat → Prop) (hrec64 : ∀ (x0 : Nat) (x1 : Int32) (x2 : Nat) (x3 : Int32) (x4 : Nat) (x5 : Int32) (M : wM) (bq : Nat) (H : Heap) (locs : List Loc) (ls : Array Slot) (cells slots : Nat), rec64 x0 x1 x2 x3 x4 x5 M bq → wR G M H → va_S (wA G) s.heap H locs → (cells + bq ≤ ((headSpec (ws_ yX2_queue cX2_queue 6 (Option.some (Jvm.ClassFile.FieldType.object "java/util/List"))) ({ frames := 17, cells := b, slots := b, locals := 509 })).room).cells ∧ slots + bq ≤ ((headSpec (ws_ yX2_queue cX2_queue 6 (Option.some (Jvm.ClassFile.FieldType.object "java/util/List"))) ({ frames := 17, cells := b, slots := b, locals := 509 })).room).slots) → lv_has ls 6 [(0, .ref x0), (1, .int x1), (2, .ref x2), (3, .int x3), (4, .ref x4), (5, .int x5)] → W p l e (headSpec (ws_ yX2_queue cX2_queue 6 (Option.some (Jvm.ClassFile.FieldType.object "java/util/List"))) ({ frames := 17, cells := b, slots := b, locals := 509 })).room s m ([.ref t0, .int p1] : List Value).toArray below meth c H locs cells slots (vx_MQ below (wQ G (wqR Q)) (wXC G wX0) ([.ref t0, .int p1] : List Value).toArray s b b (wA G)) (F0 m 64 ls [])), ∀ (x0 : Nat) (x1 : Int32) (x2 : Nat) (x3 : Int32) (x4 : Nat) (x5 : Int32) (M : wM) (bq : Nat) (H : Heap) (locs : List Loc) (ls : Array Slot) (cells slots : Nat), B_X2_queue_64 G rec10 rec64 Q x0 x1 x2 x3 x4 x5 M bq → wR G M H → va_S (wA G) s.heap H locs → (cells + bq ≤ ((headSpec (ws_ yX2_queue cX2_queue 6 (Option.some (Jvm.ClassFile.FieldType.object "java/util/List"))) ({ frames := 17, cells := b, slots := b, locals := 509 })).room).cells ∧ slots + bq ≤ ((headSpec (ws_ yX2_queue cX2_queue 6 (Option.some (Jvm.ClassFile.FieldType.object "java/util/List"))) ({ frames := 17, cells := b, slots := b, locals := 509 })).room).slots) → lv_has ls 6 [(0, .ref x0), (1, .int x1), (2, .ref x2), (3, .int x3), (4, .ref x4), (5, .int x5)] → W p l e (headSpec (ws_ yX2_queue cX2_queue 6 (Option.some (Jvm.ClassFile.FieldType.object "java/util/List"))) ({ frames := 17, cells := b, slots := b, locals := 509 })).room s m ([.ref t0, .int p1] : List Value).toArray below meth c H locs cells slots (vx_MQ below (wQ G (wqR Q)) (wXC G wX0) ([.ref t0, .int p1] : List Value).toArray s b b (wA G)) (F0 m 64 ls []) := by
    intro rec10 hrec10 rec64 hrec64 x0 x1 x2 x3 x4 x5 M bq H locs ls cells slots hp hM hS hB hl
    refine lv_iload hx hb dX2_queue_64 (lv_at hl 5 rfl) ?_
    refine lv_if_le (tgt := 110) hx hb dX2_queue_66 (by decide) (fun hc => ?_) (fun hc => ?_)
    · have hp := oIf.t hp hc
      exact hB110 rec10 hrec10 _ _ _ _ _ _ _ _ _ _ _ _ hp hM hS hB (lv_sub hl [0, 1, 2, 3, 5] rfl)
    · have hp := oIf.f hp hc
      refine lv_aload_n hx hb dX2_queue_69 rfl (lv_at hl 0 rfl) ?_
      refine lv_aload hx hb dX2_queue_70 (lv_at hl 4 rfl) ?_
      refine lv_aload_n hx hb dX2_queue_72 rfl (lv_at hl 0 rfl) ?_
      refine x_getA X hC.1 hM (ci := 1) (C := RX2) (T := TX2) (N := 9) rfl in_X2 1 (by decide) q919 (fun _ h9 => h9) dX2_queue_73 hp (fun a1 hp => ?_)
      refine lv_aload_n hx hb dX2_queue_76 rfl (lv_at hl 2 rfl) ?_
      refine lv_iload hx hb dX2_queue_77 (lv_at hl 5 rfl) ?_
      refine lv_iconst (v := 1) hx hb dX2_queue_79 (by decide) ?_
      refine lv_isub hx hb dX2_queue_80 ?_
      obtain ⟨hrec, hp⟩ := hp
      refine x_call0R (vx_runV (As := [.int (x5 - (1 : Int32))]) (rest := [.ref a1, .ref x4, .ref x0]) X (P_J8_get_ok (l := l) hl0 hp) (cwV 1 hts (lw_V q2369 q883 q3820 q160 q885) rfl rfl rfl (by decide +kernel) ⟨Nat.le_of_ble_eq_true rfl, Nat.le_of_ble_eq_true rfl⟩) ⟨wPc.blind, w_recv hC.1 hM (ci := 17) (q := (RJ8, TJ8, 4)) rfl hrec, w_pre hC hM hS _⟩ rfl rfl hl.1 rfl (lv_room (Nat.le_of_ble_eq_true rfl)) dX2_queue_81 (w_room0 hB)) hS (w_room0 hB) (fun _ _ _ _ _ _ h => False.elim h) (fun r4 M2 H locs hp hM hS => ?_)
      refine x_cast (r := r4) X hC.1 hM q2370 (ci := 25) rfl (Or.inl rfl) dX2_queue_84 hp (fun hp => ?_)
      obtain ⟨a5, ea, hqa5⟩ := hp
      subst ea
      have hp := hqa5
      obtain ⟨hrec, hp⟩ := hp
      refine x_call0I (vx_runV (As := []) (rest := [.ref a1, .ref x4, .ref x0]) X (P_J23_intValue_ok (l := l) hl0 hp) (cwV 0 hts (lw_V q2371 q1328 q1329 q175 q1330) rfl rfl rfl (by decide +kernel) ⟨Nat.le_of_ble_eq_true rfl, Nat.le_of_ble_eq_true rfl⟩) ⟨wPc.blind, w_recv hC.1 hM (ci := 25) (q := (RJ23, TJ23, 1)) rfl hrec, w_pre hC hM hS _⟩ rfl rfl hl.1 rfl (lv_room (Nat.le_of_ble_eq_true rfl)) dX2_queue_87 (w_room0 hB)) hS (w_room0 hB) (fun _ _ _ _ _ _ h => False.elim h) (fun v8 M6 H locs hp hM hS => ?_)
      obtain ⟨hrec, hp⟩ := hp
      refine x_call0R5 (vx_runF (hC.1.1.1 16 (RJ2, TJ2, 3) rfl).2 (C := "java/util/ArrayList") (As := [.int v8]) (rest := [.ref x4, .ref x0]) X (P_J2_get_ok (l := l) hl0 hp) (va_cwF 1 hts (lw_app (w_mem4 q519 q522 q524 q153) (lw_meth q526)) rfl rfl rfl (wfw_8 hC.1) (by decide +kernel) ⟨Nat.le_of_ble_eq_true rfl, Nat.le_of_ble_eq_true rfl⟩) ⟨wPc.blind, w_recv hC.1 hM (ci := 16) (q := (RJ2, TJ2, 3)) rfl hrec, w_pre hC hM hS _⟩ rfl rfl hl.1 rfl (lv_room (Nat.le_of_ble_eq_true rfl)) dX2_queue_90 (w_room0 hB)) hS (w_room0 hB) (fun _ _ _ _ _ _ h => False.elim h) (fun r11 M9 H locs hp hM hS => ?_)
      refine x_cast (r := r11) X hC.1 hM q2070 (ci := 9) rfl (Or.inl rfl) dX2_queue_95 hp (fun hp => ?_)
      obtain ⟨a12, ea, hqa12⟩ := hp
      subst ea
      have hp := hqa12
      obtain ⟨hrec, hp⟩ := hp
      refine x_call0Z (vx_runV (As := [.ref x4, .ref a12]) (rest := []) X (P_X2_isAhead_ok (l := l) hl0 hp) (cwV 2 hts (lw_V q2372 q2374 qs42 q149 q2375) rfl rfl rfl (by decide +kernel) ⟨Nat.le_of_ble_eq_true rfl, Nat.le_of_ble_eq_true rfl⟩) ⟨wPc.blind, w_recv hC.1 hM (ci := 1) (q := (RX2, TX2, 9)) rfl hrec, w_pre hC hM hS _⟩ rfl rfl hl.1 rfl (lv_room (Nat.le_of_ble_eq_true rfl)) dX2_queue_98 (w_room0 hB)) hS (w_room0 hB) (fun _ _ _ _ _ _ h => False.elim h) (fun r15 M13 H locs hp hM hS => ?_)
      refine x_ifeqB (tgt := 110) hx hb dX2_queue_101 (by decide) (fun hc => ?_) (fun hc => ?_)
      · have hp := oIf.bf hp hc
        exact hB110 rec10 hrec10 _ _ _ _ _ _ _ _ _ _ _ _ hp hM hS hB (lv_sub hl [0, 1, 2, 3, 5] rfl)
      · have hp := oIf.bt hp hc
        refine lv_iinc (v := (x5 + (-1))) (lv' := [(5, .int (x5 + (-1))), (0, .ref x0), (1, .int x1), (2, .ref x2), (3, .int x3), (4, .ref x4)]) hx hb dX2_queue_104 hl (k := 5) rfl rfl (by decide) rfl (fun ls hl => ?_)
        refine lv_goto (tgt := 64) hx hb dX2_queue_107 (by decide) ?_
        exact hrec64 _ _ _ _ _ _ _ _ _ _ _ _ _ hp hM hS hB (lv_sub hl [1, 2, 3, 4, 5, 0] rfl)
  have hL64 : ∀ (rec10 : Nat → Int32 → Nat → Int32 → wM → Nat → Prop) (hrec10 : ∀ (x0 : Nat) (x1 : Int32) (x2 : Nat) (x3 : Int32) (M : wM) (bq : Nat) (H : Heap) (locs : List Loc) (ls : Array Slot) (cells slots : Nat), rec10 x0 x1 x2 x3 M bq → wR G M H → va_S (wA G) s.heap H locs → (cells + bq ≤ ((headSpec (ws_ yX2_queue cX2_queue 6 (Option.some (Jvm.ClassFile.FieldType.object "java/util/List"))) ({ frames := 17, cells := b, slots := b, locals := 509 })).room).cells ∧ slots + bq ≤ ((headSpec (ws_ yX2_queue cX2_queue 6 (Option.some (Jvm.ClassFile.FieldType.object "java/util/List"))) ({ frames := 17, cells := b, slots := b, locals := 509 })).room).slots) → lv_has ls 6 [(0, .ref x0), (1, .int x1), (2, .ref x2), (3, .int x3)] → W p l e (headSpec (ws_ yX2_queue cX2_queue 6 (Option.some (Jvm.ClassFile.FieldType.object "java/util/List"))) ({ frames := 17, cells := b, slots := b, locals := 509 })).room s m ([.ref t0, .int p1] : List Value).toArray below meth c H locs cells slots (vx_MQ below (wQ G (wqR Q)) (wXC G wX0) ([.ref t0, .int p1] : List Value).toArray s b b (wA G)) (F0 m 10 ls [])) (n : Nat), ∀ (x0 : Nat) (x1 : Int32) (x2 : Nat) (x3 : Int32) (x4 : Nat) (x5 : Int32) (M : wM) (bq : Nat) (H : Heap) (locs : List Loc) (ls : Array Slot) (cells slots : Nat), L_X2_queue_64 G rec10 Q n x0 x1 x2 x3 x4 x5 M bq → wR G M H → va_S (wA G) s.heap H locs → (cells + bq ≤ ((headSpec (ws_ yX2_queue cX2_queue 6 (Option.some (Jvm.ClassFile.FieldType.object "java/util/List"))) ({ frames := 17, cells := b, slots := b, locals := 509 })).room).cells ∧ slots + bq ≤ ((headSpec (ws_ yX2_queue cX2_queue 6 (Option.some (Jvm.ClassFile.FieldType.object "java/util/List"))) ({ frames := 17, cells := b, slots := b, locals := 509 })).room).slots) → lv_has ls 6 [(0, .ref x0), (1, .int x1), (2, .ref x2), (3, .int x3), (4, .ref x4), (5, .int x5)] → W p l e (headSpec (ws_ yX2_queue cX2_queue 6 (Option.some (Jvm.ClassFile.FieldType.object "java/util/List"))) ({ frames := 17, cells := b, slots := b, locals := 509 })).room s m ([.ref t0, .int p1] : List Value).toArray below meth c H locs cells slots (vx_MQ below (wQ G (wqR Q)) (wXC G wX0) ([.ref t0, .int p1] : List Value).toArray s b b (wA G)) (F0 m 64 ls []) := by
    intro rec10 hrec10 n
    induction n with
    | zero => intro _ _ _ _ _ _ _ _ _ _ _ _ _ hp; exact False.elim hp
    | succ n ih => intro x0 x1 x2 x3 x4 x5 M bq H locs ls cells slots hp hM hS hB hl; exact hB64 rec10 hrec10 (L_X2_queue_64 G rec10 Q n) ih _ _ _ _ _ _ _ _ _ _ _ _ _ hp hM hS hB hl
  have hB10 : ∀ (rec10 : Nat → Int32 → Nat → Int32 → wM → Nat → Prop) (hrec10 : ∀ (x0 : Nat) (x1 : Int32) (x2 : Nat) (x3 : Int32) (M : wM) (bq : Nat) (H : Heap) (locs : List Loc) (ls : Array Slot) (cells slots : Nat), rec10 x0 x1 x2 x3 M bq → wR G M H → va_S (wA G) s.heap H locs → (cells + bq ≤ ((headSpec (ws_ yX2_queue cX2_queue 6 (Option.some (Jvm.ClassFile.FieldType.object "java/util/List"))) ({ frames := 17, cells := b, slots := b, locals := 509 })).room).cells ∧ slots + bq ≤ ((headSpec (ws_ yX2_queue cX2_queue 6 (Option.some (Jvm.ClassFile.FieldType.object "java/util/List"))) ({ frames := 17, cells := b, slots := b, locals := 509 })).room).slots) → lv_has ls 6 [(0, .ref x0), (1, .int x1), (2, .ref x2), (3, .int x3)] → W p l e (headSpec (ws_ yX2_queue cX2_queue 6 (Option.some (Jvm.ClassFile.FieldType.object "java/util/List"))) ({ frames := 17, cells := b, slots := b, locals := 509 })).room s m ([.ref t0, .int p1] : List Value).toArray below meth c H locs cells slots (vx_MQ below (wQ G (wqR Q)) (wXC G wX0) ([.ref t0, .int p1] : List Value).toArray s b b (wA G)) (F0 m 10 ls [])), ∀ (x0 : Nat) (x1 : Int32) (x2 : Nat) (x3 : Int32) (M : wM) (bq : Nat) (H : Heap) (locs : List Loc) (ls : Array Slot) (cells slots : Nat), B_X2_queue_10 G rec10 Q x0 x1 x2 x3 M bq → wR G M H → va_S (wA G) s.heap H locs → (cells + bq ≤ ((headSpec (ws_ yX2_queue cX2_queue 6 (Option.some (Jvm.ClassFile.FieldType.object "java/util/List"))) ({ frames := 17, cells := b, slots := b, locals := 509 })).room).cells ∧ slots + bq ≤ ((headSpec (ws_ yX2_queue cX2_queue 6 (Option.some (Jvm.ClassFile.FieldType.object "java/util/List"))) ({ frames := 17, cells := b, slots := b, locals := 509 })).room).slots) → lv_has ls 6 [(0, .ref x0), (1, .int x1), (2, .ref x2), (3, .int x3)] → W p l e (headSpec (ws_ yX2_queue cX2_queue 6 (Option.some (Jvm.ClassFile.FieldType.object "java/util/List"))) ({ frames := 17, cells := b, slots := b, locals := 509 })).room s m ([.ref t0, .int p1] : List Value).toArray below meth c H locs cells slots (vx_MQ below (wQ G (wqR Q)) (wXC G wX0) ([.ref t0, .int p1] : List Value).toArray s b b (wA G)) (F0 m 10 ls []) := by
    intro rec10 hrec10 x0 x1 x2 x3 M bq H locs ls cells slots hp hM hS hB hl
    refine lv_iload_n hx hb dX2_queue_10 rfl (lv_at hl 3 rfl) ?_
    refine lv_aload_n hx hb dX2_queue_11 rfl (lv_at hl 0 rfl) ?_
    refine x_getA X hC.1 hM (ci := 1) (C := RX2) (T := TX2) (N := 9) rfl in_X2 1 (by decide) q919 (fun _ h9 => h9) dX2_queue_12 hp (fun a1 hp => ?_)
    obtain ⟨hrec, hp⟩ := hp
    refine x_call0I5 (vx_runF (hC.1.1.1 16 (RJ2, TJ2, 3) rfl).2 (C := "java/util/ArrayList") (As := []) (rest := [.int x3]) X (P_J2_size_ok (l := l) hl0 hp) (va_cwF 0 hts (lw_app (w_mem4 q493 q496 q498 q153) (lw_meth q500)) rfl rfl rfl (wfw_13 hC.1) (by decide +kernel) ⟨Nat.le_of_ble_eq_true rfl, Nat.le_of_ble_eq_true rfl⟩) ⟨wPc.blind, w_recv hC.1 hM (ci := 16) (q := (RJ2, TJ2, 3)) rfl hrec, w_pre hC hM hS _⟩ rfl rfl hl.1 rfl (lv_room (Nat.le_of_ble_eq_true rfl)) dX2_queue_15 (w_room0 hB)) hS (w_room0 hB) (fun _ _ _ _ _ _ h => False.elim h) (fun v4 M2 H locs hp hM hS => ?_)
    refine lv_icmp_ge (tgt := 126) hx hb dX2_queue_20 (by decide) (fun hc => ?_) (fun hc => ?_)
    · have hp := oIf.t hp hc
      refine lv_aload_n hx hb dX2_queue_126 rfl (lv_at hl 2 rfl) ?_
      exact x_aret (v := (some x2)) X hr (by first | exact Or.inl ⟨_, rfl⟩ | exact Or.inr ⟨_, rfl⟩) hlk hM hS (w_fin hB) dX2_queue_127 ⟨(some x2), rfl, hp⟩
    · have hp := oIf.f hp hc
      refine lv_aload_n hx hb dX2_queue_23 rfl (lv_at hl 0 rfl) ?_
      refine x_getA X hC.1 hM (ci := 1) (C := RX2) (T := TX2) (N := 9) rfl in_X2 1 (by decide) q919 (fun _ h9 => h9) dX2_queue_24 hp (fun a5 hp => ?_)
      refine lv_iload_n hx hb dX2_queue_27 rfl (lv_at hl 3 rfl) ?_
      obtain ⟨hrec, hp⟩ := hp
      refine x_call0R5 (vx_runF (hC.1.1.1 16 (RJ2, TJ2, 3) rfl).2 (C := "java/util/ArrayList") (As := [.int x3]) (rest := []) X (P_J2_get_ok (l := l) hl0 hp) (va_cwF 1 hts (lw_app (w_mem4 q519 q522 q524 q153) (lw_meth q526)) rfl rfl rfl (wfw_8 hC.1) (by decide +kernel) ⟨Nat.le_of_ble_eq_true rfl, Nat.le_of_ble_eq_true rfl⟩) ⟨wPc.blind, w_recv hC.1 hM (ci := 16) (q := (RJ2, TJ2, 3)) rfl hrec, w_pre hC hM hS _⟩ rfl rfl hl.1 rfl (lv_room (Nat.le_of_ble_eq_true rfl)) dX2_queue_28 (w_room0 hB)) hS (w_room0 hB) (fun _ _ _ _ _ _ h => False.elim h) (fun r8 M6 H locs hp hM hS => ?_)
      refine x_cast (r := r8) X hC.1 hM q2070 (ci := 9) rfl (Or.inl rfl) dX2_queue_33 hp (fun hp => ?_)
      refine x_astore (r := r8) (lv' := [(4, va_rf r8), (0, .ref x0), (1, .int x1), (2, .ref x2), (3, .int x3)]) hx hb dX2_queue_36 hl (by decide) rfl (fun ls hl => ?_)
      refine x_aload (r := r8) hx hb dX2_queue_38 (lv_at hl 0 rfl) ?_
      obtain ⟨a9, ea, hqa9⟩ := hp
      subst ea
      have hp := hqa9
      have hl : lv_has ls 6 [(4, .ref a9), (0, .ref x0), (1, .int x1), (2, .ref x2), (3, .int x3)] := hl
      refine x_getIN X hC.1 hM (ci := 9) (C := RX12) (T := TX12) (N := 8) rfl in_X12 2 (by decide) q2085 (fun _ h9 => h9) dX2_queue_40 hp (fun v10 hp => ?_)
      refine lv_iload_n hx hb dX2_queue_43 rfl (lv_at hl 2 rfl) ?_
      refine lv_icmp_ne (tgt := 120) hx hb dX2_queue_44 (by decide) (fun hc => ?_) (fun hc => ?_)
      · have hp := oIf.f hp hc
        exact hB120 rec10 hrec10 _ _ _ _ _ _ _ _ _ _ _ hp hM hS hB (lv_sub hl [1, 2, 3, 4] rfl)
      · have hp := oIf.t hp hc
        refine lv_aload hx hb dX2_queue_47 (lv_at hl 0 rfl) ?_
        refine x_getIN X hC.1 hM (ci := 9) (C := RX12) (T := TX12) (N := 8) rfl in_X12 4 (by decide) q2090 (fun _ h9 => h9) dX2_queue_49 hp (fun v11 hp => ?_)
        refine lv_if_eq (tgt := 58) hx hb dX2_queue_52 (by decide) (fun hc => ?_) (fun hc => ?_)
        · have hp := oIf.t hp hc
          refine lv_aload_n hx hb dX2_queue_58 rfl (lv_at hl 3 rfl) ?_
          obtain ⟨hrec, hp⟩ := hp
          refine x_call0I (vx_runV (As := []) (rest := []) X (P_J8_size_ok (l := l) hl0 hp) (cwV 0 hts (lw_V q2368 q515 q3810 q160 q517) rfl rfl rfl (by decide +kernel) ⟨Nat.le_of_ble_eq_true rfl, Nat.le_of_ble_eq_true rfl⟩) ⟨wPc.blind, w_recv hC.1 hM (ci := 17) (q := (RJ8, TJ8, 4)) rfl hrec, w_pre hC hM hS _⟩ rfl rfl hl.1 rfl (lv_room (Nat.le_of_ble_eq_true rfl)) dX2_queue_59 (w_room0 hB)) hS (w_room0 hB) (fun _ _ _ _ _ _ h => False.elim h) (fun v14 M12 H locs hp hM hS => ?_)
          refine lv_istore (lv' := [(5, .int v14), (4, .ref a9), (0, .ref x0), (1, .int x1), (2, .ref x2), (3, .int x3)]) hx hb dX2_queue_62 hl (by decide) rfl (fun ls hl => ?_)
          obtain ⟨n, hp⟩ := hp
          exact hL64 rec10 hrec10 n _ _ _ _ _ _ _ _ _ _ _ _ _ hp hM hS hB (lv_sub hl [2, 3, 4, 5, 1, 0] rfl)
        · have hp := oIf.f hp hc
          refine lv_goto (tgt := 120) hx hb dX2_queue_55 (by decide) ?_
          exact hB120 rec10 hrec10 _ _ _ _ _ _ _ _ _ _ _ hp hM hS hB (lv_sub hl [1, 2, 3, 4] rfl)
  have hL10 : ∀ (n : Nat), ∀ (x0 : Nat) (x1 : Int32) (x2 : Nat) (x3 : Int32) (M : wM) (bq : Nat) (H : Heap) (locs : List Loc) (ls : Array Slot) (cells slots : Nat), L_X2_queue_10 G Q n x0 x1 x2 x3 M bq → wR G M H → va_S (wA G) s.heap H locs → (cells + bq ≤ ((headSpec (ws_ yX2_queue cX2_queue 6 (Option.some (Jvm.ClassFile.FieldType.object "java/util/List"))) ({ frames := 17, cells := b, slots := b, locals := 509 })).room).cells ∧ slots + bq ≤ ((headSpec (ws_ yX2_queue cX2_queue 6 (Option.some (Jvm.ClassFile.FieldType.object "java/util/List"))) ({ frames := 17, cells := b, slots := b, locals := 509 })).room).slots) → lv_has ls 6 [(0, .ref x0), (1, .int x1), (2, .ref x2), (3, .int x3)] → W p l e (headSpec (ws_ yX2_queue cX2_queue 6 (Option.some (Jvm.ClassFile.FieldType.object "java/util/List"))) ({ frames := 17, cells := b, slots := b, locals := 509 })).room s m ([.ref t0, .int p1] : List Value).toArray below meth c H locs cells slots (vx_MQ below (wQ G (wqR Q)) (wXC G wX0) ([.ref t0, .int p1] : List Value).toArray s b b (wA G)) (F0 m 10 ls []) := by
    intro n
    induction n with
    | zero => intro _ _ _ _ _ _ _ _ _ _ _ hp; exact False.elim hp
    | succ n ih => intro x0 x1 x2 x3 M bq H locs ls cells slots hp hM hS hB hl; exact hB10 (L_X2_queue_10 G Q n) ih _ _ _ _ _ _ _ _ _ _ _ hp hM hS hB hl
  refine x_new X hC hM hS hB (ci := 17) (C := RJ8) (T := TJ8) (N := 4) rfl in_J8 tyJ8 tyJ8_ok q447 q448 q160 rfl (by decide) dX2_queue_0 hp (fun a1 M2 H b3 cells slots hM hS hB hp => ?_)
  refine lv_dup hx hb dX2_queue_3 rfl ?_
  refine x_call0V (vx_runI (As := []) (rest := [.ref a1]) X (P_J8_init_ok (l := l) hl0 hp) (cwI 0 hts (lw_meth q451) rfl rfl rfl (hts _ q160) (hts _ q449) (hts _ q450) rfl (by decide +kernel) ⟨Nat.le_of_ble_eq_true rfl, Nat.le_of_ble_eq_true rfl⟩) ⟨wPc.blind, w_pre hC hM hS _⟩ rfl rfl hl.1 rfl (lv_room (Nat.le_of_ble_eq_true rfl)) dX2_queue_4 (w_room0 hB)) hS (w_room0 hB) (fun _ _ _ _ _ _ h => False.elim h) (fun M4 H locs hp hM hS => ?_)
  refine lv_astore_n (lv' := [(2, .ref a1), (0, .ref t0), (1, .int p1)]) hx hb dX2_queue_7 rfl hl (by decide) rfl (fun ls hl => ?_)
  refine lv_iconst (v := 0) hx hb dX2_queue_8 (by decide) ?_
  refine lv_istore_n (lv' := [(3, .int (0 : Int32)), (2, .ref a1), (0, .ref t0), (1, .int p1)]) hx hb dX2_queue_9 rfl hl (by decide) rfl (fun ls hl => ?_)
  obtain ⟨n, hp⟩ := hp
  exact hL10 n _ _ _ _ _ _ _ _ _ _ _ hp hM hS hB (lv_sub hl [2, 3, 1, 0] rfl)
def B_X1_printZone_27 (G : wG) (rec27 : Nat → Int32 → Option Nat → wM → Nat → Prop) (Q : Int32 → wM → Prop) (Xp : String → Nat → wM → Prop) (x0 : Nat) (x1 : Int32) (x2 : Option Nat) (M : wM) (bq : Nat) : Prop :=
  oRef x2 (fun a1 => oIs M a1 19 (P_J36_hasNext G a1 M (fun r4 M2 => oIf (r4 = true) (oIs M2 a1 19 (P_J36_next G a1 M2 (fun r15 M13 => oCast M13 r15 25 (oRef r15 (fun a16 => oIs M13 a16 25 (P_J23_intValue G a16 M13 (fun v19 M17 => oIs M17 x0 0 (∃ c21, c21 ≤ bq ∧ P_X1_write G x0 (119 : Int32) v19 c21 M17 (fun M20 => rec27 x0 x1 (some a1) M20 (bq - c21)))))))))) (oIs M2 x0 0 (∃ c6, c6 ≤ bq ∧ P_X1_writeAll G x0 (111 : Int32) x1 (1 : Int32) c6 M2 (fun M5 => oIs M5 x0 0 (∃ c8, c8 ≤ (bq - c6) ∧ P_X1_writeAll G x0 (118 : Int32) x1 (2 : Int32) c8 M5 (fun M7 => oGetA M7 x0 0 7 (fun a9 => oIs M7 a9 23 (P_J18_length G a9 M7 (fun v12 M10 => Q v12 M10)))))))))))
def L_X1_printZone_27 (G : wG) (Q : Int32 → wM → Prop) (Xp : String → Nat → wM → Prop) : Nat → Nat → Int32 → Option Nat → wM → Nat → Prop
  | 0 => fun _ _ _ _ _ => False
  | n + 1 => B_X1_printZone_27 G (L_X1_printZone_27 G Q Xp n) Q Xp
def P_X1_printZone (G : wG) (t0 : Nat) (p1 : Int32) (b : Nat) (M : wM) (Q : Int32 → wM → Prop) (Xp : String → Nat → wM → Prop) : Prop :=
  oIs M t0 0 (∃ c2, c2 ≤ b ∧ P_X1_checkZone G t0 p1 c2 M (fun M1 => oGetA M1 t0 0 7 (fun a3 => oIs M1 a3 23 (∃ c5, c5 ≤ (b - c2) ∧ P_J18_setLength G a3 (0 : Int32) c5 M1 (fun M4 => oGetA M4 t0 0 0 (fun a6 => oIs M4 a6 1 (∃ c8, c8 ≤ ((b - c2) - c5) ∧ P_X2_queue G a6 p1 c8 M4 (fun r9 M7 => oRef r9 (fun a10 => oIs M7 a10 17 (∃ c12, c12 ≤ (((b - c2) - c5) - c8) ∧ P_J7_iterator_J8 G a10 c12 M7 (fun r13 M11 => ∃ n, L_X1_printZone_27 G Q Xp n t0 p1 r13 M11 ((((b - c2) - c5) - c8) - c12))))))))))) (fun E q14 M15 => (E = "java/lang/IndexOutOfBoundsException" ∧ Xp E q14 M15)))
set_option maxHeartbeats 4000000 in
set_option maxRecDepth 100000 in
theorem P_X1_printZone_ok {l : Launch} (hl0 : l.stackTraces = false) {G : wG} {t0 : Nat} {p1 : Int32} {b : Nat} {M : wM} {Q : Int32 → wM → Prop} {Xp : String → Nat → wM → Prop} (hp : P_X1_printZone G t0 p1 b M Q Xp) : wMet l yX1_printZone (ws_ yX1_printZone cX1_printZone 4 (Option.some Jvm.ClassFile.FieldType.int)) 20 582 G [.ref t0, .int p1] M b (wqI Q) Xp := by
  refine vx_ofW (cc := cX1_printZone) (maxL := 4) (ret := Option.some Jvm.ClassFile.FieldType.int) (by decide) rfl ?_
  intro p e s m args below meth c s₁ B hml hnt hv
  obtain ⟨rfl, hM, hK, hZ, hz⟩ := hv
  have hC : wC G s := ⟨hK, hZ, hz⟩
  have hx := B.exec
  have hb := B.bytes
  have hr := B.returns
  have hts := atoms_spec (ws := (ws_ yX1_printZone cX1_printZone 4 (Option.some Jvm.ClassFile.FieldType.int))) B.pre
  have hts : ∀ w ∈ lw_all, w.before _ s = true := fun w h => hts w (List.mem_cons_of_mem _ h)
  have hown : s.vm.findClass RX1 = some m.cls := findClass_of_methodNamed B.named
  have hlk := B.notSynchronized
  have X : CallFix p m c cX1_printZone 4 s ([.ref t0, .int p1] : List Value).toArray lw_all RX1 := ⟨hx, hb, hml, hown, hts⟩
  have hS : va_S (wA G) s.heap s.heap [] := va_S.rf
  have hl := lv_entry ([.ref t0, .int p1]) (n := 4) (Nat.le_of_ble_eq_true rfl)
  rw [lg_entry_eq]
  generalize (lg_sl ([.ref t0, .int p1]) ++ List.replicate (4 - (lg_sl ([.ref t0, .int p1])).length) Slot.unset).toArray = ls at hl ⊢
  have hl : lv_has ls 4 [(0, .ref t0), (1, .int p1)] := hl
  have hB : 0 + b ≤ ((headSpec (ws_ yX1_printZone cX1_printZone 4 (Option.some Jvm.ClassFile.FieldType.int)) ({ frames := 20, cells := b, slots := b, locals := 582 })).room).cells ∧ 0 + b ≤ ((headSpec (ws_ yX1_printZone cX1_printZone 4 (Option.some Jvm.ClassFile.FieldType.int)) ({ frames := 20, cells := b, slots := b, locals := 582 })).room).slots := ⟨Nat.le_of_eq (Nat.zero_add b), Nat.le_of_eq (Nat.zero_add b)⟩
  have hB27 : ∀ (rec27 : Nat → Int32 → Option Nat → wM → Nat → Prop) (hrec27 : ∀ (x0 : Nat) (x1 : Int32) (x2 : Option Nat) (M : wM) (bq : Nat) (H : Heap) (locs : List Loc) (ls : Array Slot) (cells slots : Nat), rec27 x0 x1 x2 M bq → wR G M H → va_S (wA G) s.heap H locs → (cells + bq ≤ ((headSpec (ws_ yX1_printZone cX1_printZone 4 (Option.some Jvm.ClassFile.FieldType.int)) ({ frames := 20, cells := b, slots := b, locals := 582 })).room).cells ∧ slots + bq ≤ ((headSpec (ws_ yX1_printZone cX1_printZone 4 (Option.some Jvm.ClassFile.FieldType.int)) ({ frames := 20, cells := b, slots := b, locals := 582 })).room).slots) → lv_has ls 4 [(0, .ref x0), (1, .int x1), (2, va_rf x2)] → W p l e (headSpec (ws_ yX1_printZone cX1_printZone 4 (Option.some Jvm.ClassFile.FieldType.int)) ({ frames := 20, cells := b, slots := b, locals := 582 })).room s m ([.ref t0, .int p1] : List Value).toArray below meth c H locs cells slots (vx_MQ below (wQ G (wqI Q)) (wXC G Xp) ([.ref t0, .int p1] : List Value).toArray s b b (wA G)) (F0 m 27 ls [])), ∀ (x0 : Nat) (x1 : Int32) (x2 : Option Nat) (M : wM) (bq : Nat) (H : Heap) (locs : List Loc) (ls : Array Slot) (cells slots : Nat), B_X1_printZone_27 G rec27 Q Xp x0 x1 x2 M bq → wR G M H → va_S (wA G) s.heap H locs → (cells + bq ≤ ((headSpec (ws_ yX1_printZone cX1_printZone 4 (Option.some Jvm.ClassFile.FieldType.int)) ({ frames := 20, cells := b, slots := b, locals := 582 })).room).cells ∧ slots + bq ≤ ((headSpec (ws_ yX1_printZone cX1_printZone 4 (Option.some Jvm.ClassFile.FieldType.int)) ({ frames := 20, cells := b, slots := b, locals := 582 })).room).slots) → lv_has ls 4 [(0, .ref x0), (1, .int x1), (2, va_rf x2)] → W p l e (headSpec (ws_ yX1_printZone cX1_printZone 4 (Option.some Jvm.ClassFile.FieldType.int)) ({ frames := 20, cells := b, slots := b, locals := 582 })).room s m ([.ref t0, .int p1] : List Value).toArray below meth c H locs cells slots (vx_MQ below (wQ G (wqI Q)) (wXC G Xp) ([.ref t0, .int p1] : List Value).toArray s b b (wA G)) (F0 m 27 ls []) := by
    intro rec27 hrec27 x0 x1 x2 M bq H locs ls cells slots hp hM hS hB hl
    refine x_aload_n (r := x2) hx hb dX1_printZone_27 rfl (lv_at hl 2 rfl) ?_
    obtain ⟨a1, ea, hqa1⟩ := hp
    subst ea
    have hp := hqa1
    have hl : lv_has ls 4 [(0, .ref x0), (1, .int x1), (2, .ref a1)] := hl
    obtain ⟨hrec, hp⟩ := hp
    refine x_call0Z5 (vx_runF (hC.1.1.1 19 (RJ36, TJ36, 5) rfl).2 (C := "java/util/LinkedList$ListItr") (As := []) (rest := []) X (P_J36_hasNext_ok (l := l) hl0 hp) (va_cwF 0 hts (lw_app (w_mem4 q2016 q1818 q1820 q195) (lw_meth q1822)) rfl rfl rfl (wfw_37 hC.1) (by decide +kernel) ⟨Nat.le_of_ble_eq_true rfl, Nat.le_of_ble_eq_true rfl⟩) ⟨wPc.blind, w_recv hC.1 hM (ci := 19) (q := (RJ36, TJ36, 5)) rfl hrec, w_pre hC hM hS _⟩ rfl rfl hl.1 rfl (lv_room (Nat.le_of_ble_eq_true rfl)) dX1_printZone_28 (w_room0 hB)) hS (w_room0 hB) (fun _ _ _ _ _ _ h => False.elim h) (fun r4 M2 H locs hp hM hS => ?_)
    refine x_ifeqB (tgt := 59) hx hb dX1_printZone_33 (by decide) (fun hc => ?_) (fun hc => ?_)
    · have hp := oIf.bf hp hc
      refine lv_aload_n hx hb dX1_printZone_59 rfl (lv_at hl 0 rfl) ?_
      refine lv_bipush (v := 111) hx hb dX1_printZone_60 (by decide) ?_
      refine lv_iload_n hx hb dX1_printZone_62 rfl (lv_at hl 1 rfl) ?_
      refine lv_iconst (v := 1) hx hb dX1_printZone_63 (by decide) ?_
      obtain ⟨hrec, hp⟩ := hp
      obtain ⟨c6, hc1, hp⟩ := hp
      refine x_callV (vx_runV (As := [.int (111 : Int32), .int x1, .int (1 : Int32)]) (rest := []) X (P_X1_writeAll_ok (l := l) hl0 hp) (cwV 3 hts (lw_V q3113 q3115 qs61 q148 q3116) rfl rfl rfl (by decide +kernel) ⟨Nat.le_of_ble_eq_true rfl, Nat.le_of_ble_eq_true rfl⟩) ⟨wPc.blind, w_recv hC.1 hM (ci := 0) (q := (RX1, TX1, 8)) rfl hrec, w_pre hC hM hS _⟩ rfl rfl hl.1 rfl (lv_room (Nat.le_of_ble_eq_true rfl)) dX1_printZone_64 (w_room hB hc1)) hS hB hc1 (fun _ _ _ _ _ _ h => False.elim h) (fun M5 H locs hp hM hS hB => ?_)
      refine lv_aload_n hx hb dX1_printZone_67 rfl (lv_at hl 0 rfl) ?_
      refine lv_bipush (v := 118) hx hb dX1_printZone_68 (by decide) ?_
      refine lv_iload_n hx hb dX1_printZone_70 rfl (lv_at hl 1 rfl) ?_
      refine lv_iconst (v := 2) hx hb dX1_printZone_71 (by decide) ?_
      obtain ⟨hrec, hp⟩ := hp
      obtain ⟨c8, hc1, hp⟩ := hp
      refine x_callV (vx_runV (As := [.int (118 : Int32), .int x1, .int (2 : Int32)]) (rest := []) X (P_X1_writeAll_ok (l := l) hl0 hp) (cwV 3 hts (lw_V q3113 q3115 qs61 q148 q3116) rfl rfl rfl (by decide +kernel) ⟨Nat.le_of_ble_eq_true rfl, Nat.le_of_ble_eq_true rfl⟩) ⟨wPc.blind, w_recv hC.1 hM (ci := 0) (q := (RX1, TX1, 8)) rfl hrec, w_pre hC hM hS _⟩ rfl rfl hl.1 rfl (lv_room (Nat.le_of_ble_eq_true rfl)) dX1_printZone_72 (w_room hB hc1)) hS hB hc1 (fun _ _ _ _ _ _ h => False.elim h) (fun M7 H locs hp hM hS hB => ?_)
      refine lv_aload_n hx hb dX1_printZone_75 rfl (lv_at hl 0 rfl) ?_
      refine x_getA X hC.1 hM (ci := 0) (C := RX1) (T := TX1) (N := 8) rfl in_X1 7 (by decide) q982 (fun _ h9 => h9) dX1_printZone_76 hp (fun a9 hp => ?_)
      obtain ⟨hrec, hp⟩ := hp
      refine x_call0I (vx_runV (As := []) (rest := []) X (P_J18_length_ok (l := l) hl0 hp) (cwV 0 hts (lw_V q2049 q790 q3818 q170 q791) rfl rfl rfl (by decide +kernel) ⟨Nat.le_of_ble_eq_true rfl, Nat.le_of_ble_eq_true rfl⟩) ⟨wPc.blind, w_recv hC.1 hM (ci := 23) (q := (RJ18, TJ18, 4)) rfl hrec, w_pre hC hM hS _⟩ rfl rfl hl.1 rfl (lv_room (Nat.le_of_ble_eq_true rfl)) dX1_printZone_79 (w_room0 hB)) hS (w_room0 hB) (fun _ _ _ _ _ _ h => False.elim h) (fun v12 M10 H locs hp hM hS => ?_)
      exact x_iret X hr hlk hM hS (w_fin hB) dX1_printZone_82 ⟨_, rfl, hp⟩
    · have hp := oIf.bt hp hc
      refine lv_aload_n hx hb dX1_printZone_36 rfl (lv_at hl 2 rfl) ?_
      obtain ⟨hrec, hp⟩ := hp
      refine x_call0R5 (vx_runF (hC.1.1.1 19 (RJ36, TJ36, 5) rfl).2 (C := "java/util/LinkedList$ListItr") (As := []) (rest := []) X (P_J36_next_ok (l := l) hl0 hp) (va_cwF 0 hts (lw_app (w_mem4 q2018 q1952 q1954 q195) (lw_meth q1956)) rfl rfl rfl (wfw_38 hC.1) (by decide +kernel) ⟨Nat.le_of_ble_eq_true rfl, Nat.le_of_ble_eq_true rfl⟩) ⟨wPc.blind, w_recv hC.1 hM (ci := 19) (q := (RJ36, TJ36, 5)) rfl hrec, w_pre hC hM hS _⟩ rfl rfl hl.1 rfl (lv_room (Nat.le_of_ble_eq_true rfl)) dX1_printZone_37 (w_room0 hB)) hS (w_room0 hB) (fun _ _ _ _ _ _ h => False.elim h) (fun r15 M13 H locs hp hM hS => ?_)
      refine x_cast (r := r15) X hC.1 hM q2406 (ci := 25) rfl (Or.inl rfl) dX1_printZone_42 hp (fun hp => ?_)
      obtain ⟨a16, ea, hqa16⟩ := hp
      subst ea
      have hp := hqa16
      obtain ⟨hrec, hp⟩ := hp
      refine x_call0I (vx_runV (As := []) (rest := []) X (P_J23_intValue_ok (l := l) hl0 hp) (cwV 0 hts (lw_V q2407 q1328 q1329 q175 q1330) rfl rfl rfl (by decide +kernel) ⟨Nat.le_of_ble_eq_true rfl, Nat.le_of_ble_eq_true rfl⟩) ⟨wPc.blind, w_recv hC.1 hM (ci := 25) (q := (RJ23, TJ23, 1)) rfl hrec, w_pre hC hM hS _⟩ rfl rfl hl.1 rfl (lv_room (Nat.le_of_ble_eq_true rfl)) dX1_printZone_45 (w_room0 hB)) hS (w_room0 hB) (fun _ _ _ _ _ _ h => False.elim h) (fun v19 M17 H locs hp hM hS => ?_)
      refine lv_istore_n (lv' := [(3, .int v19), (0, .ref x0), (1, .int x1), (2, .ref a1)]) hx hb dX1_printZone_48 rfl hl (by decide) rfl (fun ls hl => ?_)
      refine lv_aload_n hx hb dX1_printZone_49 rfl (lv_at hl 1 rfl) ?_
      refine lv_bipush (v := 119) hx hb dX1_printZone_50 (by decide) ?_
      refine lv_iload_n hx hb dX1_printZone_52 rfl (lv_at hl 0 rfl) ?_
      obtain ⟨hrec, hp⟩ := hp
      obtain ⟨c21, hc1, hp⟩ := hp
      refine x_callV (vx_runV (As := [.int (119 : Int32), .int v19]) (rest := []) X (P_X1_write_ok (l := l) hl0 hp) (cwV 2 hts (lw_V q3108 q3110 qs60 q148 q3111) rfl rfl rfl (by decide +kernel) ⟨Nat.le_of_ble_eq_true rfl, Nat.le_of_ble_eq_true rfl⟩) ⟨wPc.blind, w_recv hC.1 hM (ci := 0) (q := (RX1, TX1, 8)) rfl hrec, w_pre hC hM hS _⟩ rfl rfl hl.1 rfl (lv_room (Nat.le_of_ble_eq_true rfl)) dX1_printZone_53 (w_room hB hc1)) hS hB hc1 (fun _ _ _ _ _ _ h => False.elim h) (fun M20 H locs hp hM hS hB => ?_)
      refine lv_goto (tgt := 27) hx hb dX1_printZone_56 (by decide) ?_
      exact hrec27 _ _ _ _ _ _ _ _ _ _ hp hM hS hB (lv_sub hl [1, 2, 3] rfl)
  have hL27 : ∀ (n : Nat), ∀ (x0 : Nat) (x1 : Int32) (x2 : Option Nat) (M : wM) (bq : Nat) (H : Heap) (locs : List Loc) (ls : Array Slot) (cells slots : Nat), L_X1_printZone_27 G Q Xp n x0 x1 x2 M bq → wR G M H → va_S (wA G) s.heap H locs → (cells + bq ≤ ((headSpec (ws_ yX1_printZone cX1_printZone 4 (Option.some Jvm.ClassFile.FieldType.int)) ({ frames := 20, cells := b, slots := b, locals := 582 })).room).cells ∧ slots + bq ≤ ((headSpec (ws_ yX1_printZone cX1_printZone 4 (Option.some Jvm.ClassFile.FieldType.int)) ({ frames := 20, cells := b, slots := b, locals := 582 })).room).slots) → lv_has ls 4 [(0, .ref x0), (1, .int x1), (2, va_rf x2)] → W p l e (headSpec (ws_ yX1_printZone cX1_printZone 4 (Option.some Jvm.ClassFile.FieldType.int)) ({ frames := 20, cells := b, slots := b, locals := 582 })).room s m ([.ref t0, .int p1] : List Value).toArray below meth c H locs cells slots (vx_MQ below (wQ G (wqI Q)) (wXC G Xp) ([.ref t0, .int p1] : List Value).toArray s b b (wA G)) (F0 m 27 ls []) := by
    intro n
    induction n with
    | zero => intro _ _ _ _ _ _ _ _ _ _ hp; exact False.elim hp
    | succ n ih => intro x0 x1 x2 M bq H locs ls cells slots hp hM hS hB hl; exact hB27 (L_X1_printZone_27 G Q Xp n) ih _ _ _ _ _ _ _ _ _ _ hp hM hS hB hl
  refine lv_aload_n hx hb dX1_printZone_0 rfl (lv_at hl 0 rfl) ?_
  refine lv_iload_n hx hb dX1_printZone_1 rfl (lv_at hl 1 rfl) ?_
  obtain ⟨hrec, hp⟩ := hp
  obtain ⟨c2, hc1, hp⟩ := hp
  refine x_callV (vx_runV (As := [.int p1]) (rest := []) X (P_X1_checkZone_ok (l := l) hl0 hp) (cwV 1 hts (lw_V q2196 q2198 qs35 q148 q2199) rfl rfl rfl (by decide +kernel) ⟨Nat.le_of_ble_eq_true rfl, Nat.le_of_ble_eq_true rfl⟩) ⟨wPc.blind, w_recv hC.1 hM (ci := 0) (q := (RX1, TX1, 8)) rfl hrec, w_pre hC hM hS _⟩ rfl rfl hl.1 rfl (lv_room (Nat.le_of_ble_eq_true rfl)) dX1_printZone_2 (w_room hB hc1)) hS hB hc1 (fun E ce q14 M15 H locs hp hM hS hB hcell hcv hcl => ?_) (fun M1 H locs hp hM hS hB => ?_)
  · obtain ⟨rfl, hp⟩ := hp
    exact x_out hlk (fun x h => (hnt x h).elim) hM hS (w_fin hB) hcell hcv hcl hp
  · refine lv_aload_n hx hb dX1_printZone_5 rfl (lv_at hl 0 rfl) ?_
    refine x_getA X hC.1 hM (ci := 0) (C := RX1) (T := TX1) (N := 8) rfl in_X1 7 (by decide) q982 (fun _ h9 => h9) dX1_printZone_6 hp (fun a3 hp => ?_)
    refine lv_iconst (v := 0) hx hb dX1_printZone_9 (by decide) ?_
    obtain ⟨hrec, hp⟩ := hp
    obtain ⟨c5, hc1, hp⟩ := hp
    refine x_callV (vx_runV (As := [.int (0 : Int32)]) (rest := []) X (P_J18_setLength_ok (l := l) hl0 hp) (cwV 1 hts (lw_V q3056 q3057 q3058 q170 q3059) rfl rfl rfl (by decide +kernel) ⟨Nat.le_of_ble_eq_true rfl, Nat.le_of_ble_eq_true rfl⟩) ⟨wPc.blind, w_recv hC.1 hM (ci := 23) (q := (RJ18, TJ18, 4)) rfl hrec, w_pre hC hM hS _⟩ rfl rfl hl.1 rfl (lv_room (Nat.le_of_ble_eq_true rfl)) dX1_printZone_10 (w_room hB hc1)) hS hB hc1 (fun _ _ _ _ _ _ h => False.elim h) (fun M4 H locs hp hM hS hB => ?_)
    refine lv_aload_n hx hb dX1_printZone_13 rfl (lv_at hl 0 rfl) ?_
    refine x_getA X hC.1 hM (ci := 0) (C := RX1) (T := TX1) (N := 8) rfl in_X1 0 (by decide) q973 (fun _ h9 => h9) dX1_printZone_14 hp (fun a6 hp => ?_)
    refine lv_iload_n hx hb dX1_printZone_17 rfl (lv_at hl 1 rfl) ?_
    obtain ⟨hrec, hp⟩ := hp
    obtain ⟨c8, hc1, hp⟩ := hp
    refine x_callR (vx_runV (As := [.int p1]) (rest := []) X (P_X2_queue_ok (l := l) hl0 hp) (cwV 1 hts (lw_V q2364 q2365 q2366 q149 q2367) rfl rfl rfl (by decide +kernel) ⟨Nat.le_of_ble_eq_true rfl, Nat.le_of_ble_eq_true rfl⟩) ⟨wPc.blind, w_recv hC.1 hM (ci := 1) (q := (RX2, TX2, 9)) rfl hrec, w_pre hC hM hS _⟩ rfl rfl hl.1 rfl (lv_room (Nat.le_of_ble_eq_true rfl)) dX1_printZone_18 (w_room hB hc1)) hS hB hc1 (fun _ _ _ _ _ _ h => False.elim h) (fun r9 M7 H locs hp hM hS hB => ?_)
    obtain ⟨a10, ea, hqa10⟩ := hp
    subst ea
    have hp := hqa10
    obtain ⟨hrec, hp⟩ := hp
    obtain ⟨c12, hc1, hp⟩ := hp
    refine x_callR5 (vx_runF (hC.1.1.1 17 (RJ8, TJ8, 4) rfl).2 (C := "java/util/LinkedList") (As := []) (rest := []) X (P_J7_iterator_J8_ok (l := l) hl0 hp) (va_cwF 0 hts (lw_app (w_mem4 q1970 q2012 q1703 q159) (lw_meth q1704)) rfl rfl rfl (wfw_34 hC.1) (by decide +kernel) ⟨Nat.le_of_ble_eq_true rfl, Nat.le_of_ble_eq_true rfl⟩) ⟨wPc.blind, w_recv hC.1 hM (ci := 17) (q := (RJ8, TJ8, 4)) rfl hrec, w_pre hC hM hS _⟩ rfl rfl hl.1 rfl (lv_room (Nat.le_of_ble_eq_true rfl)) dX1_printZone_21 (w_room hB hc1)) hS hB hc1 (fun _ _ _ _ _ _ h => False.elim h) (fun r13 M11 H locs hp hM hS hB => ?_)
    refine x_astore_n (r := r13) (lv' := [(2, va_rf r13), (0, .ref t0), (1, .int p1)]) hx hb dX1_printZone_26 rfl hl (by decide) rfl (fun ls hl => ?_)
    obtain ⟨n, hp⟩ := hp
    exact hL27 n _ _ _ _ _ _ _ _ _ _ hp hM hS hB (lv_sub hl [1, 2, 0] rfl)
def B_X1_renew_45 (G : wG) (Q : Int32 → wM → Prop) (Xp : String → Nat → wM → Prop) (x0 : Nat) (x1 : Int32) (y0 : Int32) (M : wM) (bq : Nat) : Prop :=
  ∃ c2, c2 ≤ bq ∧ P_X1_checkState G y0 c2 M (fun M1 => oIs M1 x0 0 (∃ c4, c4 ≤ (bq - c2) ∧ P_X1_remember G x0 c4 M1 (fun M3 => oGetA M3 x0 0 0 (fun a5 => oGetA M3 a5 1 1 (fun a6 => oIs M3 a6 16 (P_J2_get G a6 x1 M3 (fun r9 M7 => oCast M7 r9 9 (oRef r9 (fun a10 => oGetI M7 a10 9 5 (fun v11 => oIs M7 x0 0 (P_X1_setup G x0 M7 (fun r14 M12 => oRef r14 (fun a15 => oGetI M12 a15 2 5 (fun v16 => oPut G M12 a10 9 5 (.int (v11 + (v16 * (1440 : Int32)))) (fun M17 => oGetI M17 a10 9 7 (fun v18 => oPut G M17 a10 9 7 (.int (v18 + (1 : Int32))) (fun M19 => oGetA M19 x0 0 0 (fun a20 => oIs M19 a20 1 (P_X2_offer G a20 M19 (fun M21 => oGetI M21 a10 9 5 (fun v23 => Q v23 M21))))))))))))))))))))) (fun E q24 M25 => (E = "java/lang/IllegalStateException" ∧ Xp E q24 M25))
def B_X1_renew_44 (G : wG) (Q : Int32 → wM → Prop) (Xp : String → Nat → wM → Prop) (x0 : Nat) (x1 : Int32) (M : wM) (bq : Nat) : Prop :=
  B_X1_renew_45 G Q Xp x0 x1 (0 : Int32) M bq
def P_X1_renew (G : wG) (t0 : Nat) (p1 : Int32) (b : Nat) (M : wM) (Q : Int32 → wM → Prop) (Xp : String → Nat → wM → Prop) : Prop :=
  oIs M t0 0 (∃ c2, c2 ≤ b ∧ P_X1_permitAt G t0 p1 c2 M (fun r3 M1 => oRef r3 (fun a4 => oGetI M1 a4 9 4 (fun v5 => oIf (v5 = (2 : Int32)) (oGetI M1 a4 9 5 (fun v6 => oGetA M1 t0 0 0 (fun a7 => oGetI M1 a7 1 8 (fun v8 => oIs M1 t0 0 (P_X1_setup G t0 M1 (fun r11 M9 => oRef r11 (fun a12 => oGetI M9 a12 2 7 (fun v13 => oIf ((v13 * (1440 : Int32)) < (v6 - v8)) (B_X1_renew_44 G Q Xp t0 p1 M9 (b - c2)) (B_X1_renew_45 G Q Xp t0 p1 (1 : Int32) M9 (b - c2)))))))))) (B_X1_renew_44 G Q Xp t0 p1 M1 (b - c2))))) (fun E q14 M15 => (E = "java/lang/IndexOutOfBoundsException" ∧ Xp E q14 M15)))
set_option maxHeartbeats 4000000 in
set_option maxRecDepth 100000 in
theorem P_X1_renew_ok {l : Launch} (hl0 : l.stackTraces = false) {G : wG} {t0 : Nat} {p1 : Int32} {b : Nat} {M : wM} {Q : Int32 → wM → Prop} {Xp : String → Nat → wM → Prop} (hp : P_X1_renew G t0 p1 b M Q Xp) : wMet l yX1_renew (ws_ yX1_renew cX1_renew 4 (Option.some Jvm.ClassFile.FieldType.int)) 20 575 G [.ref t0, .int p1] M b (wqI Q) Xp := by
  refine vx_ofW (cc := cX1_renew) (maxL := 4) (ret := Option.some Jvm.ClassFile.FieldType.int) (by decide) rfl ?_
  intro p e s m args below meth c s₁ B hml hnt hv
  obtain ⟨rfl, hM, hK, hZ, hz⟩ := hv
  have hC : wC G s := ⟨hK, hZ, hz⟩
  have hx := B.exec
  have hb := B.bytes
  have hr := B.returns
  have hts := atoms_spec (ws := (ws_ yX1_renew cX1_renew 4 (Option.some Jvm.ClassFile.FieldType.int))) B.pre
  have hts : ∀ w ∈ lw_all, w.before _ s = true := fun w h => hts w (List.mem_cons_of_mem _ h)
  have hown : s.vm.findClass RX1 = some m.cls := findClass_of_methodNamed B.named
  have hlk := B.notSynchronized
  have X : CallFix p m c cX1_renew 4 s ([.ref t0, .int p1] : List Value).toArray lw_all RX1 := ⟨hx, hb, hml, hown, hts⟩
  have hS : va_S (wA G) s.heap s.heap [] := va_S.rf
  have hl := lv_entry ([.ref t0, .int p1]) (n := 4) (Nat.le_of_ble_eq_true rfl)
  rw [lg_entry_eq]
  generalize (lg_sl ([.ref t0, .int p1]) ++ List.replicate (4 - (lg_sl ([.ref t0, .int p1])).length) Slot.unset).toArray = ls at hl ⊢
  have hl : lv_has ls 4 [(0, .ref t0), (1, .int p1)] := hl
  have hB : 0 + b ≤ ((headSpec (ws_ yX1_renew cX1_renew 4 (Option.some Jvm.ClassFile.FieldType.int)) ({ frames := 20, cells := b, slots := b, locals := 575 })).room).cells ∧ 0 + b ≤ ((headSpec (ws_ yX1_renew cX1_renew 4 (Option.some Jvm.ClassFile.FieldType.int)) ({ frames := 20, cells := b, slots := b, locals := 575 })).room).slots := ⟨Nat.le_of_eq (Nat.zero_add b), Nat.le_of_eq (Nat.zero_add b)⟩
  have hB45 : ∀ (x0 : Nat) (x1 : Int32) (y0 : Int32) (M : wM) (bq : Nat) (H : Heap) (locs : List Loc) (ls : Array Slot) (cells slots : Nat), B_X1_renew_45 G Q Xp x0 x1 y0 M bq → wR G M H → va_S (wA G) s.heap H locs → (cells + bq ≤ ((headSpec (ws_ yX1_renew cX1_renew 4 (Option.some Jvm.ClassFile.FieldType.int)) ({ frames := 20, cells := b, slots := b, locals := 575 })).room).cells ∧ slots + bq ≤ ((headSpec (ws_ yX1_renew cX1_renew 4 (Option.some Jvm.ClassFile.FieldType.int)) ({ frames := 20, cells := b, slots := b, locals := 575 })).room).slots) → lv_has ls 4 [(0, .ref x0), (1, .int x1)] → W p l e (headSpec (ws_ yX1_renew cX1_renew 4 (Option.some Jvm.ClassFile.FieldType.int)) ({ frames := 20, cells := b, slots := b, locals := 575 })).room s m ([.ref t0, .int p1] : List Value).toArray below meth c H locs cells slots (vx_MQ below (wQ G (wqI Q)) (wXC G Xp) ([.ref t0, .int p1] : List Value).toArray s b b (wA G)) (F0 m 45 ls [.int y0]) := by
    intro x0 x1 y0 M bq H locs ls cells slots hp hM hS hB hl
    obtain ⟨c2, hc1, hp⟩ := hp
    refine x_callV (vx_runS (As := [.int y0]) (rest := []) X (P_X1_checkState_ok (l := l) hl0 hp) (va_cwS 1 hts (lw_S q2690 q2691 q148 q2692) rfl rfl rfl (by decide +kernel) ⟨Nat.le_of_ble_eq_true rfl, Nat.le_of_ble_eq_true rfl⟩) ⟨wPc.blind, w_pre hC hM hS _⟩ rfl rfl hl.1 rfl (lv_room (Nat.le_of_ble_eq_true rfl)) dX1_renew_45 (w_room hB hc1)) hS hB hc1 (fun E ce q24 M25 H locs hp hM hS hB hcell hcv hcl => ?_) (fun M1 H locs hp hM hS hB => ?_)
    · obtain ⟨rfl, hp⟩ := hp
      exact x_out hlk (fun x h => (hnt x h).elim) hM hS (w_fin hB) hcell hcv hcl hp
    · refine lv_aload_n hx hb dX1_renew_48 rfl (lv_at hl 0 rfl) ?_
      obtain ⟨hrec, hp⟩ := hp
      obtain ⟨c4, hc1, hp⟩ := hp
      refine x_callV (vx_runV (As := []) (rest := []) X (P_X1_remember_ok (l := l) hl0 hp) (cwV 0 hts (lw_V q2543 q2545 qs49 q148 q2546) rfl rfl rfl (by decide +kernel) ⟨Nat.le_of_ble_eq_true rfl, Nat.le_of_ble_eq_true rfl⟩) ⟨wPc.blind, w_recv hC.1 hM (ci := 0) (q := (RX1, TX1, 8)) rfl hrec, w_pre hC hM hS _⟩ rfl rfl hl.1 rfl (lv_room (Nat.le_of_ble_eq_true rfl)) dX1_renew_49 (w_room hB hc1)) hS hB hc1 (fun _ _ _ _ _ _ h => False.elim h) (fun M3 H locs hp hM hS hB => ?_)
      refine lv_aload_n hx hb dX1_renew_52 rfl (lv_at hl 0 rfl) ?_
      refine x_getA X hC.1 hM (ci := 0) (C := RX1) (T := TX1) (N := 8) rfl in_X1 0 (by decide) q973 (fun _ h9 => h9) dX1_renew_53 hp (fun a5 hp => ?_)
      refine x_getAN X hC.1 hM (ci := 1) (C := RX2) (T := TX2) (N := 9) rfl in_X2 1 (by decide) q920 (fun _ h9 => h9) dX1_renew_56 hp (fun a6 hp => ?_)
      refine lv_iload_n hx hb dX1_renew_59 rfl (lv_at hl 1 rfl) ?_
      obtain ⟨hrec, hp⟩ := hp
      refine x_call0R5 (vx_runF (hC.1.1.1 16 (RJ2, TJ2, 3) rfl).2 (C := "java/util/ArrayList") (As := [.int x1]) (rest := []) X (P_J2_get_ok (l := l) hl0 hp) (va_cwF 1 hts (lw_app (w_mem4 q1667 q522 q524 q153) (lw_meth q526)) rfl rfl rfl (wfw_8 hC.1) (by decide +kernel) ⟨Nat.le_of_ble_eq_true rfl, Nat.le_of_ble_eq_true rfl⟩) ⟨wPc.blind, w_recv hC.1 hM (ci := 16) (q := (RJ2, TJ2, 3)) rfl hrec, w_pre hC hM hS _⟩ rfl rfl hl.1 rfl (lv_room (Nat.le_of_ble_eq_true rfl)) dX1_renew_60 (w_room0 hB)) hS (w_room0 hB) (fun _ _ _ _ _ _ h => False.elim h) (fun r9 M7 H locs hp hM hS => ?_)
      refine x_cast (r := r9) X hC.1 hM q1686 (ci := 9) rfl (Or.inl rfl) dX1_renew_65 hp (fun hp => ?_)
      refine x_astore_n (r := r9) (lv' := [(3, va_rf r9), (0, .ref x0), (1, .int x1)]) hx hb dX1_renew_68 rfl hl (by decide) rfl (fun ls hl => ?_)
      refine x_aload_n (r := r9) hx hb dX1_renew_69 rfl (lv_at hl 0 rfl) ?_
      refine lv_dup hx hb dX1_renew_70 (w_cat _) ?_
      obtain ⟨a10, ea, hqa10⟩ := hp
      subst ea
      have hp := hqa10
      have hl : lv_has ls 4 [(3, .ref a10), (0, .ref x0), (1, .int x1)] := hl
      refine x_getIN X hC.1 hM (ci := 9) (C := RX12) (T := TX12) (N := 8) rfl in_X12 5 (by decide) q2094 (fun _ h9 => h9) dX1_renew_71 hp (fun v11 hp => ?_)
      refine lv_aload_n hx hb dX1_renew_74 rfl (lv_at hl 1 rfl) ?_
      obtain ⟨hrec, hp⟩ := hp
      refine x_call0R (vx_runV (As := []) (rest := [.int v11, .ref a10]) X (P_X1_setup_ok (l := l) hl0 hp) (cwV 0 hts (lw_V q1535 q1537 qs29 q148 q1538) rfl rfl rfl (by decide +kernel) ⟨Nat.le_of_ble_eq_true rfl, Nat.le_of_ble_eq_true rfl⟩) ⟨wPc.blind, w_recv hC.1 hM (ci := 0) (q := (RX1, TX1, 8)) rfl hrec, w_pre hC hM hS _⟩ rfl rfl hl.1 rfl (lv_room (Nat.le_of_ble_eq_true rfl)) dX1_renew_75 (w_room0 hB)) hS (w_room0 hB) (fun _ _ _ _ _ _ h => False.elim h) (fun r14 M12 H locs hp hM hS => ?_)
      obtain ⟨a15, ea, hqa15⟩ := hp
      subst ea
      have hp := hqa15
      refine x_getIN X hC.1 hM (ci := 2) (C := RX3) (T := TX3) (N := 8) rfl in_X3 5 (by decide) q415 (fun _ h9 => h9) dX1_renew_78 hp (fun v16 hp => ?_)
      refine lv_sipush (v := 1440) hx hb dX1_renew_81 (by decide) ?_
      refine lv_imul hx hb dX1_renew_84 ?_
      refine lv_iadd hx hb dX1_renew_85 ?_
      refine x_putN X hC.1 hM hS (ci := 9) (C := RX12) (T := TX12) (N := 8) rfl in_X12 tyX12 tyX12_ok nmX12 5 (by decide) q2094 (fun _ h9 => h9) rfl rfl rfl dX1_renew_86 hp (fun M17 H locs hM hS hp => ?_)
      refine lv_aload_n hx hb dX1_renew_89 rfl (lv_at hl 0 rfl) ?_
      refine lv_dup hx hb dX1_renew_90 rfl ?_
      refine x_getIN X hC.1 hM (ci := 9) (C := RX12) (T := TX12) (N := 8) rfl in_X12 7 (by decide) q2099 (fun _ h9 => h9) dX1_renew_91 hp (fun v18 hp => ?_)
      refine lv_iconst (v := 1) hx hb dX1_renew_94 (by decide) ?_
      refine lv_iadd hx hb dX1_renew_95 ?_
      refine x_putN X hC.1 hM hS (ci := 9) (C := RX12) (T := TX12) (N := 8) rfl in_X12 tyX12 tyX12_ok nmX12 7 (by decide) q2099 (fun _ h9 => h9) rfl rfl rfl dX1_renew_96 hp (fun M19 H locs hM hS hp => ?_)
      refine lv_aload_n hx hb dX1_renew_99 rfl (lv_at hl 1 rfl) ?_
      refine x_getA X hC.1 hM (ci := 0) (C := RX1) (T := TX1) (N := 8) rfl in_X1 0 (by decide) q973 (fun _ h9 => h9) dX1_renew_100 hp (fun a20 hp => ?_)
      obtain ⟨hrec, hp⟩ := hp
      refine x_call0V (vx_runV (As := []) (rest := []) X (P_X2_offer_ok (l := l) hl0 hp) (cwV 0 hts (lw_V q2682 q2609 q2610 q149 q2611) rfl rfl rfl (by decide +kernel) ⟨Nat.le_of_ble_eq_true rfl, Nat.le_of_ble_eq_true rfl⟩) ⟨wPc.blind, w_recv hC.1 hM (ci := 1) (q := (RX2, TX2, 9)) rfl hrec, w_pre hC hM hS _⟩ rfl rfl hl.1 rfl (lv_room (Nat.le_of_ble_eq_true rfl)) dX1_renew_103 (w_room0 hB)) hS (w_room0 hB) (fun _ _ _ _ _ _ h => False.elim h) (fun M21 H locs hp hM hS => ?_)
      refine lv_aload_n hx hb dX1_renew_106 rfl (lv_at hl 0 rfl) ?_
      refine x_getIN X hC.1 hM (ci := 9) (C := RX12) (T := TX12) (N := 8) rfl in_X12 5 (by decide) q2094 (fun _ h9 => h9) dX1_renew_107 hp (fun v23 hp => ?_)
      exact x_iret X hr hlk hM hS (w_fin hB) dX1_renew_110 ⟨_, rfl, hp⟩
  have hB44 : ∀ (x0 : Nat) (x1 : Int32) (M : wM) (bq : Nat) (H : Heap) (locs : List Loc) (ls : Array Slot) (cells slots : Nat), B_X1_renew_44 G Q Xp x0 x1 M bq → wR G M H → va_S (wA G) s.heap H locs → (cells + bq ≤ ((headSpec (ws_ yX1_renew cX1_renew 4 (Option.some Jvm.ClassFile.FieldType.int)) ({ frames := 20, cells := b, slots := b, locals := 575 })).room).cells ∧ slots + bq ≤ ((headSpec (ws_ yX1_renew cX1_renew 4 (Option.some Jvm.ClassFile.FieldType.int)) ({ frames := 20, cells := b, slots := b, locals := 575 })).room).slots) → lv_has ls 4 [(0, .ref x0), (1, .int x1)] → W p l e (headSpec (ws_ yX1_renew cX1_renew 4 (Option.some Jvm.ClassFile.FieldType.int)) ({ frames := 20, cells := b, slots := b, locals := 575 })).room s m ([.ref t0, .int p1] : List Value).toArray below meth c H locs cells slots (vx_MQ below (wQ G (wqI Q)) (wXC G Xp) ([.ref t0, .int p1] : List Value).toArray s b b (wA G)) (F0 m 44 ls []) := by
    intro x0 x1 M bq H locs ls cells slots hp hM hS hB hl
    refine lv_iconst (v := 0) hx hb dX1_renew_44 (by decide) ?_
    exact hB45 _ _ _ _ _ _ _ _ _ _ hp hM hS hB (lv_sub hl [0, 1] rfl)
  refine lv_aload_n hx hb dX1_renew_0 rfl (lv_at hl 0 rfl) ?_
  refine lv_iload_n hx hb dX1_renew_1 rfl (lv_at hl 1 rfl) ?_
  obtain ⟨hrec, hp⟩ := hp
  obtain ⟨c2, hc1, hp⟩ := hp
  refine x_callR (vx_runV (As := [.int p1]) (rest := []) X (P_X1_permitAt_ok (l := l) hl0 hp) (cwV 1 hts (lw_V q2352 q2354 qs41 q148 q2355) rfl rfl rfl (by decide +kernel) ⟨Nat.le_of_ble_eq_true rfl, Nat.le_of_ble_eq_true rfl⟩) ⟨wPc.blind, w_recv hC.1 hM (ci := 0) (q := (RX1, TX1, 8)) rfl hrec, w_pre hC hM hS _⟩ rfl rfl hl.1 rfl (lv_room (Nat.le_of_ble_eq_true rfl)) dX1_renew_2 (w_room hB hc1)) hS hB hc1 (fun E ce q14 M15 H locs hp hM hS hB hcell hcv hcl => ?_) (fun r3 M1 H locs hp hM hS hB => ?_)
  · obtain ⟨rfl, hp⟩ := hp
    exact x_out hlk (fun x h => (hnt x h).elim) hM hS (w_fin hB) hcell hcv hcl hp
  · refine x_astore_n (r := r3) (lv' := [(2, va_rf r3), (0, .ref t0), (1, .int p1)]) hx hb dX1_renew_5 rfl hl (by decide) rfl (fun ls hl => ?_)
    refine x_aload_n (r := r3) hx hb dX1_renew_6 rfl (lv_at hl 0 rfl) ?_
    obtain ⟨a4, ea, hqa4⟩ := hp
    subst ea
    have hp := hqa4
    have hl : lv_has ls 4 [(2, .ref a4), (0, .ref t0), (1, .int p1)] := hl
    refine x_getIN X hC.1 hM (ci := 9) (C := RX12) (T := TX12) (N := 8) rfl in_X12 4 (by decide) q2091 (fun _ h9 => h9) dX1_renew_7 hp (fun v5 hp => ?_)
    refine lv_iconst (v := 2) hx hb dX1_renew_10 (by decide) ?_
    refine lv_icmp_ne (tgt := 44) hx hb dX1_renew_11 (by decide) (fun hc => ?_) (fun hc => ?_)
    · have hp := oIf.f hp hc
      exact hB44 _ _ _ _ _ _ _ _ _ hp hM hS hB (lv_sub hl [1, 2] rfl)
    · have hp := oIf.t hp hc
      refine lv_aload_n hx hb dX1_renew_14 rfl (lv_at hl 0 rfl) ?_
      refine x_getIN X hC.1 hM (ci := 9) (C := RX12) (T := TX12) (N := 8) rfl in_X12 5 (by decide) q2094 (fun _ h9 => h9) dX1_renew_15 hp (fun v6 hp => ?_)
      refine lv_aload_n hx hb dX1_renew_18 rfl (lv_at hl 1 rfl) ?_
      refine x_getA X hC.1 hM (ci := 0) (C := RX1) (T := TX1) (N := 8) rfl in_X1 0 (by decide) q973 (fun _ h9 => h9) dX1_renew_19 hp (fun a7 hp => ?_)
      refine x_getIN X hC.1 hM (ci := 1) (C := RX2) (T := TX2) (N := 9) rfl in_X2 8 (by decide) q934 (fun _ h9 => h9) dX1_renew_22 hp (fun v8 hp => ?_)
      refine lv_isub hx hb dX1_renew_25 ?_
      refine lv_aload_n hx hb dX1_renew_26 rfl (lv_at hl 1 rfl) ?_
      obtain ⟨hrec, hp⟩ := hp
      refine x_call0R (vx_runV (As := []) (rest := [.int (v6 - v8)]) X (P_X1_setup_ok (l := l) hl0 hp) (cwV 0 hts (lw_V q1535 q1537 qs29 q148 q1538) rfl rfl rfl (by decide +kernel) ⟨Nat.le_of_ble_eq_true rfl, Nat.le_of_ble_eq_true rfl⟩) ⟨wPc.blind, w_recv hC.1 hM (ci := 0) (q := (RX1, TX1, 8)) rfl hrec, w_pre hC hM hS _⟩ rfl rfl hl.1 rfl (lv_room (Nat.le_of_ble_eq_true rfl)) dX1_renew_27 (w_room0 hB)) hS (w_room0 hB) (fun _ _ _ _ _ _ h => False.elim h) (fun r11 M9 H locs hp hM hS => ?_)
      obtain ⟨a12, ea, hqa12⟩ := hp
      subst ea
      have hp := hqa12
      refine x_getIN X hC.1 hM (ci := 2) (C := RX3) (T := TX3) (N := 8) rfl in_X3 7 (by decide) q422 (fun _ h9 => h9) dX1_renew_30 hp (fun v13 hp => ?_)
      refine lv_sipush (v := 1440) hx hb dX1_renew_33 (by decide) ?_
      refine lv_imul hx hb dX1_renew_36 ?_
      refine lv_icmp_gt (tgt := 44) hx hb dX1_renew_37 (by decide) (fun hc => ?_) (fun hc => ?_)
      · have hp := oIf.t hp hc
        exact hB44 _ _ _ _ _ _ _ _ _ hp hM hS hB (lv_sub hl [1, 2] rfl)
      · have hp := oIf.f hp hc
        refine lv_iconst (v := 1) hx hb dX1_renew_40 (by decide) ?_
        refine lv_goto (tgt := 45) hx hb dX1_renew_41 (by decide) ?_
        exact hB45 _ _ _ _ _ _ _ _ _ _ hp hM hS hB (lv_sub hl [1, 2] rfl)
def B_X1_restoreState_12 (G : wG) (Q : Int32 → wM → Prop) (Xp : String → Nat → wM → Prop) (x0 : Nat) (y0 : Int32) (M : wM) (bq : Nat) : Prop :=
  ∃ c2, c2 ≤ bq ∧ P_X1_checkState G y0 c2 M (fun M1 => oGetR M1 x0 0 1 (fun r3 => oRef r3 (fun a4 => oIs M1 a4 1 (∃ c6, c6 ≤ (bq - c2) ∧ P_X2_copy G a4 c6 M1 (fun r7 M5 => oPut G M5 x0 0 0 (va_rf r7) (fun M8 => oGetA M8 x0 0 2 (fun a9 => oIs M8 a9 22 (P_J25_clear G a9 M8 (fun M10 => oGetA M10 x0 0 0 (fun a12 => oGetI M10 a12 1 8 (fun v13 => Q v13 M10))))))))))) (fun E q14 M15 => (E = "java/lang/IllegalStateException" ∧ Xp E q14 M15))
def P_X1_restoreState (G : wG) (t0 : Nat) (b : Nat) (M : wM) (Q : Int32 → wM → Prop) (Xp : String → Nat → wM → Prop) : Prop :=
  oGetR M t0 0 1 (fun r1 => oNull r1 (B_X1_restoreState_12 G Q Xp t0 (0 : Int32) M b) (fun a2 => B_X1_restoreState_12 G Q Xp t0 (1 : Int32) M b))
set_option maxHeartbeats 4000000 in
set_option maxRecDepth 100000 in
theorem P_X1_restoreState_ok {l : Launch} (hl0 : l.stackTraces = false) {G : wG} {t0 : Nat} {b : Nat} {M : wM} {Q : Int32 → wM → Prop} {Xp : String → Nat → wM → Prop} (hp : P_X1_restoreState G t0 b M Q Xp) : wMet l yX1_restoreState (ws_ yX1_restoreState cX1_restoreState 1 (Option.some Jvm.ClassFile.FieldType.int)) 19 555 G [.ref t0] M b (wqI Q) Xp := by
  refine vx_ofW (cc := cX1_restoreState) (maxL := 1) (ret := Option.some Jvm.ClassFile.FieldType.int) (by decide) rfl ?_
  intro p e s m args below meth c s₁ B hml hnt hv
  obtain ⟨rfl, hM, hK, hZ, hz⟩ := hv
  have hC : wC G s := ⟨hK, hZ, hz⟩
  have hx := B.exec
  have hb := B.bytes
  have hr := B.returns
  have hts := atoms_spec (ws := (ws_ yX1_restoreState cX1_restoreState 1 (Option.some Jvm.ClassFile.FieldType.int))) B.pre
  have hts : ∀ w ∈ lw_all, w.before _ s = true := fun w h => hts w (List.mem_cons_of_mem _ h)
  have hown : s.vm.findClass RX1 = some m.cls := findClass_of_methodNamed B.named
  have hlk := B.notSynchronized
  have X : CallFix p m c cX1_restoreState 1 s ([.ref t0] : List Value).toArray lw_all RX1 := ⟨hx, hb, hml, hown, hts⟩
  have hS : va_S (wA G) s.heap s.heap [] := va_S.rf
  have hl := lv_entry ([.ref t0]) (n := 1) (Nat.le_of_ble_eq_true rfl)
  rw [lg_entry_eq]
  generalize (lg_sl ([.ref t0]) ++ List.replicate (1 - (lg_sl ([.ref t0])).length) Slot.unset).toArray = ls at hl ⊢
  have hl : lv_has ls 1 [(0, .ref t0)] := hl
  have hB : 0 + b ≤ ((headSpec (ws_ yX1_restoreState cX1_restoreState 1 (Option.some Jvm.ClassFile.FieldType.int)) ({ frames := 19, cells := b, slots := b, locals := 555 })).room).cells ∧ 0 + b ≤ ((headSpec (ws_ yX1_restoreState cX1_restoreState 1 (Option.some Jvm.ClassFile.FieldType.int)) ({ frames := 19, cells := b, slots := b, locals := 555 })).room).slots := ⟨Nat.le_of_eq (Nat.zero_add b), Nat.le_of_eq (Nat.zero_add b)⟩
  have hB12 : ∀ (x0 : Nat) (y0 : Int32) (M : wM) (bq : Nat) (H : Heap) (locs : List Loc) (ls : Array Slot) (cells slots : Nat), B_X1_restoreState_12 G Q Xp x0 y0 M bq → wR G M H → va_S (wA G) s.heap H locs → (cells + bq ≤ ((headSpec (ws_ yX1_restoreState cX1_restoreState 1 (Option.some Jvm.ClassFile.FieldType.int)) ({ frames := 19, cells := b, slots := b, locals := 555 })).room).cells ∧ slots + bq ≤ ((headSpec (ws_ yX1_restoreState cX1_restoreState 1 (Option.some Jvm.ClassFile.FieldType.int)) ({ frames := 19, cells := b, slots := b, locals := 555 })).room).slots) → lv_has ls 1 [(0, .ref x0)] → W p l e (headSpec (ws_ yX1_restoreState cX1_restoreState 1 (Option.some Jvm.ClassFile.FieldType.int)) ({ frames := 19, cells := b, slots := b, locals := 555 })).room s m ([.ref t0] : List Value).toArray below meth c H locs cells slots (vx_MQ below (wQ G (wqI Q)) (wXC G Xp) ([.ref t0] : List Value).toArray s b b (wA G)) (F0 m 12 ls [.int y0]) := by
    intro x0 y0 M bq H locs ls cells slots hp hM hS hB hl
    obtain ⟨c2, hc1, hp⟩ := hp
    refine x_callV (vx_runS (As := [.int y0]) (rest := []) X (P_X1_checkState_ok (l := l) hl0 hp) (va_cwS 1 hts (lw_S q2690 q2691 q148 q2692) rfl rfl rfl (by decide +kernel) ⟨Nat.le_of_ble_eq_true rfl, Nat.le_of_ble_eq_true rfl⟩) ⟨wPc.blind, w_pre hC hM hS _⟩ rfl rfl hl.1 rfl (lv_room (Nat.le_of_ble_eq_true rfl)) dX1_restoreState_12 (w_room hB hc1)) hS hB hc1 (fun E ce q14 M15 H locs hp hM hS hB hcell hcv hcl => ?_) (fun M1 H locs hp hM hS hB => ?_)
    · obtain ⟨rfl, hp⟩ := hp
      exact x_out hlk (fun x h => (hnt x h).elim) hM hS (w_fin hB) hcell hcv hcl hp
    · refine lv_aload_n hx hb dX1_restoreState_15 rfl (lv_at hl 0 rfl) ?_
      refine lv_aload_n hx hb dX1_restoreState_16 rfl (lv_at hl 0 rfl) ?_
      refine x_getR X hC.1 hM (ci := 0) (C := RX1) (T := TX1) (N := 8) rfl in_X1 1 (by decide) q974 (fun _ h9 => h9) dX1_restoreState_17 hp (fun r3 hp => ?_)
      obtain ⟨a4, ea, hqa4⟩ := hp
      subst ea
      have hp := hqa4
      obtain ⟨hrec, hp⟩ := hp
      obtain ⟨c6, hc1, hp⟩ := hp
      refine x_callR (vx_runV (As := []) (rest := [.ref x0]) X (P_X2_copy_ok (l := l) hl0 hp) (cwV 0 hts (lw_V q2064 q2065 q2066 q149 q2067) rfl rfl rfl (by decide +kernel) ⟨Nat.le_of_ble_eq_true rfl, Nat.le_of_ble_eq_true rfl⟩) ⟨wPc.blind, w_recv hC.1 hM (ci := 1) (q := (RX2, TX2, 9)) rfl hrec, w_pre hC hM hS _⟩ rfl rfl hl.1 rfl (lv_room (Nat.le_of_ble_eq_true rfl)) dX1_restoreState_20 (w_room hB hc1)) hS hB hc1 (fun _ _ _ _ _ _ h => False.elim h) (fun r7 M5 H locs hp hM hS hB => ?_)
      refine x_put X hC.1 hM hS (ci := 0) (C := RX1) (T := TX1) (N := 8) rfl in_X1 tyX1 tyX1_ok nmX1 0 (by decide) q973 (fun _ h9 => h9) rfl (w_nobj _ r7) (w_fobj _ r7) dX1_restoreState_23 hp (fun M8 H locs hM hS hp => ?_)
      refine lv_aload_n hx hb dX1_restoreState_26 rfl (lv_at hl 0 rfl) ?_
      refine x_getA X hC.1 hM (ci := 0) (C := RX1) (T := TX1) (N := 8) rfl in_X1 2 (by decide) q975 (fun _ h9 => h9) dX1_restoreState_27 hp (fun a9 hp => ?_)
      obtain ⟨hrec, hp⟩ := hp
      refine x_call0V (vx_runV (As := []) (rest := []) X (P_J25_clear_ok (l := l) hl0 hp) (cwV 0 hts (lw_V q1528 q1529 q1530 q177 q1531) rfl rfl rfl (by decide +kernel) ⟨Nat.le_of_ble_eq_true rfl, Nat.le_of_ble_eq_true rfl⟩) ⟨wPc.blind, w_recv hC.1 hM (ci := 22) (q := (RJ25, TJ25, 3)) rfl hrec, w_pre hC hM hS _⟩ rfl rfl hl.1 rfl (lv_room (Nat.le_of_ble_eq_true rfl)) dX1_restoreState_30 (w_room0 hB)) hS (w_room0 hB) (fun _ _ _ _ _ _ h => False.elim h) (fun M10 H locs hp hM hS => ?_)
      refine lv_aload_n hx hb dX1_restoreState_33 rfl (lv_at hl 0 rfl) ?_
      refine x_getA X hC.1 hM (ci := 0) (C := RX1) (T := TX1) (N := 8) rfl in_X1 0 (by decide) q973 (fun _ h9 => h9) dX1_restoreState_34 hp (fun a12 hp => ?_)
      refine x_getIN X hC.1 hM (ci := 1) (C := RX2) (T := TX2) (N := 9) rfl in_X2 8 (by decide) q934 (fun _ h9 => h9) dX1_restoreState_37 hp (fun v13 hp => ?_)
      exact x_iret X hr hlk hM hS (w_fin hB) dX1_restoreState_40 ⟨_, rfl, hp⟩
  refine lv_aload_n hx hb dX1_restoreState_0 rfl (lv_at hl 0 rfl) ?_
  refine x_getR X hC.1 hM (ci := 0) (C := RX1) (T := TX1) (N := 8) rfl in_X1 1 (by decide) q974 (fun _ h9 => h9) dX1_restoreState_1 hp (fun r1 hp => ?_)
  refine x_ifnull (r := r1) (tgt := 11) hx hb dX1_restoreState_4 (by decide) (fun hc => ?_) (fun a2 hc => ?_)
  · have hqa2 := oNull.t hp hc
    subst hc
    have hp := hqa2
    refine lv_iconst (v := 0) hx hb dX1_restoreState_11 (by decide) ?_
    exact hB12 _ _ _ _ _ _ _ _ _ hp hM hS hB (lv_sub hl [0] rfl)
  · have hqa2 := oNull.f hp hc
    subst hc
    have hp := hqa2
    refine lv_iconst (v := 1) hx hb dX1_restoreState_7 (by decide) ?_
    refine lv_goto (tgt := 12) hx hb dX1_restoreState_8 (by decide) ?_
    exact hB12 _ _ _ _ _ _ _ _ _ hp hM hS hB (lv_sub hl [0] rfl)
def P_X1_rule (G : wG) (t0 : Nat) (p1 : Int32) (p2 : Int32) (b : Nat) (M : wM) (Q : Int32 → wM → Prop) (Xp : String → Nat → wM → Prop) : Prop :=
  oIs M t0 0 (∃ c2, c2 ≤ b ∧ P_X1_checkStreet G t0 p2 c2 M (fun M1 => ∃ c4, c4 ≤ (b - c2) ∧ P_X1_checkPlate G p1 c4 M1 (fun M3 => oGetA M3 t0 0 0 (fun a5 => oIs M3 a5 1 (P_X2_rule G a5 p1 p2 M3 (fun v8 M6 => Q v8 M6)))) (fun E q9 M10 => (E = "java/lang/IllegalArgumentException" ∧ Xp E q9 M10))) (fun E q11 M12 => (E = "java/lang/IndexOutOfBoundsException" ∧ Xp E q11 M12)))
set_option maxHeartbeats 4000000 in
set_option maxRecDepth 100000 in
theorem P_X1_rule_ok {l : Launch} (hl0 : l.stackTraces = false) {G : wG} {t0 : Nat} {p1 : Int32} {p2 : Int32} {b : Nat} {M : wM} {Q : Int32 → wM → Prop} {Xp : String → Nat → wM → Prop} (hp : P_X1_rule G t0 p1 p2 b M Q Xp) : wMet l yX1_rule (ws_ yX1_rule cX1_rule 3 (Option.some Jvm.ClassFile.FieldType.int)) 20 577 G [.ref t0, .int p1, .int p2] M b (wqI Q) Xp := by
  refine vx_ofW (cc := cX1_rule) (maxL := 3) (ret := Option.some Jvm.ClassFile.FieldType.int) (by decide) rfl ?_
  intro p e s m args below meth c s₁ B hml hnt hv
  obtain ⟨rfl, hM, hK, hZ, hz⟩ := hv
  have hC : wC G s := ⟨hK, hZ, hz⟩
  have hx := B.exec
  have hb := B.bytes
  have hr := B.returns
  have hts := atoms_spec (ws := (ws_ yX1_rule cX1_rule 3 (Option.some Jvm.ClassFile.FieldType.int))) B.pre
  have hts : ∀ w ∈ lw_all, w.before _ s = true := fun w h => hts w (List.mem_cons_of_mem _ h)
  have hown : s.vm.findClass RX1 = some m.cls := findClass_of_methodNamed B.named
  have hlk := B.notSynchronized
  have X : CallFix p m c cX1_rule 3 s ([.ref t0, .int p1, .int p2] : List Value).toArray lw_all RX1 := ⟨hx, hb, hml, hown, hts⟩
  have hS : va_S (wA G) s.heap s.heap [] := va_S.rf
  have hl := lv_entry ([.ref t0, .int p1, .int p2]) (n := 3) (Nat.le_of_ble_eq_true rfl)
  rw [lg_entry_eq]
  generalize (lg_sl ([.ref t0, .int p1, .int p2]) ++ List.replicate (3 - (lg_sl ([.ref t0, .int p1, .int p2])).length) Slot.unset).toArray = ls at hl ⊢
  have hl : lv_has ls 3 [(0, .ref t0), (1, .int p1), (2, .int p2)] := hl
  have hB : 0 + b ≤ ((headSpec (ws_ yX1_rule cX1_rule 3 (Option.some Jvm.ClassFile.FieldType.int)) ({ frames := 20, cells := b, slots := b, locals := 577 })).room).cells ∧ 0 + b ≤ ((headSpec (ws_ yX1_rule cX1_rule 3 (Option.some Jvm.ClassFile.FieldType.int)) ({ frames := 20, cells := b, slots := b, locals := 577 })).room).slots := ⟨Nat.le_of_eq (Nat.zero_add b), Nat.le_of_eq (Nat.zero_add b)⟩
  refine lv_aload_n hx hb dX1_rule_0 rfl (lv_at hl 0 rfl) ?_
  refine lv_iload_n hx hb dX1_rule_1 rfl (lv_at hl 2 rfl) ?_
  obtain ⟨hrec, hp⟩ := hp
  obtain ⟨c2, hc1, hp⟩ := hp
  refine x_callV (vx_runV (As := [.int p2]) (rest := []) X (P_X1_checkStreet_ok (l := l) hl0 hp) (cwV 1 hts (lw_V q2225 q2227 qs37 q148 q2228) rfl rfl rfl (by decide +kernel) ⟨Nat.le_of_ble_eq_true rfl, Nat.le_of_ble_eq_true rfl⟩) ⟨wPc.blind, w_recv hC.1 hM (ci := 0) (q := (RX1, TX1, 8)) rfl hrec, w_pre hC hM hS _⟩ rfl rfl hl.1 rfl (lv_room (Nat.le_of_ble_eq_true rfl)) dX1_rule_2 (w_room hB hc1)) hS hB hc1 (fun E ce q11 M12 H locs hp hM hS hB hcell hcv hcl => ?_) (fun M1 H locs hp hM hS hB => ?_)
  · obtain ⟨rfl, hp⟩ := hp
    exact x_out hlk (fun x h => (hnt x h).elim) hM hS (w_fin hB) hcell hcv hcl hp
  · refine lv_iload_n hx hb dX1_rule_5 rfl (lv_at hl 1 rfl) ?_
    obtain ⟨c4, hc1, hp⟩ := hp
    refine x_callV (vx_runS (As := [.int p1]) (rest := []) X (P_X1_checkPlate_ok (l := l) hl0 hp) (va_cwS 1 hts (lw_S q2451 q2452 q148 q2453) rfl rfl rfl (by decide +kernel) ⟨Nat.le_of_ble_eq_true rfl, Nat.le_of_ble_eq_true rfl⟩) ⟨wPc.blind, w_pre hC hM hS _⟩ rfl rfl hl.1 rfl (lv_room (Nat.le_of_ble_eq_true rfl)) dX1_rule_6 (w_room hB hc1)) hS hB hc1 (fun E ce q9 M10 H locs hp hM hS hB hcell hcv hcl => ?_) (fun M3 H locs hp hM hS hB => ?_)
    · obtain ⟨rfl, hp⟩ := hp
      exact x_out hlk (fun x h => (hnt x h).elim) hM hS (w_fin hB) hcell hcv hcl hp
    · refine lv_aload_n hx hb dX1_rule_9 rfl (lv_at hl 0 rfl) ?_
      refine x_getA X hC.1 hM (ci := 0) (C := RX1) (T := TX1) (N := 8) rfl in_X1 0 (by decide) q973 (fun _ h9 => h9) dX1_rule_10 hp (fun a5 hp => ?_)
      refine lv_iload_n hx hb dX1_rule_13 rfl (lv_at hl 1 rfl) ?_
      refine lv_iload_n hx hb dX1_rule_14 rfl (lv_at hl 2 rfl) ?_
      obtain ⟨hrec, hp⟩ := hp
      refine x_call0I (vx_runV (As := [.int p1, .int p2]) (rest := []) X (P_X2_rule_ok (l := l) hl0 hp) (cwV 2 hts (lw_V q2454 q2455 q2456 q149 q2457) rfl rfl rfl (by decide +kernel) ⟨Nat.le_of_ble_eq_true rfl, Nat.le_of_ble_eq_true rfl⟩) ⟨wPc.blind, w_recv hC.1 hM (ci := 1) (q := (RX2, TX2, 9)) rfl hrec, w_pre hC hM hS _⟩ rfl rfl hl.1 rfl (lv_room (Nat.le_of_ble_eq_true rfl)) dX1_rule_15 (w_room0 hB)) hS (w_room0 hB) (fun _ _ _ _ _ _ h => False.elim h) (fun v8 M6 H locs hp hM hS => ?_)
      exact x_iret X hr hlk hM hS (w_fin hB) dX1_rule_18 ⟨_, rfl, hp⟩
def P_X1_saveState (G : wG) (t0 : Nat) (b : Nat) (M : wM) (Q : Int32 → wM → Prop) : Prop :=
  oGetA M t0 0 0 (fun a1 => oIs M a1 1 (∃ c3, c3 ≤ b ∧ P_X2_copy G a1 c3 M (fun r4 M2 => oPut G M2 t0 0 1 (va_rf r4) (fun M5 => oGetA M5 t0 0 0 (fun a6 => oGetI M5 a6 1 8 (fun v7 => Q v7 M5))))))
set_option maxHeartbeats 4000000 in
set_option maxRecDepth 100000 in
theorem P_X1_saveState_ok {l : Launch} (hl0 : l.stackTraces = false) {G : wG} {t0 : Nat} {b : Nat} {M : wM} {Q : Int32 → wM → Prop} (hp : P_X1_saveState G t0 b M Q) : wMet l yX1_saveState (ws_ yX1_saveState cX1_saveState 1 (Option.some Jvm.ClassFile.FieldType.int)) 19 555 G [.ref t0] M b (wqI Q) wX0 := by
  refine vx_ofW (cc := cX1_saveState) (maxL := 1) (ret := Option.some Jvm.ClassFile.FieldType.int) (by decide) rfl ?_
  intro p e s m args below meth c s₁ B hml hnt hv
  obtain ⟨rfl, hM, hK, hZ, hz⟩ := hv
  have hC : wC G s := ⟨hK, hZ, hz⟩
  have hx := B.exec
  have hb := B.bytes
  have hr := B.returns
  have hts := atoms_spec (ws := (ws_ yX1_saveState cX1_saveState 1 (Option.some Jvm.ClassFile.FieldType.int))) B.pre
  have hts : ∀ w ∈ lw_all, w.before _ s = true := fun w h => hts w (List.mem_cons_of_mem _ h)
  have hown : s.vm.findClass RX1 = some m.cls := findClass_of_methodNamed B.named
  have hlk := B.notSynchronized
  have X : CallFix p m c cX1_saveState 1 s ([.ref t0] : List Value).toArray lw_all RX1 := ⟨hx, hb, hml, hown, hts⟩
  have hS : va_S (wA G) s.heap s.heap [] := va_S.rf
  have hl := lv_entry ([.ref t0]) (n := 1) (Nat.le_of_ble_eq_true rfl)
  rw [lg_entry_eq]
  generalize (lg_sl ([.ref t0]) ++ List.replicate (1 - (lg_sl ([.ref t0])).length) Slot.unset).toArray = ls at hl ⊢
  have hl : lv_has ls 1 [(0, .ref t0)] := hl
  have hB : 0 + b ≤ ((headSpec (ws_ yX1_saveState cX1_saveState 1 (Option.some Jvm.ClassFile.FieldType.int)) ({ frames := 19, cells := b, slots := b, locals := 555 })).room).cells ∧ 0 + b ≤ ((headSpec (ws_ yX1_saveState cX1_saveState 1 (Option.some Jvm.ClassFile.FieldType.int)) ({ frames := 19, cells := b, slots := b, locals := 555 })).room).slots := ⟨Nat.le_of_eq (Nat.zero_add b), Nat.le_of_eq (Nat.zero_add b)⟩
  refine lv_aload_n hx hb dX1_saveState_0 rfl (lv_at hl 0 rfl) ?_
  refine lv_aload_n hx hb dX1_saveState_1 rfl (lv_at hl 0 rfl) ?_
  refine x_getA X hC.1 hM (ci := 0) (C := RX1) (T := TX1) (N := 8) rfl in_X1 0 (by decide) q973 (fun _ h9 => h9) dX1_saveState_2 hp (fun a1 hp => ?_)
  obtain ⟨hrec, hp⟩ := hp
  obtain ⟨c3, hc1, hp⟩ := hp
  refine x_callR (vx_runV (As := []) (rest := [.ref t0]) X (P_X2_copy_ok (l := l) hl0 hp) (cwV 0 hts (lw_V q2064 q2065 q2066 q149 q2067) rfl rfl rfl (by decide +kernel) ⟨Nat.le_of_ble_eq_true rfl, Nat.le_of_ble_eq_true rfl⟩) ⟨wPc.blind, w_recv hC.1 hM (ci := 1) (q := (RX2, TX2, 9)) rfl hrec, w_pre hC hM hS _⟩ rfl rfl hl.1 rfl (lv_room (Nat.le_of_ble_eq_true rfl)) dX1_saveState_5 (w_room hB hc1)) hS hB hc1 (fun _ _ _ _ _ _ h => False.elim h) (fun r4 M2 H locs hp hM hS hB => ?_)
  refine x_put X hC.1 hM hS (ci := 0) (C := RX1) (T := TX1) (N := 8) rfl in_X1 tyX1 tyX1_ok nmX1 1 (by decide) q974 (fun _ h9 => h9) rfl (w_nobj _ r4) (w_fobj _ r4) dX1_saveState_8 hp (fun M5 H locs hM hS hp => ?_)
  refine lv_aload_n hx hb dX1_saveState_11 rfl (lv_at hl 0 rfl) ?_
  refine x_getA X hC.1 hM (ci := 0) (C := RX1) (T := TX1) (N := 8) rfl in_X1 0 (by decide) q973 (fun _ h9 => h9) dX1_saveState_12 hp (fun a6 hp => ?_)
  refine x_getIN X hC.1 hM (ci := 1) (C := RX2) (T := TX2) (N := 9) rfl in_X2 8 (by decide) q934 (fun _ h9 => h9) dX1_saveState_15 hp (fun v7 hp => ?_)
  exact x_iret X hr hlk hM hS (w_fin hB) dX1_saveState_18 ⟨_, rfl, hp⟩
def B_X1_setLimit_32 (G : wG) (Q : Int32 → wM → Prop) (Xp : String → Nat → wM → Prop) (x0 : Nat) (x1 : Int32) (x2 : Int32) (y0 : Int32) (M : wM) (bq : Nat) : Prop :=
  ∃ c2, c2 ≤ bq ∧ P_X1_checkState G y0 c2 M (fun M1 => oGetA M1 x0 0 0 (fun a3 => oGetA M1 a3 1 6 (fun a4 => oIald .int M1 a4 x1 (fun v5 => oIs M1 x0 0 (∃ c7, c7 ≤ (bq - c2) ∧ P_X1_remember G x0 c7 M1 (fun M6 => oGetA M6 x0 0 0 (fun a8 => oGetA M6 a8 1 6 (fun a9 => oIast G M6 a9 x1 x2 (fun M10 => oGetA M10 x0 0 0 (fun a11 => oIs M10 a11 1 (P_X2_offer G a11 M10 (fun M12 => Q v5 M12)))))))))))) (fun E q14 M15 => (E = "java/lang/IllegalStateException" ∧ Xp E q14 M15))
def P_X1_setLimit (G : wG) (t0 : Nat) (p1 : Int32) (p2 : Int32) (b : Nat) (M : wM) (Q : Int32 → wM → Prop) (Xp : String → Nat → wM → Prop) : Prop :=
  oIs M t0 0 (∃ c2, c2 ≤ b ∧ P_X1_checkZone G t0 p1 c2 M (fun M1 => P_X1_inRange G p2 (0 : Int32) (40 : Int32) M1 (fun r5 M3 => ∃ c7, c7 ≤ (b - c2) ∧ P_X1_checkArgument G (wb r5) c7 M3 (fun M6 => oGetA M6 t0 0 0 (fun a8 => oIs M6 a8 1 (P_X2_taken G a8 p1 M6 (fun v11 M9 => oIf (p2 < v11) (B_X1_setLimit_32 G Q Xp t0 p1 p2 (0 : Int32) M9 ((b - c2) - c7)) (B_X1_setLimit_32 G Q Xp t0 p1 p2 (1 : Int32) M9 ((b - c2) - c7)))))) (fun E q12 M13 => (E = "java/lang/IllegalArgumentException" ∧ Xp E q12 M13)))) (fun E q14 M15 => (E = "java/lang/IndexOutOfBoundsException" ∧ Xp E q14 M15)))
set_option maxHeartbeats 4000000 in
set_option maxRecDepth 100000 in
theorem P_X1_setLimit_ok {l : Launch} (hl0 : l.stackTraces = false) {G : wG} {t0 : Nat} {p1 : Int32} {p2 : Int32} {b : Nat} {M : wM} {Q : Int32 → wM → Prop} {Xp : String → Nat → wM → Prop} (hp : P_X1_setLimit G t0 p1 p2 b M Q Xp) : wMet l yX1_setLimit (ws_ yX1_setLimit cX1_setLimit 4 (Option.some Jvm.ClassFile.FieldType.int)) 20 575 G [.ref t0, .int p1, .int p2] M b (wqI Q) Xp := by
  refine vx_ofW (cc := cX1_setLimit) (maxL := 4) (ret := Option.some Jvm.ClassFile.FieldType.int) (by decide) rfl ?_
  intro p e s m args below meth c s₁ B hml hnt hv
  obtain ⟨rfl, hM, hK, hZ, hz⟩ := hv
  have hC : wC G s := ⟨hK, hZ, hz⟩
  have hx := B.exec
  have hb := B.bytes
  have hr := B.returns
  have hts := atoms_spec (ws := (ws_ yX1_setLimit cX1_setLimit 4 (Option.some Jvm.ClassFile.FieldType.int))) B.pre
  have hts : ∀ w ∈ lw_all, w.before _ s = true := fun w h => hts w (List.mem_cons_of_mem _ h)
  have hown : s.vm.findClass RX1 = some m.cls := findClass_of_methodNamed B.named
  have hlk := B.notSynchronized
  have X : CallFix p m c cX1_setLimit 4 s ([.ref t0, .int p1, .int p2] : List Value).toArray lw_all RX1 := ⟨hx, hb, hml, hown, hts⟩
  have hS : va_S (wA G) s.heap s.heap [] := va_S.rf
  have hl := lv_entry ([.ref t0, .int p1, .int p2]) (n := 4) (Nat.le_of_ble_eq_true rfl)
  rw [lg_entry_eq]
  generalize (lg_sl ([.ref t0, .int p1, .int p2]) ++ List.replicate (4 - (lg_sl ([.ref t0, .int p1, .int p2])).length) Slot.unset).toArray = ls at hl ⊢
  have hl : lv_has ls 4 [(0, .ref t0), (1, .int p1), (2, .int p2)] := hl
  have hB : 0 + b ≤ ((headSpec (ws_ yX1_setLimit cX1_setLimit 4 (Option.some Jvm.ClassFile.FieldType.int)) ({ frames := 20, cells := b, slots := b, locals := 575 })).room).cells ∧ 0 + b ≤ ((headSpec (ws_ yX1_setLimit cX1_setLimit 4 (Option.some Jvm.ClassFile.FieldType.int)) ({ frames := 20, cells := b, slots := b, locals := 575 })).room).slots := ⟨Nat.le_of_eq (Nat.zero_add b), Nat.le_of_eq (Nat.zero_add b)⟩
  have hB32 : ∀ (x0 : Nat) (x1 : Int32) (x2 : Int32) (y0 : Int32) (M : wM) (bq : Nat) (H : Heap) (locs : List Loc) (ls : Array Slot) (cells slots : Nat), B_X1_setLimit_32 G Q Xp x0 x1 x2 y0 M bq → wR G M H → va_S (wA G) s.heap H locs → (cells + bq ≤ ((headSpec (ws_ yX1_setLimit cX1_setLimit 4 (Option.some Jvm.ClassFile.FieldType.int)) ({ frames := 20, cells := b, slots := b, locals := 575 })).room).cells ∧ slots + bq ≤ ((headSpec (ws_ yX1_setLimit cX1_setLimit 4 (Option.some Jvm.ClassFile.FieldType.int)) ({ frames := 20, cells := b, slots := b, locals := 575 })).room).slots) → lv_has ls 4 [(0, .ref x0), (1, .int x1), (2, .int x2)] → W p l e (headSpec (ws_ yX1_setLimit cX1_setLimit 4 (Option.some Jvm.ClassFile.FieldType.int)) ({ frames := 20, cells := b, slots := b, locals := 575 })).room s m ([.ref t0, .int p1, .int p2] : List Value).toArray below meth c H locs cells slots (vx_MQ below (wQ G (wqI Q)) (wXC G Xp) ([.ref t0, .int p1, .int p2] : List Value).toArray s b b (wA G)) (F0 m 32 ls [.int y0]) := by
    intro x0 x1 x2 y0 M bq H locs ls cells slots hp hM hS hB hl
    obtain ⟨c2, hc1, hp⟩ := hp
    refine x_callV (vx_runS (As := [.int y0]) (rest := []) X (P_X1_checkState_ok (l := l) hl0 hp) (va_cwS 1 hts (lw_S q2690 q2691 q148 q2692) rfl rfl rfl (by decide +kernel) ⟨Nat.le_of_ble_eq_true rfl, Nat.le_of_ble_eq_true rfl⟩) ⟨wPc.blind, w_pre hC hM hS _⟩ rfl rfl hl.1 rfl (lv_room (Nat.le_of_ble_eq_true rfl)) dX1_setLimit_32 (w_room hB hc1)) hS hB hc1 (fun E ce q14 M15 H locs hp hM hS hB hcell hcv hcl => ?_) (fun M1 H locs hp hM hS hB => ?_)
    · obtain ⟨rfl, hp⟩ := hp
      exact x_out hlk (fun x h => (hnt x h).elim) hM hS (w_fin hB) hcell hcv hcl hp
    · refine lv_aload_n hx hb dX1_setLimit_35 rfl (lv_at hl 0 rfl) ?_
      refine x_getA X hC.1 hM (ci := 0) (C := RX1) (T := TX1) (N := 8) rfl in_X1 0 (by decide) q973 (fun _ h9 => h9) dX1_setLimit_36 hp (fun a3 hp => ?_)
      refine x_getAN X hC.1 hM (ci := 1) (C := RX2) (T := TX2) (N := 9) rfl in_X2 6 (by decide) q930 (fun _ h9 => h9) dX1_setLimit_39 hp (fun a4 hp => ?_)
      refine lv_iload_n hx hb dX1_setLimit_42 rfl (lv_at hl 1 rfl) ?_
      refine x_iald X hC.1 hM dX1_setLimit_43 hp (fun v5 hp => ?_)
      refine lv_istore_n (lv' := [(3, .int v5), (0, .ref x0), (1, .int x1), (2, .int x2)]) hx hb dX1_setLimit_44 rfl hl (by decide) rfl (fun ls hl => ?_)
      refine lv_aload_n hx hb dX1_setLimit_45 rfl (lv_at hl 1 rfl) ?_
      obtain ⟨hrec, hp⟩ := hp
      obtain ⟨c7, hc1, hp⟩ := hp
      refine x_callV (vx_runV (As := []) (rest := []) X (P_X1_remember_ok (l := l) hl0 hp) (cwV 0 hts (lw_V q2543 q2545 qs49 q148 q2546) rfl rfl rfl (by decide +kernel) ⟨Nat.le_of_ble_eq_true rfl, Nat.le_of_ble_eq_true rfl⟩) ⟨wPc.blind, w_recv hC.1 hM (ci := 0) (q := (RX1, TX1, 8)) rfl hrec, w_pre hC hM hS _⟩ rfl rfl hl.1 rfl (lv_room (Nat.le_of_ble_eq_true rfl)) dX1_setLimit_46 (w_room hB hc1)) hS hB hc1 (fun _ _ _ _ _ _ h => False.elim h) (fun M6 H locs hp hM hS hB => ?_)
      refine lv_aload_n hx hb dX1_setLimit_49 rfl (lv_at hl 1 rfl) ?_
      refine x_getA X hC.1 hM (ci := 0) (C := RX1) (T := TX1) (N := 8) rfl in_X1 0 (by decide) q973 (fun _ h9 => h9) dX1_setLimit_50 hp (fun a8 hp => ?_)
      refine x_getAN X hC.1 hM (ci := 1) (C := RX2) (T := TX2) (N := 9) rfl in_X2 6 (by decide) q930 (fun _ h9 => h9) dX1_setLimit_53 hp (fun a9 hp => ?_)
      refine lv_iload_n hx hb dX1_setLimit_56 rfl (lv_at hl 2 rfl) ?_
      refine lv_iload_n hx hb dX1_setLimit_57 rfl (lv_at hl 3 rfl) ?_
      refine x_iast X hC.1 hM hS dX1_setLimit_58 hp (fun M10 H locs hM hS hp => ?_)
      refine lv_aload_n hx hb dX1_setLimit_59 rfl (lv_at hl 1 rfl) ?_
      refine x_getA X hC.1 hM (ci := 0) (C := RX1) (T := TX1) (N := 8) rfl in_X1 0 (by decide) q973 (fun _ h9 => h9) dX1_setLimit_60 hp (fun a11 hp => ?_)
      obtain ⟨hrec, hp⟩ := hp
      refine x_call0V (vx_runV (As := []) (rest := []) X (P_X2_offer_ok (l := l) hl0 hp) (cwV 0 hts (lw_V q2682 q2609 q2610 q149 q2611) rfl rfl rfl (by decide +kernel) ⟨Nat.le_of_ble_eq_true rfl, Nat.le_of_ble_eq_true rfl⟩) ⟨wPc.blind, w_recv hC.1 hM (ci := 1) (q := (RX2, TX2, 9)) rfl hrec, w_pre hC hM hS _⟩ rfl rfl hl.1 rfl (lv_room (Nat.le_of_ble_eq_true rfl)) dX1_setLimit_63 (w_room0 hB)) hS (w_room0 hB) (fun _ _ _ _ _ _ h => False.elim h) (fun M12 H locs hp hM hS => ?_)
      refine lv_iload_n hx hb dX1_setLimit_66 rfl (lv_at hl 0 rfl) ?_
      exact x_iret X hr hlk hM hS (w_fin hB) dX1_setLimit_67 ⟨_, rfl, hp⟩
  refine lv_aload_n hx hb dX1_setLimit_0 rfl (lv_at hl 0 rfl) ?_
  refine lv_iload_n hx hb dX1_setLimit_1 rfl (lv_at hl 1 rfl) ?_
  obtain ⟨hrec, hp⟩ := hp
  obtain ⟨c2, hc1, hp⟩ := hp
  refine x_callV (vx_runV (As := [.int p1]) (rest := []) X (P_X1_checkZone_ok (l := l) hl0 hp) (cwV 1 hts (lw_V q2196 q2198 qs35 q148 q2199) rfl rfl rfl (by decide +kernel) ⟨Nat.le_of_ble_eq_true rfl, Nat.le_of_ble_eq_true rfl⟩) ⟨wPc.blind, w_recv hC.1 hM (ci := 0) (q := (RX1, TX1, 8)) rfl hrec, w_pre hC hM hS _⟩ rfl rfl hl.1 rfl (lv_room (Nat.le_of_ble_eq_true rfl)) dX1_setLimit_2 (w_room hB hc1)) hS hB hc1 (fun E ce q14 M15 H locs hp hM hS hB hcell hcv hcl => ?_) (fun M1 H locs hp hM hS hB => ?_)
  · obtain ⟨rfl, hp⟩ := hp
    exact x_out hlk (fun x h => (hnt x h).elim) hM hS (w_fin hB) hcell hcv hcl hp
  · refine lv_iload_n hx hb dX1_setLimit_5 rfl (lv_at hl 2 rfl) ?_
    refine lv_iconst (v := 0) hx hb dX1_setLimit_6 (by decide) ?_
    refine lv_bipush (v := 40) hx hb dX1_setLimit_7 (by decide) ?_
    refine x_call0Z (vx_runS (As := [.int p2, .int (0 : Int32), .int (40 : Int32)]) (rest := []) X (P_X1_inRange_ok (l := l) hl0 hp) (va_cwS 3 hts (lw_S q1012 q1013 q148 q1014) rfl rfl rfl (by decide +kernel) ⟨Nat.le_of_ble_eq_true rfl, Nat.le_of_ble_eq_true rfl⟩) ⟨wPc.blind, w_pre hC hM hS _⟩ rfl rfl hl.1 rfl (lv_room (Nat.le_of_ble_eq_true rfl)) dX1_setLimit_9 (w_room0 hB)) hS (w_room0 hB) (fun _ _ _ _ _ _ h => False.elim h) (fun r5 M3 H locs hp hM hS => ?_)
    obtain ⟨c7, hc1, hp⟩ := hp
    refine x_callV (vx_runS (As := [.int (wb r5)]) (rest := []) X (P_X1_checkArgument_ok (l := l) hl0 hp) (va_cwS 1 hts (lw_S q2325 q2326 q148 q2327) rfl rfl rfl (by decide +kernel) ⟨Nat.le_of_ble_eq_true rfl, Nat.le_of_ble_eq_true rfl⟩) ⟨wPc.blind, w_pre hC hM hS _⟩ rfl rfl hl.1 rfl (lv_room (Nat.le_of_ble_eq_true rfl)) dX1_setLimit_12 (w_room hB hc1)) hS hB hc1 (fun E ce q12 M13 H locs hp hM hS hB hcell hcv hcl => ?_) (fun M6 H locs hp hM hS hB => ?_)
    · obtain ⟨rfl, hp⟩ := hp
      exact x_out hlk (fun x h => (hnt x h).elim) hM hS (w_fin hB) hcell hcv hcl hp
    · refine lv_aload_n hx hb dX1_setLimit_15 rfl (lv_at hl 0 rfl) ?_
      refine x_getA X hC.1 hM (ci := 0) (C := RX1) (T := TX1) (N := 8) rfl in_X1 0 (by decide) q973 (fun _ h9 => h9) dX1_setLimit_16 hp (fun a8 hp => ?_)
      refine lv_iload_n hx hb dX1_setLimit_19 rfl (lv_at hl 1 rfl) ?_
      obtain ⟨hrec, hp⟩ := hp
      refine x_call0I (vx_runV (As := [.int p1]) (rest := []) X (P_X2_taken_ok (l := l) hl0 hp) (cwV 1 hts (lw_V q2970 q2617 q2618 q149 q2619) rfl rfl rfl (by decide +kernel) ⟨Nat.le_of_ble_eq_true rfl, Nat.le_of_ble_eq_true rfl⟩) ⟨wPc.blind, w_recv hC.1 hM (ci := 1) (q := (RX2, TX2, 9)) rfl hrec, w_pre hC hM hS _⟩ rfl rfl hl.1 rfl (lv_room (Nat.le_of_ble_eq_true rfl)) dX1_setLimit_20 (w_room0 hB)) hS (w_room0 hB) (fun _ _ _ _ _ _ h => False.elim h) (fun v11 M9 H locs hp hM hS => ?_)
      refine lv_iload_n hx hb dX1_setLimit_23 rfl (lv_at hl 2 rfl) ?_
      refine lv_icmp_gt (tgt := 31) hx hb dX1_setLimit_24 (by decide) (fun hc => ?_) (fun hc => ?_)
      · have hp := oIf.t hp hc
        refine lv_iconst (v := 0) hx hb dX1_setLimit_31 (by decide) ?_
        exact hB32 _ _ _ _ _ _ _ _ _ _ _ hp hM hS hB (lv_sub hl [0, 1, 2] rfl)
      · have hp := oIf.f hp hc
        refine lv_iconst (v := 1) hx hb dX1_setLimit_27 (by decide) ?_
        refine lv_goto (tgt := 32) hx hb dX1_setLimit_28 (by decide) ?_
        exact hB32 _ _ _ _ _ _ _ _ _ _ _ hp hM hS hB (lv_sub hl [0, 1, 2] rfl)
def B_X1_housesAt_47 (G : wG) (rec15 : Int32 → Int32 → Option Nat → wM → Nat → Prop) (Q : Int32 → wM → Prop) (x1 : Int32) (x2 : Int32) (x3 : Nat) (M : wM) (bq : Nat) : Prop :=
  rec15 x1 x2 (some x3) M bq
def B_X1_housesAt_15 (G : wG) (rec15 : Int32 → Int32 → Option Nat → wM → Nat → Prop) (Q : Int32 → wM → Prop) (x1 : Int32) (x2 : Int32) (x3 : Option Nat) (M : wM) (bq : Nat) : Prop :=
  oRef x3 (fun a1 => oIs M a1 20 (P_J32_hasNext G a1 M (fun r4 M2 => oIf (r4 = true) (oIs M2 a1 20 (P_J32_next G a1 M2 (fun r7 M5 => oCast M5 r7 8 (oRef r7 (fun a8 => oGetI M5 a8 8 0 (fun v9 => oIf (v9 = x1) (B_X1_housesAt_47 G rec15 Q x1 (x2 + 1) a1 M5 bq) (B_X1_housesAt_47 G rec15 Q x1 x2 a1 M5 bq))))))) (Q x2 M2))))
def L_X1_housesAt_15 (G : wG) (Q : Int32 → wM → Prop) : Nat → Int32 → Int32 → Option Nat → wM → Nat → Prop
  | 0 => fun _ _ _ _ _ => False
  | n + 1 => B_X1_housesAt_15 G (L_X1_housesAt_15 G Q n) Q
def P_X1_housesAt (G : wG) (t0 : Nat) (p1 : Int32) (b : Nat) (M : wM) (Q : Int32 → wM → Prop) : Prop :=
  oIs M t0 0 (P_X1_setup G t0 M (fun r3 M1 => oRef r3 (fun a4 => oGetA M1 a4 2 2 (fun a5 => oIs M1 a5 16 (∃ c7, c7 ≤ b ∧ P_J2_iterator G a5 c7 M1 (fun r8 M6 => ∃ n, L_X1_housesAt_15 G Q n p1 (0 : Int32) r8 M6 (b - c7)))))))
set_option maxHeartbeats 4000000 in
set_option maxRecDepth 100000 in
theorem P_X1_housesAt_ok {l : Launch} (hl0 : l.stackTraces = false) {G : wG} {t0 : Nat} {p1 : Int32} {b : Nat} {M : wM} {Q : Int32 → wM → Prop} (hp : P_X1_housesAt G t0 p1 b M Q) : wMet l yX1_housesAt (ws_ yX1_housesAt cX1_housesAt 5 (Option.some Jvm.ClassFile.FieldType.int)) 14 442 G [.ref t0, .int p1] M b (wqI Q) wX0 := by
  refine vx_ofW (cc := cX1_housesAt) (maxL := 5) (ret := Option.some Jvm.ClassFile.FieldType.int) (by decide) rfl ?_
  intro p e s m args below meth c s₁ B hml hnt hv
  obtain ⟨rfl, hM, hK, hZ, hz⟩ := hv
  have hC : wC G s := ⟨hK, hZ, hz⟩
  have hx := B.exec
  have hb := B.bytes
  have hr := B.returns
  have hts := atoms_spec (ws := (ws_ yX1_housesAt cX1_housesAt 5 (Option.some Jvm.ClassFile.FieldType.int))) B.pre
  have hts : ∀ w ∈ lw_all, w.before _ s = true := fun w h => hts w (List.mem_cons_of_mem _ h)
  have hown : s.vm.findClass RX1 = some m.cls := findClass_of_methodNamed B.named
  have hlk := B.notSynchronized
  have X : CallFix p m c cX1_housesAt 5 s ([.ref t0, .int p1] : List Value).toArray lw_all RX1 := ⟨hx, hb, hml, hown, hts⟩
  have hS : va_S (wA G) s.heap s.heap [] := va_S.rf
  have hl := lv_entry ([.ref t0, .int p1]) (n := 5) (Nat.le_of_ble_eq_true rfl)
  rw [lg_entry_eq]
  generalize (lg_sl ([.ref t0, .int p1]) ++ List.replicate (5 - (lg_sl ([.ref t0, .int p1])).length) Slot.unset).toArray = ls at hl ⊢
  have hl : lv_has ls 5 [(0, .ref t0), (1, .int p1)] := hl
  have hB : 0 + b ≤ ((headSpec (ws_ yX1_housesAt cX1_housesAt 5 (Option.some Jvm.ClassFile.FieldType.int)) ({ frames := 14, cells := b, slots := b, locals := 442 })).room).cells ∧ 0 + b ≤ ((headSpec (ws_ yX1_housesAt cX1_housesAt 5 (Option.some Jvm.ClassFile.FieldType.int)) ({ frames := 14, cells := b, slots := b, locals := 442 })).room).slots := ⟨Nat.le_of_eq (Nat.zero_add b), Nat.le_of_eq (Nat.zero_add b)⟩
  have hB47 : ∀ (rec15 : Int32 → Int32 → Option Nat → wM → Nat → Prop) (hrec15 : ∀ (x1 : Int32) (x2 : Int32) (x3 : Option Nat) (M : wM) (bq : Nat) (H : Heap) (locs : List Loc) (ls : Array Slot) (cells slots : Nat), rec15 x1 x2 x3 M bq → wR G M H → va_S (wA G) s.heap H locs → (cells + bq ≤ ((headSpec (ws_ yX1_housesAt cX1_housesAt 5 (Option.some Jvm.ClassFile.FieldType.int)) ({ frames := 14, cells := b, slots := b, locals := 442 })).room).cells ∧ slots + bq ≤ ((headSpec (ws_ yX1_housesAt cX1_housesAt 5 (Option.some Jvm.ClassFile.FieldType.int)) ({ frames := 14, cells := b, slots := b, locals := 442 })).room).slots) → lv_has ls 5 [(1, .int x1), (2, .int x2), (3, va_rf x3)] → W p l e (headSpec (ws_ yX1_housesAt cX1_housesAt 5 (Option.some Jvm.ClassFile.FieldType.int)) ({ frames := 14, cells := b, slots := b, locals := 442 })).room s m ([.ref t0, .int p1] : List Value).toArray below meth c H locs cells slots (vx_MQ below (wQ G (wqI Q)) (wXC G wX0) ([.ref t0, .int p1] : List Value).toArray s b b (wA G)) (F0 m 15 ls [])), ∀ (x1 : Int32) (x2 : Int32) (x3 : Nat) (M : wM) (bq : Nat) (H : Heap) (locs : List Loc) (ls : Array Slot) (cells slots : Nat), B_X1_housesAt_47 G rec15 Q x1 x2 x3 M bq → wR G M H → va_S (wA G) s.heap H locs → (cells + bq ≤ ((headSpec (ws_ yX1_housesAt cX1_housesAt 5 (Option.some Jvm.ClassFile.FieldType.int)) ({ frames := 14, cells := b, slots := b, locals := 442 })).room).cells ∧ slots + bq ≤ ((headSpec (ws_ yX1_housesAt cX1_housesAt 5 (Option.some Jvm.ClassFile.FieldType.int)) ({ frames := 14, cells := b, slots := b, locals := 442 })).room).slots) → lv_has ls 5 [(1, .int x1), (2, .int x2), (3, .ref x3)] → W p l e (headSpec (ws_ yX1_housesAt cX1_housesAt 5 (Option.some Jvm.ClassFile.FieldType.int)) ({ frames := 14, cells := b, slots := b, locals := 442 })).room s m ([.ref t0, .int p1] : List Value).toArray below meth c H locs cells slots (vx_MQ below (wQ G (wqI Q)) (wXC G wX0) ([.ref t0, .int p1] : List Value).toArray s b b (wA G)) (F0 m 47 ls []) := by
    intro rec15 hrec15 x1 x2 x3 M bq H locs ls cells slots hp hM hS hB hl
    refine lv_goto (tgt := 15) hx hb dX1_housesAt_47 (by decide) ?_
    exact hrec15 _ _ _ _ _ _ _ _ _ _ hp hM hS hB (lv_sub hl [0, 1, 2] rfl)
  have hB15 : ∀ (rec15 : Int32 → Int32 → Option Nat → wM → Nat → Prop) (hrec15 : ∀ (x1 : Int32) (x2 : Int32) (x3 : Option Nat) (M : wM) (bq : Nat) (H : Heap) (locs : List Loc) (ls : Array Slot) (cells slots : Nat), rec15 x1 x2 x3 M bq → wR G M H → va_S (wA G) s.heap H locs → (cells + bq ≤ ((headSpec (ws_ yX1_housesAt cX1_housesAt 5 (Option.some Jvm.ClassFile.FieldType.int)) ({ frames := 14, cells := b, slots := b, locals := 442 })).room).cells ∧ slots + bq ≤ ((headSpec (ws_ yX1_housesAt cX1_housesAt 5 (Option.some Jvm.ClassFile.FieldType.int)) ({ frames := 14, cells := b, slots := b, locals := 442 })).room).slots) → lv_has ls 5 [(1, .int x1), (2, .int x2), (3, va_rf x3)] → W p l e (headSpec (ws_ yX1_housesAt cX1_housesAt 5 (Option.some Jvm.ClassFile.FieldType.int)) ({ frames := 14, cells := b, slots := b, locals := 442 })).room s m ([.ref t0, .int p1] : List Value).toArray below meth c H locs cells slots (vx_MQ below (wQ G (wqI Q)) (wXC G wX0) ([.ref t0, .int p1] : List Value).toArray s b b (wA G)) (F0 m 15 ls [])), ∀ (x1 : Int32) (x2 : Int32) (x3 : Option Nat) (M : wM) (bq : Nat) (H : Heap) (locs : List Loc) (ls : Array Slot) (cells slots : Nat), B_X1_housesAt_15 G rec15 Q x1 x2 x3 M bq → wR G M H → va_S (wA G) s.heap H locs → (cells + bq ≤ ((headSpec (ws_ yX1_housesAt cX1_housesAt 5 (Option.some Jvm.ClassFile.FieldType.int)) ({ frames := 14, cells := b, slots := b, locals := 442 })).room).cells ∧ slots + bq ≤ ((headSpec (ws_ yX1_housesAt cX1_housesAt 5 (Option.some Jvm.ClassFile.FieldType.int)) ({ frames := 14, cells := b, slots := b, locals := 442 })).room).slots) → lv_has ls 5 [(1, .int x1), (2, .int x2), (3, va_rf x3)] → W p l e (headSpec (ws_ yX1_housesAt cX1_housesAt 5 (Option.some Jvm.ClassFile.FieldType.int)) ({ frames := 14, cells := b, slots := b, locals := 442 })).room s m ([.ref t0, .int p1] : List Value).toArray below meth c H locs cells slots (vx_MQ below (wQ G (wqI Q)) (wXC G wX0) ([.ref t0, .int p1] : List Value).toArray s b b (wA G)) (F0 m 15 ls []) := by
    intro rec15 hrec15 x1 x2 x3 M bq H locs ls cells slots hp hM hS hB hl
    refine x_aload_n (r := x3) hx hb dX1_housesAt_15 rfl (lv_at hl 2 rfl) ?_
    obtain ⟨a1, ea, hqa1⟩ := hp
    subst ea
    have hp := hqa1
    have hl : lv_has ls 5 [(1, .int x1), (2, .int x2), (3, .ref a1)] := hl
    obtain ⟨hrec, hp⟩ := hp
    refine x_call0Z5 (vx_runF (hC.1.1.1 20 (RJ32, TJ32, 4) rfl).2 (C := "java/util/ArrayList$Itr") (As := []) (rest := []) X (P_J32_hasNext_ok (l := l) hl0 hp) (va_cwF 0 hts (lw_app (w_mem4 q2016 q1803 q1805 q190) (lw_meth q1807)) rfl rfl rfl (wfw_14 hC.1) (by decide +kernel) ⟨Nat.le_of_ble_eq_true rfl, Nat.le_of_ble_eq_true rfl⟩) ⟨wPc.blind, w_recv hC.1 hM (ci := 20) (q := (RJ32, TJ32, 4)) rfl hrec, w_pre hC hM hS _⟩ rfl rfl hl.1 rfl (lv_room (Nat.le_of_ble_eq_true rfl)) dX1_housesAt_16 (w_room0 hB)) hS (w_room0 hB) (fun _ _ _ _ _ _ h => False.elim h) (fun r4 M2 H locs hp hM hS => ?_)
    refine x_ifeqB (tgt := 50) hx hb dX1_housesAt_21 (by decide) (fun hc => ?_) (fun hc => ?_)
    · have hp := oIf.bf hp hc
      refine lv_iload_n hx hb dX1_housesAt_50 rfl (lv_at hl 1 rfl) ?_
      exact x_iret X hr hlk hM hS (w_fin hB) dX1_housesAt_51 ⟨_, rfl, hp⟩
    · have hp := oIf.bt hp hc
      refine lv_aload_n hx hb dX1_housesAt_24 rfl (lv_at hl 2 rfl) ?_
      obtain ⟨hrec, hp⟩ := hp
      refine x_call0R5 (vx_runF (hC.1.1.1 20 (RJ32, TJ32, 4) rfl).2 (C := "java/util/ArrayList$Itr") (As := []) (rest := []) X (P_J32_next_ok (l := l) hl0 hp) (va_cwF 0 hts (lw_app (w_mem4 q2018 q1919 q1921 q190) (lw_meth q1923)) rfl rfl rfl (wfw_15 hC.1) (by decide +kernel) ⟨Nat.le_of_ble_eq_true rfl, Nat.le_of_ble_eq_true rfl⟩) ⟨wPc.blind, w_recv hC.1 hM (ci := 20) (q := (RJ32, TJ32, 4)) rfl hrec, w_pre hC hM hS _⟩ rfl rfl hl.1 rfl (lv_room (Nat.le_of_ble_eq_true rfl)) dX1_housesAt_25 (w_room0 hB)) hS (w_room0 hB) (fun _ _ _ _ _ _ h => False.elim h) (fun r7 M5 H locs hp hM hS => ?_)
      refine x_cast (r := r7) X hC.1 hM q2238 (ci := 8) rfl (Or.inl rfl) dX1_housesAt_30 hp (fun hp => ?_)
      refine x_astore (r := r7) (lv' := [(4, va_rf r7), (1, .int x1), (2, .int x2), (3, .ref a1)]) hx hb dX1_housesAt_33 hl (by decide) rfl (fun ls hl => ?_)
      refine x_aload (r := r7) hx hb dX1_housesAt_35 (lv_at hl 0 rfl) ?_
      obtain ⟨a8, ea, hqa8⟩ := hp
      subst ea
      have hp := hqa8
      have hl : lv_has ls 5 [(4, .ref a8), (1, .int x1), (2, .int x2), (3, .ref a1)] := hl
      refine x_getIN X hC.1 hM (ci := 8) (C := RX9) (T := TX9) (N := 3) rfl in_X9 0 (by decide) q1467 (fun _ h9 => h9) dX1_housesAt_37 hp (fun v9 hp => ?_)
      refine lv_iload_n hx hb dX1_housesAt_40 rfl (lv_at hl 1 rfl) ?_
      refine lv_icmp_ne (tgt := 47) hx hb dX1_housesAt_41 (by decide) (fun hc => ?_) (fun hc => ?_)
      · have hp := oIf.f hp hc
        exact hB47 rec15 hrec15 _ _ _ _ _ _ _ _ _ _ hp hM hS hB (lv_sub hl [1, 2, 3] rfl)
      · have hp := oIf.t hp hc
        refine lv_iinc (v := (x2 + 1)) (lv' := [(2, .int (x2 + 1)), (4, .ref a8), (1, .int x1), (3, .ref a1)]) hx hb dX1_housesAt_44 hl (k := 2) rfl rfl (by decide) rfl (fun ls hl => ?_)
        exact hB47 rec15 hrec15 _ _ _ _ _ _ _ _ _ _ hp hM hS hB (lv_sub hl [2, 0, 3] rfl)
  have hL15 : ∀ (n : Nat), ∀ (x1 : Int32) (x2 : Int32) (x3 : Option Nat) (M : wM) (bq : Nat) (H : Heap) (locs : List Loc) (ls : Array Slot) (cells slots : Nat), L_X1_housesAt_15 G Q n x1 x2 x3 M bq → wR G M H → va_S (wA G) s.heap H locs → (cells + bq ≤ ((headSpec (ws_ yX1_housesAt cX1_housesAt 5 (Option.some Jvm.ClassFile.FieldType.int)) ({ frames := 14, cells := b, slots := b, locals := 442 })).room).cells ∧ slots + bq ≤ ((headSpec (ws_ yX1_housesAt cX1_housesAt 5 (Option.some Jvm.ClassFile.FieldType.int)) ({ frames := 14, cells := b, slots := b, locals := 442 })).room).slots) → lv_has ls 5 [(1, .int x1), (2, .int x2), (3, va_rf x3)] → W p l e (headSpec (ws_ yX1_housesAt cX1_housesAt 5 (Option.some Jvm.ClassFile.FieldType.int)) ({ frames := 14, cells := b, slots := b, locals := 442 })).room s m ([.ref t0, .int p1] : List Value).toArray below meth c H locs cells slots (vx_MQ below (wQ G (wqI Q)) (wXC G wX0) ([.ref t0, .int p1] : List Value).toArray s b b (wA G)) (F0 m 15 ls []) := by
    intro n
    induction n with
    | zero => intro _ _ _ _ _ _ _ _ _ _ hp; exact False.elim hp
    | succ n ih => intro x1 x2 x3 M bq H locs ls cells slots hp hM hS hB hl; exact hB15 (L_X1_housesAt_15 G Q n) ih _ _ _ _ _ _ _ _ _ _ hp hM hS hB hl
  refine lv_iconst (v := 0) hx hb dX1_housesAt_0 (by decide) ?_
  refine lv_istore_n (lv' := [(2, .int (0 : Int32)), (0, .ref t0), (1, .int p1)]) hx hb dX1_housesAt_1 rfl hl (by decide) rfl (fun ls hl => ?_)
  refine lv_aload_n hx hb dX1_housesAt_2 rfl (lv_at hl 1 rfl) ?_
  obtain ⟨hrec, hp⟩ := hp
  refine x_call0R (vx_runV (As := []) (rest := []) X (P_X1_setup_ok (l := l) hl0 hp) (cwV 0 hts (lw_V q1535 q1537 qs29 q148 q1538) rfl rfl rfl (by decide +kernel) ⟨Nat.le_of_ble_eq_true rfl, Nat.le_of_ble_eq_true rfl⟩) ⟨wPc.blind, w_recv hC.1 hM (ci := 0) (q := (RX1, TX1, 8)) rfl hrec, w_pre hC hM hS _⟩ rfl rfl hl.1 rfl (lv_room (Nat.le_of_ble_eq_true rfl)) dX1_housesAt_3 (w_room0 hB)) hS (w_room0 hB) (fun _ _ _ _ _ _ h => False.elim h) (fun r3 M1 H locs hp hM hS => ?_)
  obtain ⟨a4, ea, hqa4⟩ := hp
  subst ea
  have hp := hqa4
  refine x_getAN X hC.1 hM (ci := 2) (C := RX3) (T := TX3) (N := 8) rfl in_X3 2 (by decide) q405 (fun _ h9 => h9) dX1_housesAt_6 hp (fun a5 hp => ?_)
  obtain ⟨hrec, hp⟩ := hp
  obtain ⟨c7, hc1, hp⟩ := hp
  refine x_callR5 (vx_runF (hC.1.1.1 16 (RJ2, TJ2, 3) rfl).2 (C := "java/util/ArrayList") (As := []) (rest := []) X (P_J2_iterator_ok (l := l) hl0 hp) (va_cwF 0 hts (lw_app (w_mem4 q1970 q1973 q1975 q153) (lw_meth q1977)) rfl rfl rfl (wfw_11 hC.1) (by decide +kernel) ⟨Nat.le_of_ble_eq_true rfl, Nat.le_of_ble_eq_true rfl⟩) ⟨wPc.blind, w_recv hC.1 hM (ci := 16) (q := (RJ2, TJ2, 3)) rfl hrec, w_pre hC hM hS _⟩ rfl rfl hl.1 rfl (lv_room (Nat.le_of_ble_eq_true rfl)) dX1_housesAt_9 (w_room hB hc1)) hS hB hc1 (fun _ _ _ _ _ _ h => False.elim h) (fun r8 M6 H locs hp hM hS hB => ?_)
  refine x_astore_n (r := r8) (lv' := [(3, va_rf r8), (2, .int (0 : Int32)), (0, .ref t0), (1, .int p1)]) hx hb dX1_housesAt_14 rfl hl (by decide) rfl (fun ls hl => ?_)
  obtain ⟨n, hp⟩ := hp
  exact hL15 n _ _ _ _ _ _ _ _ _ _ hp hM hS hB (lv_sub hl [3, 1, 0] rfl)
def B_X1_street_127 (G : wG) (Q : Int32 → wM → Prop) (Xp : String → Nat → wM → Prop) (y0 : Int32) (M : wM) (bq : Nat) : Prop :=
  Q y0 M
def P_X1_street (G : wG) (t0 : Nat) (p1 : Int32) (p2 : Int32) (b : Nat) (M : wM) (Q : Int32 → wM → Prop) (Xp : String → Nat → wM → Prop) : Prop :=
  oIs M t0 0 (∃ c2, c2 ≤ b ∧ P_X1_checkStreet G t0 p1 c2 M (fun M1 => P_X1_inRange G p2 (0 : Int32) (5 : Int32) M1 (fun r5 M3 => ∃ c7, c7 ≤ (b - c2) ∧ P_X1_checkIndex G (wb r5) c7 M3 (fun M6 => oIs M6 t0 0 (P_X1_setup G t0 M6 (fun r10 M8 => oRef r10 (fun a11 => oGetA M8 a11 2 1 (fun a12 => oIs M8 a12 16 (P_J2_get G a12 p1 M8 (fun r15 M13 => oCast M13 r15 7 (oIf (p2 = (0 : Int32)) (oRef r15 (fun a19 => oGetI M13 a19 7 0 (fun v20 => B_X1_street_127 G Q Xp v20 M13 ((b - c2) - c7)))) (oIf (p2 = (1 : Int32)) (oRef r15 (fun a21 => oGetI M13 a21 7 1 (fun v22 => B_X1_street_127 G Q Xp v22 M13 ((b - c2) - c7)))) (oIf (p2 = (2 : Int32)) (oRef r15 (fun a23 => oGetI M13 a23 7 2 (fun v24 => B_X1_street_127 G Q Xp v24 M13 ((b - c2) - c7)))) (oIf (p2 = (3 : Int32)) (oGetA M13 t0 0 0 (fun a25 => oGetA M13 a25 1 5 (fun a26 => oIs M13 a26 21 (P_J9_get G a26 p1 M13 (fun r29 M27 => oIf (r29 = true) (B_X1_street_127 G Q Xp (1 : Int32) M27 ((b - c2) - c7)) (B_X1_street_127 G Q Xp (0 : Int32) M27 ((b - c2) - c7))))))) (oIf (p2 = (4 : Int32)) (oGetA M13 t0 0 0 (fun a30 => oIs M13 a30 1 (∃ c32, c32 ≤ ((b - c2) - c7) ∧ P_X2_parkedIn G a30 p1 c32 M13 (fun v33 M31 => B_X1_street_127 G Q Xp v33 M31 (((b - c2) - c7) - c32))))) (oIs M13 t0 0 (∃ c17, c17 ≤ ((b - c2) - c7) ∧ P_X1_housesAt G t0 p1 c17 M13 (fun v18 M16 => B_X1_street_127 G Q Xp v18 M16 (((b - c2) - c7) - c17)))))))))))))))) (fun E q34 M35 => (E = "java/lang/IndexOutOfBoundsException" ∧ Xp E q34 M35)))) (fun E q36 M37 => (E = "java/lang/IndexOutOfBoundsException" ∧ Xp E q36 M37)))
set_option maxHeartbeats 4000000 in
set_option maxRecDepth 100000 in
theorem P_X1_street_ok {l : Launch} (hl0 : l.stackTraces = false) {G : wG} {t0 : Nat} {p1 : Int32} {p2 : Int32} {b : Nat} {M : wM} {Q : Int32 → wM → Prop} {Xp : String → Nat → wM → Prop} (hp : P_X1_street G t0 p1 p2 b M Q Xp) : wMet l yX1_street (ws_ yX1_street cX1_street 4 (Option.some Jvm.ClassFile.FieldType.int)) 18 530 G [.ref t0, .int p1, .int p2] M b (wqI Q) Xp := by
  refine vx_ofW (cc := cX1_street) (maxL := 4) (ret := Option.some Jvm.ClassFile.FieldType.int) (by decide) rfl ?_
  intro p e s m args below meth c s₁ B hml hnt hv
  obtain ⟨rfl, hM, hK, hZ, hz⟩ := hv
  have hC : wC G s := ⟨hK, hZ, hz⟩
  have hx := B.exec
  have hb := B.bytes
  have hr := B.returns
  have hts := atoms_spec (ws := (ws_ yX1_street cX1_street 4 (Option.some Jvm.ClassFile.FieldType.int))) B.pre
  have hts : ∀ w ∈ lw_all, w.before _ s = true := fun w h => hts w (List.mem_cons_of_mem _ h)
  have hown : s.vm.findClass RX1 = some m.cls := findClass_of_methodNamed B.named
  have hlk := B.notSynchronized
  have X : CallFix p m c cX1_street 4 s ([.ref t0, .int p1, .int p2] : List Value).toArray lw_all RX1 := ⟨hx, hb, hml, hown, hts⟩
  have hS : va_S (wA G) s.heap s.heap [] := va_S.rf
  have hl := lv_entry ([.ref t0, .int p1, .int p2]) (n := 4) (Nat.le_of_ble_eq_true rfl)
  rw [lg_entry_eq]
  generalize (lg_sl ([.ref t0, .int p1, .int p2]) ++ List.replicate (4 - (lg_sl ([.ref t0, .int p1, .int p2])).length) Slot.unset).toArray = ls at hl ⊢
  have hl : lv_has ls 4 [(0, .ref t0), (1, .int p1), (2, .int p2)] := hl
  have hB : 0 + b ≤ ((headSpec (ws_ yX1_street cX1_street 4 (Option.some Jvm.ClassFile.FieldType.int)) ({ frames := 18, cells := b, slots := b, locals := 530 })).room).cells ∧ 0 + b ≤ ((headSpec (ws_ yX1_street cX1_street 4 (Option.some Jvm.ClassFile.FieldType.int)) ({ frames := 18, cells := b, slots := b, locals := 530 })).room).slots := ⟨Nat.le_of_eq (Nat.zero_add b), Nat.le_of_eq (Nat.zero_add b)⟩
  have hB127 : ∀ (y0 : Int32) (M : wM) (bq : Nat) (H : Heap) (locs : List Loc) (ls : Array Slot) (cells slots : Nat), B_X1_street_127 G Q Xp y0 M bq → wR G M H → va_S (wA G) s.heap H locs → (cells + bq ≤ ((headSpec (ws_ yX1_street cX1_street 4 (Option.some Jvm.ClassFile.FieldType.int)) ({ frames := 18, cells := b, slots := b, locals := 530 })).room).cells ∧ slots + bq ≤ ((headSpec (ws_ yX1_street cX1_street 4 (Option.some Jvm.ClassFile.FieldType.int)) ({ frames := 18, cells := b, slots := b, locals := 530 })).room).slots) → lv_has ls 4 [] → W p l e (headSpec (ws_ yX1_street cX1_street 4 (Option.some Jvm.ClassFile.FieldType.int)) ({ frames := 18, cells := b, slots := b, locals := 530 })).room s m ([.ref t0, .int p1, .int p2] : List Value).toArray below meth c H locs cells slots (vx_MQ below (wQ G (wqI Q)) (wXC G Xp) ([.ref t0, .int p1, .int p2] : List Value).toArray s b b (wA G)) (F0 m 127 ls [.int y0]) := by
    intro y0 M bq H locs ls cells slots hp hM hS hB hl
    exact x_iret X hr hlk hM hS (w_fin hB) dX1_street_127 ⟨_, rfl, hp⟩
  refine lv_aload_n hx hb dX1_street_0 rfl (lv_at hl 0 rfl) ?_
  refine lv_iload_n hx hb dX1_street_1 rfl (lv_at hl 1 rfl) ?_
  obtain ⟨hrec, hp⟩ := hp
  obtain ⟨c2, hc1, hp⟩ := hp
  refine x_callV (vx_runV (As := [.int p1]) (rest := []) X (P_X1_checkStreet_ok (l := l) hl0 hp) (cwV 1 hts (lw_V q2225 q2227 qs37 q148 q2228) rfl rfl rfl (by decide +kernel) ⟨Nat.le_of_ble_eq_true rfl, Nat.le_of_ble_eq_true rfl⟩) ⟨wPc.blind, w_recv hC.1 hM (ci := 0) (q := (RX1, TX1, 8)) rfl hrec, w_pre hC hM hS _⟩ rfl rfl hl.1 rfl (lv_room (Nat.le_of_ble_eq_true rfl)) dX1_street_2 (w_room hB hc1)) hS hB hc1 (fun E ce q36 M37 H locs hp hM hS hB hcell hcv hcl => ?_) (fun M1 H locs hp hM hS hB => ?_)
  · obtain ⟨rfl, hp⟩ := hp
    exact x_out hlk (fun x h => (hnt x h).elim) hM hS (w_fin hB) hcell hcv hcl hp
  · refine lv_iload_n hx hb dX1_street_5 rfl (lv_at hl 2 rfl) ?_
    refine lv_iconst (v := 0) hx hb dX1_street_6 (by decide) ?_
    refine lv_iconst (v := 5) hx hb dX1_street_7 (by decide) ?_
    refine x_call0Z (vx_runS (As := [.int p2, .int (0 : Int32), .int (5 : Int32)]) (rest := []) X (P_X1_inRange_ok (l := l) hl0 hp) (va_cwS 3 hts (lw_S q1012 q1013 q148 q1014) rfl rfl rfl (by decide +kernel) ⟨Nat.le_of_ble_eq_true rfl, Nat.le_of_ble_eq_true rfl⟩) ⟨wPc.blind, w_pre hC hM hS _⟩ rfl rfl hl.1 rfl (lv_room (Nat.le_of_ble_eq_true rfl)) dX1_street_8 (w_room0 hB)) hS (w_room0 hB) (fun _ _ _ _ _ _ h => False.elim h) (fun r5 M3 H locs hp hM hS => ?_)
    obtain ⟨c7, hc1, hp⟩ := hp
    refine x_callV (vx_runS (As := [.int (wb r5)]) (rest := []) X (P_X1_checkIndex_ok (l := l) hl0 hp) (va_cwS 1 hts (lw_S q2200 q2201 q148 q2202) rfl rfl rfl (by decide +kernel) ⟨Nat.le_of_ble_eq_true rfl, Nat.le_of_ble_eq_true rfl⟩) ⟨wPc.blind, w_pre hC hM hS _⟩ rfl rfl hl.1 rfl (lv_room (Nat.le_of_ble_eq_true rfl)) dX1_street_11 (w_room hB hc1)) hS hB hc1 (fun E ce q34 M35 H locs hp hM hS hB hcell hcv hcl => ?_) (fun M6 H locs hp hM hS hB => ?_)
    · obtain ⟨rfl, hp⟩ := hp
      exact x_out hlk (fun x h => (hnt x h).elim) hM hS (w_fin hB) hcell hcv hcl hp
    · refine lv_aload_n hx hb dX1_street_14 rfl (lv_at hl 0 rfl) ?_
      obtain ⟨hrec, hp⟩ := hp
      refine x_call0R (vx_runV (As := []) (rest := []) X (P_X1_setup_ok (l := l) hl0 hp) (cwV 0 hts (lw_V q1535 q1537 qs29 q148 q1538) rfl rfl rfl (by decide +kernel) ⟨Nat.le_of_ble_eq_true rfl, Nat.le_of_ble_eq_true rfl⟩) ⟨wPc.blind, w_recv hC.1 hM (ci := 0) (q := (RX1, TX1, 8)) rfl hrec, w_pre hC hM hS _⟩ rfl rfl hl.1 rfl (lv_room (Nat.le_of_ble_eq_true rfl)) dX1_street_15 (w_room0 hB)) hS (w_room0 hB) (fun _ _ _ _ _ _ h => False.elim h) (fun r10 M8 H locs hp hM hS => ?_)
      obtain ⟨a11, ea, hqa11⟩ := hp
      subst ea
      have hp := hqa11
      refine x_getAN X hC.1 hM (ci := 2) (C := RX3) (T := TX3) (N := 8) rfl in_X3 1 (by decide) q401 (fun _ h9 => h9) dX1_street_18 hp (fun a12 hp => ?_)
      refine lv_iload_n hx hb dX1_street_21 rfl (lv_at hl 1 rfl) ?_
      obtain ⟨hrec, hp⟩ := hp
      refine x_call0R5 (vx_runF (hC.1.1.1 16 (RJ2, TJ2, 3) rfl).2 (C := "java/util/ArrayList") (As := [.int p1]) (rest := []) X (P_J2_get_ok (l := l) hl0 hp) (va_cwF 1 hts (lw_app (w_mem4 q1667 q522 q524 q153) (lw_meth q526)) rfl rfl rfl (wfw_8 hC.1) (by decide +kernel) ⟨Nat.le_of_ble_eq_true rfl, Nat.le_of_ble_eq_true rfl⟩) ⟨wPc.blind, w_recv hC.1 hM (ci := 16) (q := (RJ2, TJ2, 3)) rfl hrec, w_pre hC hM hS _⟩ rfl rfl hl.1 rfl (lv_room (Nat.le_of_ble_eq_true rfl)) dX1_street_22 (w_room0 hB)) hS (w_room0 hB) (fun _ _ _ _ _ _ h => False.elim h) (fun r15 M13 H locs hp hM hS => ?_)
      refine x_cast (r := r15) X hC.1 hM q2217 (ci := 7) rfl (Or.inl rfl) dX1_street_27 hp (fun hp => ?_)
      refine x_astore_n (r := r15) (lv' := [(3, va_rf r15), (0, .ref t0), (1, .int p1), (2, .int p2)]) hx hb dX1_street_30 rfl hl (by decide) rfl (fun ls hl => ?_)
      refine lv_iload_n hx hb dX1_street_31 rfl (lv_at hl 3 rfl) ?_
      by_cases hc0 : p2 = (0 : Int32)
      · have hp := oIf.t hp hc0
        refine lv_tableIn (off := 36) (tgt := 68) hx hb dX1_street_32 (by rw [hc0]; decide) (by rw [hc0]; decide) (by rw [hc0]; rfl) (by decide) ?_
        refine x_aload_n (r := r15) hx hb dX1_street_68 rfl (lv_at hl 0 rfl) ?_
        obtain ⟨a19, ea, hqa19⟩ := hp
        subst ea
        have hp := hqa19
        have hl : lv_has ls 4 [(3, .ref a19), (0, .ref t0), (1, .int p1), (2, .int p2)] := hl
        refine x_getIN X hC.1 hM (ci := 7) (C := RX8) (T := TX8) (N := 3) rfl in_X8 0 (by decide) q1441 (fun _ h9 => h9) dX1_street_69 hp (fun v20 hp => ?_)
        refine lv_goto (tgt := 127) hx hb dX1_street_72 (by decide) ?_
        exact hB127 _ _ _ _ _ _ _ _ hp hM hS hB (lv_sub hl [] rfl)
      · have hp := oIf.f hp hc0
        by_cases hc1 : p2 = (1 : Int32)
        · have hp := oIf.t hp hc1
          refine lv_tableIn (off := 43) (tgt := 75) hx hb dX1_street_32 (by rw [hc1]; decide) (by rw [hc1]; decide) (by rw [hc1]; rfl) (by decide) ?_
          refine x_aload_n (r := r15) hx hb dX1_street_75 rfl (lv_at hl 0 rfl) ?_
          obtain ⟨a21, ea, hqa21⟩ := hp
          subst ea
          have hp := hqa21
          have hl : lv_has ls 4 [(3, .ref a21), (0, .ref t0), (1, .int p1), (2, .int p2)] := hl
          refine x_getIN X hC.1 hM (ci := 7) (C := RX8) (T := TX8) (N := 3) rfl in_X8 1 (by decide) q1443 (fun _ h9 => h9) dX1_street_76 hp (fun v22 hp => ?_)
          refine lv_goto (tgt := 127) hx hb dX1_street_79 (by decide) ?_
          exact hB127 _ _ _ _ _ _ _ _ hp hM hS hB (lv_sub hl [] rfl)
        · have hp := oIf.f hp hc1
          by_cases hc2 : p2 = (2 : Int32)
          · have hp := oIf.t hp hc2
            refine lv_tableIn (off := 50) (tgt := 82) hx hb dX1_street_32 (by rw [hc2]; decide) (by rw [hc2]; decide) (by rw [hc2]; rfl) (by decide) ?_
            refine x_aload_n (r := r15) hx hb dX1_street_82 rfl (lv_at hl 0 rfl) ?_
            obtain ⟨a23, ea, hqa23⟩ := hp
            subst ea
            have hp := hqa23
            have hl : lv_has ls 4 [(3, .ref a23), (0, .ref t0), (1, .int p1), (2, .int p2)] := hl
            refine x_getIN X hC.1 hM (ci := 7) (C := RX8) (T := TX8) (N := 3) rfl in_X8 2 (by decide) q1447 (fun _ h9 => h9) dX1_street_83 hp (fun v24 hp => ?_)
            refine lv_goto (tgt := 127) hx hb dX1_street_86 (by decide) ?_
            exact hB127 _ _ _ _ _ _ _ _ hp hM hS hB (lv_sub hl [] rfl)
          · have hp := oIf.f hp hc2
            by_cases hc3 : p2 = (3 : Int32)
            · have hp := oIf.t hp hc3
              refine lv_tableIn (off := 57) (tgt := 89) hx hb dX1_street_32 (by rw [hc3]; decide) (by rw [hc3]; decide) (by rw [hc3]; rfl) (by decide) ?_
              refine lv_aload_n hx hb dX1_street_89 rfl (lv_at hl 1 rfl) ?_
              refine x_getA X hC.1 hM (ci := 0) (C := RX1) (T := TX1) (N := 8) rfl in_X1 0 (by decide) q973 (fun _ h9 => h9) dX1_street_90 hp (fun a25 hp => ?_)
              refine x_getAN X hC.1 hM (ci := 1) (C := RX2) (T := TX2) (N := 9) rfl in_X2 5 (by decide) q928 (fun _ h9 => h9) dX1_street_93 hp (fun a26 hp => ?_)
              refine lv_iload_n hx hb dX1_street_96 rfl (lv_at hl 2 rfl) ?_
              obtain ⟨hrec, hp⟩ := hp
              refine x_call0Z (vx_runV (As := [.int p1]) (rest := []) X (P_J9_get_ok (l := l) hl0 hp) (cwV 1 hts (lw_V q2229 q1486 q1487 q161 q1488) rfl rfl rfl (by decide +kernel) ⟨Nat.le_of_ble_eq_true rfl, Nat.le_of_ble_eq_true rfl⟩) ⟨wPc.blind, w_recv hC.1 hM (ci := 21) (q := (RJ9, TJ9, 3)) rfl hrec, w_pre hC hM hS _⟩ rfl rfl hl.1 rfl (lv_room (Nat.le_of_ble_eq_true rfl)) dX1_street_97 (w_room0 hB)) hS (w_room0 hB) (fun _ _ _ _ _ _ h => False.elim h) (fun r29 M27 H locs hp hM hS => ?_)
              refine x_ifeqB (tgt := 107) hx hb dX1_street_100 (by decide) (fun hc => ?_) (fun hc => ?_)
              · have hp := oIf.bf hp hc
                refine lv_iconst (v := 0) hx hb dX1_street_107 (by decide) ?_
                refine lv_goto (tgt := 127) hx hb dX1_street_108 (by decide) ?_
                exact hB127 _ _ _ _ _ _ _ _ hp hM hS hB (lv_sub hl [] rfl)
              · have hp := oIf.bt hp hc
                refine lv_iconst (v := 1) hx hb dX1_street_103 (by decide) ?_
                refine lv_goto (tgt := 127) hx hb dX1_street_104 (by decide) ?_
                exact hB127 _ _ _ _ _ _ _ _ hp hM hS hB (lv_sub hl [] rfl)
            · have hp := oIf.f hp hc3
              by_cases hc4 : p2 = (4 : Int32)
              · have hp := oIf.t hp hc4
                refine lv_tableIn (off := 79) (tgt := 111) hx hb dX1_street_32 (by rw [hc4]; decide) (by rw [hc4]; decide) (by rw [hc4]; rfl) (by decide) ?_
                refine lv_aload_n hx hb dX1_street_111 rfl (lv_at hl 1 rfl) ?_
                refine x_getA X hC.1 hM (ci := 0) (C := RX1) (T := TX1) (N := 8) rfl in_X1 0 (by decide) q973 (fun _ h9 => h9) dX1_street_112 hp (fun a30 hp => ?_)
                refine lv_iload_n hx hb dX1_street_115 rfl (lv_at hl 2 rfl) ?_
                obtain ⟨hrec, hp⟩ := hp
                obtain ⟨c32, hc1, hp⟩ := hp
                refine x_callI (vx_runV (As := [.int p1]) (rest := []) X (P_X2_parkedIn_ok (l := l) hl0 hp) (cwV 1 hts (lw_V q2230 q2231 q2232 q149 q2233) rfl rfl rfl (by decide +kernel) ⟨Nat.le_of_ble_eq_true rfl, Nat.le_of_ble_eq_true rfl⟩) ⟨wPc.blind, w_recv hC.1 hM (ci := 1) (q := (RX2, TX2, 9)) rfl hrec, w_pre hC hM hS _⟩ rfl rfl hl.1 rfl (lv_room (Nat.le_of_ble_eq_true rfl)) dX1_street_116 (w_room hB hc1)) hS hB hc1 (fun _ _ _ _ _ _ h => False.elim h) (fun v33 M31 H locs hp hM hS hB => ?_)
                refine lv_goto (tgt := 127) hx hb dX1_street_119 (by decide) ?_
                exact hB127 _ _ _ _ _ _ _ _ hp hM hS hB (lv_sub hl [] rfl)
              · have hp := oIf.f hp hc4
                refine lv_tableOut (tgt := 122) hx hb dX1_street_32 (w_tsw 0 5 (by decide) (by decide) (fun i hi => ?_)) (by decide) ?_
                · have hi2 : i = 0 ∨ i = 1 ∨ i = 2 ∨ i = 3 ∨ i = 4 := by omega
                  rcases hi2 with rfl | rfl | rfl | rfl | rfl
                  · exact fun h => hc0 (h.trans (by decide))
                  · exact fun h => hc1 (h.trans (by decide))
                  · exact fun h => hc2 (h.trans (by decide))
                  · exact fun h => hc3 (h.trans (by decide))
                  · exact fun h => hc4 (h.trans (by decide))
                · refine lv_aload_n hx hb dX1_street_122 rfl (lv_at hl 1 rfl) ?_
                  refine lv_iload_n hx hb dX1_street_123 rfl (lv_at hl 2 rfl) ?_
                  obtain ⟨hrec, hp⟩ := hp
                  obtain ⟨c17, hc1, hp⟩ := hp
                  refine x_callI (vx_runV (As := [.int p1]) (rest := []) X (P_X1_housesAt_ok (l := l) hl0 hp) (cwV 1 hts (lw_V q2234 q2236 qs38 q148 q2237) rfl rfl rfl (by decide +kernel) ⟨Nat.le_of_ble_eq_true rfl, Nat.le_of_ble_eq_true rfl⟩) ⟨wPc.blind, w_recv hC.1 hM (ci := 0) (q := (RX1, TX1, 8)) rfl hrec, w_pre hC hM hS _⟩ rfl rfl hl.1 rfl (lv_room (Nat.le_of_ble_eq_true rfl)) dX1_street_124 (w_room hB hc1)) hS hB hc1 (fun _ _ _ _ _ _ h => False.elim h) (fun v18 M16 H locs hp hM hS hB => ?_)
                  exact hB127 _ _ _ _ _ _ _ _ hp hM hS hB (lv_sub hl [] rfl)
def B_X1_streetOf_21 (G : wG) (Q : Int32 → wM → Prop) (y0 : Int32) (M : wM) (bq : Nat) : Prop :=
  Q y0 M
def P_X1_streetOf (G : wG) (t0 : Nat) (p1 : Int32) (b : Nat) (M : wM) (Q : Int32 → wM → Prop) : Prop :=
  oGetA M t0 0 0 (fun a1 => oIs M a1 1 (∃ c3, c3 ≤ b ∧ P_X2_carOf G a1 p1 c3 M (fun r4 M2 => oNull r4 (B_X1_streetOf_21 G Q (-1 : Int32) M2 (b - c3)) (fun a5 => oGetI M2 a5 14 1 (fun v6 => B_X1_streetOf_21 G Q v6 M2 (b - c3))))))
set_option maxHeartbeats 4000000 in
set_option maxRecDepth 100000 in
theorem P_X1_streetOf_ok {l : Launch} (hl0 : l.stackTraces = false) {G : wG} {t0 : Nat} {p1 : Int32} {b : Nat} {M : wM} {Q : Int32 → wM → Prop} (hp : P_X1_streetOf G t0 p1 b M Q) : wMet l yX1_streetOf (ws_ yX1_streetOf cX1_streetOf 3 (Option.some Jvm.ClassFile.FieldType.int)) 18 529 G [.ref t0, .int p1] M b (wqI Q) wX0 := by
  refine vx_ofW (cc := cX1_streetOf) (maxL := 3) (ret := Option.some Jvm.ClassFile.FieldType.int) (by decide) rfl ?_
  intro p e s m args below meth c s₁ B hml hnt hv
  obtain ⟨rfl, hM, hK, hZ, hz⟩ := hv
  have hC : wC G s := ⟨hK, hZ, hz⟩
  have hx := B.exec
  have hb := B.bytes
  have hr := B.returns
  have hts := atoms_spec (ws := (ws_ yX1_streetOf cX1_streetOf 3 (Option.some Jvm.ClassFile.FieldType.int))) B.pre
  have hts : ∀ w ∈ lw_all, w.before _ s = true := fun w h => hts w (List.mem_cons_of_mem _ h)
  have hown : s.vm.findClass RX1 = some m.cls := findClass_of_methodNamed B.named
  have hlk := B.notSynchronized
  have X : CallFix p m c cX1_streetOf 3 s ([.ref t0, .int p1] : List Value).toArray lw_all RX1 := ⟨hx, hb, hml, hown, hts⟩
  have hS : va_S (wA G) s.heap s.heap [] := va_S.rf
  have hl := lv_entry ([.ref t0, .int p1]) (n := 3) (Nat.le_of_ble_eq_true rfl)
  rw [lg_entry_eq]
  generalize (lg_sl ([.ref t0, .int p1]) ++ List.replicate (3 - (lg_sl ([.ref t0, .int p1])).length) Slot.unset).toArray = ls at hl ⊢
  have hl : lv_has ls 3 [(0, .ref t0), (1, .int p1)] := hl
  have hB : 0 + b ≤ ((headSpec (ws_ yX1_streetOf cX1_streetOf 3 (Option.some Jvm.ClassFile.FieldType.int)) ({ frames := 18, cells := b, slots := b, locals := 529 })).room).cells ∧ 0 + b ≤ ((headSpec (ws_ yX1_streetOf cX1_streetOf 3 (Option.some Jvm.ClassFile.FieldType.int)) ({ frames := 18, cells := b, slots := b, locals := 529 })).room).slots := ⟨Nat.le_of_eq (Nat.zero_add b), Nat.le_of_eq (Nat.zero_add b)⟩
  have hB21 : ∀ (y0 : Int32) (M : wM) (bq : Nat) (H : Heap) (locs : List Loc) (ls : Array Slot) (cells slots : Nat), B_X1_streetOf_21 G Q y0 M bq → wR G M H → va_S (wA G) s.heap H locs → (cells + bq ≤ ((headSpec (ws_ yX1_streetOf cX1_streetOf 3 (Option.some Jvm.ClassFile.FieldType.int)) ({ frames := 18, cells := b, slots := b, locals := 529 })).room).cells ∧ slots + bq ≤ ((headSpec (ws_ yX1_streetOf cX1_streetOf 3 (Option.some Jvm.ClassFile.FieldType.int)) ({ frames := 18, cells := b, slots := b, locals := 529 })).room).slots) → lv_has ls 3 [] → W p l e (headSpec (ws_ yX1_streetOf cX1_streetOf 3 (Option.some Jvm.ClassFile.FieldType.int)) ({ frames := 18, cells := b, slots := b, locals := 529 })).room s m ([.ref t0, .int p1] : List Value).toArray below meth c H locs cells slots (vx_MQ below (wQ G (wqI Q)) (wXC G wX0) ([.ref t0, .int p1] : List Value).toArray s b b (wA G)) (F0 m 21 ls [.int y0]) := by
    intro y0 M bq H locs ls cells slots hp hM hS hB hl
    exact x_iret X hr hlk hM hS (w_fin hB) dX1_streetOf_21 ⟨_, rfl, hp⟩
  refine lv_aload_n hx hb dX1_streetOf_0 rfl (lv_at hl 0 rfl) ?_
  refine x_getA X hC.1 hM (ci := 0) (C := RX1) (T := TX1) (N := 8) rfl in_X1 0 (by decide) q973 (fun _ h9 => h9) dX1_streetOf_1 hp (fun a1 hp => ?_)
  refine lv_iload_n hx hb dX1_streetOf_4 rfl (lv_at hl 1 rfl) ?_
  obtain ⟨hrec, hp⟩ := hp
  obtain ⟨c3, hc1, hp⟩ := hp
  refine x_callR (vx_runV (As := [.int p1]) (rest := []) X (P_X2_carOf_ok (l := l) hl0 hp) (cwV 1 hts (lw_V q1695 q1696 q1697 q149 q1698) rfl rfl rfl (by decide +kernel) ⟨Nat.le_of_ble_eq_true rfl, Nat.le_of_ble_eq_true rfl⟩) ⟨wPc.blind, w_recv hC.1 hM (ci := 1) (q := (RX2, TX2, 9)) rfl hrec, w_pre hC hM hS _⟩ rfl rfl hl.1 rfl (lv_room (Nat.le_of_ble_eq_true rfl)) dX1_streetOf_5 (w_room hB hc1)) hS hB hc1 (fun _ _ _ _ _ _ h => False.elim h) (fun r4 M2 H locs hp hM hS hB => ?_)
  refine x_astore_n (r := r4) (lv' := [(2, va_rf r4), (0, .ref t0), (1, .int p1)]) hx hb dX1_streetOf_8 rfl hl (by decide) rfl (fun ls hl => ?_)
  refine x_aload_n (r := r4) hx hb dX1_streetOf_9 rfl (lv_at hl 0 rfl) ?_
  refine x_ifnonnull (r := r4) (tgt := 17) hx hb dX1_streetOf_10 (by decide) (fun a5 hc => ?_) (fun hc => ?_)
  · have hqa5 := oNull.f hp hc
    subst hc
    have hp := hqa5
    have hl : lv_has ls 3 [(2, .ref a5), (0, .ref t0), (1, .int p1)] := hl
    refine lv_aload_n hx hb dX1_streetOf_17 rfl (lv_at hl 0 rfl) ?_
    refine x_getIN X hC.1 hM (ci := 14) (C := RX18) (T := TX18) (N := 3) rfl in_X18 1 (by decide) q2787 (fun _ h9 => h9) dX1_streetOf_18 hp (fun v6 hp => ?_)
    exact hB21 _ _ _ _ _ _ _ _ hp hM hS hB (lv_sub hl [] rfl)
  · have hqa5 := oNull.t hp hc
    subst hc
    have hp := hqa5
    have hl : lv_has ls 3 [(2, va_rf none), (0, .ref t0), (1, .int p1)] := hl
    refine lv_iconst (v := (-1)) hx hb dX1_streetOf_13 (by decide) ?_
    refine lv_goto (tgt := 21) hx hb dX1_streetOf_14 (by decide) ?_
    exact hB21 _ _ _ _ _ _ _ _ hp hM hS hB (lv_sub hl [] rfl)
def B_J9_recalculateWordsInUse_31 (G : wG) (Q : wM → Prop) (x0 : Nat) (x1 : Int32) (M : wM) : Prop :=
  oPut G M x0 21 1 (.int (x1 + (1 : Int32))) (fun M1 => Q M1)
def B_J9_recalculateWordsInUse_7 (G : wG) (rec7 : Nat → Int32 → wM → Prop) (Q : wM → Prop) (x0 : Nat) (x1 : Int32) (M : wM) : Prop :=
  oIf (x1 < 0) (B_J9_recalculateWordsInUse_31 G Q x0 x1 M) (oGetA M x0 21 0 (fun a1 => oLald M a1 x1 (fun v2 => oIf ((lg_cmp v2 (0 : Int64)) = 0) (rec7 x0 (x1 + (-1)) M) (B_J9_recalculateWordsInUse_31 G Q x0 x1 M))))
def L_J9_recalculateWordsInUse_7 (G : wG) (Q : wM → Prop) : Nat → Nat → Int32 → wM → Prop
  | 0 => fun _ _ _ => False
  | n + 1 => B_J9_recalculateWordsInUse_7 G (L_J9_recalculateWordsInUse_7 G Q n) Q
def P_J9_recalculateWordsInUse (G : wG) (t0 : Nat) (M : wM) (Q : wM → Prop) : Prop :=
  oGetI M t0 21 1 (fun v1 => ∃ n, L_J9_recalculateWordsInUse_7 G Q n t0 (v1 - (1 : Int32)) M)
set_option maxHeartbeats 4000000 in
set_option maxRecDepth 100000 in
theorem P_J9_recalculateWordsInUse_ok {l : Launch} (hl0 : l.stackTraces = false) {G : wG} {t0 : Nat} {M : wM} {Q : wM → Prop} (hp : P_J9_recalculateWordsInUse G t0 M Q) : wMet l yJ9_recalculateWordsInUse (ws_ yJ9_recalculateWordsInUse cJ9_recalculateWordsInUse 2 (none)) 12 400 G [.ref t0] M 0 (wqV Q) wX0 := by
  refine vx_ofW (cc := cJ9_recalculateWordsInUse) (maxL := 2) (ret := none) (by decide) rfl ?_
  intro p e s m args below meth c s₁ B hml hnt hv
  obtain ⟨rfl, hM, hK, hZ, hz⟩ := hv
  have hC : wC G s := ⟨hK, hZ, hz⟩
  have hx := B.exec
  have hb := B.bytes
  have hr := B.returns
  have hts := atoms_spec (ws := (ws_ yJ9_recalculateWordsInUse cJ9_recalculateWordsInUse 2 (none))) B.pre
  have hts : ∀ w ∈ lw_all, w.before _ s = true := fun w h => hts w (List.mem_cons_of_mem _ h)
  have hown : s.vm.findClass RJ9 = some m.cls := findClass_of_methodNamed B.named
  have hlk := B.notSynchronized
  have X : CallFix p m c cJ9_recalculateWordsInUse 2 s ([.ref t0] : List Value).toArray lw_all RJ9 := ⟨hx, hb, hml, hown, hts⟩
  have hS : va_S (wA G) s.heap s.heap [] := va_S.rf
  have hl := lv_entry ([.ref t0]) (n := 2) (Nat.le_of_ble_eq_true rfl)
  rw [lg_entry_eq]
  generalize (lg_sl ([.ref t0]) ++ List.replicate (2 - (lg_sl ([.ref t0])).length) Slot.unset).toArray = ls at hl ⊢
  have hl : lv_has ls 2 [(0, .ref t0)] := hl
  have hB31 : ∀ (x0 : Nat) (x1 : Int32) (M : wM) (H : Heap) (locs : List Loc) (ls : Array Slot), B_J9_recalculateWordsInUse_31 G Q x0 x1 M → wR G M H → va_S (wA G) s.heap H locs → lv_has ls 2 [(0, .ref x0), (1, .int x1)] → W p l e (headSpec (ws_ yJ9_recalculateWordsInUse cJ9_recalculateWordsInUse 2 (none)) ({ frames := 12, cells := 0, slots := 0, locals := 400 })).room s m ([.ref t0] : List Value).toArray below meth c H locs 0 0 (vx_MQ below (wQ G (wqV Q)) (wXC G wX0) ([.ref t0] : List Value).toArray s 0 0 (wA G)) (F0 m 31 ls []) := by
    intro x0 x1 M H locs ls hp hM hS hl
    refine lv_aload_n hx hb dJ9_recalculateWordsInUse_31 rfl (lv_at hl 0 rfl) ?_
    refine lv_iload_n hx hb dJ9_recalculateWordsInUse_32 rfl (lv_at hl 1 rfl) ?_
    refine lv_iconst (v := 1) hx hb dJ9_recalculateWordsInUse_33 (by decide) ?_
    refine lv_iadd hx hb dJ9_recalculateWordsInUse_34 ?_
    refine x_put X hC.1 hM hS (ci := 21) (C := RJ9) (T := TJ9) (N := 3) rfl in_J9 tyJ9 tyJ9_ok nmJ9 1 (by decide) q482 (fun _ h9 => h9) rfl rfl rfl dJ9_recalculateWordsInUse_35 hp (fun M1 H locs hM hS hp => ?_)
    exact x_vret X hr hlk hM hS ⟨Nat.le_refl _, Nat.le_refl _⟩ dJ9_recalculateWordsInUse_38 ⟨rfl, hp⟩
  have hB7 : ∀ (rec7 : Nat → Int32 → wM → Prop) (hrec7 : ∀ (x0 : Nat) (x1 : Int32) (M : wM) (H : Heap) (locs : List Loc) (ls : Array Slot), rec7 x0 x1 M → wR G M H → va_S (wA G) s.heap H locs → lv_has ls 2 [(0, .ref x0), (1, .int x1)] → W p l e (headSpec (ws_ yJ9_recalculateWordsInUse cJ9_recalculateWordsInUse 2 (none)) ({ frames := 12, cells := 0, slots := 0, locals := 400 })).room s m ([.ref t0] : List Value).toArray below meth c H locs 0 0 (vx_MQ below (wQ G (wqV Q)) (wXC G wX0) ([.ref t0] : List Value).toArray s 0 0 (wA G)) (F0 m 7 ls [])), ∀ (x0 : Nat) (x1 : Int32) (M : wM) (H : Heap) (locs : List Loc) (ls : Array Slot), B_J9_recalculateWordsInUse_7 G rec7 Q x0 x1 M → wR G M H → va_S (wA G) s.heap H locs → lv_has ls 2 [(0, .ref x0), (1, .int x1)] → W p l e (headSpec (ws_ yJ9_recalculateWordsInUse cJ9_recalculateWordsInUse 2 (none)) ({ frames := 12, cells := 0, slots := 0, locals := 400 })).room s m ([.ref t0] : List Value).toArray below meth c H locs 0 0 (vx_MQ below (wQ G (wqV Q)) (wXC G wX0) ([.ref t0] : List Value).toArray s 0 0 (wA G)) (F0 m 7 ls []) := by
    intro rec7 hrec7 x0 x1 M H locs ls hp hM hS hl
    refine lv_iload_n hx hb dJ9_recalculateWordsInUse_7 rfl (lv_at hl 1 rfl) ?_
    refine lv_if_lt (tgt := 31) hx hb dJ9_recalculateWordsInUse_8 (by decide) (fun hc => ?_) (fun hc => ?_)
    · have hp := oIf.t hp hc
      exact hB31 _ _ _ _ _ _ hp hM hS (lv_sub hl [0, 1] rfl)
    · have hp := oIf.f hp hc
      refine lv_aload_n hx hb dJ9_recalculateWordsInUse_11 rfl (lv_at hl 0 rfl) ?_
      refine x_getA X hC.1 hM (ci := 21) (C := RJ9) (T := TJ9) (N := 3) rfl in_J9 0 (by decide) q481 (fun _ h9 => h9) dJ9_recalculateWordsInUse_12 hp (fun a1 hp => ?_)
      refine lv_iload_n hx hb dJ9_recalculateWordsInUse_15 rfl (lv_at hl 1 rfl) ?_
      refine x_lald X hC.1 hM dJ9_recalculateWordsInUse_16 hp (fun v2 hp => ?_)
      refine lv_lconst (v := 0) hx hb dJ9_recalculateWordsInUse_17 (by decide) ?_
      refine W.lcmp hx hb dJ9_recalculateWordsInUse_18 ?_
      refine lv_if_eq (tgt := 25) hx hb dJ9_recalculateWordsInUse_19 (by decide) (fun hc => ?_) (fun hc => ?_)
      · have hp := oIf.t hp hc
        refine lv_iinc (v := (x1 + (-1))) (lv' := [(1, .int (x1 + (-1))), (0, .ref x0)]) hx hb dJ9_recalculateWordsInUse_25 hl (k := 1) rfl rfl (by decide) rfl (fun ls hl => ?_)
        refine lv_goto (tgt := 7) hx hb dJ9_recalculateWordsInUse_28 (by decide) ?_
        exact hrec7 _ _ _ _ _ _ hp hM hS (lv_sub hl [1, 0] rfl)
      · have hp := oIf.f hp hc
        refine lv_goto (tgt := 31) hx hb dJ9_recalculateWordsInUse_22 (by decide) ?_
        exact hB31 _ _ _ _ _ _ hp hM hS (lv_sub hl [0, 1] rfl)
  have hL7 : ∀ (n : Nat), ∀ (x0 : Nat) (x1 : Int32) (M : wM) (H : Heap) (locs : List Loc) (ls : Array Slot), L_J9_recalculateWordsInUse_7 G Q n x0 x1 M → wR G M H → va_S (wA G) s.heap H locs → lv_has ls 2 [(0, .ref x0), (1, .int x1)] → W p l e (headSpec (ws_ yJ9_recalculateWordsInUse cJ9_recalculateWordsInUse 2 (none)) ({ frames := 12, cells := 0, slots := 0, locals := 400 })).room s m ([.ref t0] : List Value).toArray below meth c H locs 0 0 (vx_MQ below (wQ G (wqV Q)) (wXC G wX0) ([.ref t0] : List Value).toArray s 0 0 (wA G)) (F0 m 7 ls []) := by
    intro n
    induction n with
    | zero => intro _ _ _ _ _ _ hp; exact False.elim hp
    | succ n ih => intro x0 x1 M H locs ls hp hM hS hl; exact hB7 (L_J9_recalculateWordsInUse_7 G Q n) ih _ _ _ _ _ _ hp hM hS hl
  refine lv_aload_n hx hb dJ9_recalculateWordsInUse_0 rfl (lv_at hl 0 rfl) ?_
  refine x_getI X hC.1 hM (ci := 21) (C := RJ9) (T := TJ9) (N := 3) rfl in_J9 1 (by decide) q482 (fun _ h9 => h9) dJ9_recalculateWordsInUse_1 hp (fun v1 hp => ?_)
  refine lv_iconst (v := 1) hx hb dJ9_recalculateWordsInUse_4 (by decide) ?_
  refine lv_isub hx hb dJ9_recalculateWordsInUse_5 ?_
  refine lv_istore_n (lv' := [(1, .int (v1 - (1 : Int32))), (0, .ref t0)]) hx hb dJ9_recalculateWordsInUse_6 rfl hl (by decide) rfl (fun ls hl => ?_)
  obtain ⟨n, hp⟩ := hp
  exact hL7 n _ _ _ _ _ _ hp hM hS (lv_sub hl [1, 0] rfl)
def P_J9_clear (G : wG) (t0 : Nat) (p1 : Int32) (M : wM) (Q : wM → Prop) : Prop :=
  oIf (0 ≤ p1) (P_J9_wordIndex G p1 M (fun v3 M1 => oGetI M1 t0 21 1 (fun v4 => oIf (v3 < v4) (oGetA M1 t0 21 0 (fun a5 => oLald M1 a5 v3 (fun v6 => oLast G M1 a5 v3 (v6 &&& (((1 : Int64) <<< (p1.toInt64 &&& 63)) ^^^ (-1 : Int64))) (fun M7 => oIs M7 t0 21 (P_J9_recalculateWordsInUse G t0 M7 (fun M8 => oIs M8 t0 21 (P_J9_checkInvariants G t0 M8 (fun M10 => Q M10)))))))) (Q M1)))) (False)
set_option maxHeartbeats 4000000 in
set_option maxRecDepth 100000 in
theorem P_J9_clear_ok {l : Launch} (hl0 : l.stackTraces = false) {G : wG} {t0 : Nat} {p1 : Int32} {M : wM} {Q : wM → Prop} (hp : P_J9_clear G t0 p1 M Q) : wMet l yJ9_clear (ws_ yJ9_clear cJ9_clear 3 (none)) 13 421 G [.ref t0, .int p1] M 0 (wqV Q) wX0 := by
  refine vx_ofW (cc := cJ9_clear) (maxL := 3) (ret := none) (by decide) rfl ?_
  intro p e s m args below meth c s₁ B hml hnt hv
  obtain ⟨rfl, hM, hK, hZ, hz⟩ := hv
  have hC : wC G s := ⟨hK, hZ, hz⟩
  have hx := B.exec
  have hb := B.bytes
  have hr := B.returns
  have hts := atoms_spec (ws := (ws_ yJ9_clear cJ9_clear 3 (none))) B.pre
  have hts : ∀ w ∈ lw_all, w.before _ s = true := fun w h => hts w (List.mem_cons_of_mem _ h)
  have hown : s.vm.findClass RJ9 = some m.cls := findClass_of_methodNamed B.named
  have hlk := B.notSynchronized
  have X : CallFix p m c cJ9_clear 3 s ([.ref t0, .int p1] : List Value).toArray lw_all RJ9 := ⟨hx, hb, hml, hown, hts⟩
  have hS : va_S (wA G) s.heap s.heap [] := va_S.rf
  have hl := lv_entry ([.ref t0, .int p1]) (n := 3) (Nat.le_of_ble_eq_true rfl)
  rw [lg_entry_eq]
  generalize (lg_sl ([.ref t0, .int p1]) ++ List.replicate (3 - (lg_sl ([.ref t0, .int p1])).length) Slot.unset).toArray = ls at hl ⊢
  have hl : lv_has ls 3 [(0, .ref t0), (1, .int p1)] := hl
  refine lv_iload_n hx hb dJ9_clear_0 rfl (lv_at hl 1 rfl) ?_
  refine lv_if_ge (tgt := 31) hx hb dJ9_clear_1 (by decide) (fun hc => ?_) (fun hc => ?_)
  · have hp := oIf.t hp hc
    refine lv_iload_n hx hb dJ9_clear_31 rfl (lv_at hl 1 rfl) ?_
    refine x_call0I (vx_runS (As := [.int p1]) (rest := []) X (P_J9_wordIndex_ok (l := l) hl0 hp) (va_cwS 1 hts (lw_S q478 q479 q161 q480) rfl rfl rfl (by decide +kernel) ⟨Nat.le_of_ble_eq_true rfl, Nat.le_of_ble_eq_true rfl⟩) ⟨wPc.blind, w_pre hC hM hS _⟩ rfl rfl hl.1 rfl (lv_room (Nat.le_of_ble_eq_true rfl)) dJ9_clear_32 ⟨Nat.le_refl _, Nat.le_refl _⟩) hS ⟨Nat.le_refl _, Nat.le_refl _⟩ (fun _ _ _ _ _ _ h => False.elim h) (fun v3 M1 H locs hp hM hS => ?_)
    refine lv_istore_n (lv' := [(2, .int v3), (0, .ref t0), (1, .int p1)]) hx hb dJ9_clear_35 rfl hl (by decide) rfl (fun ls hl => ?_)
    refine lv_iload_n hx hb dJ9_clear_36 rfl (lv_at hl 0 rfl) ?_
    refine lv_aload_n hx hb dJ9_clear_37 rfl (lv_at hl 1 rfl) ?_
    refine x_getI X hC.1 hM (ci := 21) (C := RJ9) (T := TJ9) (N := 3) rfl in_J9 1 (by decide) q482 (fun _ h9 => h9) dJ9_clear_38 hp (fun v4 hp => ?_)
    refine lv_icmp_lt (tgt := 45) hx hb dJ9_clear_41 (by decide) (fun hc => ?_) (fun hc => ?_)
    · have hp := oIf.t hp hc
      refine lv_aload_n hx hb dJ9_clear_45 rfl (lv_at hl 1 rfl) ?_
      refine x_getA X hC.1 hM (ci := 21) (C := RJ9) (T := TJ9) (N := 3) rfl in_J9 0 (by decide) q481 (fun _ h9 => h9) dJ9_clear_46 hp (fun a5 hp => ?_)
      refine lv_iload_n hx hb dJ9_clear_49 rfl (lv_at hl 0 rfl) ?_
      refine lv_dup2_11 hx hb dJ9_clear_50 rfl rfl ?_
      refine x_lald X hC.1 hM dJ9_clear_51 hp (fun v6 hp => ?_)
      refine lv_lconst (v := 1) hx hb dJ9_clear_52 (by decide) ?_
      refine lv_iload_n hx hb dJ9_clear_53 rfl (lv_at hl 2 rfl) ?_
      refine lv_lshl (v := ((1 : Int64) <<< (p1.toInt64 &&& 63))) hx hb dJ9_clear_54 rfl ?_
      refine lv_ldc2 (v := (-1)) hx hb hown (hts _ q2987) dJ9_clear_55 ?_
      refine lv_lxor hx hb dJ9_clear_58 ?_
      refine lv_land hx hb dJ9_clear_59 ?_
      refine x_last X hC.1 hM hS dJ9_clear_60 hp (fun M7 H locs hM hS hp => ?_)
      refine lv_aload_n hx hb dJ9_clear_61 rfl (lv_at hl 1 rfl) ?_
      obtain ⟨hrec, hp⟩ := hp
      refine x_call0V (vx_runV (As := []) (rest := []) X (P_J9_recalculateWordsInUse_ok (l := l) hl0 hp) (cwV 0 hts (lw_V q2988 q2990 qs59 q161 q2991) rfl rfl rfl (by decide +kernel) ⟨Nat.le_of_ble_eq_true rfl, Nat.le_of_ble_eq_true rfl⟩) ⟨wPc.blind, w_recv hC.1 hM (ci := 21) (q := (RJ9, TJ9, 3)) rfl hrec, w_pre hC hM hS _⟩ rfl rfl hl.1 rfl (lv_room (Nat.le_of_ble_eq_true rfl)) dJ9_clear_62 ⟨Nat.le_refl _, Nat.le_refl _⟩) hS ⟨Nat.le_refl _, Nat.le_refl _⟩ (fun _ _ _ _ _ _ h => False.elim h) (fun M8 H locs hp hM hS => ?_)
      refine lv_aload_n hx hb dJ9_clear_65 rfl (lv_at hl 1 rfl) ?_
      obtain ⟨hrec, hp⟩ := hp
      refine x_call0V (vx_runV (As := []) (rest := []) X (P_J9_checkInvariants_ok (l := l) hl0 hp) (cwV 0 hts (lw_V q1497 q1499 qs25 q161 q1500) rfl rfl rfl (by decide +kernel) ⟨Nat.le_of_ble_eq_true rfl, Nat.le_of_ble_eq_true rfl⟩) ⟨wPc.blind, w_recv hC.1 hM (ci := 21) (q := (RJ9, TJ9, 3)) rfl hrec, w_pre hC hM hS _⟩ rfl rfl hl.1 rfl (lv_room (Nat.le_of_ble_eq_true rfl)) dJ9_clear_66 ⟨Nat.le_refl _, Nat.le_refl _⟩) hS ⟨Nat.le_refl _, Nat.le_refl _⟩ (fun _ _ _ _ _ _ h => False.elim h) (fun M10 H locs hp hM hS => ?_)
      exact x_vret X hr hlk hM hS ⟨Nat.le_refl _, Nat.le_refl _⟩ dJ9_clear_69 ⟨rfl, hp⟩
    · have hp := oIf.f hp hc
      exact x_vret X hr hlk hM hS ⟨Nat.le_refl _, Nat.le_refl _⟩ dJ9_clear_44 ⟨rfl, hp⟩
  · have hp := oIf.f hp hc
    exact hp.elim
def B_J9_set_2_17 (G : wG) (Q : wM → Prop) (M : wM) (bq : Nat) : Prop :=
  Q M
def P_J9_set_2 (G : wG) (t0 : Nat) (p1 : Int32) (p2 : Int32) (b : Nat) (M : wM) (Q : wM → Prop) : Prop :=
  oIf (p2 = 0) (oIs M t0 21 (P_J9_clear G t0 p1 M (fun M1 => B_J9_set_2_17 G Q M1 b))) (oIs M t0 21 (∃ c4, c4 ≤ b ∧ P_J9_set G t0 p1 c4 M (fun M3 => B_J9_set_2_17 G Q M3 (b - c4))))
set_option maxHeartbeats 4000000 in
set_option maxRecDepth 100000 in
theorem P_J9_set_2_ok {l : Launch} (hl0 : l.stackTraces = false) {G : wG} {t0 : Nat} {p1 : Int32} {p2 : Int32} {b : Nat} {M : wM} {Q : wM → Prop} (hp : P_J9_set_2 G t0 p1 p2 b M Q) : wMet l yJ9_set_2 (ws_ yJ9_set_2 cJ9_set_2 3 (none)) 16 488 G [.ref t0, .int p1, .int p2] M b (wqV Q) wX0 := by
  refine vx_ofW (cc := cJ9_set_2) (maxL := 3) (ret := none) (by decide) rfl ?_
  intro p e s m args below meth c s₁ B hml hnt hv
  obtain ⟨rfl, hM, hK, hZ, hz⟩ := hv
  have hC : wC G s := ⟨hK, hZ, hz⟩
  have hx := B.exec
  have hb := B.bytes
  have hr := B.returns
  have hts := atoms_spec (ws := (ws_ yJ9_set_2 cJ9_set_2 3 (none))) B.pre
  have hts : ∀ w ∈ lw_all, w.before _ s = true := fun w h => hts w (List.mem_cons_of_mem _ h)
  have hown : s.vm.findClass RJ9 = some m.cls := findClass_of_methodNamed B.named
  have hlk := B.notSynchronized
  have X : CallFix p m c cJ9_set_2 3 s ([.ref t0, .int p1, .int p2] : List Value).toArray lw_all RJ9 := ⟨hx, hb, hml, hown, hts⟩
  have hS : va_S (wA G) s.heap s.heap [] := va_S.rf
  have hl := lv_entry ([.ref t0, .int p1, .int p2]) (n := 3) (Nat.le_of_ble_eq_true rfl)
  rw [lg_entry_eq]
  generalize (lg_sl ([.ref t0, .int p1, .int p2]) ++ List.replicate (3 - (lg_sl ([.ref t0, .int p1, .int p2])).length) Slot.unset).toArray = ls at hl ⊢
  have hl : lv_has ls 3 [(0, .ref t0), (1, .int p1), (2, .int p2)] := hl
  have hB : 0 + b ≤ ((headSpec (ws_ yJ9_set_2 cJ9_set_2 3 (none)) ({ frames := 16, cells := b, slots := b, locals := 488 })).room).cells ∧ 0 + b ≤ ((headSpec (ws_ yJ9_set_2 cJ9_set_2 3 (none)) ({ frames := 16, cells := b, slots := b, locals := 488 })).room).slots := ⟨Nat.le_of_eq (Nat.zero_add b), Nat.le_of_eq (Nat.zero_add b)⟩
  have hB17 : ∀ (M : wM) (bq : Nat) (H : Heap) (locs : List Loc) (ls : Array Slot) (cells slots : Nat), B_J9_set_2_17 G Q M bq → wR G M H → va_S (wA G) s.heap H locs → (cells + bq ≤ ((headSpec (ws_ yJ9_set_2 cJ9_set_2 3 (none)) ({ frames := 16, cells := b, slots := b, locals := 488 })).room).cells ∧ slots + bq ≤ ((headSpec (ws_ yJ9_set_2 cJ9_set_2 3 (none)) ({ frames := 16, cells := b, slots := b, locals := 488 })).room).slots) → lv_has ls 3 [] → W p l e (headSpec (ws_ yJ9_set_2 cJ9_set_2 3 (none)) ({ frames := 16, cells := b, slots := b, locals := 488 })).room s m ([.ref t0, .int p1, .int p2] : List Value).toArray below meth c H locs cells slots (vx_MQ below (wQ G (wqV Q)) (wXC G wX0) ([.ref t0, .int p1, .int p2] : List Value).toArray s b b (wA G)) (F0 m 17 ls []) := by
    intro M bq H locs ls cells slots hp hM hS hB hl
    exact x_vret X hr hlk hM hS (w_fin hB) dJ9_set_2_17 ⟨rfl, hp⟩
  refine lv_iload_n hx hb dJ9_set_2_0 rfl (lv_at hl 2 rfl) ?_
  refine lv_if_eq (tgt := 12) hx hb dJ9_set_2_1 (by decide) (fun hc => ?_) (fun hc => ?_)
  · have hp := oIf.t hp hc
    refine lv_aload_n hx hb dJ9_set_2_12 rfl (lv_at hl 0 rfl) ?_
    refine lv_iload_n hx hb dJ9_set_2_13 rfl (lv_at hl 1 rfl) ?_
    obtain ⟨hrec, hp⟩ := hp
    refine x_call0V (vx_runV (As := [.int p1]) (rest := []) X (P_J9_clear_ok (l := l) hl0 hp) (cwV 1 hts (lw_V q2983 q2984 q2985 q161 q2986) rfl rfl rfl (by decide +kernel) ⟨Nat.le_of_ble_eq_true rfl, Nat.le_of_ble_eq_true rfl⟩) ⟨wPc.blind, w_recv hC.1 hM (ci := 21) (q := (RJ9, TJ9, 3)) rfl hrec, w_pre hC hM hS _⟩ rfl rfl hl.1 rfl (lv_room (Nat.le_of_ble_eq_true rfl)) dJ9_set_2_14 (w_room0 hB)) hS (w_room0 hB) (fun _ _ _ _ _ _ h => False.elim h) (fun M1 H locs hp hM hS => ?_)
    exact hB17 _ _ _ _ _ _ _ hp hM hS hB (lv_sub hl [] rfl)
  · have hp := oIf.f hp hc
    refine lv_aload_n hx hb dJ9_set_2_4 rfl (lv_at hl 0 rfl) ?_
    refine lv_iload_n hx hb dJ9_set_2_5 rfl (lv_at hl 1 rfl) ?_
    obtain ⟨hrec, hp⟩ := hp
    obtain ⟨c4, hc1, hp⟩ := hp
    refine x_callV (vx_runV (As := [.int p1]) (rest := []) X (P_J9_set_ok (l := l) hl0 hp) (cwV 1 hts (lw_V q2982 q1504 q1505 q161 q1506) rfl rfl rfl (by decide +kernel) ⟨Nat.le_of_ble_eq_true rfl, Nat.le_of_ble_eq_true rfl⟩) ⟨wPc.blind, w_recv hC.1 hM (ci := 21) (q := (RJ9, TJ9, 3)) rfl hrec, w_pre hC hM hS _⟩ rfl rfl hl.1 rfl (lv_room (Nat.le_of_ble_eq_true rfl)) dJ9_set_2_6 (w_room hB hc1)) hS hB hc1 (fun _ _ _ _ _ _ h => False.elim h) (fun M3 H locs hp hM hS hB => ?_)
    refine lv_goto (tgt := 17) hx hb dJ9_set_2_9 (by decide) ?_
    exact hB17 _ _ _ _ _ _ _ hp hM hS hB (lv_sub hl [] rfl)
def B_X1_suspend_33 (G : wG) (Q : Bool → wM → Prop) (Xp : String → Nat → wM → Prop) (x0 : Nat) (x1 : Int32) (x2 : Int32) (y0 : Int32) (M : wM) (bq : Nat) : Prop :=
  ∃ c2, c2 ≤ bq ∧ P_X1_checkState G y0 c2 M (fun M1 => oGetA M1 x0 0 0 (fun a3 => oGetA M1 a3 1 5 (fun a4 => oIs M1 a4 21 (P_J9_get G a4 x1 M1 (fun r7 M5 => oIs M5 x0 0 (∃ c9, c9 ≤ (bq - c2) ∧ P_X1_remember G x0 c9 M5 (fun M8 => oGetA M8 x0 0 0 (fun a10 => oGetA M8 a10 1 5 (fun a11 => oIs M8 a11 21 (∃ c13, c13 ≤ ((bq - c2) - c9) ∧ P_J9_set_2 G a11 x1 x2 c13 M8 (fun M12 => Q r7 M12))))))))))) (fun E q14 M15 => (E = "java/lang/IllegalStateException" ∧ Xp E q14 M15))
def P_X1_suspend (G : wG) (t0 : Nat) (p1 : Int32) (p2 : Int32) (b : Nat) (M : wM) (Q : Bool → wM → Prop) (Xp : String → Nat → wM → Prop) : Prop :=
  oIs M t0 0 (∃ c2, c2 ≤ b ∧ P_X1_checkStreet G t0 p1 c2 M (fun M1 => oIs M1 t0 0 (P_X1_setup G t0 M1 (fun r5 M3 => oRef r5 (fun a6 => oGetA M3 a6 2 1 (fun a7 => oIs M3 a7 16 (P_J2_get G a7 p1 M3 (fun r10 M8 => oCast M8 r10 7 (oRef r10 (fun a11 => oGetI M8 a11 7 2 (fun v12 => oIf (v12 = (-1 : Int32)) (B_X1_suspend_33 G Q Xp t0 p1 p2 (0 : Int32) M8 (b - c2)) (B_X1_suspend_33 G Q Xp t0 p1 p2 (1 : Int32) M8 (b - c2)))))))))))) (fun E q13 M14 => (E = "java/lang/IndexOutOfBoundsException" ∧ Xp E q13 M14)))
set_option maxHeartbeats 4000000 in
set_option maxRecDepth 100000 in
theorem P_X1_suspend_ok {l : Launch} (hl0 : l.stackTraces = false) {G : wG} {t0 : Nat} {p1 : Int32} {p2 : Int32} {b : Nat} {M : wM} {Q : Bool → wM → Prop} {Xp : String → Nat → wM → Prop} (hp : P_X1_suspend G t0 p1 p2 b M Q Xp) : wMet l yX1_suspend (ws_ yX1_suspend cX1_suspend 4 (Option.some Jvm.ClassFile.FieldType.boolean)) 20 575 G [.ref t0, .int p1, .int p2] M b (wqZ Q) Xp := by
  refine vx_ofW (cc := cX1_suspend) (maxL := 4) (ret := Option.some Jvm.ClassFile.FieldType.boolean) (by decide) rfl ?_
  intro p e s m args below meth c s₁ B hml hnt hv
  obtain ⟨rfl, hM, hK, hZ, hz⟩ := hv
  have hC : wC G s := ⟨hK, hZ, hz⟩
  have hx := B.exec
  have hb := B.bytes
  have hr := B.returns
  have hts := atoms_spec (ws := (ws_ yX1_suspend cX1_suspend 4 (Option.some Jvm.ClassFile.FieldType.boolean))) B.pre
  have hts : ∀ w ∈ lw_all, w.before _ s = true := fun w h => hts w (List.mem_cons_of_mem _ h)
  have hown : s.vm.findClass RX1 = some m.cls := findClass_of_methodNamed B.named
  have hlk := B.notSynchronized
  have X : CallFix p m c cX1_suspend 4 s ([.ref t0, .int p1, .int p2] : List Value).toArray lw_all RX1 := ⟨hx, hb, hml, hown, hts⟩
  have hS : va_S (wA G) s.heap s.heap [] := va_S.rf
  have hl := lv_entry ([.ref t0, .int p1, .int p2]) (n := 4) (Nat.le_of_ble_eq_true rfl)
  rw [lg_entry_eq]
  generalize (lg_sl ([.ref t0, .int p1, .int p2]) ++ List.replicate (4 - (lg_sl ([.ref t0, .int p1, .int p2])).length) Slot.unset).toArray = ls at hl ⊢
  have hl : lv_has ls 4 [(0, .ref t0), (1, .int p1), (2, .int p2)] := hl
  have hB : 0 + b ≤ ((headSpec (ws_ yX1_suspend cX1_suspend 4 (Option.some Jvm.ClassFile.FieldType.boolean)) ({ frames := 20, cells := b, slots := b, locals := 575 })).room).cells ∧ 0 + b ≤ ((headSpec (ws_ yX1_suspend cX1_suspend 4 (Option.some Jvm.ClassFile.FieldType.boolean)) ({ frames := 20, cells := b, slots := b, locals := 575 })).room).slots := ⟨Nat.le_of_eq (Nat.zero_add b), Nat.le_of_eq (Nat.zero_add b)⟩
  have hB33 : ∀ (x0 : Nat) (x1 : Int32) (x2 : Int32) (y0 : Int32) (M : wM) (bq : Nat) (H : Heap) (locs : List Loc) (ls : Array Slot) (cells slots : Nat), B_X1_suspend_33 G Q Xp x0 x1 x2 y0 M bq → wR G M H → va_S (wA G) s.heap H locs → (cells + bq ≤ ((headSpec (ws_ yX1_suspend cX1_suspend 4 (Option.some Jvm.ClassFile.FieldType.boolean)) ({ frames := 20, cells := b, slots := b, locals := 575 })).room).cells ∧ slots + bq ≤ ((headSpec (ws_ yX1_suspend cX1_suspend 4 (Option.some Jvm.ClassFile.FieldType.boolean)) ({ frames := 20, cells := b, slots := b, locals := 575 })).room).slots) → lv_has ls 4 [(0, .ref x0), (1, .int x1), (2, .int x2)] → W p l e (headSpec (ws_ yX1_suspend cX1_suspend 4 (Option.some Jvm.ClassFile.FieldType.boolean)) ({ frames := 20, cells := b, slots := b, locals := 575 })).room s m ([.ref t0, .int p1, .int p2] : List Value).toArray below meth c H locs cells slots (vx_MQ below (wQ G (wqZ Q)) (wXC G Xp) ([.ref t0, .int p1, .int p2] : List Value).toArray s b b (wA G)) (F0 m 33 ls [.int y0]) := by
    intro x0 x1 x2 y0 M bq H locs ls cells slots hp hM hS hB hl
    obtain ⟨c2, hc1, hp⟩ := hp
    refine x_callV (vx_runS (As := [.int y0]) (rest := []) X (P_X1_checkState_ok (l := l) hl0 hp) (va_cwS 1 hts (lw_S q2690 q2691 q148 q2692) rfl rfl rfl (by decide +kernel) ⟨Nat.le_of_ble_eq_true rfl, Nat.le_of_ble_eq_true rfl⟩) ⟨wPc.blind, w_pre hC hM hS _⟩ rfl rfl hl.1 rfl (lv_room (Nat.le_of_ble_eq_true rfl)) dX1_suspend_33 (w_room hB hc1)) hS hB hc1 (fun E ce q14 M15 H locs hp hM hS hB hcell hcv hcl => ?_) (fun M1 H locs hp hM hS hB => ?_)
    · obtain ⟨rfl, hp⟩ := hp
      exact x_out hlk (fun x h => (hnt x h).elim) hM hS (w_fin hB) hcell hcv hcl hp
    · refine lv_aload_n hx hb dX1_suspend_36 rfl (lv_at hl 0 rfl) ?_
      refine x_getA X hC.1 hM (ci := 0) (C := RX1) (T := TX1) (N := 8) rfl in_X1 0 (by decide) q973 (fun _ h9 => h9) dX1_suspend_37 hp (fun a3 hp => ?_)
      refine x_getAN X hC.1 hM (ci := 1) (C := RX2) (T := TX2) (N := 9) rfl in_X2 5 (by decide) q928 (fun _ h9 => h9) dX1_suspend_40 hp (fun a4 hp => ?_)
      refine lv_iload_n hx hb dX1_suspend_43 rfl (lv_at hl 1 rfl) ?_
      obtain ⟨hrec, hp⟩ := hp
      refine x_call0Z (vx_runV (As := [.int x1]) (rest := []) X (P_J9_get_ok (l := l) hl0 hp) (cwV 1 hts (lw_V q2229 q1486 q1487 q161 q1488) rfl rfl rfl (by decide +kernel) ⟨Nat.le_of_ble_eq_true rfl, Nat.le_of_ble_eq_true rfl⟩) ⟨wPc.blind, w_recv hC.1 hM (ci := 21) (q := (RJ9, TJ9, 3)) rfl hrec, w_pre hC hM hS _⟩ rfl rfl hl.1 rfl (lv_room (Nat.le_of_ble_eq_true rfl)) dX1_suspend_44 (w_room0 hB)) hS (w_room0 hB) (fun _ _ _ _ _ _ h => False.elim h) (fun r7 M5 H locs hp hM hS => ?_)
      refine lv_istore_n (lv' := [(3, .int (wb r7)), (0, .ref x0), (1, .int x1), (2, .int x2)]) hx hb dX1_suspend_47 rfl hl (by decide) rfl (fun ls hl => ?_)
      refine lv_aload_n hx hb dX1_suspend_48 rfl (lv_at hl 1 rfl) ?_
      obtain ⟨hrec, hp⟩ := hp
      obtain ⟨c9, hc1, hp⟩ := hp
      refine x_callV (vx_runV (As := []) (rest := []) X (P_X1_remember_ok (l := l) hl0 hp) (cwV 0 hts (lw_V q2543 q2545 qs49 q148 q2546) rfl rfl rfl (by decide +kernel) ⟨Nat.le_of_ble_eq_true rfl, Nat.le_of_ble_eq_true rfl⟩) ⟨wPc.blind, w_recv hC.1 hM (ci := 0) (q := (RX1, TX1, 8)) rfl hrec, w_pre hC hM hS _⟩ rfl rfl hl.1 rfl (lv_room (Nat.le_of_ble_eq_true rfl)) dX1_suspend_49 (w_room hB hc1)) hS hB hc1 (fun _ _ _ _ _ _ h => False.elim h) (fun M8 H locs hp hM hS hB => ?_)
      refine lv_aload_n hx hb dX1_suspend_52 rfl (lv_at hl 1 rfl) ?_
      refine x_getA X hC.1 hM (ci := 0) (C := RX1) (T := TX1) (N := 8) rfl in_X1 0 (by decide) q973 (fun _ h9 => h9) dX1_suspend_53 hp (fun a10 hp => ?_)
      refine x_getAN X hC.1 hM (ci := 1) (C := RX2) (T := TX2) (N := 9) rfl in_X2 5 (by decide) q928 (fun _ h9 => h9) dX1_suspend_56 hp (fun a11 hp => ?_)
      refine lv_iload_n hx hb dX1_suspend_59 rfl (lv_at hl 2 rfl) ?_
      refine lv_iload_n hx hb dX1_suspend_60 rfl (lv_at hl 3 rfl) ?_
      obtain ⟨hrec, hp⟩ := hp
      obtain ⟨c13, hc1, hp⟩ := hp
      refine x_callV (vx_runV (As := [.int x1, .int x2]) (rest := []) X (P_J9_set_2_ok (l := l) hl0 hp) (cwV 2 hts (lw_V q2978 q2979 q2980 q161 q2981) rfl rfl rfl (by decide +kernel) ⟨Nat.le_of_ble_eq_true rfl, Nat.le_of_ble_eq_true rfl⟩) ⟨wPc.blind, w_recv hC.1 hM (ci := 21) (q := (RJ9, TJ9, 3)) rfl hrec, w_pre hC hM hS _⟩ rfl rfl hl.1 rfl (lv_room (Nat.le_of_ble_eq_true rfl)) dX1_suspend_61 (w_room hB hc1)) hS hB hc1 (fun _ _ _ _ _ _ h => False.elim h) (fun M12 H locs hp hM hS hB => ?_)
      refine lv_iload_n hx hb dX1_suspend_64 rfl (lv_at hl 0 rfl) ?_
      exact x_zret X hr hlk hM hS (w_fin hB) (w_nz _) dX1_suspend_65 ⟨_, rfl, hp⟩
  refine lv_aload_n hx hb dX1_suspend_0 rfl (lv_at hl 0 rfl) ?_
  refine lv_iload_n hx hb dX1_suspend_1 rfl (lv_at hl 1 rfl) ?_
  obtain ⟨hrec, hp⟩ := hp
  obtain ⟨c2, hc1, hp⟩ := hp
  refine x_callV (vx_runV (As := [.int p1]) (rest := []) X (P_X1_checkStreet_ok (l := l) hl0 hp) (cwV 1 hts (lw_V q2225 q2227 qs37 q148 q2228) rfl rfl rfl (by decide +kernel) ⟨Nat.le_of_ble_eq_true rfl, Nat.le_of_ble_eq_true rfl⟩) ⟨wPc.blind, w_recv hC.1 hM (ci := 0) (q := (RX1, TX1, 8)) rfl hrec, w_pre hC hM hS _⟩ rfl rfl hl.1 rfl (lv_room (Nat.le_of_ble_eq_true rfl)) dX1_suspend_2 (w_room hB hc1)) hS hB hc1 (fun E ce q13 M14 H locs hp hM hS hB hcell hcv hcl => ?_) (fun M1 H locs hp hM hS hB => ?_)
  · obtain ⟨rfl, hp⟩ := hp
    exact x_out hlk (fun x h => (hnt x h).elim) hM hS (w_fin hB) hcell hcv hcl hp
  · refine lv_aload_n hx hb dX1_suspend_5 rfl (lv_at hl 0 rfl) ?_
    obtain ⟨hrec, hp⟩ := hp
    refine x_call0R (vx_runV (As := []) (rest := []) X (P_X1_setup_ok (l := l) hl0 hp) (cwV 0 hts (lw_V q1535 q1537 qs29 q148 q1538) rfl rfl rfl (by decide +kernel) ⟨Nat.le_of_ble_eq_true rfl, Nat.le_of_ble_eq_true rfl⟩) ⟨wPc.blind, w_recv hC.1 hM (ci := 0) (q := (RX1, TX1, 8)) rfl hrec, w_pre hC hM hS _⟩ rfl rfl hl.1 rfl (lv_room (Nat.le_of_ble_eq_true rfl)) dX1_suspend_6 (w_room0 hB)) hS (w_room0 hB) (fun _ _ _ _ _ _ h => False.elim h) (fun r5 M3 H locs hp hM hS => ?_)
    obtain ⟨a6, ea, hqa6⟩ := hp
    subst ea
    have hp := hqa6
    refine x_getAN X hC.1 hM (ci := 2) (C := RX3) (T := TX3) (N := 8) rfl in_X3 1 (by decide) q401 (fun _ h9 => h9) dX1_suspend_9 hp (fun a7 hp => ?_)
    refine lv_iload_n hx hb dX1_suspend_12 rfl (lv_at hl 1 rfl) ?_
    obtain ⟨hrec, hp⟩ := hp
    refine x_call0R5 (vx_runF (hC.1.1.1 16 (RJ2, TJ2, 3) rfl).2 (C := "java/util/ArrayList") (As := [.int p1]) (rest := []) X (P_J2_get_ok (l := l) hl0 hp) (va_cwF 1 hts (lw_app (w_mem4 q1667 q522 q524 q153) (lw_meth q526)) rfl rfl rfl (wfw_8 hC.1) (by decide +kernel) ⟨Nat.le_of_ble_eq_true rfl, Nat.le_of_ble_eq_true rfl⟩) ⟨wPc.blind, w_recv hC.1 hM (ci := 16) (q := (RJ2, TJ2, 3)) rfl hrec, w_pre hC hM hS _⟩ rfl rfl hl.1 rfl (lv_room (Nat.le_of_ble_eq_true rfl)) dX1_suspend_13 (w_room0 hB)) hS (w_room0 hB) (fun _ _ _ _ _ _ h => False.elim h) (fun r10 M8 H locs hp hM hS => ?_)
    refine x_cast (r := r10) X hC.1 hM q2217 (ci := 7) rfl (Or.inl rfl) dX1_suspend_18 hp (fun hp => ?_)
    obtain ⟨a11, ea, hqa11⟩ := hp
    subst ea
    have hp := hqa11
    refine x_getIN X hC.1 hM (ci := 7) (C := RX8) (T := TX8) (N := 3) rfl in_X8 2 (by decide) q1447 (fun _ h9 => h9) dX1_suspend_21 hp (fun v12 hp => ?_)
    refine lv_iconst (v := (-1)) hx hb dX1_suspend_24 (by decide) ?_
    refine lv_icmp_eq (tgt := 32) hx hb dX1_suspend_25 (by decide) (fun hc => ?_) (fun hc => ?_)
    · have hp := oIf.t hp hc
      refine lv_iconst (v := 0) hx hb dX1_suspend_32 (by decide) ?_
      exact hB33 _ _ _ _ _ _ _ _ _ _ _ hp hM hS hB (lv_sub hl [0, 1, 2] rfl)
    · have hp := oIf.f hp hc
      refine lv_iconst (v := 1) hx hb dX1_suspend_28 (by decide) ?_
      refine lv_goto (tgt := 33) hx hb dX1_suspend_29 (by decide) ?_
      exact hB33 _ _ _ _ _ _ _ _ _ _ _ hp hM hS hB (lv_sub hl [0, 1, 2] rfl)
def B_X1_total_65 (G : wG) (rec24 : Int32 → Int32 → Option Nat → wM → Nat → Prop) (Q : Int32 → wM → Prop) (Xp : String → Nat → wM → Prop) (x1 : Int32) (x2 : Int32) (x3 : Nat) (M : wM) (bq : Nat) : Prop :=
  rec24 x1 x2 (some x3) M bq
def B_X1_total_57 (G : wG) (rec24 : Int32 → Int32 → Option Nat → wM → Nat → Prop) (Q : Int32 → wM → Prop) (Xp : String → Nat → wM → Prop) (x1 : Int32) (x2 : Int32) (x3 : Nat) (x4 : Option Nat) (M : wM) (bq : Nat) : Prop :=
  oRef x4 (fun a1 => oGetI M a1 15 4 (fun v2 => B_X1_total_65 G rec24 Q Xp x1 (x2 + v2) x3 M bq))
def B_X1_total_24 (G : wG) (rec24 : Int32 → Int32 → Option Nat → wM → Nat → Prop) (Q : Int32 → wM → Prop) (Xp : String → Nat → wM → Prop) (x1 : Int32) (x2 : Int32) (x3 : Option Nat) (M : wM) (bq : Nat) : Prop :=
  oRef x3 (fun a1 => oIs M a1 20 (P_J32_hasNext G a1 M (fun r4 M2 => oIf (r4 = true) (oIs M2 a1 20 (P_J32_next G a1 M2 (fun r7 M5 => oCast M5 r7 15 (oIf (x1 = 0) (B_X1_total_57 G rec24 Q Xp x1 x2 a1 r7 M5 bq) (oRef r7 (fun a8 => oGetI M5 a8 15 5 (fun v9 => oIf (v9 = x1) (B_X1_total_57 G rec24 Q Xp x1 x2 a1 (some a8) M5 bq) (B_X1_total_65 G rec24 Q Xp x1 x2 a1 M5 bq)))))))) (Q x2 M2))))
def L_X1_total_24 (G : wG) (Q : Int32 → wM → Prop) (Xp : String → Nat → wM → Prop) : Nat → Int32 → Int32 → Option Nat → wM → Nat → Prop
  | 0 => fun _ _ _ _ _ => False
  | n + 1 => B_X1_total_24 G (L_X1_total_24 G Q Xp n) Q Xp
def P_X1_total (G : wG) (t0 : Nat) (p1 : Int32) (b : Nat) (M : wM) (Q : Int32 → wM → Prop) (Xp : String → Nat → wM → Prop) : Prop :=
  P_X1_inRange G p1 (0 : Int32) (2 : Int32) M (fun r3 M1 => ∃ c5, c5 ≤ b ∧ P_X1_checkArgument G (wb r3) c5 M1 (fun M4 => oGetA M4 t0 0 0 (fun a6 => oGetA M4 a6 1 4 (fun a7 => oIs M4 a7 16 (∃ c9, c9 ≤ (b - c5) ∧ P_J2_iterator G a7 c9 M4 (fun r10 M8 => ∃ n, L_X1_total_24 G Q Xp n p1 (0 : Int32) r10 M8 ((b - c5) - c9)))))) (fun E q11 M12 => (E = "java/lang/IllegalArgumentException" ∧ Xp E q11 M12)))
set_option maxHeartbeats 4000000 in
set_option maxRecDepth 100000 in
theorem P_X1_total_ok {l : Launch} (hl0 : l.stackTraces = false) {G : wG} {t0 : Nat} {p1 : Int32} {b : Nat} {M : wM} {Q : Int32 → wM → Prop} {Xp : String → Nat → wM → Prop} (hp : P_X1_total G t0 p1 b M Q Xp) : wMet l yX1_total (ws_ yX1_total cX1_total 5 (Option.some Jvm.ClassFile.FieldType.int)) 14 442 G [.ref t0, .int p1] M b (wqI Q) Xp := by
  refine vx_ofW (cc := cX1_total) (maxL := 5) (ret := Option.some Jvm.ClassFile.FieldType.int) (by decide) rfl ?_
  intro p e s m args below meth c s₁ B hml hnt hv
  obtain ⟨rfl, hM, hK, hZ, hz⟩ := hv
  have hC : wC G s := ⟨hK, hZ, hz⟩
  have hx := B.exec
  have hb := B.bytes
  have hr := B.returns
  have hts := atoms_spec (ws := (ws_ yX1_total cX1_total 5 (Option.some Jvm.ClassFile.FieldType.int))) B.pre
  have hts : ∀ w ∈ lw_all, w.before _ s = true := fun w h => hts w (List.mem_cons_of_mem _ h)
  have hown : s.vm.findClass RX1 = some m.cls := findClass_of_methodNamed B.named
  have hlk := B.notSynchronized
  have X : CallFix p m c cX1_total 5 s ([.ref t0, .int p1] : List Value).toArray lw_all RX1 := ⟨hx, hb, hml, hown, hts⟩
  have hS : va_S (wA G) s.heap s.heap [] := va_S.rf
  have hl := lv_entry ([.ref t0, .int p1]) (n := 5) (Nat.le_of_ble_eq_true rfl)
  rw [lg_entry_eq]
  generalize (lg_sl ([.ref t0, .int p1]) ++ List.replicate (5 - (lg_sl ([.ref t0, .int p1])).length) Slot.unset).toArray = ls at hl ⊢
  have hl : lv_has ls 5 [(0, .ref t0), (1, .int p1)] := hl
  have hB : 0 + b ≤ ((headSpec (ws_ yX1_total cX1_total 5 (Option.some Jvm.ClassFile.FieldType.int)) ({ frames := 14, cells := b, slots := b, locals := 442 })).room).cells ∧ 0 + b ≤ ((headSpec (ws_ yX1_total cX1_total 5 (Option.some Jvm.ClassFile.FieldType.int)) ({ frames := 14, cells := b, slots := b, locals := 442 })).room).slots := ⟨Nat.le_of_eq (Nat.zero_add b), Nat.le_of_eq (Nat.zero_add b)⟩
  have hB65 : ∀ (rec24 : Int32 → Int32 → Option Nat → wM → Nat → Prop) (hrec24 : ∀ (x1 : Int32) (x2 : Int32) (x3 : Option Nat) (M : wM) (bq : Nat) (H : Heap) (locs : List Loc) (ls : Array Slot) (cells slots : Nat), rec24 x1 x2 x3 M bq → wR G M H → va_S (wA G) s.heap H locs → (cells + bq ≤ ((headSpec (ws_ yX1_total cX1_total 5 (Option.some Jvm.ClassFile.FieldType.int)) ({ frames := 14, cells := b, slots := b, locals := 442 })).room).cells ∧ slots + bq ≤ ((headSpec (ws_ yX1_total cX1_total 5 (Option.some Jvm.ClassFile.FieldType.int)) ({ frames := 14, cells := b, slots := b, locals := 442 })).room).slots) → lv_has ls 5 [(1, .int x1), (2, .int x2), (3, va_rf x3)] → W p l e (headSpec (ws_ yX1_total cX1_total 5 (Option.some Jvm.ClassFile.FieldType.int)) ({ frames := 14, cells := b, slots := b, locals := 442 })).room s m ([.ref t0, .int p1] : List Value).toArray below meth c H locs cells slots (vx_MQ below (wQ G (wqI Q)) (wXC G Xp) ([.ref t0, .int p1] : List Value).toArray s b b (wA G)) (F0 m 24 ls [])), ∀ (x1 : Int32) (x2 : Int32) (x3 : Nat) (M : wM) (bq : Nat) (H : Heap) (locs : List Loc) (ls : Array Slot) (cells slots : Nat), B_X1_total_65 G rec24 Q Xp x1 x2 x3 M bq → wR G M H → va_S (wA G) s.heap H locs → (cells + bq ≤ ((headSpec (ws_ yX1_total cX1_total 5 (Option.some Jvm.ClassFile.FieldType.int)) ({ frames := 14, cells := b, slots := b, locals := 442 })).room).cells ∧ slots + bq ≤ ((headSpec (ws_ yX1_total cX1_total 5 (Option.some Jvm.ClassFile.FieldType.int)) ({ frames := 14, cells := b, slots := b, locals := 442 })).room).slots) → lv_has ls 5 [(1, .int x1), (2, .int x2), (3, .ref x3)] → W p l e (headSpec (ws_ yX1_total cX1_total 5 (Option.some Jvm.ClassFile.FieldType.int)) ({ frames := 14, cells := b, slots := b, locals := 442 })).room s m ([.ref t0, .int p1] : List Value).toArray below meth c H locs cells slots (vx_MQ below (wQ G (wqI Q)) (wXC G Xp) ([.ref t0, .int p1] : List Value).toArray s b b (wA G)) (F0 m 65 ls []) := by
    intro rec24 hrec24 x1 x2 x3 M bq H locs ls cells slots hp hM hS hB hl
    refine lv_goto (tgt := 24) hx hb dX1_total_65 (by decide) ?_
    exact hrec24 _ _ _ _ _ _ _ _ _ _ hp hM hS hB (lv_sub hl [0, 1, 2] rfl)
  have hB57 : ∀ (rec24 : Int32 → Int32 → Option Nat → wM → Nat → Prop) (hrec24 : ∀ (x1 : Int32) (x2 : Int32) (x3 : Option Nat) (M : wM) (bq : Nat) (H : Heap) (locs : List Loc) (ls : Array Slot) (cells slots : Nat), rec24 x1 x2 x3 M bq → wR G M H → va_S (wA G) s.heap H locs → (cells + bq ≤ ((headSpec (ws_ yX1_total cX1_total 5 (Option.some Jvm.ClassFile.FieldType.int)) ({ frames := 14, cells := b, slots := b, locals := 442 })).room).cells ∧ slots + bq ≤ ((headSpec (ws_ yX1_total cX1_total 5 (Option.some Jvm.ClassFile.FieldType.int)) ({ frames := 14, cells := b, slots := b, locals := 442 })).room).slots) → lv_has ls 5 [(1, .int x1), (2, .int x2), (3, va_rf x3)] → W p l e (headSpec (ws_ yX1_total cX1_total 5 (Option.some Jvm.ClassFile.FieldType.int)) ({ frames := 14, cells := b, slots := b, locals := 442 })).room s m ([.ref t0, .int p1] : List Value).toArray below meth c H locs cells slots (vx_MQ below (wQ G (wqI Q)) (wXC G Xp) ([.ref t0, .int p1] : List Value).toArray s b b (wA G)) (F0 m 24 ls [])), ∀ (x1 : Int32) (x2 : Int32) (x3 : Nat) (x4 : Option Nat) (M : wM) (bq : Nat) (H : Heap) (locs : List Loc) (ls : Array Slot) (cells slots : Nat), B_X1_total_57 G rec24 Q Xp x1 x2 x3 x4 M bq → wR G M H → va_S (wA G) s.heap H locs → (cells + bq ≤ ((headSpec (ws_ yX1_total cX1_total 5 (Option.some Jvm.ClassFile.FieldType.int)) ({ frames := 14, cells := b, slots := b, locals := 442 })).room).cells ∧ slots + bq ≤ ((headSpec (ws_ yX1_total cX1_total 5 (Option.some Jvm.ClassFile.FieldType.int)) ({ frames := 14, cells := b, slots := b, locals := 442 })).room).slots) → lv_has ls 5 [(1, .int x1), (2, .int x2), (3, .ref x3), (4, va_rf x4)] → W p l e (headSpec (ws_ yX1_total cX1_total 5 (Option.some Jvm.ClassFile.FieldType.int)) ({ frames := 14, cells := b, slots := b, locals := 442 })).room s m ([.ref t0, .int p1] : List Value).toArray below meth c H locs cells slots (vx_MQ below (wQ G (wqI Q)) (wXC G Xp) ([.ref t0, .int p1] : List Value).toArray s b b (wA G)) (F0 m 57 ls []) := by
    intro rec24 hrec24 x1 x2 x3 x4 M bq H locs ls cells slots hp hM hS hB hl
    refine lv_iload_n hx hb dX1_total_57 rfl (lv_at hl 1 rfl) ?_
    refine x_aload (r := x4) hx hb dX1_total_58 (lv_at hl 3 rfl) ?_
    obtain ⟨a1, ea, hqa1⟩ := hp
    subst ea
    have hp := hqa1
    have hl : lv_has ls 5 [(1, .int x1), (2, .int x2), (3, .ref x3), (4, .ref a1)] := hl
    refine x_getIN X hC.1 hM (ci := 15) (C := RX19) (T := TX19) (N := 6) rfl in_X19 4 (by decide) q2912 (fun _ h9 => h9) dX1_total_60 hp (fun v2 hp => ?_)
    refine lv_iadd hx hb dX1_total_63 ?_
    refine lv_istore_n (lv' := [(2, .int (x2 + v2)), (1, .int x1), (3, .ref x3), (4, .ref a1)]) hx hb dX1_total_64 rfl hl (by decide) rfl (fun ls hl => ?_)
    exact hB65 rec24 hrec24 _ _ _ _ _ _ _ _ _ _ hp hM hS hB (lv_sub hl [1, 0, 2] rfl)
  have hB24 : ∀ (rec24 : Int32 → Int32 → Option Nat → wM → Nat → Prop) (hrec24 : ∀ (x1 : Int32) (x2 : Int32) (x3 : Option Nat) (M : wM) (bq : Nat) (H : Heap) (locs : List Loc) (ls : Array Slot) (cells slots : Nat), rec24 x1 x2 x3 M bq → wR G M H → va_S (wA G) s.heap H locs → (cells + bq ≤ ((headSpec (ws_ yX1_total cX1_total 5 (Option.some Jvm.ClassFile.FieldType.int)) ({ frames := 14, cells := b, slots := b, locals := 442 })).room).cells ∧ slots + bq ≤ ((headSpec (ws_ yX1_total cX1_total 5 (Option.some Jvm.ClassFile.FieldType.int)) ({ frames := 14, cells := b, slots := b, locals := 442 })).room).slots) → lv_has ls 5 [(1, .int x1), (2, .int x2), (3, va_rf x3)] → W p l e (headSpec (ws_ yX1_total cX1_total 5 (Option.some Jvm.ClassFile.FieldType.int)) ({ frames := 14, cells := b, slots := b, locals := 442 })).room s m ([.ref t0, .int p1] : List Value).toArray below meth c H locs cells slots (vx_MQ below (wQ G (wqI Q)) (wXC G Xp) ([.ref t0, .int p1] : List Value).toArray s b b (wA G)) (F0 m 24 ls [])), ∀ (x1 : Int32) (x2 : Int32) (x3 : Option Nat) (M : wM) (bq : Nat) (H : Heap) (locs : List Loc) (ls : Array Slot) (cells slots : Nat), B_X1_total_24 G rec24 Q Xp x1 x2 x3 M bq → wR G M H → va_S (wA G) s.heap H locs → (cells + bq ≤ ((headSpec (ws_ yX1_total cX1_total 5 (Option.some Jvm.ClassFile.FieldType.int)) ({ frames := 14, cells := b, slots := b, locals := 442 })).room).cells ∧ slots + bq ≤ ((headSpec (ws_ yX1_total cX1_total 5 (Option.some Jvm.ClassFile.FieldType.int)) ({ frames := 14, cells := b, slots := b, locals := 442 })).room).slots) → lv_has ls 5 [(1, .int x1), (2, .int x2), (3, va_rf x3)] → W p l e (headSpec (ws_ yX1_total cX1_total 5 (Option.some Jvm.ClassFile.FieldType.int)) ({ frames := 14, cells := b, slots := b, locals := 442 })).room s m ([.ref t0, .int p1] : List Value).toArray below meth c H locs cells slots (vx_MQ below (wQ G (wqI Q)) (wXC G Xp) ([.ref t0, .int p1] : List Value).toArray s b b (wA G)) (F0 m 24 ls []) := by
    intro rec24 hrec24 x1 x2 x3 M bq H locs ls cells slots hp hM hS hB hl
    refine x_aload_n (r := x3) hx hb dX1_total_24 rfl (lv_at hl 2 rfl) ?_
    obtain ⟨a1, ea, hqa1⟩ := hp
    subst ea
    have hp := hqa1
    have hl : lv_has ls 5 [(1, .int x1), (2, .int x2), (3, .ref a1)] := hl
    obtain ⟨hrec, hp⟩ := hp
    refine x_call0Z5 (vx_runF (hC.1.1.1 20 (RJ32, TJ32, 4) rfl).2 (C := "java/util/ArrayList$Itr") (As := []) (rest := []) X (P_J32_hasNext_ok (l := l) hl0 hp) (va_cwF 0 hts (lw_app (w_mem4 q2016 q1803 q1805 q190) (lw_meth q1807)) rfl rfl rfl (wfw_14 hC.1) (by decide +kernel) ⟨Nat.le_of_ble_eq_true rfl, Nat.le_of_ble_eq_true rfl⟩) ⟨wPc.blind, w_recv hC.1 hM (ci := 20) (q := (RJ32, TJ32, 4)) rfl hrec, w_pre hC hM hS _⟩ rfl rfl hl.1 rfl (lv_room (Nat.le_of_ble_eq_true rfl)) dX1_total_25 (w_room0 hB)) hS (w_room0 hB) (fun _ _ _ _ _ _ h => False.elim h) (fun r4 M2 H locs hp hM hS => ?_)
    refine x_ifeqB (tgt := 68) hx hb dX1_total_30 (by decide) (fun hc => ?_) (fun hc => ?_)
    · have hp := oIf.bf hp hc
      refine lv_iload_n hx hb dX1_total_68 rfl (lv_at hl 1 rfl) ?_
      exact x_iret X hr hlk hM hS (w_fin hB) dX1_total_69 ⟨_, rfl, hp⟩
    · have hp := oIf.bt hp hc
      refine lv_aload_n hx hb dX1_total_33 rfl (lv_at hl 2 rfl) ?_
      obtain ⟨hrec, hp⟩ := hp
      refine x_call0R5 (vx_runF (hC.1.1.1 20 (RJ32, TJ32, 4) rfl).2 (C := "java/util/ArrayList$Itr") (As := []) (rest := []) X (P_J32_next_ok (l := l) hl0 hp) (va_cwF 0 hts (lw_app (w_mem4 q2018 q1919 q1921 q190) (lw_meth q1923)) rfl rfl rfl (wfw_15 hC.1) (by decide +kernel) ⟨Nat.le_of_ble_eq_true rfl, Nat.le_of_ble_eq_true rfl⟩) ⟨wPc.blind, w_recv hC.1 hM (ci := 20) (q := (RJ32, TJ32, 4)) rfl hrec, w_pre hC hM hS _⟩ rfl rfl hl.1 rfl (lv_room (Nat.le_of_ble_eq_true rfl)) dX1_total_34 (w_room0 hB)) hS (w_room0 hB) (fun _ _ _ _ _ _ h => False.elim h) (fun r7 M5 H locs hp hM hS => ?_)
      refine x_cast (r := r7) X hC.1 hM q2019 (ci := 15) rfl (Or.inl rfl) dX1_total_39 hp (fun hp => ?_)
      refine x_astore (r := r7) (lv' := [(4, va_rf r7), (1, .int x1), (2, .int x2), (3, .ref a1)]) hx hb dX1_total_42 hl (by decide) rfl (fun ls hl => ?_)
      refine lv_iload_n hx hb dX1_total_44 rfl (lv_at hl 1 rfl) ?_
      refine lv_if_eq (tgt := 57) hx hb dX1_total_45 (by decide) (fun hc => ?_) (fun hc => ?_)
      · have hp := oIf.t hp hc
        exact hB57 rec24 hrec24 _ _ _ _ _ _ _ _ _ _ _ hp hM hS hB (lv_sub hl [1, 2, 3, 0] rfl)
      · have hp := oIf.f hp hc
        refine x_aload (r := r7) hx hb dX1_total_48 (lv_at hl 0 rfl) ?_
        obtain ⟨a8, ea, hqa8⟩ := hp
        subst ea
        have hp := hqa8
        have hl : lv_has ls 5 [(4, .ref a8), (1, .int x1), (2, .int x2), (3, .ref a1)] := hl
        refine x_getIN X hC.1 hM (ci := 15) (C := RX19) (T := TX19) (N := 6) rfl in_X19 5 (by decide) q2914 (fun _ h9 => h9) dX1_total_50 hp (fun v9 hp => ?_)
        refine lv_iload_n hx hb dX1_total_53 rfl (lv_at hl 1 rfl) ?_
        refine lv_icmp_ne (tgt := 65) hx hb dX1_total_54 (by decide) (fun hc => ?_) (fun hc => ?_)
        · have hp := oIf.f hp hc
          exact hB65 rec24 hrec24 _ _ _ _ _ _ _ _ _ _ hp hM hS hB (lv_sub hl [1, 2, 3] rfl)
        · have hp := oIf.t hp hc
          exact hB57 rec24 hrec24 _ _ _ _ _ _ _ _ _ _ _ hp hM hS hB (lv_sub hl [1, 2, 3, 0] rfl)
  have hL24 : ∀ (n : Nat), ∀ (x1 : Int32) (x2 : Int32) (x3 : Option Nat) (M : wM) (bq : Nat) (H : Heap) (locs : List Loc) (ls : Array Slot) (cells slots : Nat), L_X1_total_24 G Q Xp n x1 x2 x3 M bq → wR G M H → va_S (wA G) s.heap H locs → (cells + bq ≤ ((headSpec (ws_ yX1_total cX1_total 5 (Option.some Jvm.ClassFile.FieldType.int)) ({ frames := 14, cells := b, slots := b, locals := 442 })).room).cells ∧ slots + bq ≤ ((headSpec (ws_ yX1_total cX1_total 5 (Option.some Jvm.ClassFile.FieldType.int)) ({ frames := 14, cells := b, slots := b, locals := 442 })).room).slots) → lv_has ls 5 [(1, .int x1), (2, .int x2), (3, va_rf x3)] → W p l e (headSpec (ws_ yX1_total cX1_total 5 (Option.some Jvm.ClassFile.FieldType.int)) ({ frames := 14, cells := b, slots := b, locals := 442 })).room s m ([.ref t0, .int p1] : List Value).toArray below meth c H locs cells slots (vx_MQ below (wQ G (wqI Q)) (wXC G Xp) ([.ref t0, .int p1] : List Value).toArray s b b (wA G)) (F0 m 24 ls []) := by
    intro n
    induction n with
    | zero => intro _ _ _ _ _ _ _ _ _ _ hp; exact False.elim hp
    | succ n ih => intro x1 x2 x3 M bq H locs ls cells slots hp hM hS hB hl; exact hB24 (L_X1_total_24 G Q Xp n) ih _ _ _ _ _ _ _ _ _ _ hp hM hS hB hl
  refine lv_iload_n hx hb dX1_total_0 rfl (lv_at hl 1 rfl) ?_
  refine lv_iconst (v := 0) hx hb dX1_total_1 (by decide) ?_
  refine lv_iconst (v := 2) hx hb dX1_total_2 (by decide) ?_
  refine x_call0Z (vx_runS (As := [.int p1, .int (0 : Int32), .int (2 : Int32)]) (rest := []) X (P_X1_inRange_ok (l := l) hl0 hp) (va_cwS 3 hts (lw_S q1012 q1013 q148 q1014) rfl rfl rfl (by decide +kernel) ⟨Nat.le_of_ble_eq_true rfl, Nat.le_of_ble_eq_true rfl⟩) ⟨wPc.blind, w_pre hC hM hS _⟩ rfl rfl hl.1 rfl (lv_room (Nat.le_of_ble_eq_true rfl)) dX1_total_3 (w_room0 hB)) hS (w_room0 hB) (fun _ _ _ _ _ _ h => False.elim h) (fun r3 M1 H locs hp hM hS => ?_)
  obtain ⟨c5, hc1, hp⟩ := hp
  refine x_callV (vx_runS (As := [.int (wb r3)]) (rest := []) X (P_X1_checkArgument_ok (l := l) hl0 hp) (va_cwS 1 hts (lw_S q2325 q2326 q148 q2327) rfl rfl rfl (by decide +kernel) ⟨Nat.le_of_ble_eq_true rfl, Nat.le_of_ble_eq_true rfl⟩) ⟨wPc.blind, w_pre hC hM hS _⟩ rfl rfl hl.1 rfl (lv_room (Nat.le_of_ble_eq_true rfl)) dX1_total_6 (w_room hB hc1)) hS hB hc1 (fun E ce q11 M12 H locs hp hM hS hB hcell hcv hcl => ?_) (fun M4 H locs hp hM hS hB => ?_)
  · obtain ⟨rfl, hp⟩ := hp
    exact x_out hlk (fun x h => (hnt x h).elim) hM hS (w_fin hB) hcell hcv hcl hp
  · refine lv_iconst (v := 0) hx hb dX1_total_9 (by decide) ?_
    refine lv_istore_n (lv' := [(2, .int (0 : Int32)), (0, .ref t0), (1, .int p1)]) hx hb dX1_total_10 rfl hl (by decide) rfl (fun ls hl => ?_)
    refine lv_aload_n hx hb dX1_total_11 rfl (lv_at hl 1 rfl) ?_
    refine x_getA X hC.1 hM (ci := 0) (C := RX1) (T := TX1) (N := 8) rfl in_X1 0 (by decide) q973 (fun _ h9 => h9) dX1_total_12 hp (fun a6 hp => ?_)
    refine x_getAN X hC.1 hM (ci := 1) (C := RX2) (T := TX2) (N := 9) rfl in_X2 4 (by decide) q926 (fun _ h9 => h9) dX1_total_15 hp (fun a7 hp => ?_)
    obtain ⟨hrec, hp⟩ := hp
    obtain ⟨c9, hc1, hp⟩ := hp
    refine x_callR5 (vx_runF (hC.1.1.1 16 (RJ2, TJ2, 3) rfl).2 (C := "java/util/ArrayList") (As := []) (rest := []) X (P_J2_iterator_ok (l := l) hl0 hp) (va_cwF 0 hts (lw_app (w_mem4 q1970 q1973 q1975 q153) (lw_meth q1977)) rfl rfl rfl (wfw_11 hC.1) (by decide +kernel) ⟨Nat.le_of_ble_eq_true rfl, Nat.le_of_ble_eq_true rfl⟩) ⟨wPc.blind, w_recv hC.1 hM (ci := 16) (q := (RJ2, TJ2, 3)) rfl hrec, w_pre hC hM hS _⟩ rfl rfl hl.1 rfl (lv_room (Nat.le_of_ble_eq_true rfl)) dX1_total_18 (w_room hB hc1)) hS hB hc1 (fun _ _ _ _ _ _ h => False.elim h) (fun r10 M8 H locs hp hM hS hB => ?_)
    refine x_astore_n (r := r10) (lv' := [(3, va_rf r10), (2, .int (0 : Int32)), (0, .ref t0), (1, .int p1)]) hx hb dX1_total_23 rfl hl (by decide) rfl (fun ls hl => ?_)
    obtain ⟨n, hp⟩ := hp
    exact hL24 n _ _ _ _ _ _ _ _ _ _ hp hM hS hB (lv_sub hl [3, 1, 0] rfl)
def P_X1_truncate (G : wG) (t0 : Nat) (p1 : Int32) (M : wM) (Q : Bool → wM → Prop) : Prop :=
  oGetI M t0 0 4 (fun v1 => P_X1_inRange G p1 (0 : Int32) v1 M (fun r4 M2 => oIf (r4 = true) (oPut G M2 t0 0 4 (.int p1) (fun M5 => Q true M5)) (Q false M2)))
set_option maxHeartbeats 4000000 in
set_option maxRecDepth 100000 in
theorem P_X1_truncate_ok {l : Launch} (hl0 : l.stackTraces = false) {G : wG} {t0 : Nat} {p1 : Int32} {M : wM} {Q : Bool → wM → Prop} (hp : P_X1_truncate G t0 p1 M Q) : wMet l yX1_truncate (ws_ yX1_truncate cX1_truncate 2 (Option.some Jvm.ClassFile.FieldType.boolean)) 13 422 G [.ref t0, .int p1] M 0 (wqZ Q) wX0 := by
  refine vx_ofW (cc := cX1_truncate) (maxL := 2) (ret := Option.some Jvm.ClassFile.FieldType.boolean) (by decide) rfl ?_
  intro p e s m args below meth c s₁ B hml hnt hv
  obtain ⟨rfl, hM, hK, hZ, hz⟩ := hv
  have hC : wC G s := ⟨hK, hZ, hz⟩
  have hx := B.exec
  have hb := B.bytes
  have hr := B.returns
  have hts := atoms_spec (ws := (ws_ yX1_truncate cX1_truncate 2 (Option.some Jvm.ClassFile.FieldType.boolean))) B.pre
  have hts : ∀ w ∈ lw_all, w.before _ s = true := fun w h => hts w (List.mem_cons_of_mem _ h)
  have hown : s.vm.findClass RX1 = some m.cls := findClass_of_methodNamed B.named
  have hlk := B.notSynchronized
  have X : CallFix p m c cX1_truncate 2 s ([.ref t0, .int p1] : List Value).toArray lw_all RX1 := ⟨hx, hb, hml, hown, hts⟩
  have hS : va_S (wA G) s.heap s.heap [] := va_S.rf
  have hl := lv_entry ([.ref t0, .int p1]) (n := 2) (Nat.le_of_ble_eq_true rfl)
  rw [lg_entry_eq]
  generalize (lg_sl ([.ref t0, .int p1]) ++ List.replicate (2 - (lg_sl ([.ref t0, .int p1])).length) Slot.unset).toArray = ls at hl ⊢
  have hl : lv_has ls 2 [(0, .ref t0), (1, .int p1)] := hl
  refine lv_iload_n hx hb dX1_truncate_0 rfl (lv_at hl 1 rfl) ?_
  refine lv_iconst (v := 0) hx hb dX1_truncate_1 (by decide) ?_
  refine lv_aload_n hx hb dX1_truncate_2 rfl (lv_at hl 0 rfl) ?_
  refine x_getI X hC.1 hM (ci := 0) (C := RX1) (T := TX1) (N := 8) rfl in_X1 4 (by decide) q979 (fun _ h9 => h9) dX1_truncate_3 hp (fun v1 hp => ?_)
  refine x_call0Z (vx_runS (As := [.int p1, .int (0 : Int32), .int v1]) (rest := []) X (P_X1_inRange_ok (l := l) hl0 hp) (va_cwS 3 hts (lw_S q1012 q1013 q148 q1014) rfl rfl rfl (by decide +kernel) ⟨Nat.le_of_ble_eq_true rfl, Nat.le_of_ble_eq_true rfl⟩) ⟨wPc.blind, w_pre hC hM hS _⟩ rfl rfl hl.1 rfl (lv_room (Nat.le_of_ble_eq_true rfl)) dX1_truncate_6 ⟨Nat.le_refl _, Nat.le_refl _⟩) hS ⟨Nat.le_refl _, Nat.le_refl _⟩ (fun _ _ _ _ _ _ h => False.elim h) (fun r4 M2 H locs hp hM hS => ?_)
  refine x_ifneB (tgt := 14) hx hb dX1_truncate_9 (by decide) (fun hc => ?_) (fun hc => ?_)
  · have hp := oIf.bt hp hc
    refine lv_aload_n hx hb dX1_truncate_14 rfl (lv_at hl 0 rfl) ?_
    refine lv_iload_n hx hb dX1_truncate_15 rfl (lv_at hl 1 rfl) ?_
    refine x_put X hC.1 hM hS (ci := 0) (C := RX1) (T := TX1) (N := 8) rfl in_X1 tyX1 tyX1_ok nmX1 4 (by decide) q979 (fun _ h9 => h9) rfl rfl rfl dX1_truncate_16 hp (fun M5 H locs hM hS hp => ?_)
    refine lv_iconst (v := 1) hx hb dX1_truncate_19 (by decide) ?_
    exact x_zret X hr hlk hM hS ⟨Nat.le_refl _, Nat.le_refl _⟩ (by decide) dX1_truncate_20 ⟨true, rfl, hp⟩
  · have hp := oIf.bf hp hc
    refine lv_iconst (v := 0) hx hb dX1_truncate_12 (by decide) ?_
    exact x_zret X hr hlk hM hS ⟨Nat.le_refl _, Nat.le_refl _⟩ (by decide) dX1_truncate_13 ⟨false, rfl, hp⟩
def B_J25_dec_11 (G : wG) (Q : Int32 → wM → Prop) (x0 : Int32) (M : wM) : Prop :=
  Q x0 M
def P_J25_dec (G : wG) (p1 : Int32) (p2 : Int32) (M : wM) (Q : Int32 → wM → Prop) : Prop :=
  oIf (0 ≤ (p1 + (-1))) (B_J25_dec_11 G Q (p1 + (-1)) M) (B_J25_dec_11 G Q (p2 - (1 : Int32)) M)
set_option maxHeartbeats 4000000 in
set_option maxRecDepth 100000 in
theorem P_J25_dec_ok {l : Launch} (hl0 : l.stackTraces = false) {G : wG} {p1 : Int32} {p2 : Int32} {M : wM} {Q : Int32 → wM → Prop} (hp : P_J25_dec G p1 p2 M Q) : wMet l yJ25_dec (ws_ yJ25_dec cJ25_dec 2 (Option.some Jvm.ClassFile.FieldType.int)) 12 400 G [.int p1, .int p2] M 0 (wqI Q) wX0 := by
  refine vx_ofW (cc := cJ25_dec) (maxL := 2) (ret := Option.some Jvm.ClassFile.FieldType.int) (by decide) rfl ?_
  intro p e s m args below meth c s₁ B hml hnt hv
  obtain ⟨rfl, hM, hK, hZ, hz⟩ := hv
  have hC : wC G s := ⟨hK, hZ, hz⟩
  have hx := B.exec
  have hb := B.bytes
  have hr := B.returns
  have hts := atoms_spec (ws := (ws_ yJ25_dec cJ25_dec 2 (Option.some Jvm.ClassFile.FieldType.int))) B.pre
  have hts : ∀ w ∈ lw_all, w.before _ s = true := fun w h => hts w (List.mem_cons_of_mem _ h)
  have hown : s.vm.findClass RJ25 = some m.cls := findClass_of_methodNamed B.named
  have hlk := B.notSynchronized
  have X : CallFix p m c cJ25_dec 2 s ([.int p1, .int p2] : List Value).toArray lw_all RJ25 := ⟨hx, hb, hml, hown, hts⟩
  have hS : va_S (wA G) s.heap s.heap [] := va_S.rf
  have hl := lv_entry ([.int p1, .int p2]) (n := 2) (Nat.le_of_ble_eq_true rfl)
  rw [lg_entry_eq]
  generalize (lg_sl ([.int p1, .int p2]) ++ List.replicate (2 - (lg_sl ([.int p1, .int p2])).length) Slot.unset).toArray = ls at hl ⊢
  have hl : lv_has ls 2 [(0, .int p1), (1, .int p2)] := hl
  have hB11 : ∀ (x0 : Int32) (M : wM) (H : Heap) (locs : List Loc) (ls : Array Slot), B_J25_dec_11 G Q x0 M → wR G M H → va_S (wA G) s.heap H locs → lv_has ls 2 [(0, .int x0)] → W p l e (headSpec (ws_ yJ25_dec cJ25_dec 2 (Option.some Jvm.ClassFile.FieldType.int)) ({ frames := 12, cells := 0, slots := 0, locals := 400 })).room s m ([.int p1, .int p2] : List Value).toArray below meth c H locs 0 0 (vx_MQ below (wQ G (wqI Q)) (wXC G wX0) ([.int p1, .int p2] : List Value).toArray s 0 0 (wA G)) (F0 m 11 ls []) := by
    intro x0 M H locs ls hp hM hS hl
    refine lv_iload_n hx hb dJ25_dec_11 rfl (lv_at hl 0 rfl) ?_
    exact x_iret X hr hlk hM hS ⟨Nat.le_refl _, Nat.le_refl _⟩ dJ25_dec_12 ⟨_, rfl, hp⟩
  refine lv_iinc (v := (p1 + (-1))) (lv' := [(0, .int (p1 + (-1))), (1, .int p2)]) hx hb dJ25_dec_0 hl (k := 0) rfl rfl (by decide) rfl (fun ls hl => ?_)
  refine lv_iload_n hx hb dJ25_dec_3 rfl (lv_at hl 0 rfl) ?_
  refine lv_if_ge (tgt := 11) hx hb dJ25_dec_4 (by decide) (fun hc => ?_) (fun hc => ?_)
  · have hp := oIf.t hp hc
    exact hB11 _ _ _ _ _ hp hM hS (lv_sub hl [0] rfl)
  · have hp := oIf.f hp hc
    refine lv_iload_n hx hb dJ25_dec_7 rfl (lv_at hl 1 rfl) ?_
    refine lv_iconst (v := 1) hx hb dJ25_dec_8 (by decide) ?_
    refine lv_isub hx hb dJ25_dec_9 ?_
    refine lv_istore_n (lv' := [(0, .int (p2 - (1 : Int32))), (1, .int p2)]) hx hb dJ25_dec_10 rfl hl (by decide) rfl (fun ls hl => ?_)
    exact hB11 _ _ _ _ _ hp hM hS (lv_sub hl [0] rfl)
def B_J25_pollLast_34 (G : wG) (Q : Option Nat → wM → Prop) (x3 : Option Nat) (M : wM) : Prop :=
  Q x3 M
def P_J25_pollLast (G : wG) (t0 : Nat) (M : wM) (Q : Option Nat → wM → Prop) : Prop :=
  oGetA M t0 22 0 (fun a1 => oGetI M t0 22 2 (fun v2 => oAlen (.object "java/lang/Object") M a1 (fun v3 => P_J25_dec G v2 v3 M (fun v6 M4 => P_J25_elementAt G a1 v6 M4 (fun r9 M7 => oNull r9 (B_J25_pollLast_34 G Q none M7) (fun a10 => oPut G M7 t0 22 2 (.int v6) (fun M11 => oAast G (.object "java/lang/Object") M11 a1 v6 none (fun M12 => B_J25_pollLast_34 G Q (some a10) M12))))))))
set_option maxHeartbeats 4000000 in
set_option maxRecDepth 100000 in
theorem P_J25_pollLast_ok {l : Launch} (hl0 : l.stackTraces = false) {G : wG} {t0 : Nat} {M : wM} {Q : Option Nat → wM → Prop} (hp : P_J25_pollLast G t0 M Q) : wMet l yJ25_pollLast (ws_ yJ25_pollLast cJ25_pollLast 4 (Option.some (Jvm.ClassFile.FieldType.object "java/lang/Object"))) 13 421 G [.ref t0] M 0 (wqR Q) wX0 := by
  refine vx_ofW (cc := cJ25_pollLast) (maxL := 4) (ret := Option.some (Jvm.ClassFile.FieldType.object "java/lang/Object")) (by decide) rfl ?_
  intro p e s m args below meth c s₁ B hml hnt hv
  obtain ⟨rfl, hM, hK, hZ, hz⟩ := hv
  have hC : wC G s := ⟨hK, hZ, hz⟩
  have hx := B.exec
  have hb := B.bytes
  have hr := B.returns
  have hts := atoms_spec (ws := (ws_ yJ25_pollLast cJ25_pollLast 4 (Option.some (Jvm.ClassFile.FieldType.object "java/lang/Object")))) B.pre
  have hts : ∀ w ∈ lw_all, w.before _ s = true := fun w h => hts w (List.mem_cons_of_mem _ h)
  have hown : s.vm.findClass RJ25 = some m.cls := findClass_of_methodNamed B.named
  have hlk := B.notSynchronized
  have X : CallFix p m c cJ25_pollLast 4 s ([.ref t0] : List Value).toArray lw_all RJ25 := ⟨hx, hb, hml, hown, hts⟩
  have hS : va_S (wA G) s.heap s.heap [] := va_S.rf
  have hl := lv_entry ([.ref t0]) (n := 4) (Nat.le_of_ble_eq_true rfl)
  rw [lg_entry_eq]
  generalize (lg_sl ([.ref t0]) ++ List.replicate (4 - (lg_sl ([.ref t0])).length) Slot.unset).toArray = ls at hl ⊢
  have hl : lv_has ls 4 [(0, .ref t0)] := hl
  have hB34 : ∀ (x3 : Option Nat) (M : wM) (H : Heap) (locs : List Loc) (ls : Array Slot), B_J25_pollLast_34 G Q x3 M → wR G M H → va_S (wA G) s.heap H locs → lv_has ls 4 [(3, va_rf x3)] → W p l e (headSpec (ws_ yJ25_pollLast cJ25_pollLast 4 (Option.some (Jvm.ClassFile.FieldType.object "java/lang/Object"))) ({ frames := 13, cells := 0, slots := 0, locals := 421 })).room s m ([.ref t0] : List Value).toArray below meth c H locs 0 0 (vx_MQ below (wQ G (wqR Q)) (wXC G wX0) ([.ref t0] : List Value).toArray s 0 0 (wA G)) (F0 m 34 ls []) := by
    intro x3 M H locs ls hp hM hS hl
    refine x_aload_n (r := x3) hx hb dJ25_pollLast_34 rfl (lv_at hl 0 rfl) ?_
    exact x_aret (v := x3) X hr (by first | exact Or.inl ⟨_, rfl⟩ | exact Or.inr ⟨_, rfl⟩) hlk hM hS ⟨Nat.le_refl _, Nat.le_refl _⟩ dJ25_pollLast_35 ⟨x3, rfl, hp⟩
  refine lv_aload_n hx hb dJ25_pollLast_0 rfl (lv_at hl 0 rfl) ?_
  refine x_getA X hC.1 hM (ci := 22) (C := RJ25) (T := TJ25) (N := 3) rfl in_J25 0 (by decide) q961 (fun _ h9 => h9) dJ25_pollLast_1 hp (fun a1 hp => ?_)
  refine lv_dup hx hb dJ25_pollLast_4 rfl ?_
  refine lv_astore_n (lv' := [(1, .ref a1), (0, .ref t0)]) hx hb dJ25_pollLast_5 rfl hl (by decide) rfl (fun ls hl => ?_)
  refine lv_aload_n hx hb dJ25_pollLast_6 rfl (lv_at hl 1 rfl) ?_
  refine x_getI X hC.1 hM (ci := 22) (C := RJ25) (T := TJ25) (N := 3) rfl in_J25 2 (by decide) q963 (fun _ h9 => h9) dJ25_pollLast_7 hp (fun v2 hp => ?_)
  refine lv_aload_n hx hb dJ25_pollLast_10 rfl (lv_at hl 0 rfl) ?_
  refine x_alen X hC.1 hM (ty := (.object "java/lang/Object")) (by decide) dJ25_pollLast_11 hp (fun v3 hp => ?_)
  refine x_call0I (vx_runS (As := [.int v2, .int v3]) (rest := [.ref a1]) X (P_J25_dec_ok (l := l) hl0 hp) (va_cwS 2 hts (lw_S q3011 q3012 q177 q3013) rfl rfl rfl (by decide +kernel) ⟨Nat.le_of_ble_eq_true rfl, Nat.le_of_ble_eq_true rfl⟩) ⟨wPc.blind, w_pre hC hM hS _⟩ rfl rfl hl.1 rfl (lv_room (Nat.le_of_ble_eq_true rfl)) dJ25_pollLast_12 ⟨Nat.le_refl _, Nat.le_refl _⟩) hS ⟨Nat.le_refl _, Nat.le_refl _⟩ (fun _ _ _ _ _ _ h => False.elim h) (fun v6 M4 H locs hp hM hS => ?_)
  refine lv_dup hx hb dJ25_pollLast_15 rfl ?_
  refine lv_istore_n (lv' := [(2, .int v6), (1, .ref a1), (0, .ref t0)]) hx hb dJ25_pollLast_16 rfl hl (by decide) rfl (fun ls hl => ?_)
  refine x_call0R (vx_runS (As := [.ref a1, .int v6]) (rest := []) X (P_J25_elementAt_ok (l := l) hl0 hp) (va_cwS 2 hts (lw_S q2555 q2556 q177 q2557) rfl rfl rfl (by decide +kernel) ⟨Nat.le_of_ble_eq_true rfl, Nat.le_of_ble_eq_true rfl⟩) ⟨wPc.blind, w_pre hC hM hS _⟩ rfl rfl hl.1 rfl (lv_room (Nat.le_of_ble_eq_true rfl)) dJ25_pollLast_17 ⟨Nat.le_refl _, Nat.le_refl _⟩) hS ⟨Nat.le_refl _, Nat.le_refl _⟩ (fun _ _ _ _ _ _ h => False.elim h) (fun r9 M7 H locs hp hM hS => ?_)
  refine x_astore_n (r := r9) (lv' := [(3, va_rf r9), (2, .int v6), (1, .ref a1), (0, .ref t0)]) hx hb dJ25_pollLast_20 rfl hl (by decide) rfl (fun ls hl => ?_)
  refine x_aload_n (r := r9) hx hb dJ25_pollLast_21 rfl (lv_at hl 0 rfl) ?_
  refine x_ifnull (r := r9) (tgt := 34) hx hb dJ25_pollLast_22 (by decide) (fun hc => ?_) (fun a10 hc => ?_)
  · have hqa10 := oNull.t hp hc
    subst hc
    have hp := hqa10
    have hl : lv_has ls 4 [(3, va_rf none), (2, .int v6), (1, .ref a1), (0, .ref t0)] := hl
    exact hB34 _ _ _ _ _ hp hM hS (lv_sub hl [0] rfl)
  · have hqa10 := oNull.f hp hc
    subst hc
    have hp := hqa10
    have hl : lv_has ls 4 [(3, .ref a10), (2, .int v6), (1, .ref a1), (0, .ref t0)] := hl
    refine lv_aload_n hx hb dJ25_pollLast_25 rfl (lv_at hl 2 rfl) ?_
    refine lv_aload_n hx hb dJ25_pollLast_26 rfl (lv_at hl 3 rfl) ?_
    refine lv_iload_n hx hb dJ25_pollLast_27 rfl (lv_at hl 1 rfl) ?_
    refine lv_dup_x1 hx hb dJ25_pollLast_28 rfl rfl ?_
    refine x_put X hC.1 hM hS (ci := 22) (C := RJ25) (T := TJ25) (N := 3) rfl in_J25 tyJ25 tyJ25_ok nmJ25 2 (by decide) q963 (fun _ h9 => h9) rfl rfl rfl dJ25_pollLast_29 hp (fun M11 H locs hM hS hp => ?_)
    refine lv_null hx hb dJ25_pollLast_32 ?_
    refine x_aast (r := none) X hC hM hS w_obj (C := "java/lang/Object") (by decide) dJ25_pollLast_33 hp (fun M12 H locs hM hS hp => ?_)
    exact hB34 _ _ _ _ _ hp hM hS (lv_sub hl [0] rfl)
def P_J25_removeLast (G : wG) (t0 : Nat) (M : wM) (Q : Option Nat → wM → Prop) : Prop :=
  oIs M t0 22 (P_J25_pollLast G t0 M (fun r3 M1 => oNull r3 (False) (fun a4 => Q (some a4) M1)))
set_option maxHeartbeats 4000000 in
set_option maxRecDepth 100000 in
theorem P_J25_removeLast_ok {l : Launch} (hl0 : l.stackTraces = false) {G : wG} {t0 : Nat} {M : wM} {Q : Option Nat → wM → Prop} (hp : P_J25_removeLast G t0 M Q) : wMet l yJ25_removeLast (ws_ yJ25_removeLast cJ25_removeLast 2 (Option.some (Jvm.ClassFile.FieldType.object "java/lang/Object"))) 14 444 G [.ref t0] M 0 (wqR Q) wX0 := by
  refine vx_ofW (cc := cJ25_removeLast) (maxL := 2) (ret := Option.some (Jvm.ClassFile.FieldType.object "java/lang/Object")) (by decide) rfl ?_
  intro p e s m args below meth c s₁ B hml hnt hv
  obtain ⟨rfl, hM, hK, hZ, hz⟩ := hv
  have hC : wC G s := ⟨hK, hZ, hz⟩
  have hx := B.exec
  have hb := B.bytes
  have hr := B.returns
  have hts := atoms_spec (ws := (ws_ yJ25_removeLast cJ25_removeLast 2 (Option.some (Jvm.ClassFile.FieldType.object "java/lang/Object")))) B.pre
  have hts : ∀ w ∈ lw_all, w.before _ s = true := fun w h => hts w (List.mem_cons_of_mem _ h)
  have hown : s.vm.findClass RJ25 = some m.cls := findClass_of_methodNamed B.named
  have hlk := B.notSynchronized
  have X : CallFix p m c cJ25_removeLast 2 s ([.ref t0] : List Value).toArray lw_all RJ25 := ⟨hx, hb, hml, hown, hts⟩
  have hS : va_S (wA G) s.heap s.heap [] := va_S.rf
  have hl := lv_entry ([.ref t0]) (n := 2) (Nat.le_of_ble_eq_true rfl)
  rw [lg_entry_eq]
  generalize (lg_sl ([.ref t0]) ++ List.replicate (2 - (lg_sl ([.ref t0])).length) Slot.unset).toArray = ls at hl ⊢
  have hl : lv_has ls 2 [(0, .ref t0)] := hl
  refine lv_aload_n hx hb dJ25_removeLast_0 rfl (lv_at hl 0 rfl) ?_
  obtain ⟨hrec, hp⟩ := hp
  refine x_call0R (vx_runV (As := []) (rest := []) X (P_J25_pollLast_ok (l := l) hl0 hp) (cwV 0 hts (lw_V q3007 q3008 q3009 q177 q3010) rfl rfl rfl (by decide +kernel) ⟨Nat.le_of_ble_eq_true rfl, Nat.le_of_ble_eq_true rfl⟩) ⟨wPc.blind, w_recv hC.1 hM (ci := 22) (q := (RJ25, TJ25, 3)) rfl hrec, w_pre hC hM hS _⟩ rfl rfl hl.1 rfl (lv_room (Nat.le_of_ble_eq_true rfl)) dJ25_removeLast_1 ⟨Nat.le_refl _, Nat.le_refl _⟩) hS ⟨Nat.le_refl _, Nat.le_refl _⟩ (fun _ _ _ _ _ _ h => False.elim h) (fun r3 M1 H locs hp hM hS => ?_)
  refine x_astore_n (r := r3) (lv' := [(1, va_rf r3), (0, .ref t0)]) hx hb dJ25_removeLast_4 rfl hl (by decide) rfl (fun ls hl => ?_)
  refine x_aload_n (r := r3) hx hb dJ25_removeLast_5 rfl (lv_at hl 0 rfl) ?_
  refine x_ifnonnull (r := r3) (tgt := 17) hx hb dJ25_removeLast_6 (by decide) (fun a4 hc => ?_) (fun hc => ?_)
  · have hqa4 := oNull.f hp hc
    subst hc
    have hp := hqa4
    have hl : lv_has ls 2 [(1, .ref a4), (0, .ref t0)] := hl
    refine lv_aload_n hx hb dJ25_removeLast_17 rfl (lv_at hl 0 rfl) ?_
    exact x_aret (v := (some a4)) X hr (by first | exact Or.inl ⟨_, rfl⟩ | exact Or.inr ⟨_, rfl⟩) hlk hM hS ⟨Nat.le_refl _, Nat.le_refl _⟩ dJ25_removeLast_18 ⟨(some a4), rfl, hp⟩
  · have hqa4 := oNull.t hp hc
    subst hc
    have hp := hqa4
    have hl : lv_has ls 2 [(1, va_rf none), (0, .ref t0)] := hl
    exact hp.elim
def B_J25_isEmpty_16 (G : wG) (Q : Bool → wM → Prop) (y0 : Int32) (M : wM) : Prop :=
  ∃ r : Bool, y0 = wb r ∧ Q r M
def P_J25_isEmpty (G : wG) (t0 : Nat) (M : wM) (Q : Bool → wM → Prop) : Prop :=
  oGetI M t0 22 1 (fun v1 => oGetI M t0 22 2 (fun v2 => oIf (v1 = v2) (B_J25_isEmpty_16 G Q (1 : Int32) M) (B_J25_isEmpty_16 G Q (0 : Int32) M)))
set_option maxHeartbeats 4000000 in
set_option maxRecDepth 100000 in
theorem P_J25_isEmpty_ok {l : Launch} (hl0 : l.stackTraces = false) {G : wG} {t0 : Nat} {M : wM} {Q : Bool → wM → Prop} (hp : P_J25_isEmpty G t0 M Q) : wMet l yJ25_isEmpty (ws_ yJ25_isEmpty cJ25_isEmpty 1 (Option.some Jvm.ClassFile.FieldType.boolean)) 12 400 G [.ref t0] M 0 (wqZ Q) wX0 := by
  refine vx_ofW (cc := cJ25_isEmpty) (maxL := 1) (ret := Option.some Jvm.ClassFile.FieldType.boolean) (by decide) rfl ?_
  intro p e s m args below meth c s₁ B hml hnt hv
  obtain ⟨rfl, hM, hK, hZ, hz⟩ := hv
  have hC : wC G s := ⟨hK, hZ, hz⟩
  have hx := B.exec
  have hb := B.bytes
  have hr := B.returns
  have hts := atoms_spec (ws := (ws_ yJ25_isEmpty cJ25_isEmpty 1 (Option.some Jvm.ClassFile.FieldType.boolean))) B.pre
  have hts : ∀ w ∈ lw_all, w.before _ s = true := fun w h => hts w (List.mem_cons_of_mem _ h)
  have hown : s.vm.findClass RJ25 = some m.cls := findClass_of_methodNamed B.named
  have hlk := B.notSynchronized
  have X : CallFix p m c cJ25_isEmpty 1 s ([.ref t0] : List Value).toArray lw_all RJ25 := ⟨hx, hb, hml, hown, hts⟩
  have hS : va_S (wA G) s.heap s.heap [] := va_S.rf
  have hl := lv_entry ([.ref t0]) (n := 1) (Nat.le_of_ble_eq_true rfl)
  rw [lg_entry_eq]
  generalize (lg_sl ([.ref t0]) ++ List.replicate (1 - (lg_sl ([.ref t0])).length) Slot.unset).toArray = ls at hl ⊢
  have hl : lv_has ls 1 [(0, .ref t0)] := hl
  have hB16 : ∀ (y0 : Int32) (M : wM) (H : Heap) (locs : List Loc) (ls : Array Slot), B_J25_isEmpty_16 G Q y0 M → wR G M H → va_S (wA G) s.heap H locs → lv_has ls 1 [] → W p l e (headSpec (ws_ yJ25_isEmpty cJ25_isEmpty 1 (Option.some Jvm.ClassFile.FieldType.boolean)) ({ frames := 12, cells := 0, slots := 0, locals := 400 })).room s m ([.ref t0] : List Value).toArray below meth c H locs 0 0 (vx_MQ below (wQ G (wqZ Q)) (wXC G wX0) ([.ref t0] : List Value).toArray s 0 0 (wA G)) (F0 m 16 ls [.int y0]) := by
    intro y0 M H locs ls hp hM hS hl
    obtain ⟨r, hr0, hp⟩ := hp
    exact x_zret X hr hlk hM hS ⟨Nat.le_refl _, Nat.le_refl _⟩ (by rw [hr0]; exact w_nz _) dJ25_isEmpty_16 ⟨r, by rw [hr0], hp⟩
  refine lv_aload_n hx hb dJ25_isEmpty_0 rfl (lv_at hl 0 rfl) ?_
  refine x_getI X hC.1 hM (ci := 22) (C := RJ25) (T := TJ25) (N := 3) rfl in_J25 1 (by decide) q962 (fun _ h9 => h9) dJ25_isEmpty_1 hp (fun v1 hp => ?_)
  refine lv_aload_n hx hb dJ25_isEmpty_4 rfl (lv_at hl 0 rfl) ?_
  refine x_getI X hC.1 hM (ci := 22) (C := RJ25) (T := TJ25) (N := 3) rfl in_J25 2 (by decide) q963 (fun _ h9 => h9) dJ25_isEmpty_5 hp (fun v2 hp => ?_)
  refine lv_icmp_ne (tgt := 15) hx hb dJ25_isEmpty_8 (by decide) (fun hc => ?_) (fun hc => ?_)
  · have hp := oIf.f hp hc
    refine lv_iconst (v := 0) hx hb dJ25_isEmpty_15 (by decide) ?_
    exact hB16 _ _ _ _ _ hp hM hS (lv_sub hl [] rfl)
  · have hp := oIf.t hp hc
    refine lv_iconst (v := 1) hx hb dJ25_isEmpty_11 (by decide) ?_
    refine lv_goto (tgt := 16) hx hb dJ25_isEmpty_12 (by decide) ?_
    exact hB16 _ _ _ _ _ hp hM hS (lv_sub hl [] rfl)
def B_X1_undo_15 (G : wG) (Q : Int32 → wM → Prop) (Xp : String → Nat → wM → Prop) (x0 : Nat) (y0 : Int32) (M : wM) (bq : Nat) : Prop :=
  ∃ c2, c2 ≤ bq ∧ P_X1_checkState G y0 c2 M (fun M1 => oGetA M1 x0 0 2 (fun a3 => oIs M1 a3 22 (P_J25_removeLast G a3 M1 (fun r6 M4 => oCast M4 r6 1 (oPut G M4 x0 0 0 (va_rf r6) (fun M7 => oGetA M7 x0 0 2 (fun a8 => oIs M7 a8 22 (P_J25_size G a8 M7 (fun v11 M9 => Q v11 M9))))))))) (fun E q12 M13 => (E = "java/lang/IllegalStateException" ∧ Xp E q12 M13))
def P_X1_undo (G : wG) (t0 : Nat) (b : Nat) (M : wM) (Q : Int32 → wM → Prop) (Xp : String → Nat → wM → Prop) : Prop :=
  oGetA M t0 0 2 (fun a1 => oIs M a1 22 (P_J25_isEmpty G a1 M (fun r4 M2 => oIf (r4 = true) (B_X1_undo_15 G Q Xp t0 (0 : Int32) M2 b) (B_X1_undo_15 G Q Xp t0 (1 : Int32) M2 b))))
set_option maxHeartbeats 4000000 in
set_option maxRecDepth 100000 in
theorem P_X1_undo_ok {l : Launch} (hl0 : l.stackTraces = false) {G : wG} {t0 : Nat} {b : Nat} {M : wM} {Q : Int32 → wM → Prop} {Xp : String → Nat → wM → Prop} (hp : P_X1_undo G t0 b M Q Xp) : wMet l yX1_undo (ws_ yX1_undo cX1_undo 1 (Option.some Jvm.ClassFile.FieldType.int)) 15 465 G [.ref t0] M b (wqI Q) Xp := by
  refine vx_ofW (cc := cX1_undo) (maxL := 1) (ret := Option.some Jvm.ClassFile.FieldType.int) (by decide) rfl ?_
  intro p e s m args below meth c s₁ B hml hnt hv
  obtain ⟨rfl, hM, hK, hZ, hz⟩ := hv
  have hC : wC G s := ⟨hK, hZ, hz⟩
  have hx := B.exec
  have hb := B.bytes
  have hr := B.returns
  have hts := atoms_spec (ws := (ws_ yX1_undo cX1_undo 1 (Option.some Jvm.ClassFile.FieldType.int))) B.pre
  have hts : ∀ w ∈ lw_all, w.before _ s = true := fun w h => hts w (List.mem_cons_of_mem _ h)
  have hown : s.vm.findClass RX1 = some m.cls := findClass_of_methodNamed B.named
  have hlk := B.notSynchronized
  have X : CallFix p m c cX1_undo 1 s ([.ref t0] : List Value).toArray lw_all RX1 := ⟨hx, hb, hml, hown, hts⟩
  have hS : va_S (wA G) s.heap s.heap [] := va_S.rf
  have hl := lv_entry ([.ref t0]) (n := 1) (Nat.le_of_ble_eq_true rfl)
  rw [lg_entry_eq]
  generalize (lg_sl ([.ref t0]) ++ List.replicate (1 - (lg_sl ([.ref t0])).length) Slot.unset).toArray = ls at hl ⊢
  have hl : lv_has ls 1 [(0, .ref t0)] := hl
  have hB : 0 + b ≤ ((headSpec (ws_ yX1_undo cX1_undo 1 (Option.some Jvm.ClassFile.FieldType.int)) ({ frames := 15, cells := b, slots := b, locals := 465 })).room).cells ∧ 0 + b ≤ ((headSpec (ws_ yX1_undo cX1_undo 1 (Option.some Jvm.ClassFile.FieldType.int)) ({ frames := 15, cells := b, slots := b, locals := 465 })).room).slots := ⟨Nat.le_of_eq (Nat.zero_add b), Nat.le_of_eq (Nat.zero_add b)⟩
  have hB15 : ∀ (x0 : Nat) (y0 : Int32) (M : wM) (bq : Nat) (H : Heap) (locs : List Loc) (ls : Array Slot) (cells slots : Nat), B_X1_undo_15 G Q Xp x0 y0 M bq → wR G M H → va_S (wA G) s.heap H locs → (cells + bq ≤ ((headSpec (ws_ yX1_undo cX1_undo 1 (Option.some Jvm.ClassFile.FieldType.int)) ({ frames := 15, cells := b, slots := b, locals := 465 })).room).cells ∧ slots + bq ≤ ((headSpec (ws_ yX1_undo cX1_undo 1 (Option.some Jvm.ClassFile.FieldType.int)) ({ frames := 15, cells := b, slots := b, locals := 465 })).room).slots) → lv_has ls 1 [(0, .ref x0)] → W p l e (headSpec (ws_ yX1_undo cX1_undo 1 (Option.some Jvm.ClassFile.FieldType.int)) ({ frames := 15, cells := b, slots := b, locals := 465 })).room s m ([.ref t0] : List Value).toArray below meth c H locs cells slots (vx_MQ below (wQ G (wqI Q)) (wXC G Xp) ([.ref t0] : List Value).toArray s b b (wA G)) (F0 m 15 ls [.int y0]) := by
    intro x0 y0 M bq H locs ls cells slots hp hM hS hB hl
    obtain ⟨c2, hc1, hp⟩ := hp
    refine x_callV (vx_runS (As := [.int y0]) (rest := []) X (P_X1_checkState_ok (l := l) hl0 hp) (va_cwS 1 hts (lw_S q2690 q2691 q148 q2692) rfl rfl rfl (by decide +kernel) ⟨Nat.le_of_ble_eq_true rfl, Nat.le_of_ble_eq_true rfl⟩) ⟨wPc.blind, w_pre hC hM hS _⟩ rfl rfl hl.1 rfl (lv_room (Nat.le_of_ble_eq_true rfl)) dX1_undo_15 (w_room hB hc1)) hS hB hc1 (fun E ce q12 M13 H locs hp hM hS hB hcell hcv hcl => ?_) (fun M1 H locs hp hM hS hB => ?_)
    · obtain ⟨rfl, hp⟩ := hp
      exact x_out hlk (fun x h => (hnt x h).elim) hM hS (w_fin hB) hcell hcv hcl hp
    · refine lv_aload_n hx hb dX1_undo_18 rfl (lv_at hl 0 rfl) ?_
      refine lv_aload_n hx hb dX1_undo_19 rfl (lv_at hl 0 rfl) ?_
      refine x_getA X hC.1 hM (ci := 0) (C := RX1) (T := TX1) (N := 8) rfl in_X1 2 (by decide) q975 (fun _ h9 => h9) dX1_undo_20 hp (fun a3 hp => ?_)
      obtain ⟨hrec, hp⟩ := hp
      refine x_call0R (vx_runV (As := []) (rest := [.ref x0]) X (P_J25_removeLast_ok (l := l) hl0 hp) (cwV 0 hts (lw_V q3003 q3004 q3005 q177 q3006) rfl rfl rfl (by decide +kernel) ⟨Nat.le_of_ble_eq_true rfl, Nat.le_of_ble_eq_true rfl⟩) ⟨wPc.blind, w_recv hC.1 hM (ci := 22) (q := (RJ25, TJ25, 3)) rfl hrec, w_pre hC hM hS _⟩ rfl rfl hl.1 rfl (lv_room (Nat.le_of_ble_eq_true rfl)) dX1_undo_23 (w_room0 hB)) hS (w_room0 hB) (fun _ _ _ _ _ _ h => False.elim h) (fun r6 M4 H locs hp hM hS => ?_)
      refine x_cast (r := r6) X hC.1 hM q220 (ci := 1) rfl (Or.inl rfl) dX1_undo_26 hp (fun hp => ?_)
      refine x_put X hC.1 hM hS (ci := 0) (C := RX1) (T := TX1) (N := 8) rfl in_X1 tyX1 tyX1_ok nmX1 0 (by decide) q973 (fun _ h9 => h9) rfl (w_nobj _ r6) (w_fobj _ r6) dX1_undo_29 hp (fun M7 H locs hM hS hp => ?_)
      refine lv_aload_n hx hb dX1_undo_32 rfl (lv_at hl 0 rfl) ?_
      refine x_getA X hC.1 hM (ci := 0) (C := RX1) (T := TX1) (N := 8) rfl in_X1 2 (by decide) q975 (fun _ h9 => h9) dX1_undo_33 hp (fun a8 hp => ?_)
      obtain ⟨hrec, hp⟩ := hp
      refine x_call0I (vx_runV (As := []) (rest := []) X (P_J25_size_ok (l := l) hl0 hp) (cwV 0 hts (lw_V q1554 q1555 q1556 q177 q1557) rfl rfl rfl (by decide +kernel) ⟨Nat.le_of_ble_eq_true rfl, Nat.le_of_ble_eq_true rfl⟩) ⟨wPc.blind, w_recv hC.1 hM (ci := 22) (q := (RJ25, TJ25, 3)) rfl hrec, w_pre hC hM hS _⟩ rfl rfl hl.1 rfl (lv_room (Nat.le_of_ble_eq_true rfl)) dX1_undo_36 (w_room0 hB)) hS (w_room0 hB) (fun _ _ _ _ _ _ h => False.elim h) (fun v11 M9 H locs hp hM hS => ?_)
      exact x_iret X hr hlk hM hS (w_fin hB) dX1_undo_39 ⟨_, rfl, hp⟩
  refine lv_aload_n hx hb dX1_undo_0 rfl (lv_at hl 0 rfl) ?_
  refine x_getA X hC.1 hM (ci := 0) (C := RX1) (T := TX1) (N := 8) rfl in_X1 2 (by decide) q975 (fun _ h9 => h9) dX1_undo_1 hp (fun a1 hp => ?_)
  obtain ⟨hrec, hp⟩ := hp
  refine x_call0Z (vx_runV (As := []) (rest := []) X (P_J25_isEmpty_ok (l := l) hl0 hp) (cwV 0 hts (lw_V q2999 q3000 q3001 q177 q3002) rfl rfl rfl (by decide +kernel) ⟨Nat.le_of_ble_eq_true rfl, Nat.le_of_ble_eq_true rfl⟩) ⟨wPc.blind, w_recv hC.1 hM (ci := 22) (q := (RJ25, TJ25, 3)) rfl hrec, w_pre hC hM hS _⟩ rfl rfl hl.1 rfl (lv_room (Nat.le_of_ble_eq_true rfl)) dX1_undo_4 (w_room0 hB)) hS (w_room0 hB) (fun _ _ _ _ _ _ h => False.elim h) (fun r4 M2 H locs hp hM hS => ?_)
  refine x_ifneB (tgt := 14) hx hb dX1_undo_7 (by decide) (fun hc => ?_) (fun hc => ?_)
  · have hp := oIf.bt hp hc
    refine lv_iconst (v := 0) hx hb dX1_undo_14 (by decide) ?_
    exact hB15 _ _ _ _ _ _ _ _ _ hp hM hS hB (lv_sub hl [0] rfl)
  · have hp := oIf.bf hp hc
    refine lv_iconst (v := 1) hx hb dX1_undo_10 (by decide) ?_
    refine lv_goto (tgt := 15) hx hb dX1_undo_11 (by decide) ?_
    exact hB15 _ _ _ _ _ _ _ _ _ hp hM hS hB (lv_sub hl [0] rfl)
def B_X1_visit_95 (G : wG) (Q : Int32 → wM → Prop) (Xp : String → Nat → wM → Prop) (y0 : Int32) (M : wM) (bq : Nat) : Prop :=
  Q y0 M
def P_X1_visit (G : wG) (t0 : Nat) (p1 : Int32) (p2 : Int32) (b : Nat) (M : wM) (Q : Int32 → wM → Prop) (Xp : String → Nat → wM → Prop) : Prop :=
  oIs M t0 0 (∃ c2, c2 ≤ b ∧ P_X1_visitAt G t0 p1 c2 M (fun r3 M1 => P_X1_inRange G p2 (0 : Int32) (4 : Int32) M1 (fun r6 M4 => ∃ c8, c8 ≤ (b - c2) ∧ P_X1_checkIndex G (wb r6) c8 M4 (fun M7 => oIf (p2 = (0 : Int32)) (oRef r3 (fun a15 => oGetI M7 a15 10 0 (fun v16 => B_X1_visit_95 G Q Xp v16 M7 ((b - c2) - c8)))) (oIf (p2 = (1 : Int32)) (oRef r3 (fun a17 => oGetI M7 a17 10 1 (fun v18 => B_X1_visit_95 G Q Xp v18 M7 ((b - c2) - c8)))) (oIf (p2 = (2 : Int32)) (oRef r3 (fun a19 => oGetI M7 a19 10 2 (fun v20 => B_X1_visit_95 G Q Xp v20 M7 ((b - c2) - c8)))) (oIf (p2 = (3 : Int32)) (oRef r3 (fun a21 => oGetI M7 a21 10 3 (fun v22 => B_X1_visit_95 G Q Xp v22 M7 ((b - c2) - c8)))) (oGetA M7 t0 0 0 (fun a9 => oGetI M7 a9 1 8 (fun v10 => oRef r3 (fun a11 => oIs M7 a11 10 (P_X10_runs_X13 G a11 v10 M7 (fun r14 M12 => oIf (r14 = true) (B_X1_visit_95 G Q Xp (1 : Int32) M12 ((b - c2) - c8)) (B_X1_visit_95 G Q Xp (0 : Int32) M12 ((b - c2) - c8)))))))))))) (fun E q23 M24 => (E = "java/lang/IndexOutOfBoundsException" ∧ Xp E q23 M24)))) (fun E q25 M26 => (E = "java/lang/IndexOutOfBoundsException" ∧ Xp E q25 M26)))
set_option maxHeartbeats 4000000 in
set_option maxRecDepth 100000 in
theorem P_X1_visit_ok {l : Launch} (hl0 : l.stackTraces = false) {G : wG} {t0 : Nat} {p1 : Int32} {p2 : Int32} {b : Nat} {M : wM} {Q : Int32 → wM → Prop} {Xp : String → Nat → wM → Prop} (hp : P_X1_visit G t0 p1 p2 b M Q Xp) : wMet l yX1_visit (ws_ yX1_visit cX1_visit 4 (Option.some Jvm.ClassFile.FieldType.int)) 16 485 G [.ref t0, .int p1, .int p2] M b (wqI Q) Xp := by
  refine vx_ofW (cc := cX1_visit) (maxL := 4) (ret := Option.some Jvm.ClassFile.FieldType.int) (by decide) rfl ?_
  intro p e s m args below meth c s₁ B hml hnt hv
  obtain ⟨rfl, hM, hK, hZ, hz⟩ := hv
  have hC : wC G s := ⟨hK, hZ, hz⟩
  have hx := B.exec
  have hb := B.bytes
  have hr := B.returns
  have hts := atoms_spec (ws := (ws_ yX1_visit cX1_visit 4 (Option.some Jvm.ClassFile.FieldType.int))) B.pre
  have hts : ∀ w ∈ lw_all, w.before _ s = true := fun w h => hts w (List.mem_cons_of_mem _ h)
  have hown : s.vm.findClass RX1 = some m.cls := findClass_of_methodNamed B.named
  have hlk := B.notSynchronized
  have X : CallFix p m c cX1_visit 4 s ([.ref t0, .int p1, .int p2] : List Value).toArray lw_all RX1 := ⟨hx, hb, hml, hown, hts⟩
  have hS : va_S (wA G) s.heap s.heap [] := va_S.rf
  have hl := lv_entry ([.ref t0, .int p1, .int p2]) (n := 4) (Nat.le_of_ble_eq_true rfl)
  rw [lg_entry_eq]
  generalize (lg_sl ([.ref t0, .int p1, .int p2]) ++ List.replicate (4 - (lg_sl ([.ref t0, .int p1, .int p2])).length) Slot.unset).toArray = ls at hl ⊢
  have hl : lv_has ls 4 [(0, .ref t0), (1, .int p1), (2, .int p2)] := hl
  have hB : 0 + b ≤ ((headSpec (ws_ yX1_visit cX1_visit 4 (Option.some Jvm.ClassFile.FieldType.int)) ({ frames := 16, cells := b, slots := b, locals := 485 })).room).cells ∧ 0 + b ≤ ((headSpec (ws_ yX1_visit cX1_visit 4 (Option.some Jvm.ClassFile.FieldType.int)) ({ frames := 16, cells := b, slots := b, locals := 485 })).room).slots := ⟨Nat.le_of_eq (Nat.zero_add b), Nat.le_of_eq (Nat.zero_add b)⟩
  have hB95 : ∀ (y0 : Int32) (M : wM) (bq : Nat) (H : Heap) (locs : List Loc) (ls : Array Slot) (cells slots : Nat), B_X1_visit_95 G Q Xp y0 M bq → wR G M H → va_S (wA G) s.heap H locs → (cells + bq ≤ ((headSpec (ws_ yX1_visit cX1_visit 4 (Option.some Jvm.ClassFile.FieldType.int)) ({ frames := 16, cells := b, slots := b, locals := 485 })).room).cells ∧ slots + bq ≤ ((headSpec (ws_ yX1_visit cX1_visit 4 (Option.some Jvm.ClassFile.FieldType.int)) ({ frames := 16, cells := b, slots := b, locals := 485 })).room).slots) → lv_has ls 4 [] → W p l e (headSpec (ws_ yX1_visit cX1_visit 4 (Option.some Jvm.ClassFile.FieldType.int)) ({ frames := 16, cells := b, slots := b, locals := 485 })).room s m ([.ref t0, .int p1, .int p2] : List Value).toArray below meth c H locs cells slots (vx_MQ below (wQ G (wqI Q)) (wXC G Xp) ([.ref t0, .int p1, .int p2] : List Value).toArray s b b (wA G)) (F0 m 95 ls [.int y0]) := by
    intro y0 M bq H locs ls cells slots hp hM hS hB hl
    exact x_iret X hr hlk hM hS (w_fin hB) dX1_visit_95 ⟨_, rfl, hp⟩
  refine lv_aload_n hx hb dX1_visit_0 rfl (lv_at hl 0 rfl) ?_
  refine lv_iload_n hx hb dX1_visit_1 rfl (lv_at hl 1 rfl) ?_
  obtain ⟨hrec, hp⟩ := hp
  obtain ⟨c2, hc1, hp⟩ := hp
  refine x_callR (vx_runV (As := [.int p1]) (rest := []) X (P_X1_visitAt_ok (l := l) hl0 hp) (cwV 1 hts (lw_V q2430 q2432 qs43 q148 q2433) rfl rfl rfl (by decide +kernel) ⟨Nat.le_of_ble_eq_true rfl, Nat.le_of_ble_eq_true rfl⟩) ⟨wPc.blind, w_recv hC.1 hM (ci := 0) (q := (RX1, TX1, 8)) rfl hrec, w_pre hC hM hS _⟩ rfl rfl hl.1 rfl (lv_room (Nat.le_of_ble_eq_true rfl)) dX1_visit_2 (w_room hB hc1)) hS hB hc1 (fun E ce q25 M26 H locs hp hM hS hB hcell hcv hcl => ?_) (fun r3 M1 H locs hp hM hS hB => ?_)
  · obtain ⟨rfl, hp⟩ := hp
    exact x_out hlk (fun x h => (hnt x h).elim) hM hS (w_fin hB) hcell hcv hcl hp
  · refine x_astore_n (r := r3) (lv' := [(3, va_rf r3), (0, .ref t0), (1, .int p1), (2, .int p2)]) hx hb dX1_visit_5 rfl hl (by decide) rfl (fun ls hl => ?_)
    refine lv_iload_n hx hb dX1_visit_6 rfl (lv_at hl 3 rfl) ?_
    refine lv_iconst (v := 0) hx hb dX1_visit_7 (by decide) ?_
    refine lv_iconst (v := 4) hx hb dX1_visit_8 (by decide) ?_
    refine x_call0Z (vx_runS (As := [.int p2, .int (0 : Int32), .int (4 : Int32)]) (rest := []) X (P_X1_inRange_ok (l := l) hl0 hp) (va_cwS 3 hts (lw_S q1012 q1013 q148 q1014) rfl rfl rfl (by decide +kernel) ⟨Nat.le_of_ble_eq_true rfl, Nat.le_of_ble_eq_true rfl⟩) ⟨wPc.blind, w_pre hC hM hS _⟩ rfl rfl hl.1 rfl (lv_room (Nat.le_of_ble_eq_true rfl)) dX1_visit_9 (w_room0 hB)) hS (w_room0 hB) (fun _ _ _ _ _ _ h => False.elim h) (fun r6 M4 H locs hp hM hS => ?_)
    obtain ⟨c8, hc1, hp⟩ := hp
    refine x_callV (vx_runS (As := [.int (wb r6)]) (rest := []) X (P_X1_checkIndex_ok (l := l) hl0 hp) (va_cwS 1 hts (lw_S q2200 q2201 q148 q2202) rfl rfl rfl (by decide +kernel) ⟨Nat.le_of_ble_eq_true rfl, Nat.le_of_ble_eq_true rfl⟩) ⟨wPc.blind, w_pre hC hM hS _⟩ rfl rfl hl.1 rfl (lv_room (Nat.le_of_ble_eq_true rfl)) dX1_visit_12 (w_room hB hc1)) hS hB hc1 (fun E ce q23 M24 H locs hp hM hS hB hcell hcv hcl => ?_) (fun M7 H locs hp hM hS hB => ?_)
    · obtain ⟨rfl, hp⟩ := hp
      exact x_out hlk (fun x h => (hnt x h).elim) hM hS (w_fin hB) hcell hcv hcl hp
    · refine lv_iload_n hx hb dX1_visit_15 rfl (lv_at hl 3 rfl) ?_
      by_cases hc0 : p2 = (0 : Int32)
      · have hp := oIf.t hp hc0
        refine lv_tableIn (off := 32) (tgt := 48) hx hb dX1_visit_16 (by rw [hc0]; decide) (by rw [hc0]; decide) (by rw [hc0]; rfl) (by decide) ?_
        refine x_aload_n (r := r3) hx hb dX1_visit_48 rfl (lv_at hl 0 rfl) ?_
        obtain ⟨a15, ea, hqa15⟩ := hp
        subst ea
        have hp := hqa15
        have hl : lv_has ls 4 [(3, .ref a15), (0, .ref t0), (1, .int p1), (2, .int p2)] := hl
        refine x_getI X hC.1 hM (ci := 10) (C := RX13) (T := TX13) (N := 4) rfl in_X13 0 (by decide) q2108 (fun x9 h9 => u_same (hts _ q2104) x9 h9) dX1_visit_49 hp (fun v16 hp => ?_)
        refine lv_goto (tgt := 95) hx hb dX1_visit_52 (by decide) ?_
        exact hB95 _ _ _ _ _ _ _ _ hp hM hS hB (lv_sub hl [] rfl)
      · have hp := oIf.f hp hc0
        by_cases hc1 : p2 = (1 : Int32)
        · have hp := oIf.t hp hc1
          refine lv_tableIn (off := 39) (tgt := 55) hx hb dX1_visit_16 (by rw [hc1]; decide) (by rw [hc1]; decide) (by rw [hc1]; rfl) (by decide) ?_
          refine x_aload_n (r := r3) hx hb dX1_visit_55 rfl (lv_at hl 0 rfl) ?_
          obtain ⟨a17, ea, hqa17⟩ := hp
          subst ea
          have hp := hqa17
          have hl : lv_has ls 4 [(3, .ref a17), (0, .ref t0), (1, .int p1), (2, .int p2)] := hl
          refine x_getI X hC.1 hM (ci := 10) (C := RX13) (T := TX13) (N := 4) rfl in_X13 1 (by decide) q2118 (fun x9 h9 => u_same (hts _ q2113) x9 h9) dX1_visit_56 hp (fun v18 hp => ?_)
          refine lv_goto (tgt := 95) hx hb dX1_visit_59 (by decide) ?_
          exact hB95 _ _ _ _ _ _ _ _ hp hM hS hB (lv_sub hl [] rfl)
        · have hp := oIf.f hp hc1
          by_cases hc2 : p2 = (2 : Int32)
          · have hp := oIf.t hp hc2
            refine lv_tableIn (off := 46) (tgt := 62) hx hb dX1_visit_16 (by rw [hc2]; decide) (by rw [hc2]; decide) (by rw [hc2]; rfl) (by decide) ?_
            refine x_aload_n (r := r3) hx hb dX1_visit_62 rfl (lv_at hl 0 rfl) ?_
            obtain ⟨a19, ea, hqa19⟩ := hp
            subst ea
            have hp := hqa19
            have hl : lv_has ls 4 [(3, .ref a19), (0, .ref t0), (1, .int p1), (2, .int p2)] := hl
            refine x_getIN X hC.1 hM (ci := 10) (C := RX13) (T := TX13) (N := 4) rfl in_X13 2 (by decide) q2150 (fun _ h9 => h9) dX1_visit_63 hp (fun v20 hp => ?_)
            refine lv_goto (tgt := 95) hx hb dX1_visit_66 (by decide) ?_
            exact hB95 _ _ _ _ _ _ _ _ hp hM hS hB (lv_sub hl [] rfl)
          · have hp := oIf.f hp hc2
            by_cases hc3 : p2 = (3 : Int32)
            · have hp := oIf.t hp hc3
              refine lv_tableIn (off := 53) (tgt := 69) hx hb dX1_visit_16 (by rw [hc3]; decide) (by rw [hc3]; decide) (by rw [hc3]; rfl) (by decide) ?_
              refine x_aload_n (r := r3) hx hb dX1_visit_69 rfl (lv_at hl 0 rfl) ?_
              obtain ⟨a21, ea, hqa21⟩ := hp
              subst ea
              have hp := hqa21
              have hl : lv_has ls 4 [(3, .ref a21), (0, .ref t0), (1, .int p1), (2, .int p2)] := hl
              refine x_getIN X hC.1 hM (ci := 10) (C := RX13) (T := TX13) (N := 4) rfl in_X13 3 (by decide) q2152 (fun _ h9 => h9) dX1_visit_70 hp (fun v22 hp => ?_)
              refine lv_goto (tgt := 95) hx hb dX1_visit_73 (by decide) ?_
              exact hB95 _ _ _ _ _ _ _ _ hp hM hS hB (lv_sub hl [] rfl)
            · have hp := oIf.f hp hc3
              refine lv_tableOut (tgt := 76) hx hb dX1_visit_16 (w_tsw 0 4 (by decide) (by decide) (fun i hi => ?_)) (by decide) ?_
              · have hi2 : i = 0 ∨ i = 1 ∨ i = 2 ∨ i = 3 := by omega
                rcases hi2 with rfl | rfl | rfl | rfl
                · exact fun h => hc0 (h.trans (by decide))
                · exact fun h => hc1 (h.trans (by decide))
                · exact fun h => hc2 (h.trans (by decide))
                · exact fun h => hc3 (h.trans (by decide))
              · refine x_aload_n (r := r3) hx hb dX1_visit_76 rfl (lv_at hl 0 rfl) ?_
                refine lv_aload_n hx hb dX1_visit_77 rfl (lv_at hl 1 rfl) ?_
                refine x_getA X hC.1 hM (ci := 0) (C := RX1) (T := TX1) (N := 8) rfl in_X1 0 (by decide) q973 (fun _ h9 => h9) dX1_visit_78 hp (fun a9 hp => ?_)
                refine x_getIN X hC.1 hM (ci := 1) (C := RX2) (T := TX2) (N := 9) rfl in_X2 8 (by decide) q934 (fun _ h9 => h9) dX1_visit_81 hp (fun v10 hp => ?_)
                obtain ⟨a11, ea, hqa11⟩ := hp
                subst ea
                have hp := hqa11
                have hl : lv_has ls 4 [(3, .ref a11), (0, .ref t0), (1, .int p1), (2, .int p2)] := hl
                obtain ⟨hrec, hp⟩ := hp
                refine x_call0Z (w_runD (C := "ParkingOffice$Visit") hC (As := [.int v10]) (rest := []) X (P_X10_runs_X13_ok (l := l) hl0 hp) q2280 q2278 q197 q2276 (Or.inl rfl) (List.mem_of_getElem? (i := 4) rfl) (List.mem_of_getElem? (i := 3) rfl) rfl rfl ⟨Nat.le_of_ble_eq_true rfl, Nat.le_of_ble_eq_true rfl⟩ ⟨wPc.blind, w_recv hC.1 hM (ci := 10) (q := (RX13, TX13, 4)) rfl hrec, w_pre hC hM hS _⟩ rfl rfl hl.1 rfl (lv_room (Nat.le_of_ble_eq_true rfl)) dX1_visit_84 (w_room0 hB)) hS (w_room0 hB) (fun _ _ _ _ _ _ h => False.elim h) (fun r14 M12 H locs hp hM hS => ?_)
                refine x_ifeqB (tgt := 94) hx hb dX1_visit_87 (by decide) (fun hc => ?_) (fun hc => ?_)
                · have hp := oIf.bf hp hc
                  refine lv_iconst (v := 0) hx hb dX1_visit_94 (by decide) ?_
                  exact hB95 _ _ _ _ _ _ _ _ hp hM hS hB (lv_sub hl [] rfl)
                · have hp := oIf.bt hp hc
                  refine lv_iconst (v := 1) hx hb dX1_visit_90 (by decide) ?_
                  refine lv_goto (tgt := 95) hx hb dX1_visit_91 (by decide) ?_
                  exact hB95 _ _ _ _ _ _ _ _ hp hM hS hB (lv_sub hl [] rfl)
def P_X1_waiting (G : wG) (t0 : Nat) (p1 : Int32) (p2 : Int32) (b : Nat) (M : wM) (Q : Int32 → wM → Prop) (Xp : String → Nat → wM → Prop) : Prop :=
  oIs M t0 0 (∃ c2, c2 ≤ b ∧ P_X1_checkZone G t0 p1 c2 M (fun M1 => oGetA M1 t0 0 0 (fun a3 => oIs M1 a3 1 (∃ c5, c5 ≤ (b - c2) ∧ P_X2_queue G a3 p1 c5 M1 (fun r6 M4 => oRef r6 (fun a7 => oIs M4 a7 17 (P_J8_size G a7 M4 (fun v10 M8 => P_X1_inRange G p2 (0 : Int32) (v10 - (1 : Int32)) M8 (fun r13 M11 => oIf (r13 = true) (oIs M11 a7 17 (P_J8_get G a7 p2 M11 (fun r16 M14 => oCast M14 r16 25 (oRef r16 (fun a17 => oIs M14 a17 25 (P_J23_intValue G a17 M14 (fun v20 M18 => Q v20 M18))))))) (7 ≤ ((b - c2) - c5) ∧ ∀ q : Nat, Xp "java/util/NoSuchElementException" q M11))))))))) (fun E q21 M22 => (E = "java/lang/IndexOutOfBoundsException" ∧ Xp E q21 M22)))
set_option maxHeartbeats 4000000 in
set_option maxRecDepth 100000 in
theorem P_X1_waiting_ok {l : Launch} (hl0 : l.stackTraces = false) {G : wG} {t0 : Nat} {p1 : Int32} {p2 : Int32} {b : Nat} {M : wM} {Q : Int32 → wM → Prop} {Xp : String → Nat → wM → Prop} (hp : P_X1_waiting G t0 p1 p2 b M Q Xp) : wMet l yX1_waiting (ws_ yX1_waiting cX1_waiting 4 (Option.some Jvm.ClassFile.FieldType.int)) 18 534 G [.ref t0, .int p1, .int p2] M b (wqI Q) Xp := by
  refine vx_ofW (cc := cX1_waiting) (maxL := 4) (ret := Option.some Jvm.ClassFile.FieldType.int) (by decide) rfl ?_
  intro p e s m args below meth c s₁ B hml hnt hv
  obtain ⟨rfl, hM, hK, hZ, hz⟩ := hv
  have hC : wC G s := ⟨hK, hZ, hz⟩
  have hx := B.exec
  have hb := B.bytes
  have hr := B.returns
  have hts := atoms_spec (ws := (ws_ yX1_waiting cX1_waiting 4 (Option.some Jvm.ClassFile.FieldType.int))) B.pre
  have hts : ∀ w ∈ lw_all, w.before _ s = true := fun w h => hts w (List.mem_cons_of_mem _ h)
  have hown : s.vm.findClass RX1 = some m.cls := findClass_of_methodNamed B.named
  have hlk := B.notSynchronized
  have X : CallFix p m c cX1_waiting 4 s ([.ref t0, .int p1, .int p2] : List Value).toArray lw_all RX1 := ⟨hx, hb, hml, hown, hts⟩
  have hS : va_S (wA G) s.heap s.heap [] := va_S.rf
  have hl := lv_entry ([.ref t0, .int p1, .int p2]) (n := 4) (Nat.le_of_ble_eq_true rfl)
  rw [lg_entry_eq]
  generalize (lg_sl ([.ref t0, .int p1, .int p2]) ++ List.replicate (4 - (lg_sl ([.ref t0, .int p1, .int p2])).length) Slot.unset).toArray = ls at hl ⊢
  have hl : lv_has ls 4 [(0, .ref t0), (1, .int p1), (2, .int p2)] := hl
  have hB : 0 + b ≤ ((headSpec (ws_ yX1_waiting cX1_waiting 4 (Option.some Jvm.ClassFile.FieldType.int)) ({ frames := 18, cells := b, slots := b, locals := 534 })).room).cells ∧ 0 + b ≤ ((headSpec (ws_ yX1_waiting cX1_waiting 4 (Option.some Jvm.ClassFile.FieldType.int)) ({ frames := 18, cells := b, slots := b, locals := 534 })).room).slots := ⟨Nat.le_of_eq (Nat.zero_add b), Nat.le_of_eq (Nat.zero_add b)⟩
  refine lv_aload_n hx hb dX1_waiting_0 rfl (lv_at hl 0 rfl) ?_
  refine lv_iload_n hx hb dX1_waiting_1 rfl (lv_at hl 1 rfl) ?_
  obtain ⟨hrec, hp⟩ := hp
  obtain ⟨c2, hc1, hp⟩ := hp
  refine x_callV (vx_runV (As := [.int p1]) (rest := []) X (P_X1_checkZone_ok (l := l) hl0 hp) (cwV 1 hts (lw_V q2196 q2198 qs35 q148 q2199) rfl rfl rfl (by decide +kernel) ⟨Nat.le_of_ble_eq_true rfl, Nat.le_of_ble_eq_true rfl⟩) ⟨wPc.blind, w_recv hC.1 hM (ci := 0) (q := (RX1, TX1, 8)) rfl hrec, w_pre hC hM hS _⟩ rfl rfl hl.1 rfl (lv_room (Nat.le_of_ble_eq_true rfl)) dX1_waiting_2 (w_room hB hc1)) hS hB hc1 (fun E ce q21 M22 H locs hp hM hS hB hcell hcv hcl => ?_) (fun M1 H locs hp hM hS hB => ?_)
  · obtain ⟨rfl, hp⟩ := hp
    exact x_out hlk (fun x h => (hnt x h).elim) hM hS (w_fin hB) hcell hcv hcl hp
  · refine lv_aload_n hx hb dX1_waiting_5 rfl (lv_at hl 0 rfl) ?_
    refine x_getA X hC.1 hM (ci := 0) (C := RX1) (T := TX1) (N := 8) rfl in_X1 0 (by decide) q973 (fun _ h9 => h9) dX1_waiting_6 hp (fun a3 hp => ?_)
    refine lv_iload_n hx hb dX1_waiting_9 rfl (lv_at hl 1 rfl) ?_
    obtain ⟨hrec, hp⟩ := hp
    obtain ⟨c5, hc1, hp⟩ := hp
    refine x_callR (vx_runV (As := [.int p1]) (rest := []) X (P_X2_queue_ok (l := l) hl0 hp) (cwV 1 hts (lw_V q2364 q2365 q2366 q149 q2367) rfl rfl rfl (by decide +kernel) ⟨Nat.le_of_ble_eq_true rfl, Nat.le_of_ble_eq_true rfl⟩) ⟨wPc.blind, w_recv hC.1 hM (ci := 1) (q := (RX2, TX2, 9)) rfl hrec, w_pre hC hM hS _⟩ rfl rfl hl.1 rfl (lv_room (Nat.le_of_ble_eq_true rfl)) dX1_waiting_10 (w_room hB hc1)) hS hB hc1 (fun _ _ _ _ _ _ h => False.elim h) (fun r6 M4 H locs hp hM hS hB => ?_)
    refine x_astore_n (r := r6) (lv' := [(3, va_rf r6), (0, .ref t0), (1, .int p1), (2, .int p2)]) hx hb dX1_waiting_13 rfl hl (by decide) rfl (fun ls hl => ?_)
    refine lv_iload_n hx hb dX1_waiting_14 rfl (lv_at hl 3 rfl) ?_
    refine lv_iconst (v := 0) hx hb dX1_waiting_15 (by decide) ?_
    refine x_aload_n (r := r6) hx hb dX1_waiting_16 rfl (lv_at hl 0 rfl) ?_
    obtain ⟨a7, ea, hqa7⟩ := hp
    subst ea
    have hp := hqa7
    have hl : lv_has ls 4 [(3, .ref a7), (0, .ref t0), (1, .int p1), (2, .int p2)] := hl
    obtain ⟨hrec, hp⟩ := hp
    refine x_call0I5 (vx_runF (hC.1.1.1 17 (RJ8, TJ8, 4) rfl).2 (C := "java/util/LinkedList") (As := []) (rest := [.int (0 : Int32), .int p2]) X (P_J8_size_ok (l := l) hl0 hp) (va_cwF 0 hts (lw_app (w_mem4 q1540 q513 q515 q160) (lw_meth q517)) rfl rfl rfl (wfw_36 hC.1) (by decide +kernel) ⟨Nat.le_of_ble_eq_true rfl, Nat.le_of_ble_eq_true rfl⟩) ⟨wPc.blind, w_recv hC.1 hM (ci := 17) (q := (RJ8, TJ8, 4)) rfl hrec, w_pre hC hM hS _⟩ rfl rfl hl.1 rfl (lv_room (Nat.le_of_ble_eq_true rfl)) dX1_waiting_17 (w_room0 hB)) hS (w_room0 hB) (fun _ _ _ _ _ _ h => False.elim h) (fun v10 M8 H locs hp hM hS => ?_)
    refine lv_iconst (v := 1) hx hb dX1_waiting_22 (by decide) ?_
    refine lv_isub hx hb dX1_waiting_23 ?_
    refine x_call0Z (vx_runS (As := [.int p2, .int (0 : Int32), .int (v10 - (1 : Int32))]) (rest := []) X (P_X1_inRange_ok (l := l) hl0 hp) (va_cwS 3 hts (lw_S q1012 q1013 q148 q1014) rfl rfl rfl (by decide +kernel) ⟨Nat.le_of_ble_eq_true rfl, Nat.le_of_ble_eq_true rfl⟩) ⟨wPc.blind, w_pre hC hM hS _⟩ rfl rfl hl.1 rfl (lv_room (Nat.le_of_ble_eq_true rfl)) dX1_waiting_24 (w_room0 hB)) hS (w_room0 hB) (fun _ _ _ _ _ _ h => False.elim h) (fun r13 M11 H locs hp hM hS => ?_)
    refine x_ifneB (tgt := 38) hx hb dX1_waiting_27 (by decide) (fun hc => ?_) (fun hc => ?_)
    · have hp := oIf.bt hp hc
      refine lv_aload_n hx hb dX1_waiting_38 rfl (lv_at hl 0 rfl) ?_
      refine lv_iload_n hx hb dX1_waiting_39 rfl (lv_at hl 3 rfl) ?_
      obtain ⟨hrec, hp⟩ := hp
      refine x_call0R5 (vx_runF (hC.1.1.1 17 (RJ8, TJ8, 4) rfl).2 (C := "java/util/LinkedList") (As := [.int p2]) (rest := []) X (P_J8_get_ok (l := l) hl0 hp) (va_cwF 1 hts (lw_app (w_mem4 q1667 q881 q883 q160) (lw_meth q885)) rfl rfl rfl (wfw_31 hC.1) (by decide +kernel) ⟨Nat.le_of_ble_eq_true rfl, Nat.le_of_ble_eq_true rfl⟩) ⟨wPc.blind, w_recv hC.1 hM (ci := 17) (q := (RJ8, TJ8, 4)) rfl hrec, w_pre hC hM hS _⟩ rfl rfl hl.1 rfl (lv_room (Nat.le_of_ble_eq_true rfl)) dX1_waiting_40 (w_room0 hB)) hS (w_room0 hB) (fun _ _ _ _ _ _ h => False.elim h) (fun r16 M14 H locs hp hM hS => ?_)
      refine x_cast (r := r16) X hC.1 hM q2406 (ci := 25) rfl (Or.inl rfl) dX1_waiting_45 hp (fun hp => ?_)
      obtain ⟨a17, ea, hqa17⟩ := hp
      subst ea
      have hp := hqa17
      obtain ⟨hrec, hp⟩ := hp
      refine x_call0I (vx_runV (As := []) (rest := []) X (P_J23_intValue_ok (l := l) hl0 hp) (cwV 0 hts (lw_V q2407 q1328 q1329 q175 q1330) rfl rfl rfl (by decide +kernel) ⟨Nat.le_of_ble_eq_true rfl, Nat.le_of_ble_eq_true rfl⟩) ⟨wPc.blind, w_recv hC.1 hM (ci := 25) (q := (RJ23, TJ23, 1)) rfl hrec, w_pre hC hM hS _⟩ rfl rfl hl.1 rfl (lv_room (Nat.le_of_ble_eq_true rfl)) dX1_waiting_48 (w_room0 hB)) hS (w_room0 hB) (fun _ _ _ _ _ _ h => False.elim h) (fun v20 M18 H locs hp hM hS => ?_)
      exact x_iret X hr hlk hM hS (w_fin hB) dX1_waiting_51 ⟨_, rfl, hp⟩
    · have hp := oIf.bf hp hc
      exact x_throw0 X hC hl0 hM hS hB ⟨Nat.le_refl _, Nat.le_refl _⟩ (by decide +kernel) (by decide +kernel) q2404 q196 vg_X1_NoSuchElementException (w_recat hts hC.1 vt_X1_NoSuchElementException) (hl.1.trans hml.symm) dX1_waiting_30 dX1_waiting_33 dX1_waiting_34 dX1_waiting_37 (fun x h => (hnt x h).elim) (Nat.le_of_ble_eq_true rfl) (Nat.le_of_ble_eq_true rfl) hlk hp.1 hp.2
def B_J23_equals_26 (G : wG) (Q : Bool → wM → Prop) (y0 : Int32) (M : wM) : Prop :=
  ∃ r : Bool, y0 = wb r ∧ Q r M
def P_J23_equals (G : wG) (t0 : Nat) (p1 : Option Nat) (M : wM) (Q : Bool → wM → Prop) : Prop :=
  oRef p1 (fun a1 => oIs M a1 25 (oIf ((1 : Int32) = 0) (Q false M) (oGetI M t0 25 0 (fun v2 => oCast M (some a1) 25 (oIs M a1 25 (P_J23_intValue G a1 M (fun v5 M3 => oIf (v2 = v5) (B_J23_equals_26 G Q (1 : Int32) M3) (B_J23_equals_26 G Q (0 : Int32) M3))))))))
set_option maxHeartbeats 4000000 in
set_option maxRecDepth 100000 in
theorem P_J23_equals_ok {l : Launch} (hl0 : l.stackTraces = false) {G : wG} {t0 : Nat} {p1 : Option Nat} {M : wM} {Q : Bool → wM → Prop} (hp : P_J23_equals G t0 p1 M Q) : wMet l yJ23_equals (ws_ yJ23_equals cJ23_equals 2 (Option.some Jvm.ClassFile.FieldType.boolean)) 13 420 G [.ref t0, va_rf p1] M 0 (wqZ Q) wX0 := by
  refine vx_ofW (cc := cJ23_equals) (maxL := 2) (ret := Option.some Jvm.ClassFile.FieldType.boolean) (by decide) rfl ?_
  intro p e s m args below meth c s₁ B hml hnt hv
  obtain ⟨rfl, hM, hK, hZ, hz⟩ := hv
  have hC : wC G s := ⟨hK, hZ, hz⟩
  have hx := B.exec
  have hb := B.bytes
  have hr := B.returns
  have hts := atoms_spec (ws := (ws_ yJ23_equals cJ23_equals 2 (Option.some Jvm.ClassFile.FieldType.boolean))) B.pre
  have hts : ∀ w ∈ lw_all, w.before _ s = true := fun w h => hts w (List.mem_cons_of_mem _ h)
  have hown : s.vm.findClass RJ23 = some m.cls := findClass_of_methodNamed B.named
  have hlk := B.notSynchronized
  have X : CallFix p m c cJ23_equals 2 s ([.ref t0, va_rf p1] : List Value).toArray lw_all RJ23 := ⟨hx, hb, hml, hown, hts⟩
  have hS : va_S (wA G) s.heap s.heap [] := va_S.rf
  have hl := lv_entry ([.ref t0, va_rf p1]) (n := 2) (by cases p1 <;> exact Nat.le_of_ble_eq_true rfl)
  rw [lg_entry_eq]
  generalize (lg_sl ([.ref t0, va_rf p1]) ++ List.replicate (2 - (lg_sl ([.ref t0, va_rf p1])).length) Slot.unset).toArray = ls at hl ⊢
  have hl : lv_has ls 2 [(0, .ref t0), (1, va_rf p1)] := by cases p1 <;> exact hl
  have hB26 : ∀ (y0 : Int32) (M : wM) (H : Heap) (locs : List Loc) (ls : Array Slot), B_J23_equals_26 G Q y0 M → wR G M H → va_S (wA G) s.heap H locs → lv_has ls 2 [] → W p l e (headSpec (ws_ yJ23_equals cJ23_equals 2 (Option.some Jvm.ClassFile.FieldType.boolean)) ({ frames := 13, cells := 0, slots := 0, locals := 420 })).room s m ([.ref t0, va_rf p1] : List Value).toArray below meth c H locs 0 0 (vx_MQ below (wQ G (wqZ Q)) (wXC G wX0) ([.ref t0, va_rf p1] : List Value).toArray s 0 0 (wA G)) (F0 m 26 ls [.int y0]) := by
    intro y0 M H locs ls hp hM hS hl
    obtain ⟨r, hr0, hp⟩ := hp
    exact x_zret X hr hlk hM hS ⟨Nat.le_refl _, Nat.le_refl _⟩ (by rw [hr0]; exact w_nz _) dJ23_equals_26 ⟨r, by rw [hr0], hp⟩
  refine x_aload_n (r := p1) hx hb dJ23_equals_0 rfl (lv_at hl 1 rfl) ?_
  obtain ⟨a1, ea, hqa1⟩ := hp
  subst ea
  have hp := hqa1
  have hl : lv_has ls 2 [(0, .ref t0), (1, .ref a1)] := hl
  obtain ⟨hrec, hp⟩ := hp
  refine va_instE hx hb hown (hts _ q1326) (w_recv hC.1 hM (ci := 25) rfl hrec) dJ23_equals_1 ?_
  refine lv_if_eq (tgt := 27) hx hb dJ23_equals_4 (by decide) (fun hc => ?_) (fun hc => ?_)
  · have hp := oIf.t hp hc
    refine lv_iconst (v := 0) hx hb dJ23_equals_27 (by decide) ?_
    exact x_zret X hr hlk hM hS ⟨Nat.le_refl _, Nat.le_refl _⟩ (by decide) dJ23_equals_28 ⟨false, rfl, hp⟩
  · have hp := oIf.f hp hc
    refine lv_aload_n hx hb dJ23_equals_7 rfl (lv_at hl 0 rfl) ?_
    refine x_getI X hC.1 hM (ci := 25) (C := RJ23) (T := TJ23) (N := 1) rfl in_J23 0 (by decide) q2392 (fun _ h9 => h9) dJ23_equals_8 hp (fun v2 hp => ?_)
    refine lv_aload_n hx hb dJ23_equals_11 rfl (lv_at hl 1 rfl) ?_
    refine x_cast (r := (some a1)) X hC.1 hM q1326 (ci := 25) rfl (Or.inl rfl) dJ23_equals_12 hp (fun hp => ?_)
    obtain ⟨hrec, hp⟩ := hp
    refine x_call0I (vx_runV (As := []) (rest := [.int v2]) X (P_J23_intValue_ok (l := l) hl0 hp) (cwV 0 hts (lw_V q1327 q1328 q1329 q175 q1330) rfl rfl rfl (by decide +kernel) ⟨Nat.le_of_ble_eq_true rfl, Nat.le_of_ble_eq_true rfl⟩) ⟨wPc.blind, w_recv hC.1 hM (ci := 25) (q := (RJ23, TJ23, 1)) rfl hrec, w_pre hC hM hS _⟩ rfl rfl hl.1 rfl (lv_room (Nat.le_of_ble_eq_true rfl)) dJ23_equals_15 ⟨Nat.le_refl _, Nat.le_refl _⟩) hS ⟨Nat.le_refl _, Nat.le_refl _⟩ (fun _ _ _ _ _ _ h => False.elim h) (fun v5 M3 H locs hp hM hS => ?_)
    refine lv_icmp_ne (tgt := 25) hx hb dJ23_equals_18 (by decide) (fun hc => ?_) (fun hc => ?_)
    · have hp := oIf.f hp hc
      refine lv_iconst (v := 0) hx hb dJ23_equals_25 (by decide) ?_
      exact hB26 _ _ _ _ _ hp hM hS (lv_sub hl [] rfl)
    · have hp := oIf.t hp hc
      refine lv_iconst (v := 1) hx hb dJ23_equals_21 (by decide) ?_
      refine lv_goto (tgt := 26) hx hb dJ23_equals_22 (by decide) ?_
      exact hB26 _ _ _ _ _ hp hM hS (lv_sub hl [] rfl)
def B_J8_indexOf_71 (G : wG) (Q : Int32 → wM → Prop) (M : wM) : Prop :=
  Q (-1 : Int32) M
def B_J8_indexOf_43 (G : wG) (rec43 : Nat → Int32 → Option Nat → wM → Prop) (Q : Int32 → wM → Prop) (x1 : Nat) (x2 : Int32) (x3 : Option Nat) (M : wM) : Prop :=
  oNull x3 (B_J8_indexOf_71 G Q M) (fun a1 => oGetR M a1 18 0 (fun r2 => oIs M x1 25 (P_J23_equals G x1 r2 M (fun r5 M3 => oIf (r5 = true) (Q x2 M3) (oGetR M3 a1 18 1 (fun r6 => rec43 x1 (x2 + 1) r6 M3))))))
def L_J8_indexOf_43 (G : wG) (Q : Int32 → wM → Prop) : Nat → Nat → Int32 → Option Nat → wM → Prop
  | 0 => fun _ _ _ _ => False
  | n + 1 => B_J8_indexOf_43 G (L_J8_indexOf_43 G Q n) Q
def P_J8_indexOf (G : wG) (t0 : Nat) (p1 : Nat) (M : wM) (Q : Int32 → wM → Prop) : Prop :=
  oGetR M t0 17 2 (fun r1 => ∃ n, L_J8_indexOf_43 G Q n p1 (0 : Int32) r1 M)
set_option maxHeartbeats 4000000 in
set_option maxRecDepth 100000 in
theorem P_J8_indexOf_ok {l : Launch} (hl0 : l.stackTraces = false) {G : wG} {t0 : Nat} {p1 : Nat} {M : wM} {Q : Int32 → wM → Prop} (hp : P_J8_indexOf G t0 p1 M Q) : wMet l yJ8_indexOf (ws_ yJ8_indexOf cJ8_indexOf 4 (Option.some Jvm.ClassFile.FieldType.int)) 14 441 G [.ref t0, .ref p1] M 0 (wqI Q) wX0 := by
  refine vx_ofW (cc := cJ8_indexOf) (maxL := 4) (ret := Option.some Jvm.ClassFile.FieldType.int) (by decide) rfl ?_
  intro p e s m args below meth c s₁ B hml hnt hv
  obtain ⟨rfl, hM, hK, hZ, hz⟩ := hv
  have hC : wC G s := ⟨hK, hZ, hz⟩
  have hx := B.exec
  have hb := B.bytes
  have hr := B.returns
  have hts := atoms_spec (ws := (ws_ yJ8_indexOf cJ8_indexOf 4 (Option.some Jvm.ClassFile.FieldType.int))) B.pre
  have hts : ∀ w ∈ lw_all, w.before _ s = true := fun w h => hts w (List.mem_cons_of_mem _ h)
  have hown : s.vm.findClass RJ8 = some m.cls := findClass_of_methodNamed B.named
  have hlk := B.notSynchronized
  have X : CallFix p m c cJ8_indexOf 4 s ([.ref t0, .ref p1] : List Value).toArray lw_all RJ8 := ⟨hx, hb, hml, hown, hts⟩
  have hS : va_S (wA G) s.heap s.heap [] := va_S.rf
  have hl := lv_entry ([.ref t0, .ref p1]) (n := 4) (Nat.le_of_ble_eq_true rfl)
  rw [lg_entry_eq]
  generalize (lg_sl ([.ref t0, .ref p1]) ++ List.replicate (4 - (lg_sl ([.ref t0, .ref p1])).length) Slot.unset).toArray = ls at hl ⊢
  have hl : lv_has ls 4 [(0, .ref t0), (1, .ref p1)] := hl
  have hB71 : ∀ (M : wM) (H : Heap) (locs : List Loc) (ls : Array Slot), B_J8_indexOf_71 G Q M → wR G M H → va_S (wA G) s.heap H locs → lv_has ls 4 [] → W p l e (headSpec (ws_ yJ8_indexOf cJ8_indexOf 4 (Option.some Jvm.ClassFile.FieldType.int)) ({ frames := 14, cells := 0, slots := 0, locals := 441 })).room s m ([.ref t0, .ref p1] : List Value).toArray below meth c H locs 0 0 (vx_MQ below (wQ G (wqI Q)) (wXC G wX0) ([.ref t0, .ref p1] : List Value).toArray s 0 0 (wA G)) (F0 m 71 ls []) := by
    intro M H locs ls hp hM hS hl
    refine lv_iconst (v := (-1)) hx hb dJ8_indexOf_71 (by decide) ?_
    exact x_iret X hr hlk hM hS ⟨Nat.le_refl _, Nat.le_refl _⟩ dJ8_indexOf_72 ⟨_, rfl, hp⟩
  have hB43 : ∀ (rec43 : Nat → Int32 → Option Nat → wM → Prop) (hrec43 : ∀ (x1 : Nat) (x2 : Int32) (x3 : Option Nat) (M : wM) (H : Heap) (locs : List Loc) (ls : Array Slot), rec43 x1 x2 x3 M → wR G M H → va_S (wA G) s.heap H locs → lv_has ls 4 [(1, .ref x1), (2, .int x2), (3, va_rf x3)] → W p l e (headSpec (ws_ yJ8_indexOf cJ8_indexOf 4 (Option.some Jvm.ClassFile.FieldType.int)) ({ frames := 14, cells := 0, slots := 0, locals := 441 })).room s m ([.ref t0, .ref p1] : List Value).toArray below meth c H locs 0 0 (vx_MQ below (wQ G (wqI Q)) (wXC G wX0) ([.ref t0, .ref p1] : List Value).toArray s 0 0 (wA G)) (F0 m 43 ls [])), ∀ (x1 : Nat) (x2 : Int32) (x3 : Option Nat) (M : wM) (H : Heap) (locs : List Loc) (ls : Array Slot), B_J8_indexOf_43 G rec43 Q x1 x2 x3 M → wR G M H → va_S (wA G) s.heap H locs → lv_has ls 4 [(1, .ref x1), (2, .int x2), (3, va_rf x3)] → W p l e (headSpec (ws_ yJ8_indexOf cJ8_indexOf 4 (Option.some Jvm.ClassFile.FieldType.int)) ({ frames := 14, cells := 0, slots := 0, locals := 441 })).room s m ([.ref t0, .ref p1] : List Value).toArray below meth c H locs 0 0 (vx_MQ below (wQ G (wqI Q)) (wXC G wX0) ([.ref t0, .ref p1] : List Value).toArray s 0 0 (wA G)) (F0 m 43 ls []) := by
    intro rec43 hrec43 x1 x2 x3 M H locs ls hp hM hS hl
    refine x_aload_n (r := x3) hx hb dJ8_indexOf_43 rfl (lv_at hl 2 rfl) ?_
    refine x_ifnull (r := x3) (tgt := 71) hx hb dJ8_indexOf_44 (by decide) (fun hc => ?_) (fun a1 hc => ?_)
    · have hqa1 := oNull.t hp hc
      subst hc
      have hp := hqa1
      have hl : lv_has ls 4 [(1, .ref x1), (2, .int x2), (3, va_rf none)] := hl
      exact hB71 _ _ _ _ hp hM hS (lv_sub hl [] rfl)
    · have hqa1 := oNull.f hp hc
      subst hc
      have hp := hqa1
      have hl : lv_has ls 4 [(1, .ref x1), (2, .int x2), (3, .ref a1)] := hl
      refine lv_aload_n hx hb dJ8_indexOf_47 rfl (lv_at hl 0 rfl) ?_
      refine lv_aload_n hx hb dJ8_indexOf_48 rfl (lv_at hl 2 rfl) ?_
      refine x_getR X hC.1 hM (ci := 18) (C := RJ6) (T := TJ6) (N := 3) rfl in_J6 0 (by decide) q381 (fun _ h9 => h9) dJ8_indexOf_49 hp (fun r2 hp => ?_)
      obtain ⟨hrec, hp⟩ := hp
      refine x_call0Z (vx_runU (As := [va_rf r2]) (rest := []) X (P_J23_equals_ok (l := l) hl0 hp) (va_cwA (owner := "java/lang/Object") 1 hts (lw_app (w_mem5 q1365 q1301 q1323 q1324 q175) (lw_meth q1325)) rfl rfl rfl (hC.1.2.2.1 _ q1298 rfl) (by decide +kernel) ⟨Nat.le_of_ble_eq_true rfl, Nat.le_of_ble_eq_true rfl⟩) ⟨wPc.blind, w_recv hC.1 hM (ci := 25) (q := (RJ23, TJ23, 1)) rfl hrec, w_pre hC hM hS _⟩ rfl rfl hl.1 rfl (lv_room (Nat.le_of_ble_eq_true rfl)) dJ8_indexOf_52 ⟨Nat.le_refl _, Nat.le_refl _⟩) hS ⟨Nat.le_refl _, Nat.le_refl _⟩ (fun _ _ _ _ _ _ h => False.elim h) (fun r5 M3 H locs hp hM hS => ?_)
      refine x_ifeqB (tgt := 60) hx hb dJ8_indexOf_55 (by decide) (fun hc => ?_) (fun hc => ?_)
      · have hp := oIf.bf hp hc
        refine lv_iinc (v := (x2 + 1)) (lv' := [(2, .int (x2 + 1)), (1, .ref x1), (3, .ref a1)]) hx hb dJ8_indexOf_60 hl (k := 1) rfl rfl (by decide) rfl (fun ls hl => ?_)
        refine lv_aload_n hx hb dJ8_indexOf_63 rfl (lv_at hl 2 rfl) ?_
        refine x_getR X hC.1 hM (ci := 18) (C := RJ6) (T := TJ6) (N := 3) rfl in_J6 1 (by decide) q384 (fun _ h9 => h9) dJ8_indexOf_64 hp (fun r6 hp => ?_)
        refine x_astore_n (r := r6) (lv' := [(3, va_rf r6), (2, .int (x2 + 1)), (1, .ref x1)]) hx hb dJ8_indexOf_67 rfl hl (by decide) rfl (fun ls hl => ?_)
        refine lv_goto (tgt := 43) hx hb dJ8_indexOf_68 (by decide) ?_
        exact hrec43 _ _ _ _ _ _ _ hp hM hS (lv_sub hl [2, 1, 0] rfl)
      · have hp := oIf.bt hp hc
        refine lv_iload_n hx hb dJ8_indexOf_58 rfl (lv_at hl 1 rfl) ?_
        exact x_iret X hr hlk hM hS ⟨Nat.le_refl _, Nat.le_refl _⟩ dJ8_indexOf_59 ⟨_, rfl, hp⟩
  have hL43 : ∀ (n : Nat), ∀ (x1 : Nat) (x2 : Int32) (x3 : Option Nat) (M : wM) (H : Heap) (locs : List Loc) (ls : Array Slot), L_J8_indexOf_43 G Q n x1 x2 x3 M → wR G M H → va_S (wA G) s.heap H locs → lv_has ls 4 [(1, .ref x1), (2, .int x2), (3, va_rf x3)] → W p l e (headSpec (ws_ yJ8_indexOf cJ8_indexOf 4 (Option.some Jvm.ClassFile.FieldType.int)) ({ frames := 14, cells := 0, slots := 0, locals := 441 })).room s m ([.ref t0, .ref p1] : List Value).toArray below meth c H locs 0 0 (vx_MQ below (wQ G (wqI Q)) (wXC G wX0) ([.ref t0, .ref p1] : List Value).toArray s 0 0 (wA G)) (F0 m 43 ls []) := by
    intro n
    induction n with
    | zero => intro _ _ _ _ _ _ _ hp; exact False.elim hp
    | succ n ih => intro x1 x2 x3 M H locs ls hp hM hS hl; exact hB43 (L_J8_indexOf_43 G Q n) ih _ _ _ _ _ _ _ hp hM hS hl
  refine lv_iconst (v := 0) hx hb dJ8_indexOf_0 (by decide) ?_
  refine lv_istore_n (lv' := [(2, .int (0 : Int32)), (0, .ref t0), (1, .ref p1)]) hx hb dJ8_indexOf_1 rfl hl (by decide) rfl (fun ls hl => ?_)
  refine lv_aload_n hx hb dJ8_indexOf_2 rfl (lv_at hl 2 rfl) ?_
  refine lv_ifnonnull (tgt := 38) hx hb dJ8_indexOf_3 (by decide) ?_
  refine lv_aload_n hx hb dJ8_indexOf_38 rfl (lv_at hl 1 rfl) ?_
  refine x_getR X hC.1 hM (ci := 17) (C := RJ8) (T := TJ8) (N := 4) rfl in_J8 2 (by decide) q458 (fun _ h9 => h9) dJ8_indexOf_39 hp (fun r1 hp => ?_)
  refine x_astore_n (r := r1) (lv' := [(3, va_rf r1), (2, .int (0 : Int32)), (0, .ref t0), (1, .ref p1)]) hx hb dJ8_indexOf_42 rfl hl (by decide) rfl (fun ls hl => ?_)
  obtain ⟨n, hp⟩ := hp
  exact hL43 n _ _ _ _ _ _ _ hp hM hS (lv_sub hl [3, 1, 0] rfl)
def B_X1_waitingPlace_37 (G : wG) (Q : Int32 → wM → Prop) (Xp : String → Nat → wM → Prop) (y0 : Int32) (M : wM) (bq : Nat) : Prop :=
  Q y0 M
def P_X1_waitingPlace (G : wG) (t0 : Nat) (p1 : Int32) (b : Nat) (M : wM) (Q : Int32 → wM → Prop) (Xp : String → Nat → wM → Prop) : Prop :=
  oIs M t0 0 (∃ c2, c2 ≤ b ∧ P_X1_permitAt G t0 p1 c2 M (fun r3 M1 => oRef r3 (fun a4 => oGetI M1 a4 9 4 (fun v5 => oIf (v5 = 0) (oGetA M1 t0 0 0 (fun a6 => oGetI M1 a4 9 2 (fun v7 => oIs M1 a6 1 (∃ c9, c9 ≤ (b - c2) ∧ P_X2_queue G a6 v7 c9 M1 (fun r10 M8 => ∃ c12, c12 ≤ ((b - c2) - c9) ∧ P_J23_valueOf G p1 c12 M8 (fun r13 M11 => oRef r10 (fun a14 => oRef r13 (fun a15 => oIs M11 a14 17 (P_J8_indexOf G a14 a15 M11 (fun v18 M16 => B_X1_waitingPlace_37 G Q Xp v18 M16 (((b - c2) - c9) - c12))))))))))) (B_X1_waitingPlace_37 G Q Xp (-1 : Int32) M1 (b - c2))))) (fun E q19 M20 => (E = "java/lang/IndexOutOfBoundsException" ∧ Xp E q19 M20)))
set_option maxHeartbeats 4000000 in
set_option maxRecDepth 100000 in
theorem P_X1_waitingPlace_ok {l : Launch} (hl0 : l.stackTraces = false) {G : wG} {t0 : Nat} {p1 : Int32} {b : Nat} {M : wM} {Q : Int32 → wM → Prop} {Xp : String → Nat → wM → Prop} (hp : P_X1_waitingPlace G t0 p1 b M Q Xp) : wMet l yX1_waitingPlace (ws_ yX1_waitingPlace cX1_waitingPlace 3 (Option.some Jvm.ClassFile.FieldType.int)) 18 534 G [.ref t0, .int p1] M b (wqI Q) Xp := by
  refine vx_ofW (cc := cX1_waitingPlace) (maxL := 3) (ret := Option.some Jvm.ClassFile.FieldType.int) (by decide) rfl ?_
  intro p e s m args below meth c s₁ B hml hnt hv
  obtain ⟨rfl, hM, hK, hZ, hz⟩ := hv
  have hC : wC G s := ⟨hK, hZ, hz⟩
  have hx := B.exec
  have hb := B.bytes
  have hr := B.returns
  have hts := atoms_spec (ws := (ws_ yX1_waitingPlace cX1_waitingPlace 3 (Option.some Jvm.ClassFile.FieldType.int))) B.pre
  have hts : ∀ w ∈ lw_all, w.before _ s = true := fun w h => hts w (List.mem_cons_of_mem _ h)
  have hown : s.vm.findClass RX1 = some m.cls := findClass_of_methodNamed B.named
  have hlk := B.notSynchronized
  have X : CallFix p m c cX1_waitingPlace 3 s ([.ref t0, .int p1] : List Value).toArray lw_all RX1 := ⟨hx, hb, hml, hown, hts⟩
  have hS : va_S (wA G) s.heap s.heap [] := va_S.rf
  have hl := lv_entry ([.ref t0, .int p1]) (n := 3) (Nat.le_of_ble_eq_true rfl)
  rw [lg_entry_eq]
  generalize (lg_sl ([.ref t0, .int p1]) ++ List.replicate (3 - (lg_sl ([.ref t0, .int p1])).length) Slot.unset).toArray = ls at hl ⊢
  have hl : lv_has ls 3 [(0, .ref t0), (1, .int p1)] := hl
  have hB : 0 + b ≤ ((headSpec (ws_ yX1_waitingPlace cX1_waitingPlace 3 (Option.some Jvm.ClassFile.FieldType.int)) ({ frames := 18, cells := b, slots := b, locals := 534 })).room).cells ∧ 0 + b ≤ ((headSpec (ws_ yX1_waitingPlace cX1_waitingPlace 3 (Option.some Jvm.ClassFile.FieldType.int)) ({ frames := 18, cells := b, slots := b, locals := 534 })).room).slots := ⟨Nat.le_of_eq (Nat.zero_add b), Nat.le_of_eq (Nat.zero_add b)⟩
  have hB37 : ∀ (y0 : Int32) (M : wM) (bq : Nat) (H : Heap) (locs : List Loc) (ls : Array Slot) (cells slots : Nat), B_X1_waitingPlace_37 G Q Xp y0 M bq → wR G M H → va_S (wA G) s.heap H locs → (cells + bq ≤ ((headSpec (ws_ yX1_waitingPlace cX1_waitingPlace 3 (Option.some Jvm.ClassFile.FieldType.int)) ({ frames := 18, cells := b, slots := b, locals := 534 })).room).cells ∧ slots + bq ≤ ((headSpec (ws_ yX1_waitingPlace cX1_waitingPlace 3 (Option.some Jvm.ClassFile.FieldType.int)) ({ frames := 18, cells := b, slots := b, locals := 534 })).room).slots) → lv_has ls 3 [] → W p l e (headSpec (ws_ yX1_waitingPlace cX1_waitingPlace 3 (Option.some Jvm.ClassFile.FieldType.int)) ({ frames := 18, cells := b, slots := b, locals := 534 })).room s m ([.ref t0, .int p1] : List Value).toArray below meth c H locs cells slots (vx_MQ below (wQ G (wqI Q)) (wXC G Xp) ([.ref t0, .int p1] : List Value).toArray s b b (wA G)) (F0 m 37 ls [.int y0]) := by
    intro y0 M bq H locs ls cells slots hp hM hS hB hl
    exact x_iret X hr hlk hM hS (w_fin hB) dX1_waitingPlace_37 ⟨_, rfl, hp⟩
  refine lv_aload_n hx hb dX1_waitingPlace_0 rfl (lv_at hl 0 rfl) ?_
  refine lv_iload_n hx hb dX1_waitingPlace_1 rfl (lv_at hl 1 rfl) ?_
  obtain ⟨hrec, hp⟩ := hp
  obtain ⟨c2, hc1, hp⟩ := hp
  refine x_callR (vx_runV (As := [.int p1]) (rest := []) X (P_X1_permitAt_ok (l := l) hl0 hp) (cwV 1 hts (lw_V q2352 q2354 qs41 q148 q2355) rfl rfl rfl (by decide +kernel) ⟨Nat.le_of_ble_eq_true rfl, Nat.le_of_ble_eq_true rfl⟩) ⟨wPc.blind, w_recv hC.1 hM (ci := 0) (q := (RX1, TX1, 8)) rfl hrec, w_pre hC hM hS _⟩ rfl rfl hl.1 rfl (lv_room (Nat.le_of_ble_eq_true rfl)) dX1_waitingPlace_2 (w_room hB hc1)) hS hB hc1 (fun E ce q19 M20 H locs hp hM hS hB hcell hcv hcl => ?_) (fun r3 M1 H locs hp hM hS hB => ?_)
  · obtain ⟨rfl, hp⟩ := hp
    exact x_out hlk (fun x h => (hnt x h).elim) hM hS (w_fin hB) hcell hcv hcl hp
  · refine x_astore_n (r := r3) (lv' := [(2, va_rf r3), (0, .ref t0), (1, .int p1)]) hx hb dX1_waitingPlace_5 rfl hl (by decide) rfl (fun ls hl => ?_)
    refine x_aload_n (r := r3) hx hb dX1_waitingPlace_6 rfl (lv_at hl 0 rfl) ?_
    obtain ⟨a4, ea, hqa4⟩ := hp
    subst ea
    have hp := hqa4
    have hl : lv_has ls 3 [(2, .ref a4), (0, .ref t0), (1, .int p1)] := hl
    refine x_getIN X hC.1 hM (ci := 9) (C := RX12) (T := TX12) (N := 8) rfl in_X12 4 (by decide) q2091 (fun _ h9 => h9) dX1_waitingPlace_7 hp (fun v5 hp => ?_)
    refine lv_if_ne (tgt := 36) hx hb dX1_waitingPlace_10 (by decide) (fun hc => ?_) (fun hc => ?_)
    · have hp := oIf.f hp hc
      refine lv_iconst (v := (-1)) hx hb dX1_waitingPlace_36 (by decide) ?_
      exact hB37 _ _ _ _ _ _ _ _ hp hM hS hB (lv_sub hl [] rfl)
    · have hp := oIf.t hp hc
      refine lv_aload_n hx hb dX1_waitingPlace_13 rfl (lv_at hl 1 rfl) ?_
      refine x_getA X hC.1 hM (ci := 0) (C := RX1) (T := TX1) (N := 8) rfl in_X1 0 (by decide) q973 (fun _ h9 => h9) dX1_waitingPlace_14 hp (fun a6 hp => ?_)
      refine lv_aload_n hx hb dX1_waitingPlace_17 rfl (lv_at hl 0 rfl) ?_
      refine x_getIN X hC.1 hM (ci := 9) (C := RX12) (T := TX12) (N := 8) rfl in_X12 2 (by decide) q2086 (fun _ h9 => h9) dX1_waitingPlace_18 hp (fun v7 hp => ?_)
      obtain ⟨hrec, hp⟩ := hp
      obtain ⟨c9, hc1, hp⟩ := hp
      refine x_callR (vx_runV (As := [.int v7]) (rest := []) X (P_X2_queue_ok (l := l) hl0 hp) (cwV 1 hts (lw_V q2364 q2365 q2366 q149 q2367) rfl rfl rfl (by decide +kernel) ⟨Nat.le_of_ble_eq_true rfl, Nat.le_of_ble_eq_true rfl⟩) ⟨wPc.blind, w_recv hC.1 hM (ci := 1) (q := (RX2, TX2, 9)) rfl hrec, w_pre hC hM hS _⟩ rfl rfl hl.1 rfl (lv_room (Nat.le_of_ble_eq_true rfl)) dX1_waitingPlace_21 (w_room hB hc1)) hS hB hc1 (fun _ _ _ _ _ _ h => False.elim h) (fun r10 M8 H locs hp hM hS hB => ?_)
      refine lv_iload_n hx hb dX1_waitingPlace_24 rfl (lv_at hl 2 rfl) ?_
      obtain ⟨c12, hc1, hp⟩ := hp
      refine x_callR (vx_runS (As := [.int p1]) (rest := [va_rf r10]) X (P_J23_valueOf_ok (l := l) hl0 hp) (va_cwS 1 hts (lw_S q2415 q2378 q175 q2379) rfl rfl rfl (by decide +kernel) ⟨Nat.le_of_ble_eq_true rfl, Nat.le_of_ble_eq_true rfl⟩) ⟨wPc.blind, w_pre hC hM hS _⟩ rfl rfl hl.1 rfl (lv_room (by cases r10 <;> exact Nat.le_of_ble_eq_true rfl)) dX1_waitingPlace_25 (w_room hB hc1)) hS hB hc1 (fun _ _ _ _ _ _ h => False.elim h) (fun r13 M11 H locs hp hM hS hB => ?_)
      obtain ⟨a14, ea, hqa14⟩ := hp
      subst ea
      have hp := hqa14
      obtain ⟨a15, ea, hqa15⟩ := hp
      subst ea
      have hp := hqa15
      obtain ⟨hrec, hp⟩ := hp
      refine x_call0I5 (vx_runF (hC.1.1.1 17 (RJ8, TJ8, 4) rfl).2 (C := "java/util/LinkedList") (As := [.ref a15]) (rest := []) X (P_J8_indexOf_ok (l := l) hl0 hp) (va_cwF 1 hts (lw_app (w_mem4 q2344 q1379 q1362 q160) (lw_meth q1364)) rfl rfl rfl (wfw_32 hC.1) (by decide +kernel) ⟨Nat.le_of_ble_eq_true rfl, Nat.le_of_ble_eq_true rfl⟩) ⟨wPc.blind, w_recv hC.1 hM (ci := 17) (q := (RJ8, TJ8, 4)) rfl hrec, w_pre hC hM hS _⟩ rfl rfl hl.1 rfl (lv_room (Nat.le_of_ble_eq_true rfl)) dX1_waitingPlace_28 (w_room0 hB)) hS (w_room0 hB) (fun _ _ _ _ _ _ h => False.elim h) (fun v18 M16 H locs hp hM hS => ?_)
      refine lv_goto (tgt := 37) hx hb dX1_waitingPlace_33 (by decide) ?_
      exact hB37 _ _ _ _ _ _ _ _ hp hM hS hB (lv_sub hl [] rfl)
def B_J2_isEmpty_12 (G : wG) (Q : Bool → wM → Prop) (y0 : Int32) (M : wM) : Prop :=
  ∃ r : Bool, y0 = wb r ∧ Q r M
def P_J2_isEmpty (G : wG) (t0 : Nat) (M : wM) (Q : Bool → wM → Prop) : Prop :=
  oGetI M t0 16 2 (fun v1 => oIf (v1 = 0) (B_J2_isEmpty_12 G Q (1 : Int32) M) (B_J2_isEmpty_12 G Q (0 : Int32) M))
set_option maxHeartbeats 4000000 in
set_option maxRecDepth 100000 in
theorem P_J2_isEmpty_ok {l : Launch} (hl0 : l.stackTraces = false) {G : wG} {t0 : Nat} {M : wM} {Q : Bool → wM → Prop} (hp : P_J2_isEmpty G t0 M Q) : wMet l yJ2_isEmpty (ws_ yJ2_isEmpty cJ2_isEmpty 1 (Option.some Jvm.ClassFile.FieldType.boolean)) 12 400 G [.ref t0] M 0 (wqZ Q) wX0 := by
  refine vx_ofW (cc := cJ2_isEmpty) (maxL := 1) (ret := Option.some Jvm.ClassFile.FieldType.boolean) (by decide) rfl ?_
  intro p e s m args below meth c s₁ B hml hnt hv
  obtain ⟨rfl, hM, hK, hZ, hz⟩ := hv
  have hC : wC G s := ⟨hK, hZ, hz⟩
  have hx := B.exec
  have hb := B.bytes
  have hr := B.returns
  have hts := atoms_spec (ws := (ws_ yJ2_isEmpty cJ2_isEmpty 1 (Option.some Jvm.ClassFile.FieldType.boolean))) B.pre
  have hts : ∀ w ∈ lw_all, w.before _ s = true := fun w h => hts w (List.mem_cons_of_mem _ h)
  have hown : s.vm.findClass RJ2 = some m.cls := findClass_of_methodNamed B.named
  have hlk := B.notSynchronized
  have X : CallFix p m c cJ2_isEmpty 1 s ([.ref t0] : List Value).toArray lw_all RJ2 := ⟨hx, hb, hml, hown, hts⟩
  have hS : va_S (wA G) s.heap s.heap [] := va_S.rf
  have hl := lv_entry ([.ref t0]) (n := 1) (Nat.le_of_ble_eq_true rfl)
  rw [lg_entry_eq]
  generalize (lg_sl ([.ref t0]) ++ List.replicate (1 - (lg_sl ([.ref t0])).length) Slot.unset).toArray = ls at hl ⊢
  have hl : lv_has ls 1 [(0, .ref t0)] := hl
  have hB12 : ∀ (y0 : Int32) (M : wM) (H : Heap) (locs : List Loc) (ls : Array Slot), B_J2_isEmpty_12 G Q y0 M → wR G M H → va_S (wA G) s.heap H locs → lv_has ls 1 [] → W p l e (headSpec (ws_ yJ2_isEmpty cJ2_isEmpty 1 (Option.some Jvm.ClassFile.FieldType.boolean)) ({ frames := 12, cells := 0, slots := 0, locals := 400 })).room s m ([.ref t0] : List Value).toArray below meth c H locs 0 0 (vx_MQ below (wQ G (wqZ Q)) (wXC G wX0) ([.ref t0] : List Value).toArray s 0 0 (wA G)) (F0 m 12 ls [.int y0]) := by
    intro y0 M H locs ls hp hM hS hl
    obtain ⟨r, hr0, hp⟩ := hp
    exact x_zret X hr hlk hM hS ⟨Nat.le_refl _, Nat.le_refl _⟩ (by rw [hr0]; exact w_nz _) dJ2_isEmpty_12 ⟨r, by rw [hr0], hp⟩
  refine lv_aload_n hx hb dJ2_isEmpty_0 rfl (lv_at hl 0 rfl) ?_
  refine x_getI X hC.1 hM (ci := 16) (C := RJ2) (T := TJ2) (N := 3) rfl in_J2 2 (by decide) q245 (fun _ h9 => h9) dJ2_isEmpty_1 hp (fun v1 hp => ?_)
  refine lv_if_ne (tgt := 11) hx hb dJ2_isEmpty_4 (by decide) (fun hc => ?_) (fun hc => ?_)
  · have hp := oIf.f hp hc
    refine lv_iconst (v := 0) hx hb dJ2_isEmpty_11 (by decide) ?_
    exact hB12 _ _ _ _ _ hp hM hS (lv_sub hl [] rfl)
  · have hp := oIf.t hp hc
    refine lv_iconst (v := 1) hx hb dJ2_isEmpty_7 (by decide) ?_
    refine lv_goto (tgt := 12) hx hb dJ2_isEmpty_8 (by decide) ?_
    exact hB12 _ _ _ _ _ hp hM hS (lv_sub hl [] rfl)
def B_X1_withdrawnShare_83 (G : wG) (Q : UInt32 → wM → Prop) (y0 : UInt32) (M : wM) (bq : Nat) : Prop :=
  Q y0 M
def B_X1_withdrawnShare_45 (G : wG) (rec15 : Nat → Int32 → Option Nat → wM → Nat → Prop) (Q : UInt32 → wM → Prop) (x0 : Nat) (x1 : Int32) (x2 : Nat) (M : wM) (bq : Nat) : Prop :=
  rec15 x0 x1 (some x2) M bq
def B_X1_withdrawnShare_15 (G : wG) (rec15 : Nat → Int32 → Option Nat → wM → Nat → Prop) (Q : UInt32 → wM → Prop) (x0 : Nat) (x1 : Int32) (x2 : Option Nat) (M : wM) (bq : Nat) : Prop :=
  oRef x2 (fun a1 => oIs M a1 20 (P_J32_hasNext G a1 M (fun r4 M2 => oIf (r4 = true) (oIs M2 a1 20 (P_J32_next G a1 M2 (fun r17 M15 => oCast M15 r17 15 (oRef r17 (fun a18 => oGetI M15 a18 15 5 (fun v19 => oIf (v19 = (1 : Int32)) (B_X1_withdrawnShare_45 G rec15 Q x0 (x1 + 1) a1 M15 bq) (B_X1_withdrawnShare_45 G rec15 Q x0 x1 a1 M15 bq))))))) (oGetA M2 x0 0 0 (fun a5 => oGetA M2 a5 1 4 (fun a6 => oIs M2 a6 16 (P_J2_isEmpty G a6 M2 (fun r9 M7 => oIf (r9 = true) (B_X1_withdrawnShare_83 G Q FP.fconst0 M7 bq) (oGetA M7 x0 0 0 (fun a10 => oGetA M7 a10 1 4 (fun a11 => oIs M7 a11 16 (P_J2_size G a11 M7 (fun v14 M12 => vf_n32 (FP.fdiv (FP.i2f x1) (FP.i2f v14)) ∧ (B_X1_withdrawnShare_83 G Q (FP.fdiv (FP.i2f x1) (FP.i2f v14)) M12 bq))))))))))))))
def L_X1_withdrawnShare_15 (G : wG) (Q : UInt32 → wM → Prop) : Nat → Nat → Int32 → Option Nat → wM → Nat → Prop
  | 0 => fun _ _ _ _ _ => False
  | n + 1 => B_X1_withdrawnShare_15 G (L_X1_withdrawnShare_15 G Q n) Q
def P_X1_withdrawnShare (G : wG) (t0 : Nat) (b : Nat) (M : wM) (Q : UInt32 → wM → Prop) : Prop :=
  oGetA M t0 0 0 (fun a1 => oGetA M a1 1 4 (fun a2 => oIs M a2 16 (∃ c4, c4 ≤ b ∧ P_J2_iterator G a2 c4 M (fun r5 M3 => ∃ n, L_X1_withdrawnShare_15 G Q n t0 (0 : Int32) r5 M3 (b - c4)))))
set_option maxHeartbeats 4000000 in
set_option maxRecDepth 100000 in
theorem P_X1_withdrawnShare_ok {l : Launch} (hl0 : l.stackTraces = false) {G : wG} {t0 : Nat} {b : Nat} {M : wM} {Q : UInt32 → wM → Prop} (hp : P_X1_withdrawnShare G t0 b M Q) : wMet l yX1_withdrawnShare (ws_ yX1_withdrawnShare cX1_withdrawnShare 4 (Option.some Jvm.ClassFile.FieldType.float)) 14 442 G [.ref t0] M b (wqF Q) wX0 := by
  refine vx_ofW (cc := cX1_withdrawnShare) (maxL := 4) (ret := Option.some Jvm.ClassFile.FieldType.float) (by decide) rfl ?_
  intro p e s m args below meth c s₁ B hml hnt hv
  obtain ⟨rfl, hM, hK, hZ, hz⟩ := hv
  have hC : wC G s := ⟨hK, hZ, hz⟩
  have hx := B.exec
  have hb := B.bytes
  have hr := B.returns
  have hts := atoms_spec (ws := (ws_ yX1_withdrawnShare cX1_withdrawnShare 4 (Option.some Jvm.ClassFile.FieldType.float))) B.pre
  have hts : ∀ w ∈ lw_all, w.before _ s = true := fun w h => hts w (List.mem_cons_of_mem _ h)
  have hown : s.vm.findClass RX1 = some m.cls := findClass_of_methodNamed B.named
  have hlk := B.notSynchronized
  have X : CallFix p m c cX1_withdrawnShare 4 s ([.ref t0] : List Value).toArray lw_all RX1 := ⟨hx, hb, hml, hown, hts⟩
  have hS : va_S (wA G) s.heap s.heap [] := va_S.rf
  have hl := lv_entry ([.ref t0]) (n := 4) (Nat.le_of_ble_eq_true rfl)
  rw [lg_entry_eq]
  generalize (lg_sl ([.ref t0]) ++ List.replicate (4 - (lg_sl ([.ref t0])).length) Slot.unset).toArray = ls at hl ⊢
  have hl : lv_has ls 4 [(0, .ref t0)] := hl
  have hB : 0 + b ≤ ((headSpec (ws_ yX1_withdrawnShare cX1_withdrawnShare 4 (Option.some Jvm.ClassFile.FieldType.float)) ({ frames := 14, cells := b, slots := b, locals := 442 })).room).cells ∧ 0 + b ≤ ((headSpec (ws_ yX1_withdrawnShare cX1_withdrawnShare 4 (Option.some Jvm.ClassFile.FieldType.float)) ({ frames := 14, cells := b, slots := b, locals := 442 })).room).slots := ⟨Nat.le_of_eq (Nat.zero_add b), Nat.le_of_eq (Nat.zero_add b)⟩
  have hB83 : ∀ (y0 : UInt32) (M : wM) (bq : Nat) (H : Heap) (locs : List Loc) (ls : Array Slot) (cells slots : Nat), B_X1_withdrawnShare_83 G Q y0 M bq → wR G M H → va_S (wA G) s.heap H locs → (cells + bq ≤ ((headSpec (ws_ yX1_withdrawnShare cX1_withdrawnShare 4 (Option.some Jvm.ClassFile.FieldType.float)) ({ frames := 14, cells := b, slots := b, locals := 442 })).room).cells ∧ slots + bq ≤ ((headSpec (ws_ yX1_withdrawnShare cX1_withdrawnShare 4 (Option.some Jvm.ClassFile.FieldType.float)) ({ frames := 14, cells := b, slots := b, locals := 442 })).room).slots) → lv_has ls 4 [] → W p l e (headSpec (ws_ yX1_withdrawnShare cX1_withdrawnShare 4 (Option.some Jvm.ClassFile.FieldType.float)) ({ frames := 14, cells := b, slots := b, locals := 442 })).room s m ([.ref t0] : List Value).toArray below meth c H locs cells slots (vx_MQ below (wQ G (wqF Q)) (wXC G wX0) ([.ref t0] : List Value).toArray s b b (wA G)) (F0 m 83 ls [.float y0]) := by
    intro y0 M bq H locs ls cells slots hp hM hS hB hl
    exact x_fret X hr hlk hM hS (w_fin hB) dX1_withdrawnShare_83 ⟨_, rfl, hp⟩
  have hB45 : ∀ (rec15 : Nat → Int32 → Option Nat → wM → Nat → Prop) (hrec15 : ∀ (x0 : Nat) (x1 : Int32) (x2 : Option Nat) (M : wM) (bq : Nat) (H : Heap) (locs : List Loc) (ls : Array Slot) (cells slots : Nat), rec15 x0 x1 x2 M bq → wR G M H → va_S (wA G) s.heap H locs → (cells + bq ≤ ((headSpec (ws_ yX1_withdrawnShare cX1_withdrawnShare 4 (Option.some Jvm.ClassFile.FieldType.float)) ({ frames := 14, cells := b, slots := b, locals := 442 })).room).cells ∧ slots + bq ≤ ((headSpec (ws_ yX1_withdrawnShare cX1_withdrawnShare 4 (Option.some Jvm.ClassFile.FieldType.float)) ({ frames := 14, cells := b, slots := b, locals := 442 })).room).slots) → lv_has ls 4 [(0, .ref x0), (1, .int x1), (2, va_rf x2)] → W p l e (headSpec (ws_ yX1_withdrawnShare cX1_withdrawnShare 4 (Option.some Jvm.ClassFile.FieldType.float)) ({ frames := 14, cells := b, slots := b, locals := 442 })).room s m ([.ref t0] : List Value).toArray below meth c H locs cells slots (vx_MQ below (wQ G (wqF Q)) (wXC G wX0) ([.ref t0] : List Value).toArray s b b (wA G)) (F0 m 15 ls [])), ∀ (x0 : Nat) (x1 : Int32) (x2 : Nat) (M : wM) (bq : Nat) (H : Heap) (locs : List Loc) (ls : Array Slot) (cells slots : Nat), B_X1_withdrawnShare_45 G rec15 Q x0 x1 x2 M bq → wR G M H → va_S (wA G) s.heap H locs → (cells + bq ≤ ((headSpec (ws_ yX1_withdrawnShare cX1_withdrawnShare 4 (Option.some Jvm.ClassFile.FieldType.float)) ({ frames := 14, cells := b, slots := b, locals := 442 })).room).cells ∧ slots + bq ≤ ((headSpec (ws_ yX1_withdrawnShare cX1_withdrawnShare 4 (Option.some Jvm.ClassFile.FieldType.float)) ({ frames := 14, cells := b, slots := b, locals := 442 })).room).slots) → lv_has ls 4 [(0, .ref x0), (1, .int x1), (2, .ref x2)] → W p l e (headSpec (ws_ yX1_withdrawnShare cX1_withdrawnShare 4 (Option.some Jvm.ClassFile.FieldType.float)) ({ frames := 14, cells := b, slots := b, locals := 442 })).room s m ([.ref t0] : List Value).toArray below meth c H locs cells slots (vx_MQ below (wQ G (wqF Q)) (wXC G wX0) ([.ref t0] : List Value).toArray s b b (wA G)) (F0 m 45 ls []) := by
    intro rec15 hrec15 x0 x1 x2 M bq H locs ls cells slots hp hM hS hB hl
    refine lv_goto (tgt := 15) hx hb dX1_withdrawnShare_45 (by decide) ?_
    exact hrec15 _ _ _ _ _ _ _ _ _ _ hp hM hS hB (lv_sub hl [0, 1, 2] rfl)
  have hB15 : ∀ (rec15 : Nat → Int32 → Option Nat → wM → Nat → Prop) (hrec15 : ∀ (x0 : Nat) (x1 : Int32) (x2 : Option Nat) (M : wM) (bq : Nat) (H : Heap) (locs : List Loc) (ls : Array Slot) (cells slots : Nat), rec15 x0 x1 x2 M bq → wR G M H → va_S (wA G) s.heap H locs → (cells + bq ≤ ((headSpec (ws_ yX1_withdrawnShare cX1_withdrawnShare 4 (Option.some Jvm.ClassFile.FieldType.float)) ({ frames := 14, cells := b, slots := b, locals := 442 })).room).cells ∧ slots + bq ≤ ((headSpec (ws_ yX1_withdrawnShare cX1_withdrawnShare 4 (Option.some Jvm.ClassFile.FieldType.float)) ({ frames := 14, cells := b, slots := b, locals := 442 })).room).slots) → lv_has ls 4 [(0, .ref x0), (1, .int x1), (2, va_rf x2)] → W p l e (headSpec (ws_ yX1_withdrawnShare cX1_withdrawnShare 4 (Option.some Jvm.ClassFile.FieldType.float)) ({ frames := 14, cells := b, slots := b, locals := 442 })).room s m ([.ref t0] : List Value).toArray below meth c H locs cells slots (vx_MQ below (wQ G (wqF Q)) (wXC G wX0) ([.ref t0] : List Value).toArray s b b (wA G)) (F0 m 15 ls [])), ∀ (x0 : Nat) (x1 : Int32) (x2 : Option Nat) (M : wM) (bq : Nat) (H : Heap) (locs : List Loc) (ls : Array Slot) (cells slots : Nat), B_X1_withdrawnShare_15 G rec15 Q x0 x1 x2 M bq → wR G M H → va_S (wA G) s.heap H locs → (cells + bq ≤ ((headSpec (ws_ yX1_withdrawnShare cX1_withdrawnShare 4 (Option.some Jvm.ClassFile.FieldType.float)) ({ frames := 14, cells := b, slots := b, locals := 442 })).room).cells ∧ slots + bq ≤ ((headSpec (ws_ yX1_withdrawnShare cX1_withdrawnShare 4 (Option.some Jvm.ClassFile.FieldType.float)) ({ frames := 14, cells := b, slots := b, locals := 442 })).room).slots) → lv_has ls 4 [(0, .ref x0), (1, .int x1), (2, va_rf x2)] → W p l e (headSpec (ws_ yX1_withdrawnShare cX1_withdrawnShare 4 (Option.some Jvm.ClassFile.FieldType.float)) ({ frames := 14, cells := b, slots := b, locals := 442 })).room s m ([.ref t0] : List Value).toArray below meth c H locs cells slots (vx_MQ below (wQ G (wqF Q)) (wXC G wX0) ([.ref t0] : List Value).toArray s b b (wA G)) (F0 m 15 ls []) := by
    intro rec15 hrec15 x0 x1 x2 M bq H locs ls cells slots hp hM hS hB hl
    refine x_aload_n (r := x2) hx hb dX1_withdrawnShare_15 rfl (lv_at hl 2 rfl) ?_
    obtain ⟨a1, ea, hqa1⟩ := hp
    subst ea
    have hp := hqa1
    have hl : lv_has ls 4 [(0, .ref x0), (1, .int x1), (2, .ref a1)] := hl
    obtain ⟨hrec, hp⟩ := hp
    refine x_call0Z5 (vx_runF (hC.1.1.1 20 (RJ32, TJ32, 4) rfl).2 (C := "java/util/ArrayList$Itr") (As := []) (rest := []) X (P_J32_hasNext_ok (l := l) hl0 hp) (va_cwF 0 hts (lw_app (w_mem4 q2016 q1803 q1805 q190) (lw_meth q1807)) rfl rfl rfl (wfw_14 hC.1) (by decide +kernel) ⟨Nat.le_of_ble_eq_true rfl, Nat.le_of_ble_eq_true rfl⟩) ⟨wPc.blind, w_recv hC.1 hM (ci := 20) (q := (RJ32, TJ32, 4)) rfl hrec, w_pre hC hM hS _⟩ rfl rfl hl.1 rfl (lv_room (Nat.le_of_ble_eq_true rfl)) dX1_withdrawnShare_16 (w_room0 hB)) hS (w_room0 hB) (fun _ _ _ _ _ _ h => False.elim h) (fun r4 M2 H locs hp hM hS => ?_)
    refine x_ifeqB (tgt := 48) hx hb dX1_withdrawnShare_21 (by decide) (fun hc => ?_) (fun hc => ?_)
    · have hp := oIf.bf hp hc
      refine lv_aload_n hx hb dX1_withdrawnShare_48 rfl (lv_at hl 0 rfl) ?_
      refine x_getA X hC.1 hM (ci := 0) (C := RX1) (T := TX1) (N := 8) rfl in_X1 0 (by decide) q973 (fun _ h9 => h9) dX1_withdrawnShare_49 hp (fun a5 hp => ?_)
      refine x_getAN X hC.1 hM (ci := 1) (C := RX2) (T := TX2) (N := 9) rfl in_X2 4 (by decide) q926 (fun _ h9 => h9) dX1_withdrawnShare_52 hp (fun a6 hp => ?_)
      obtain ⟨hrec, hp⟩ := hp
      refine x_call0Z5 (vx_runF (hC.1.1.1 16 (RJ2, TJ2, 3) rfl).2 (C := "java/util/ArrayList") (As := []) (rest := []) X (P_J2_isEmpty_ok (l := l) hl0 hp) (va_cwF 0 hts (lw_app (w_mem4 q2021 q2024 q2026 q153) (lw_meth q2028)) rfl rfl rfl (wfw_10 hC.1) (by decide +kernel) ⟨Nat.le_of_ble_eq_true rfl, Nat.le_of_ble_eq_true rfl⟩) ⟨wPc.blind, w_recv hC.1 hM (ci := 16) (q := (RJ2, TJ2, 3)) rfl hrec, w_pre hC hM hS _⟩ rfl rfl hl.1 rfl (lv_room (Nat.le_of_ble_eq_true rfl)) dX1_withdrawnShare_55 (w_room0 hB)) hS (w_room0 hB) (fun _ _ _ _ _ _ h => False.elim h) (fun r9 M7 H locs hp hM hS => ?_)
      refine x_ifeqB (tgt := 67) hx hb dX1_withdrawnShare_60 (by decide) (fun hc => ?_) (fun hc => ?_)
      · have hp := oIf.bf hp hc
        refine lv_iload_n hx hb dX1_withdrawnShare_67 rfl (lv_at hl 1 rfl) ?_
        refine lv_i2f hx hb dX1_withdrawnShare_68 ?_
        refine lv_aload_n hx hb dX1_withdrawnShare_69 rfl (lv_at hl 0 rfl) ?_
        refine x_getA X hC.1 hM (ci := 0) (C := RX1) (T := TX1) (N := 8) rfl in_X1 0 (by decide) q973 (fun _ h9 => h9) dX1_withdrawnShare_70 hp (fun a10 hp => ?_)
        refine x_getAN X hC.1 hM (ci := 1) (C := RX2) (T := TX2) (N := 9) rfl in_X2 4 (by decide) q926 (fun _ h9 => h9) dX1_withdrawnShare_73 hp (fun a11 hp => ?_)
        obtain ⟨hrec, hp⟩ := hp
        refine x_call0I5 (vx_runF (hC.1.1.1 16 (RJ2, TJ2, 3) rfl).2 (C := "java/util/ArrayList") (As := []) (rest := [.float (FP.i2f x1)]) X (P_J2_size_ok (l := l) hl0 hp) (va_cwF 0 hts (lw_app (w_mem4 q1540 q496 q498 q153) (lw_meth q500)) rfl rfl rfl (wfw_13 hC.1) (by decide +kernel) ⟨Nat.le_of_ble_eq_true rfl, Nat.le_of_ble_eq_true rfl⟩) ⟨wPc.blind, w_recv hC.1 hM (ci := 16) (q := (RJ2, TJ2, 3)) rfl hrec, w_pre hC hM hS _⟩ rfl rfl hl.1 rfl (lv_room (Nat.le_of_ble_eq_true rfl)) dX1_withdrawnShare_76 (w_room0 hB)) hS (w_room0 hB) (fun _ _ _ _ _ _ h => False.elim h) (fun v14 M12 H locs hp hM hS => ?_)
        refine lv_i2f hx hb dX1_withdrawnShare_81 ?_
        refine lv_fdiv hx hb dX1_withdrawnShare_82 hp.1 ?_
        have hp := hp.2
        exact hB83 _ _ _ _ _ _ _ _ hp hM hS hB (lv_sub hl [] rfl)
      · have hp := oIf.bt hp hc
        refine lv_fconst0 hx hb dX1_withdrawnShare_63 ?_
        refine lv_goto (tgt := 83) hx hb dX1_withdrawnShare_64 (by decide) ?_
        exact hB83 _ _ _ _ _ _ _ _ hp hM hS hB (lv_sub hl [] rfl)
    · have hp := oIf.bt hp hc
      refine lv_aload_n hx hb dX1_withdrawnShare_24 rfl (lv_at hl 2 rfl) ?_
      obtain ⟨hrec, hp⟩ := hp
      refine x_call0R5 (vx_runF (hC.1.1.1 20 (RJ32, TJ32, 4) rfl).2 (C := "java/util/ArrayList$Itr") (As := []) (rest := []) X (P_J32_next_ok (l := l) hl0 hp) (va_cwF 0 hts (lw_app (w_mem4 q2018 q1919 q1921 q190) (lw_meth q1923)) rfl rfl rfl (wfw_15 hC.1) (by decide +kernel) ⟨Nat.le_of_ble_eq_true rfl, Nat.le_of_ble_eq_true rfl⟩) ⟨wPc.blind, w_recv hC.1 hM (ci := 20) (q := (RJ32, TJ32, 4)) rfl hrec, w_pre hC hM hS _⟩ rfl rfl hl.1 rfl (lv_room (Nat.le_of_ble_eq_true rfl)) dX1_withdrawnShare_25 (w_room0 hB)) hS (w_room0 hB) (fun _ _ _ _ _ _ h => False.elim h) (fun r17 M15 H locs hp hM hS => ?_)
      refine x_cast (r := r17) X hC.1 hM q2019 (ci := 15) rfl (Or.inl rfl) dX1_withdrawnShare_30 hp (fun hp => ?_)
      refine x_astore_n (r := r17) (lv' := [(3, va_rf r17), (0, .ref x0), (1, .int x1), (2, .ref a1)]) hx hb dX1_withdrawnShare_33 rfl hl (by decide) rfl (fun ls hl => ?_)
      refine x_aload_n (r := r17) hx hb dX1_withdrawnShare_34 rfl (lv_at hl 0 rfl) ?_
      obtain ⟨a18, ea, hqa18⟩ := hp
      subst ea
      have hp := hqa18
      have hl : lv_has ls 4 [(3, .ref a18), (0, .ref x0), (1, .int x1), (2, .ref a1)] := hl
      refine x_getIN X hC.1 hM (ci := 15) (C := RX19) (T := TX19) (N := 6) rfl in_X19 5 (by decide) q2914 (fun _ h9 => h9) dX1_withdrawnShare_35 hp (fun v19 hp => ?_)
      refine lv_iconst (v := 1) hx hb dX1_withdrawnShare_38 (by decide) ?_
      refine lv_icmp_ne (tgt := 45) hx hb dX1_withdrawnShare_39 (by decide) (fun hc => ?_) (fun hc => ?_)
      · have hp := oIf.f hp hc
        exact hB45 rec15 hrec15 _ _ _ _ _ _ _ _ _ _ hp hM hS hB (lv_sub hl [1, 2, 3] rfl)
      · have hp := oIf.t hp hc
        refine lv_iinc (v := (x1 + 1)) (lv' := [(1, .int (x1 + 1)), (3, .ref a18), (0, .ref x0), (2, .ref a1)]) hx hb dX1_withdrawnShare_42 hl (k := 2) rfl rfl (by decide) rfl (fun ls hl => ?_)
        exact hB45 rec15 hrec15 _ _ _ _ _ _ _ _ _ _ hp hM hS hB (lv_sub hl [2, 0, 3] rfl)
  have hL15 : ∀ (n : Nat), ∀ (x0 : Nat) (x1 : Int32) (x2 : Option Nat) (M : wM) (bq : Nat) (H : Heap) (locs : List Loc) (ls : Array Slot) (cells slots : Nat), L_X1_withdrawnShare_15 G Q n x0 x1 x2 M bq → wR G M H → va_S (wA G) s.heap H locs → (cells + bq ≤ ((headSpec (ws_ yX1_withdrawnShare cX1_withdrawnShare 4 (Option.some Jvm.ClassFile.FieldType.float)) ({ frames := 14, cells := b, slots := b, locals := 442 })).room).cells ∧ slots + bq ≤ ((headSpec (ws_ yX1_withdrawnShare cX1_withdrawnShare 4 (Option.some Jvm.ClassFile.FieldType.float)) ({ frames := 14, cells := b, slots := b, locals := 442 })).room).slots) → lv_has ls 4 [(0, .ref x0), (1, .int x1), (2, va_rf x2)] → W p l e (headSpec (ws_ yX1_withdrawnShare cX1_withdrawnShare 4 (Option.some Jvm.ClassFile.FieldType.float)) ({ frames := 14, cells := b, slots := b, locals := 442 })).room s m ([.ref t0] : List Value).toArray below meth c H locs cells slots (vx_MQ below (wQ G (wqF Q)) (wXC G wX0) ([.ref t0] : List Value).toArray s b b (wA G)) (F0 m 15 ls []) := by
    intro n
    induction n with
    | zero => intro _ _ _ _ _ _ _ _ _ _ hp; exact False.elim hp
    | succ n ih => intro x0 x1 x2 M bq H locs ls cells slots hp hM hS hB hl; exact hB15 (L_X1_withdrawnShare_15 G Q n) ih _ _ _ _ _ _ _ _ _ _ hp hM hS hB hl
  refine lv_iconst (v := 0) hx hb dX1_withdrawnShare_0 (by decide) ?_
  refine lv_istore_n (lv' := [(1, .int (0 : Int32)), (0, .ref t0)]) hx hb dX1_withdrawnShare_1 rfl hl (by decide) rfl (fun ls hl => ?_)
  refine lv_aload_n hx hb dX1_withdrawnShare_2 rfl (lv_at hl 1 rfl) ?_
  refine x_getA X hC.1 hM (ci := 0) (C := RX1) (T := TX1) (N := 8) rfl in_X1 0 (by decide) q973 (fun _ h9 => h9) dX1_withdrawnShare_3 hp (fun a1 hp => ?_)
  refine x_getAN X hC.1 hM (ci := 1) (C := RX2) (T := TX2) (N := 9) rfl in_X2 4 (by decide) q926 (fun _ h9 => h9) dX1_withdrawnShare_6 hp (fun a2 hp => ?_)
  obtain ⟨hrec, hp⟩ := hp
  obtain ⟨c4, hc1, hp⟩ := hp
  refine x_callR5 (vx_runF (hC.1.1.1 16 (RJ2, TJ2, 3) rfl).2 (C := "java/util/ArrayList") (As := []) (rest := []) X (P_J2_iterator_ok (l := l) hl0 hp) (va_cwF 0 hts (lw_app (w_mem4 q1970 q1973 q1975 q153) (lw_meth q1977)) rfl rfl rfl (wfw_11 hC.1) (by decide +kernel) ⟨Nat.le_of_ble_eq_true rfl, Nat.le_of_ble_eq_true rfl⟩) ⟨wPc.blind, w_recv hC.1 hM (ci := 16) (q := (RJ2, TJ2, 3)) rfl hrec, w_pre hC hM hS _⟩ rfl rfl hl.1 rfl (lv_room (Nat.le_of_ble_eq_true rfl)) dX1_withdrawnShare_9 (w_room hB hc1)) hS hB hc1 (fun _ _ _ _ _ _ h => False.elim h) (fun r5 M3 H locs hp hM hS hB => ?_)
  refine x_astore_n (r := r5) (lv' := [(2, va_rf r5), (1, .int (0 : Int32)), (0, .ref t0)]) hx hb dX1_withdrawnShare_14 rfl hl (by decide) rfl (fun ls hl => ?_)
  obtain ⟨n, hp⟩ := hp
  exact hL15 n _ _ _ _ _ _ _ _ _ _ hp hM hS hB (lv_sub hl [2, 1, 0] rfl)
def B_X1_streetsIn_47 (G : wG) (rec15 : Int32 → Int32 → Option Nat → wM → Nat → Prop) (Q : Int32 → wM → Prop) (x1 : Int32) (x2 : Int32) (x3 : Nat) (M : wM) (bq : Nat) : Prop :=
  rec15 x1 x2 (some x3) M bq
def B_X1_streetsIn_15 (G : wG) (rec15 : Int32 → Int32 → Option Nat → wM → Nat → Prop) (Q : Int32 → wM → Prop) (x1 : Int32) (x2 : Int32) (x3 : Option Nat) (M : wM) (bq : Nat) : Prop :=
  oRef x3 (fun a1 => oIs M a1 20 (P_J32_hasNext G a1 M (fun r4 M2 => oIf (r4 = true) (oIs M2 a1 20 (P_J32_next G a1 M2 (fun r7 M5 => oCast M5 r7 7 (oRef r7 (fun a8 => oGetI M5 a8 7 0 (fun v9 => oIf (v9 = x1) (B_X1_streetsIn_47 G rec15 Q x1 (x2 + 1) a1 M5 bq) (B_X1_streetsIn_47 G rec15 Q x1 x2 a1 M5 bq))))))) (Q x2 M2))))
def L_X1_streetsIn_15 (G : wG) (Q : Int32 → wM → Prop) : Nat → Int32 → Int32 → Option Nat → wM → Nat → Prop
  | 0 => fun _ _ _ _ _ => False
  | n + 1 => B_X1_streetsIn_15 G (L_X1_streetsIn_15 G Q n) Q
def P_X1_streetsIn (G : wG) (t0 : Nat) (p1 : Int32) (b : Nat) (M : wM) (Q : Int32 → wM → Prop) : Prop :=
  oIs M t0 0 (P_X1_setup G t0 M (fun r3 M1 => oRef r3 (fun a4 => oGetA M1 a4 2 1 (fun a5 => oIs M1 a5 16 (∃ c7, c7 ≤ b ∧ P_J2_iterator G a5 c7 M1 (fun r8 M6 => ∃ n, L_X1_streetsIn_15 G Q n p1 (0 : Int32) r8 M6 (b - c7)))))))
set_option maxHeartbeats 4000000 in
set_option maxRecDepth 100000 in
theorem P_X1_streetsIn_ok {l : Launch} (hl0 : l.stackTraces = false) {G : wG} {t0 : Nat} {p1 : Int32} {b : Nat} {M : wM} {Q : Int32 → wM → Prop} (hp : P_X1_streetsIn G t0 p1 b M Q) : wMet l yX1_streetsIn (ws_ yX1_streetsIn cX1_streetsIn 5 (Option.some Jvm.ClassFile.FieldType.int)) 14 442 G [.ref t0, .int p1] M b (wqI Q) wX0 := by
  refine vx_ofW (cc := cX1_streetsIn) (maxL := 5) (ret := Option.some Jvm.ClassFile.FieldType.int) (by decide) rfl ?_
  intro p e s m args below meth c s₁ B hml hnt hv
  obtain ⟨rfl, hM, hK, hZ, hz⟩ := hv
  have hC : wC G s := ⟨hK, hZ, hz⟩
  have hx := B.exec
  have hb := B.bytes
  have hr := B.returns
  have hts := atoms_spec (ws := (ws_ yX1_streetsIn cX1_streetsIn 5 (Option.some Jvm.ClassFile.FieldType.int))) B.pre
  have hts : ∀ w ∈ lw_all, w.before _ s = true := fun w h => hts w (List.mem_cons_of_mem _ h)
  have hown : s.vm.findClass RX1 = some m.cls := findClass_of_methodNamed B.named
  have hlk := B.notSynchronized
  have X : CallFix p m c cX1_streetsIn 5 s ([.ref t0, .int p1] : List Value).toArray lw_all RX1 := ⟨hx, hb, hml, hown, hts⟩
  have hS : va_S (wA G) s.heap s.heap [] := va_S.rf
  have hl := lv_entry ([.ref t0, .int p1]) (n := 5) (Nat.le_of_ble_eq_true rfl)
  rw [lg_entry_eq]
  generalize (lg_sl ([.ref t0, .int p1]) ++ List.replicate (5 - (lg_sl ([.ref t0, .int p1])).length) Slot.unset).toArray = ls at hl ⊢
  have hl : lv_has ls 5 [(0, .ref t0), (1, .int p1)] := hl
  have hB : 0 + b ≤ ((headSpec (ws_ yX1_streetsIn cX1_streetsIn 5 (Option.some Jvm.ClassFile.FieldType.int)) ({ frames := 14, cells := b, slots := b, locals := 442 })).room).cells ∧ 0 + b ≤ ((headSpec (ws_ yX1_streetsIn cX1_streetsIn 5 (Option.some Jvm.ClassFile.FieldType.int)) ({ frames := 14, cells := b, slots := b, locals := 442 })).room).slots := ⟨Nat.le_of_eq (Nat.zero_add b), Nat.le_of_eq (Nat.zero_add b)⟩
  have hB47 : ∀ (rec15 : Int32 → Int32 → Option Nat → wM → Nat → Prop) (hrec15 : ∀ (x1 : Int32) (x2 : Int32) (x3 : Option Nat) (M : wM) (bq : Nat) (H : Heap) (locs : List Loc) (ls : Array Slot) (cells slots : Nat), rec15 x1 x2 x3 M bq → wR G M H → va_S (wA G) s.heap H locs → (cells + bq ≤ ((headSpec (ws_ yX1_streetsIn cX1_streetsIn 5 (Option.some Jvm.ClassFile.FieldType.int)) ({ frames := 14, cells := b, slots := b, locals := 442 })).room).cells ∧ slots + bq ≤ ((headSpec (ws_ yX1_streetsIn cX1_streetsIn 5 (Option.some Jvm.ClassFile.FieldType.int)) ({ frames := 14, cells := b, slots := b, locals := 442 })).room).slots) → lv_has ls 5 [(1, .int x1), (2, .int x2), (3, va_rf x3)] → W p l e (headSpec (ws_ yX1_streetsIn cX1_streetsIn 5 (Option.some Jvm.ClassFile.FieldType.int)) ({ frames := 14, cells := b, slots := b, locals := 442 })).room s m ([.ref t0, .int p1] : List Value).toArray below meth c H locs cells slots (vx_MQ below (wQ G (wqI Q)) (wXC G wX0) ([.ref t0, .int p1] : List Value).toArray s b b (wA G)) (F0 m 15 ls [])), ∀ (x1 : Int32) (x2 : Int32) (x3 : Nat) (M : wM) (bq : Nat) (H : Heap) (locs : List Loc) (ls : Array Slot) (cells slots : Nat), B_X1_streetsIn_47 G rec15 Q x1 x2 x3 M bq → wR G M H → va_S (wA G) s.heap H locs → (cells + bq ≤ ((headSpec (ws_ yX1_streetsIn cX1_streetsIn 5 (Option.some Jvm.ClassFile.FieldType.int)) ({ frames := 14, cells := b, slots := b, locals := 442 })).room).cells ∧ slots + bq ≤ ((headSpec (ws_ yX1_streetsIn cX1_streetsIn 5 (Option.some Jvm.ClassFile.FieldType.int)) ({ frames := 14, cells := b, slots := b, locals := 442 })).room).slots) → lv_has ls 5 [(1, .int x1), (2, .int x2), (3, .ref x3)] → W p l e (headSpec (ws_ yX1_streetsIn cX1_streetsIn 5 (Option.some Jvm.ClassFile.FieldType.int)) ({ frames := 14, cells := b, slots := b, locals := 442 })).room s m ([.ref t0, .int p1] : List Value).toArray below meth c H locs cells slots (vx_MQ below (wQ G (wqI Q)) (wXC G wX0) ([.ref t0, .int p1] : List Value).toArray s b b (wA G)) (F0 m 47 ls []) := by
    intro rec15 hrec15 x1 x2 x3 M bq H locs ls cells slots hp hM hS hB hl
    refine lv_goto (tgt := 15) hx hb dX1_streetsIn_47 (by decide) ?_
    exact hrec15 _ _ _ _ _ _ _ _ _ _ hp hM hS hB (lv_sub hl [0, 1, 2] rfl)
  have hB15 : ∀ (rec15 : Int32 → Int32 → Option Nat → wM → Nat → Prop) (hrec15 : ∀ (x1 : Int32) (x2 : Int32) (x3 : Option Nat) (M : wM) (bq : Nat) (H : Heap) (locs : List Loc) (ls : Array Slot) (cells slots : Nat), rec15 x1 x2 x3 M bq → wR G M H → va_S (wA G) s.heap H locs → (cells + bq ≤ ((headSpec (ws_ yX1_streetsIn cX1_streetsIn 5 (Option.some Jvm.ClassFile.FieldType.int)) ({ frames := 14, cells := b, slots := b, locals := 442 })).room).cells ∧ slots + bq ≤ ((headSpec (ws_ yX1_streetsIn cX1_streetsIn 5 (Option.some Jvm.ClassFile.FieldType.int)) ({ frames := 14, cells := b, slots := b, locals := 442 })).room).slots) → lv_has ls 5 [(1, .int x1), (2, .int x2), (3, va_rf x3)] → W p l e (headSpec (ws_ yX1_streetsIn cX1_streetsIn 5 (Option.some Jvm.ClassFile.FieldType.int)) ({ frames := 14, cells := b, slots := b, locals := 442 })).room s m ([.ref t0, .int p1] : List Value).toArray below meth c H locs cells slots (vx_MQ below (wQ G (wqI Q)) (wXC G wX0) ([.ref t0, .int p1] : List Value).toArray s b b (wA G)) (F0 m 15 ls [])), ∀ (x1 : Int32) (x2 : Int32) (x3 : Option Nat) (M : wM) (bq : Nat) (H : Heap) (locs : List Loc) (ls : Array Slot) (cells slots : Nat), B_X1_streetsIn_15 G rec15 Q x1 x2 x3 M bq → wR G M H → va_S (wA G) s.heap H locs → (cells + bq ≤ ((headSpec (ws_ yX1_streetsIn cX1_streetsIn 5 (Option.some Jvm.ClassFile.FieldType.int)) ({ frames := 14, cells := b, slots := b, locals := 442 })).room).cells ∧ slots + bq ≤ ((headSpec (ws_ yX1_streetsIn cX1_streetsIn 5 (Option.some Jvm.ClassFile.FieldType.int)) ({ frames := 14, cells := b, slots := b, locals := 442 })).room).slots) → lv_has ls 5 [(1, .int x1), (2, .int x2), (3, va_rf x3)] → W p l e (headSpec (ws_ yX1_streetsIn cX1_streetsIn 5 (Option.some Jvm.ClassFile.FieldType.int)) ({ frames := 14, cells := b, slots := b, locals := 442 })).room s m ([.ref t0, .int p1] : List Value).toArray below meth c H locs cells slots (vx_MQ below (wQ G (wqI Q)) (wXC G wX0) ([.ref t0, .int p1] : List Value).toArray s b b (wA G)) (F0 m 15 ls []) := by
    intro rec15 hrec15 x1 x2 x3 M bq H locs ls cells slots hp hM hS hB hl
    refine x_aload_n (r := x3) hx hb dX1_streetsIn_15 rfl (lv_at hl 2 rfl) ?_
    obtain ⟨a1, ea, hqa1⟩ := hp
    subst ea
    have hp := hqa1
    have hl : lv_has ls 5 [(1, .int x1), (2, .int x2), (3, .ref a1)] := hl
    obtain ⟨hrec, hp⟩ := hp
    refine x_call0Z5 (vx_runF (hC.1.1.1 20 (RJ32, TJ32, 4) rfl).2 (C := "java/util/ArrayList$Itr") (As := []) (rest := []) X (P_J32_hasNext_ok (l := l) hl0 hp) (va_cwF 0 hts (lw_app (w_mem4 q2016 q1803 q1805 q190) (lw_meth q1807)) rfl rfl rfl (wfw_14 hC.1) (by decide +kernel) ⟨Nat.le_of_ble_eq_true rfl, Nat.le_of_ble_eq_true rfl⟩) ⟨wPc.blind, w_recv hC.1 hM (ci := 20) (q := (RJ32, TJ32, 4)) rfl hrec, w_pre hC hM hS _⟩ rfl rfl hl.1 rfl (lv_room (Nat.le_of_ble_eq_true rfl)) dX1_streetsIn_16 (w_room0 hB)) hS (w_room0 hB) (fun _ _ _ _ _ _ h => False.elim h) (fun r4 M2 H locs hp hM hS => ?_)
    refine x_ifeqB (tgt := 50) hx hb dX1_streetsIn_21 (by decide) (fun hc => ?_) (fun hc => ?_)
    · have hp := oIf.bf hp hc
      refine lv_iload_n hx hb dX1_streetsIn_50 rfl (lv_at hl 1 rfl) ?_
      exact x_iret X hr hlk hM hS (w_fin hB) dX1_streetsIn_51 ⟨_, rfl, hp⟩
    · have hp := oIf.bt hp hc
      refine lv_aload_n hx hb dX1_streetsIn_24 rfl (lv_at hl 2 rfl) ?_
      obtain ⟨hrec, hp⟩ := hp
      refine x_call0R5 (vx_runF (hC.1.1.1 20 (RJ32, TJ32, 4) rfl).2 (C := "java/util/ArrayList$Itr") (As := []) (rest := []) X (P_J32_next_ok (l := l) hl0 hp) (va_cwF 0 hts (lw_app (w_mem4 q2018 q1919 q1921 q190) (lw_meth q1923)) rfl rfl rfl (wfw_15 hC.1) (by decide +kernel) ⟨Nat.le_of_ble_eq_true rfl, Nat.le_of_ble_eq_true rfl⟩) ⟨wPc.blind, w_recv hC.1 hM (ci := 20) (q := (RJ32, TJ32, 4)) rfl hrec, w_pre hC hM hS _⟩ rfl rfl hl.1 rfl (lv_room (Nat.le_of_ble_eq_true rfl)) dX1_streetsIn_25 (w_room0 hB)) hS (w_room0 hB) (fun _ _ _ _ _ _ h => False.elim h) (fun r7 M5 H locs hp hM hS => ?_)
      refine x_cast (r := r7) X hC.1 hM q2217 (ci := 7) rfl (Or.inl rfl) dX1_streetsIn_30 hp (fun hp => ?_)
      refine x_astore (r := r7) (lv' := [(4, va_rf r7), (1, .int x1), (2, .int x2), (3, .ref a1)]) hx hb dX1_streetsIn_33 hl (by decide) rfl (fun ls hl => ?_)
      refine x_aload (r := r7) hx hb dX1_streetsIn_35 (lv_at hl 0 rfl) ?_
      obtain ⟨a8, ea, hqa8⟩ := hp
      subst ea
      have hp := hqa8
      have hl : lv_has ls 5 [(4, .ref a8), (1, .int x1), (2, .int x2), (3, .ref a1)] := hl
      refine x_getIN X hC.1 hM (ci := 7) (C := RX8) (T := TX8) (N := 3) rfl in_X8 0 (by decide) q1441 (fun _ h9 => h9) dX1_streetsIn_37 hp (fun v9 hp => ?_)
      refine lv_iload_n hx hb dX1_streetsIn_40 rfl (lv_at hl 1 rfl) ?_
      refine lv_icmp_ne (tgt := 47) hx hb dX1_streetsIn_41 (by decide) (fun hc => ?_) (fun hc => ?_)
      · have hp := oIf.f hp hc
        exact hB47 rec15 hrec15 _ _ _ _ _ _ _ _ _ _ hp hM hS hB (lv_sub hl [1, 2, 3] rfl)
      · have hp := oIf.t hp hc
        refine lv_iinc (v := (x2 + 1)) (lv' := [(2, .int (x2 + 1)), (4, .ref a8), (1, .int x1), (3, .ref a1)]) hx hb dX1_streetsIn_44 hl (k := 2) rfl rfl (by decide) rfl (fun ls hl => ?_)
        exact hB47 rec15 hrec15 _ _ _ _ _ _ _ _ _ _ hp hM hS hB (lv_sub hl [2, 0, 3] rfl)
  have hL15 : ∀ (n : Nat), ∀ (x1 : Int32) (x2 : Int32) (x3 : Option Nat) (M : wM) (bq : Nat) (H : Heap) (locs : List Loc) (ls : Array Slot) (cells slots : Nat), L_X1_streetsIn_15 G Q n x1 x2 x3 M bq → wR G M H → va_S (wA G) s.heap H locs → (cells + bq ≤ ((headSpec (ws_ yX1_streetsIn cX1_streetsIn 5 (Option.some Jvm.ClassFile.FieldType.int)) ({ frames := 14, cells := b, slots := b, locals := 442 })).room).cells ∧ slots + bq ≤ ((headSpec (ws_ yX1_streetsIn cX1_streetsIn 5 (Option.some Jvm.ClassFile.FieldType.int)) ({ frames := 14, cells := b, slots := b, locals := 442 })).room).slots) → lv_has ls 5 [(1, .int x1), (2, .int x2), (3, va_rf x3)] → W p l e (headSpec (ws_ yX1_streetsIn cX1_streetsIn 5 (Option.some Jvm.ClassFile.FieldType.int)) ({ frames := 14, cells := b, slots := b, locals := 442 })).room s m ([.ref t0, .int p1] : List Value).toArray below meth c H locs cells slots (vx_MQ below (wQ G (wqI Q)) (wXC G wX0) ([.ref t0, .int p1] : List Value).toArray s b b (wA G)) (F0 m 15 ls []) := by
    intro n
    induction n with
    | zero => intro _ _ _ _ _ _ _ _ _ _ hp; exact False.elim hp
    | succ n ih => intro x1 x2 x3 M bq H locs ls cells slots hp hM hS hB hl; exact hB15 (L_X1_streetsIn_15 G Q n) ih _ _ _ _ _ _ _ _ _ _ hp hM hS hB hl
  refine lv_iconst (v := 0) hx hb dX1_streetsIn_0 (by decide) ?_
  refine lv_istore_n (lv' := [(2, .int (0 : Int32)), (0, .ref t0), (1, .int p1)]) hx hb dX1_streetsIn_1 rfl hl (by decide) rfl (fun ls hl => ?_)
  refine lv_aload_n hx hb dX1_streetsIn_2 rfl (lv_at hl 1 rfl) ?_
  obtain ⟨hrec, hp⟩ := hp
  refine x_call0R (vx_runV (As := []) (rest := []) X (P_X1_setup_ok (l := l) hl0 hp) (cwV 0 hts (lw_V q1535 q1537 qs29 q148 q1538) rfl rfl rfl (by decide +kernel) ⟨Nat.le_of_ble_eq_true rfl, Nat.le_of_ble_eq_true rfl⟩) ⟨wPc.blind, w_recv hC.1 hM (ci := 0) (q := (RX1, TX1, 8)) rfl hrec, w_pre hC hM hS _⟩ rfl rfl hl.1 rfl (lv_room (Nat.le_of_ble_eq_true rfl)) dX1_streetsIn_3 (w_room0 hB)) hS (w_room0 hB) (fun _ _ _ _ _ _ h => False.elim h) (fun r3 M1 H locs hp hM hS => ?_)
  obtain ⟨a4, ea, hqa4⟩ := hp
  subst ea
  have hp := hqa4
  refine x_getAN X hC.1 hM (ci := 2) (C := RX3) (T := TX3) (N := 8) rfl in_X3 1 (by decide) q401 (fun _ h9 => h9) dX1_streetsIn_6 hp (fun a5 hp => ?_)
  obtain ⟨hrec, hp⟩ := hp
  obtain ⟨c7, hc1, hp⟩ := hp
  refine x_callR5 (vx_runF (hC.1.1.1 16 (RJ2, TJ2, 3) rfl).2 (C := "java/util/ArrayList") (As := []) (rest := []) X (P_J2_iterator_ok (l := l) hl0 hp) (va_cwF 0 hts (lw_app (w_mem4 q1970 q1973 q1975 q153) (lw_meth q1977)) rfl rfl rfl (wfw_11 hC.1) (by decide +kernel) ⟨Nat.le_of_ble_eq_true rfl, Nat.le_of_ble_eq_true rfl⟩) ⟨wPc.blind, w_recv hC.1 hM (ci := 16) (q := (RJ2, TJ2, 3)) rfl hrec, w_pre hC hM hS _⟩ rfl rfl hl.1 rfl (lv_room (Nat.le_of_ble_eq_true rfl)) dX1_streetsIn_9 (w_room hB hc1)) hS hB hc1 (fun _ _ _ _ _ _ h => False.elim h) (fun r8 M6 H locs hp hM hS hB => ?_)
  refine x_astore_n (r := r8) (lv' := [(3, va_rf r8), (2, .int (0 : Int32)), (0, .ref t0), (1, .int p1)]) hx hb dX1_streetsIn_14 rfl hl (by decide) rfl (fun ls hl => ?_)
  obtain ⟨n, hp⟩ := hp
  exact hL15 n _ _ _ _ _ _ _ _ _ _ hp hM hS hB (lv_sub hl [3, 1, 0] rfl)

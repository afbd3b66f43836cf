set_option maxRecDepth 100000
def B_J19_hashCode_58 (G : wG) (Q : Int32 → wM → Prop) (x1 : Int32) (M : wM) : Prop :=
  Q x1 M
def B_J19_hashCode_40 (G : wG) (Q : Int32 → wM → Prop) (x0 : Nat) (y0 : Int32) (M : wM) : Prop :=
  oIf (y0 = 0) (oPut G M x0 24 3 (.int (1 : Int32)) (fun M2 => B_J19_hashCode_58 G Q y0 M2)) (oPut G M x0 24 2 (.int y0) (fun M1 => B_J19_hashCode_58 G Q y0 M1))
def P_J19_hashCode (G : wG) (t0 : Nat) (M : wM) (Q : Int32 → wM → Prop) : Prop :=
  oGetI M t0 24 2 (fun v1 => oIf (v1 = 0) (oGetI M t0 24 3 (fun v2 => oIf (v2 = 0) (oIs M t0 24 (P_J19_isLatin1 G t0 M (fun r5 M3 => oIf (r5 = true) (oGetA M3 t0 24 0 (fun a7 => P_J21_hashCode G a7 M3 (fun v10 M8 => B_J19_hashCode_40 G Q t0 v10 M8))) (False)))) (B_J19_hashCode_58 G Q v1 M))) (B_J19_hashCode_58 G Q v1 M))
set_option maxHeartbeats 4000000 in
set_option maxRecDepth 100000 in
theorem P_J19_hashCode_ok {l : Launch} (hl0 : l.stackTraces = false) {G : wG} {t0 : Nat} {M : wM} {Q : Int32 → wM → Prop} (hp : P_J19_hashCode G t0 M Q) : wMet l yJ19_hashCode (ws_ yJ19_hashCode cJ19_hashCode 2 (Option.some Jvm.ClassFile.FieldType.int)) 15 469 G [.ref t0] M 0 (wqI Q) wX0 := by
  refine vx_ofW (cc := cJ19_hashCode) (maxL := 2) (ret := Option.some Jvm.ClassFile.FieldType.int) (by decide) rfl ?_
  intro p e s m args below meth c s₁ B hml hnt hv
  obtain ⟨rfl, hM, hK, hZ, hz⟩ := hv
  have hC : wC G s := ⟨hK, hZ, hz⟩
  have hx := B.exec
  have hb := B.bytes
  have hr := B.returns
  have hts := atoms_spec (ws := (ws_ yJ19_hashCode cJ19_hashCode 2 (Option.some Jvm.ClassFile.FieldType.int))) B.pre
  have hts : ∀ w ∈ lw_all, w.before _ s = true := fun w h => hts w (List.mem_cons_of_mem _ h)
  have hown : s.vm.findClass RJ19 = some m.cls := findClass_of_methodNamed B.named
  have hlk := B.notSynchronized
  have X : CallFix p m c cJ19_hashCode 2 s ([.ref t0] : List Value).toArray lw_all RJ19 := ⟨hx, hb, hml, hown, hts⟩
  have hS : va_S (wA G) s.heap s.heap [] := va_S.rf
  have hl := lv_entry ([.ref t0]) (n := 2) (Nat.le_of_ble_eq_true rfl)
  rw [lg_entry_eq]
  generalize (lg_sl ([.ref t0]) ++ List.replicate (2 - (lg_sl ([.ref t0])).length) Slot.unset).toArray = ls at hl ⊢
  have hl : lv_has ls 2 [(0, .ref t0)] := hl
  have hB58 : ∀ (x1 : Int32) (M : wM) (H : Heap) (locs : List Loc) (ls : Array Slot), B_J19_hashCode_58 G Q x1 M → wR G M H → va_S (wA G) s.heap H locs → lv_has ls 2 [(1, .int x1)] → W p l e (headSpec (ws_ yJ19_hashCode cJ19_hashCode 2 (Option.some Jvm.ClassFile.FieldType.int)) ({ frames := 15, cells := 0, slots := 0, locals := 469 })).room s m ([.ref t0] : List Value).toArray below meth c H locs 0 0 (vx_MQ below (wQ G (wqI Q)) (wXC G wX0) ([.ref t0] : List Value).toArray s 0 0 (wA G)) (F0 m 58 ls []) := by
    intro x1 M H locs ls hp hM hS hl
    refine lv_iload_n hx hb dJ19_hashCode_58 rfl (lv_at hl 0 rfl) ?_
    exact x_iret X hr hlk hM hS ⟨Nat.le_refl _, Nat.le_refl _⟩ dJ19_hashCode_59 ⟨_, rfl, hp⟩
  have hB40 : ∀ (x0 : Nat) (y0 : Int32) (M : wM) (H : Heap) (locs : List Loc) (ls : Array Slot), B_J19_hashCode_40 G Q x0 y0 M → wR G M H → va_S (wA G) s.heap H locs → lv_has ls 2 [(0, .ref x0)] → W p l e (headSpec (ws_ yJ19_hashCode cJ19_hashCode 2 (Option.some Jvm.ClassFile.FieldType.int)) ({ frames := 15, cells := 0, slots := 0, locals := 469 })).room s m ([.ref t0] : List Value).toArray below meth c H locs 0 0 (vx_MQ below (wQ G (wqI Q)) (wXC G wX0) ([.ref t0] : List Value).toArray s 0 0 (wA G)) (F0 m 40 ls [.int y0]) := by
    intro x0 y0 M H locs ls hp hM hS hl
    refine lv_istore_n (lv' := [(1, .int y0), (0, .ref x0)]) hx hb dJ19_hashCode_40 rfl hl (by decide) rfl (fun ls hl => ?_)
    refine lv_iload_n hx hb dJ19_hashCode_41 rfl (lv_at hl 0 rfl) ?_
    refine lv_if_ne (tgt := 53) hx hb dJ19_hashCode_42 (by decide) (fun hc => ?_) (fun hc => ?_)
    · have hp := oIf.f hp hc
      refine lv_aload_n hx hb dJ19_hashCode_53 rfl (lv_at hl 1 rfl) ?_
      refine lv_iload_n hx hb dJ19_hashCode_54 rfl (lv_at hl 0 rfl) ?_
      refine x_put X hC.1 hM hS (ci := 24) (C := RJ19) (T := TJ19) (N := 4) rfl in_J19 tyJ19 tyJ19_ok nmJ19 2 (by decide) q859 (fun _ h9 => h9) rfl rfl rfl dJ19_hashCode_55 hp (fun M1 H locs hM hS hp => ?_)
      exact hB58 _ _ _ _ _ hp hM hS (lv_sub hl [0] rfl)
    · have hp := oIf.t hp hc
      refine lv_aload_n hx hb dJ19_hashCode_45 rfl (lv_at hl 1 rfl) ?_
      refine lv_iconst (v := 1) hx hb dJ19_hashCode_46 (by decide) ?_
      refine x_put X hC.1 hM hS (ci := 24) (C := RJ19) (T := TJ19) (N := 4) rfl in_J19 tyJ19 tyJ19_ok nmJ19 3 (by decide) q860 (fun _ h9 => h9) rfl (by decide) (by decide) dJ19_hashCode_47 hp (fun M2 H locs hM hS hp => ?_)
      refine lv_goto (tgt := 58) hx hb dJ19_hashCode_50 (by decide) ?_
      exact hB58 _ _ _ _ _ hp hM hS (lv_sub hl [0] rfl)
  refine lv_aload_n hx hb dJ19_hashCode_0 rfl (lv_at hl 0 rfl) ?_
  refine x_getI X hC.1 hM (ci := 24) (C := RJ19) (T := TJ19) (N := 4) rfl in_J19 2 (by decide) q859 (fun _ h9 => h9) dJ19_hashCode_1 hp (fun v1 hp => ?_)
  refine lv_istore_n (lv' := [(1, .int v1), (0, .ref t0)]) hx hb dJ19_hashCode_4 rfl hl (by decide) rfl (fun ls hl => ?_)
  refine lv_iload_n hx hb dJ19_hashCode_5 rfl (lv_at hl 0 rfl) ?_
  refine lv_if_ne (tgt := 58) hx hb dJ19_hashCode_6 (by decide) (fun hc => ?_) (fun hc => ?_)
  · have hp := oIf.f hp hc
    exact hB58 _ _ _ _ _ hp hM hS (lv_sub hl [0] rfl)
  · have hp := oIf.t hp hc
    refine lv_aload_n hx hb dJ19_hashCode_9 rfl (lv_at hl 1 rfl) ?_
    refine x_getI X hC.1 hM (ci := 24) (C := RJ19) (T := TJ19) (N := 4) rfl in_J19 3 (by decide) q860 (fun _ h9 => h9) dJ19_hashCode_10 hp (fun v2 hp => ?_)
    refine lv_if_ne (tgt := 58) hx hb dJ19_hashCode_13 (by decide) (fun hc => ?_) (fun hc => ?_)
    · have hp := oIf.f hp hc
      exact hB58 _ _ _ _ _ hp hM hS (lv_sub hl [0] rfl)
    · have hp := oIf.t hp hc
      refine lv_aload_n hx hb dJ19_hashCode_16 rfl (lv_at hl 1 rfl) ?_
      obtain ⟨hrec, hp⟩ := hp
      refine x_call0Z (vx_runV (As := []) (rest := []) X (P_J19_isLatin1_ok (l := l) hl0 hp) (cwV 0 hts (lw_V q1169 q1170 q1171 q171 q1172) rfl rfl rfl (by decide +kernel) ⟨Nat.le_of_ble_eq_true rfl, Nat.le_of_ble_eq_true rfl⟩) ⟨wPc.blind, w_recv hC.1 hM (ci := 24) (q := (RJ19, TJ19, 4)) rfl hrec, w_pre hC hM hS _⟩ rfl rfl hl.1 rfl (lv_room (Nat.le_of_ble_eq_true rfl)) dJ19_hashCode_17 ⟨Nat.le_refl _, Nat.le_refl _⟩) hS ⟨Nat.le_refl _, Nat.le_refl _⟩ (fun _ _ _ _ _ _ h => False.elim h) (fun r5 M3 H locs hp hM hS => ?_)
      refine x_ifeqB (tgt := 33) hx hb dJ19_hashCode_20 (by decide) (fun hc => ?_) (fun hc => ?_)
      · have hp := oIf.bf hp hc
        exact hp.elim
      · have hp := oIf.bt hp hc
        refine lv_aload_n hx hb dJ19_hashCode_23 rfl (lv_at hl 1 rfl) ?_
        refine x_getA X hC.1 hM (ci := 24) (C := RJ19) (T := TJ19) (N := 4) rfl in_J19 0 (by decide) q857 (fun _ h9 => h9) dJ19_hashCode_24 hp (fun a7 hp => ?_)
        refine x_call0I (vx_runS (As := [.ref a7]) (rest := []) X (P_J21_hashCode_ok (l := l) hl0 hp) (va_cwS 1 hts (lw_S q1173 q1174 q173 q1175) rfl rfl rfl (by decide +kernel) ⟨Nat.le_of_ble_eq_true rfl, Nat.le_of_ble_eq_true rfl⟩) ⟨wPc.blind, w_pre hC hM hS _⟩ rfl rfl hl.1 rfl (lv_room (Nat.le_of_ble_eq_true rfl)) dJ19_hashCode_27 ⟨Nat.le_refl _, Nat.le_refl _⟩) hS ⟨Nat.le_refl _, Nat.le_refl _⟩ (fun _ _ _ _ _ _ h => False.elim h) (fun v10 M8 H locs hp hM hS => ?_)
        refine lv_goto (tgt := 40) hx hb dJ19_hashCode_30 (by decide) ?_
        exact hB40 _ _ _ _ _ _ hp hM hS (lv_sub hl [1] rfl)
def B_X5_statement_315 (G : wG) (Q : wM → Prop) (Xp : String → Nat → wM → Prop) (M : wM) (bq : Nat) : Prop :=
  Q M
def B_X5_statement_172 (G : wG) (Q : wM → Prop) (Xp : String → Nat → wM → Prop) (x0 : Nat) (x2 : Int32) (M : wM) (bq : Nat) : Prop :=
  oIf (x2 = (0 : Int32)) (oIs M x0 4 (∃ c8, c8 ≤ bq ∧ P_X5_zone G x0 c8 M (fun M7 => B_X5_statement_315 G Q Xp M7 (bq - c8)) (fun E q9 M10 => (E = "ParkingOffice$ParseException" ∧ Xp E q9 M10)))) (oIf (x2 = (1 : Int32)) (oIs M x0 4 (∃ c12, c12 ≤ bq ∧ P_X5_street G x0 c12 M (fun M11 => B_X5_statement_315 G Q Xp M11 (bq - c12)) (fun E q13 M14 => (E = "ParkingOffice$ParseException" ∧ Xp E q13 M14)))) (oIf (x2 = (2 : Int32)) (oIs M x0 4 (∃ c16, c16 ≤ bq ∧ P_X5_house G x0 c16 M (fun M15 => B_X5_statement_315 G Q Xp M15 (bq - c16)) (fun E q17 M18 => (E = "ParkingOffice$ParseException" ∧ Xp E q17 M18)))) (oIf (x2 = (3 : Int32)) (oGetA M x0 4 1 (fun a19 => oIs M x0 4 (∃ c21, c21 ≤ bq ∧ P_X5_single G x0 (10 : Int32) (1 : Int32) (365 : Int32) c21 M (fun v22 M20 => oPut G M20 a19 2 5 (.int v22) (fun M23 => B_X5_statement_315 G Q Xp M23 (bq - c21))) (fun E q24 M25 => (E = "ParkingOffice$ParseException" ∧ Xp E q24 M25))))) (oIf (x2 = (4 : Int32)) (oGetA M x0 4 1 (fun a26 => oIs M x0 4 (∃ c28, c28 ≤ bq ∧ P_X5_single G x0 (11 : Int32) (1 : Int32) (99 : Int32) c28 M (fun v29 M27 => oPut G M27 a26 2 6 (.int v29) (fun M30 => B_X5_statement_315 G Q Xp M30 (bq - c28))) (fun E q31 M32 => (E = "ParkingOffice$ParseException" ∧ Xp E q31 M32))))) (oIf (x2 = (5 : Int32)) (oGetA M x0 4 1 (fun a33 => oIs M x0 4 (∃ c35, c35 ≤ bq ∧ P_X5_single G x0 (12 : Int32) (0 : Int32) (30 : Int32) c35 M (fun v36 M34 => oPut G M34 a33 2 7 (.int v36) (fun M37 => B_X5_statement_315 G Q Xp M37 (bq - c35))) (fun E q38 M39 => (E = "ParkingOffice$ParseException" ∧ Xp E q38 M39))))) (oIf (x2 = (6 : Int32)) (oIs M x0 4 (∃ c41, c41 ≤ bq ∧ P_X5_fine G x0 c41 M (fun M40 => B_X5_statement_315 G Q Xp M40 (bq - c41)) (fun E q42 M43 => (E = "ParkingOffice$ParseException" ∧ Xp E q42 M43)))) (oNew G M bq 5 [.null, .null, .null, .null, .null, .int 0, .int 0, .int 0] (fun a1 M2 b3 => oGetI M2 x0 4 4 (fun v4 => P_X6_init G a1 (1 : Int32) v4 M2 (fun M5 => (∃ fs, M5 a1 = some (.inr (5, fs))) ∧ wz G ≤ a1 ∧ Xp "ParkingOffice$ParseException" a1 M5))))))))))
def P_X5_statement (G : wG) (t0 : Nat) (b : Nat) (M : wM) (Q : wM → Prop) (Xp : String → Nat → wM → Prop) : Prop :=
  oGetA M t0 4 7 (fun a1 => oIs M a1 24 (P_J19_hashCode G a1 M (fun v4 M2 => oIf (v4 = (-891990013 : Int32)) (oIs M2 a1 24 (P_J19_equals G a1 (some (G.2.2.2 14)) M2 (fun r7 M5 => oIf (r7 = true) (B_X5_statement_172 G Q Xp t0 (1 : Int32) M5 b) (B_X5_statement_172 G Q Xp t0 (-1 : Int32) M5 b)))) (oIf (v4 = (3143098 : Int32)) (oIs M2 a1 24 (P_J19_equals G a1 (some (G.2.2.2 25)) M2 (fun r10 M8 => oIf (r10 = true) (B_X5_statement_172 G Q Xp t0 (6 : Int32) M8 b) (B_X5_statement_172 G Q Xp t0 (-1 : Int32) M8 b)))) (oIf (v4 = (3556460 : Int32)) (oIs M2 a1 24 (P_J19_equals G a1 (some (G.2.2.2 22)) M2 (fun r13 M11 => oIf (r13 = true) (B_X5_statement_172 G Q Xp t0 (3 : Int32) M11 b) (B_X5_statement_172 G Q Xp t0 (-1 : Int32) M11 b)))) (oIf (v4 = (3744684 : Int32)) (oIs M2 a1 24 (P_J19_equals G a1 (some (G.2.2.2 10)) M2 (fun r16 M14 => oIf (r16 = true) (B_X5_statement_172 G Q Xp t0 (0 : Int32) M14 b) (B_X5_statement_172 G Q Xp t0 (-1 : Int32) M14 b)))) (oIf (v4 = (99469088 : Int32)) (oIs M2 a1 24 (P_J19_equals G a1 (some (G.2.2.2 18)) M2 (fun r19 M17 => oIf (r19 = true) (B_X5_statement_172 G Q Xp t0 (2 : Int32) M17 b) (B_X5_statement_172 G Q Xp t0 (-1 : Int32) M17 b)))) (oIf (v4 = (105650780 : Int32)) (oIs M2 a1 24 (P_J19_equals G a1 (some (G.2.2.2 23)) M2 (fun r22 M20 => oIf (r22 = true) (B_X5_statement_172 G Q Xp t0 (4 : Int32) M20 b) (B_X5_statement_172 G Q Xp t0 (-1 : Int32) M20 b)))) (oIf (v4 = (108399245 : Int32)) (oIs M2 a1 24 (P_J19_equals G a1 (some (G.2.2.2 24)) M2 (fun r25 M23 => oIf (r25 = true) (B_X5_statement_172 G Q Xp t0 (5 : Int32) M23 b) (B_X5_statement_172 G Q Xp t0 (-1 : Int32) M23 b)))) (B_X5_statement_172 G Q Xp t0 (-1 : Int32) M2 b))))))))))
set_option maxHeartbeats 4000000 in
set_option maxRecDepth 100000 in
theorem P_X5_statement_ok {l : Launch} (hl0 : l.stackTraces = false) {G : wG} {t0 : Nat} {b : Nat} {M : wM} {Q : wM → Prop} {Xp : String → Nat → wM → Prop} (hp : P_X5_statement G t0 b M Q Xp) : wMet l yX5_statement (ws_ yX5_statement cX5_statement 3 (none)) 23 647 G [.ref t0] M b (wqV Q) Xp := by
  refine vx_ofW (cc := cX5_statement) (maxL := 3) (ret := none) (by decide) rfl ?_
  intro p e s m args below meth c s₁ B hml hnt hv
  obtain ⟨rfl, hM, hK, hZ, hz⟩ := hv
  have hC : wC G s := ⟨hK, hZ, hz⟩
  have hx := B.exec
  have hb := B.bytes
  have hr := B.returns
  have hts := atoms_spec (ws := (ws_ yX5_statement cX5_statement 3 (none))) B.pre
  have hts : ∀ w ∈ lw_all, w.before _ s = true := fun w h => hts w (List.mem_cons_of_mem _ h)
  have hown : s.vm.findClass RX5 = some m.cls := findClass_of_methodNamed B.named
  have hlk := B.notSynchronized
  have X : CallFix p m c cX5_statement 3 s ([.ref t0] : List Value).toArray lw_all RX5 := ⟨hx, hb, hml, hown, hts⟩
  have hS : va_S (wA G) s.heap s.heap [] := va_S.rf
  have hl := lv_entry ([.ref t0]) (n := 3) (Nat.le_of_ble_eq_true rfl)
  rw [lg_entry_eq]
  generalize (lg_sl ([.ref t0]) ++ List.replicate (3 - (lg_sl ([.ref t0])).length) Slot.unset).toArray = ls at hl ⊢
  have hl : lv_has ls 3 [(0, .ref t0)] := hl
  have hB : 0 + b ≤ ((headSpec (ws_ yX5_statement cX5_statement 3 (none)) ({ frames := 23, cells := b, slots := b, locals := 647 })).room).cells ∧ 0 + b ≤ ((headSpec (ws_ yX5_statement cX5_statement 3 (none)) ({ frames := 23, cells := b, slots := b, locals := 647 })).room).slots := ⟨Nat.le_of_eq (Nat.zero_add b), Nat.le_of_eq (Nat.zero_add b)⟩
  have hB315 : ∀ (M : wM) (bq : Nat) (H : Heap) (locs : List Loc) (ls : Array Slot) (cells slots : Nat), B_X5_statement_315 G Q Xp M bq → wR G M H → va_S (wA G) s.heap H locs → (cells + bq ≤ ((headSpec (ws_ yX5_statement cX5_statement 3 (none)) ({ frames := 23, cells := b, slots := b, locals := 647 })).room).cells ∧ slots + bq ≤ ((headSpec (ws_ yX5_statement cX5_statement 3 (none)) ({ frames := 23, cells := b, slots := b, locals := 647 })).room).slots) → lv_has ls 3 [] → W p l e (headSpec (ws_ yX5_statement cX5_statement 3 (none)) ({ frames := 23, cells := b, slots := b, locals := 647 })).room s m ([.ref t0] : List Value).toArray below meth c H locs cells slots (vx_MQ below (wQ G (wqV Q)) (wXC G Xp) ([.ref t0] : List Value).toArray s b b (wA G)) (F0 m 315 ls []) := by
    intro M bq H locs ls cells slots hp hM hS hB hl
    exact x_vret X hr hlk hM hS (w_fin hB) dX5_statement_315 ⟨rfl, hp⟩
  have hB172 : ∀ (x0 : Nat) (x2 : Int32) (M : wM) (bq : Nat) (H : Heap) (locs : List Loc) (ls : Array Slot) (cells slots : Nat), B_X5_statement_172 G Q Xp x0 x2 M bq → wR G M H → va_S (wA G) s.heap H locs → (cells + bq ≤ ((headSpec (ws_ yX5_statement cX5_statement 3 (none)) ({ frames := 23, cells := b, slots := b, locals := 647 })).room).cells ∧ slots + bq ≤ ((headSpec (ws_ yX5_statement cX5_statement 3 (none)) ({ frames := 23, cells := b, slots := b, locals := 647 })).room).slots) → lv_has ls 3 [(0, .ref x0), (2, .int x2)] → W p l e (headSpec (ws_ yX5_statement cX5_statement 3 (none)) ({ frames := 23, cells := b, slots := b, locals := 647 })).room s m ([.ref t0] : List Value).toArray below meth c H locs cells slots (vx_MQ below (wQ G (wqV Q)) (wXC G Xp) ([.ref t0] : List Value).toArray s b b (wA G)) (F0 m 172 ls []) := by
    intro x0 x2 M bq H locs ls cells slots hp hM hS hB hl
    refine lv_iload_n hx hb dX5_statement_172 rfl (lv_at hl 1 rfl) ?_
    by_cases hc0 : x2 = (0 : Int32)
    · have hp := oIf.t hp hc0
      refine lv_tableIn (off := 43) (tgt := 216) hx hb dX5_statement_173 (by rw [hc0]; decide) (by rw [hc0]; decide) (by rw [hc0]; rfl) (by decide) ?_
      refine lv_aload_n hx hb dX5_statement_216 rfl (lv_at hl 0 rfl) ?_
      obtain ⟨hrec, hp⟩ := hp
      obtain ⟨c8, hc1, hp⟩ := hp
      refine x_callV (vx_runV (As := []) (rest := []) X (P_X5_zone_ok (l := l) hl0 hp) (cwV 0 hts (lw_V q1234 q1236 qs13 q179 q1237) rfl rfl rfl (by decide +kernel) ⟨Nat.le_of_ble_eq_true rfl, Nat.le_of_ble_eq_true rfl⟩) ⟨wPc.blind, w_recv hC.1 hM (ci := 4) (q := (RX5, TX5, 9)) rfl hrec, w_pre hC hM hS _⟩ rfl rfl hl.1 rfl (lv_room (Nat.le_of_ble_eq_true rfl)) dX5_statement_217 (w_room hB hc1)) hS hB hc1 (fun E ce q9 M10 H locs hp hM hS hB hcell hcv hcl => ?_) (fun M7 H locs hp hM hS hB => ?_)
      · obtain ⟨rfl, hp⟩ := hp
        exact x_out hlk (fun x h => (hnt x h).elim) hM hS (w_fin hB) hcell hcv hcl hp
      · refine lv_goto (tgt := 315) hx hb dX5_statement_220 (by decide) ?_
        exact hB315 _ _ _ _ _ _ _ hp hM hS hB (lv_sub hl [] rfl)
    · have hp := oIf.f hp hc0
      by_cases hc1 : x2 = (1 : Int32)
      · have hp := oIf.t hp hc1
        refine lv_tableIn (off := 50) (tgt := 223) hx hb dX5_statement_173 (by rw [hc1]; decide) (by rw [hc1]; decide) (by rw [hc1]; rfl) (by decide) ?_
        refine lv_aload_n hx hb dX5_statement_223 rfl (lv_at hl 0 rfl) ?_
        obtain ⟨hrec, hp⟩ := hp
        obtain ⟨c12, hc1, hp⟩ := hp
        refine x_callV (vx_runV (As := []) (rest := []) X (P_X5_street_ok (l := l) hl0 hp) (cwV 0 hts (lw_V q1424 q1426 qs21 q179 q1427) rfl rfl rfl (by decide +kernel) ⟨Nat.le_of_ble_eq_true rfl, Nat.le_of_ble_eq_true rfl⟩) ⟨wPc.blind, w_recv hC.1 hM (ci := 4) (q := (RX5, TX5, 9)) rfl hrec, w_pre hC hM hS _⟩ rfl rfl hl.1 rfl (lv_room (Nat.le_of_ble_eq_true rfl)) dX5_statement_224 (w_room hB hc1)) hS hB hc1 (fun E ce q13 M14 H locs hp hM hS hB hcell hcv hcl => ?_) (fun M11 H locs hp hM hS hB => ?_)
        · obtain ⟨rfl, hp⟩ := hp
          exact x_out hlk (fun x h => (hnt x h).elim) hM hS (w_fin hB) hcell hcv hcl hp
        · refine lv_goto (tgt := 315) hx hb dX5_statement_227 (by decide) ?_
          exact hB315 _ _ _ _ _ _ _ hp hM hS hB (lv_sub hl [] rfl)
      · have hp := oIf.f hp hc1
        by_cases hc2 : x2 = (2 : Int32)
        · have hp := oIf.t hp hc2
          refine lv_tableIn (off := 57) (tgt := 230) hx hb dX5_statement_173 (by rw [hc2]; decide) (by rw [hc2]; decide) (by rw [hc2]; rfl) (by decide) ?_
          refine lv_aload_n hx hb dX5_statement_230 rfl (lv_at hl 0 rfl) ?_
          obtain ⟨hrec, hp⟩ := hp
          obtain ⟨c16, hc1, hp⟩ := hp
          refine x_callV (vx_runV (As := []) (rest := []) X (P_X5_house_ok (l := l) hl0 hp) (cwV 0 hts (lw_V q1455 q1457 qs23 q179 q1458) rfl rfl rfl (by decide +kernel) ⟨Nat.le_of_ble_eq_true rfl, Nat.le_of_ble_eq_true rfl⟩) ⟨wPc.blind, w_recv hC.1 hM (ci := 4) (q := (RX5, TX5, 9)) rfl hrec, w_pre hC hM hS _⟩ rfl rfl hl.1 rfl (lv_room (Nat.le_of_ble_eq_true rfl)) dX5_statement_231 (w_room hB hc1)) hS hB hc1 (fun E ce q17 M18 H locs hp hM hS hB hcell hcv hcl => ?_) (fun M15 H locs hp hM hS hB => ?_)
          · obtain ⟨rfl, hp⟩ := hp
            exact x_out hlk (fun x h => (hnt x h).elim) hM hS (w_fin hB) hcell hcv hcl hp
          · refine lv_goto (tgt := 315) hx hb dX5_statement_234 (by decide) ?_
            exact hB315 _ _ _ _ _ _ _ hp hM hS hB (lv_sub hl [] rfl)
        · have hp := oIf.f hp hc2
          by_cases hc3 : x2 = (3 : Int32)
          · have hp := oIf.t hp hc3
            refine lv_tableIn (off := 64) (tgt := 237) hx hb dX5_statement_173 (by rw [hc3]; decide) (by rw [hc3]; decide) (by rw [hc3]; rfl) (by decide) ?_
            refine lv_aload_n hx hb dX5_statement_237 rfl (lv_at hl 0 rfl) ?_
            refine x_getA X hC.1 hM (ci := 4) (C := RX5) (T := TX5) (N := 9) rfl in_X5 1 (by decide) q1130 (fun _ h9 => h9) dX5_statement_238 hp (fun a19 hp => ?_)
            refine lv_aload_n hx hb dX5_statement_241 rfl (lv_at hl 0 rfl) ?_
            refine lv_bipush (v := 10) hx hb dX5_statement_242 (by decide) ?_
            refine lv_iconst (v := 1) hx hb dX5_statement_244 (by decide) ?_
            refine lv_sipush (v := 365) hx hb dX5_statement_245 (by decide) ?_
            obtain ⟨hrec, hp⟩ := hp
            obtain ⟨c21, hc1, hp⟩ := hp
            refine x_callI (vx_runV (As := [.int (10 : Int32), .int (1 : Int32), .int (365 : Int32)]) (rest := [.ref a19]) X (P_X5_single_ok (l := l) hl0 hp) (cwV 3 hts (lw_V q1481 q1483 qs24 q179 q1484) rfl rfl rfl (by decide +kernel) ⟨Nat.le_of_ble_eq_true rfl, Nat.le_of_ble_eq_true rfl⟩) ⟨wPc.blind, w_recv hC.1 hM (ci := 4) (q := (RX5, TX5, 9)) rfl hrec, w_pre hC hM hS _⟩ rfl rfl hl.1 rfl (lv_room (Nat.le_of_ble_eq_true rfl)) dX5_statement_248 (w_room hB hc1)) hS hB hc1 (fun E ce q24 M25 H locs hp hM hS hB hcell hcv hcl => ?_) (fun v22 M20 H locs hp hM hS hB => ?_)
            · obtain ⟨rfl, hp⟩ := hp
              exact x_out hlk (fun x h => (hnt x h).elim) hM hS (w_fin hB) hcell hcv hcl hp
            · refine x_putN X hC.1 hM hS (ci := 2) (C := RX3) (T := TX3) (N := 8) rfl in_X3 tyX3 tyX3_ok nmX3 5 (by decide) q416 (fun _ h9 => h9) rfl rfl rfl dX5_statement_251 hp (fun M23 H locs hM hS hp => ?_)
              refine lv_goto (tgt := 315) hx hb dX5_statement_254 (by decide) ?_
              exact hB315 _ _ _ _ _ _ _ hp hM hS hB (lv_sub hl [] rfl)
          · have hp := oIf.f hp hc3
            by_cases hc4 : x2 = (4 : Int32)
            · have hp := oIf.t hp hc4
              refine lv_tableIn (off := 84) (tgt := 257) hx hb dX5_statement_173 (by rw [hc4]; decide) (by rw [hc4]; decide) (by rw [hc4]; rfl) (by decide) ?_
              refine lv_aload_n hx hb dX5_statement_257 rfl (lv_at hl 0 rfl) ?_
              refine x_getA X hC.1 hM (ci := 4) (C := RX5) (T := TX5) (N := 9) rfl in_X5 1 (by decide) q1130 (fun _ h9 => h9) dX5_statement_258 hp (fun a26 hp => ?_)
              refine lv_aload_n hx hb dX5_statement_261 rfl (lv_at hl 0 rfl) ?_
              refine lv_bipush (v := 11) hx hb dX5_statement_262 (by decide) ?_
              refine lv_iconst (v := 1) hx hb dX5_statement_264 (by decide) ?_
              refine lv_bipush (v := 99) hx hb dX5_statement_265 (by decide) ?_
              obtain ⟨hrec, hp⟩ := hp
              obtain ⟨c28, hc1, hp⟩ := hp
              refine x_callI (vx_runV (As := [.int (11 : Int32), .int (1 : Int32), .int (99 : Int32)]) (rest := [.ref a26]) X (P_X5_single_ok (l := l) hl0 hp) (cwV 3 hts (lw_V q1481 q1483 qs24 q179 q1484) rfl rfl rfl (by decide +kernel) ⟨Nat.le_of_ble_eq_true rfl, Nat.le_of_ble_eq_true rfl⟩) ⟨wPc.blind, w_recv hC.1 hM (ci := 4) (q := (RX5, TX5, 9)) rfl hrec, w_pre hC hM hS _⟩ rfl rfl hl.1 rfl (lv_room (Nat.le_of_ble_eq_true rfl)) dX5_statement_267 (w_room hB hc1)) hS hB hc1 (fun E ce q31 M32 H locs hp hM hS hB hcell hcv hcl => ?_) (fun v29 M27 H locs hp hM hS hB => ?_)
              · obtain ⟨rfl, hp⟩ := hp
                exact x_out hlk (fun x h => (hnt x h).elim) hM hS (w_fin hB) hcell hcv hcl hp
              · refine x_putN X hC.1 hM hS (ci := 2) (C := RX3) (T := TX3) (N := 8) rfl in_X3 tyX3 tyX3_ok nmX3 6 (by decide) q420 (fun _ h9 => h9) rfl rfl rfl dX5_statement_270 hp (fun M30 H locs hM hS hp => ?_)
                refine lv_goto (tgt := 315) hx hb dX5_statement_273 (by decide) ?_
                exact hB315 _ _ _ _ _ _ _ hp hM hS hB (lv_sub hl [] rfl)
            · have hp := oIf.f hp hc4
              by_cases hc5 : x2 = (5 : Int32)
              · have hp := oIf.t hp hc5
                refine lv_tableIn (off := 103) (tgt := 276) hx hb dX5_statement_173 (by rw [hc5]; decide) (by rw [hc5]; decide) (by rw [hc5]; rfl) (by decide) ?_
                refine lv_aload_n hx hb dX5_statement_276 rfl (lv_at hl 0 rfl) ?_
                refine x_getA X hC.1 hM (ci := 4) (C := RX5) (T := TX5) (N := 9) rfl in_X5 1 (by decide) q1130 (fun _ h9 => h9) dX5_statement_277 hp (fun a33 hp => ?_)
                refine lv_aload_n hx hb dX5_statement_280 rfl (lv_at hl 0 rfl) ?_
                refine lv_bipush (v := 12) hx hb dX5_statement_281 (by decide) ?_
                refine lv_iconst (v := 0) hx hb dX5_statement_283 (by decide) ?_
                refine lv_bipush (v := 30) hx hb dX5_statement_284 (by decide) ?_
                obtain ⟨hrec, hp⟩ := hp
                obtain ⟨c35, hc1, hp⟩ := hp
                refine x_callI (vx_runV (As := [.int (12 : Int32), .int (0 : Int32), .int (30 : Int32)]) (rest := [.ref a33]) X (P_X5_single_ok (l := l) hl0 hp) (cwV 3 hts (lw_V q1481 q1483 qs24 q179 q1484) rfl rfl rfl (by decide +kernel) ⟨Nat.le_of_ble_eq_true rfl, Nat.le_of_ble_eq_true rfl⟩) ⟨wPc.blind, w_recv hC.1 hM (ci := 4) (q := (RX5, TX5, 9)) rfl hrec, w_pre hC hM hS _⟩ rfl rfl hl.1 rfl (lv_room (Nat.le_of_ble_eq_true rfl)) dX5_statement_286 (w_room hB hc1)) hS hB hc1 (fun E ce q38 M39 H locs hp hM hS hB hcell hcv hcl => ?_) (fun v36 M34 H locs hp hM hS hB => ?_)
                · obtain ⟨rfl, hp⟩ := hp
                  exact x_out hlk (fun x h => (hnt x h).elim) hM hS (w_fin hB) hcell hcv hcl hp
                · refine x_putN X hC.1 hM hS (ci := 2) (C := RX3) (T := TX3) (N := 8) rfl in_X3 tyX3 tyX3_ok nmX3 7 (by decide) q423 (fun _ h9 => h9) rfl rfl rfl dX5_statement_289 hp (fun M37 H locs hM hS hp => ?_)
                  refine lv_goto (tgt := 315) hx hb dX5_statement_292 (by decide) ?_
                  exact hB315 _ _ _ _ _ _ _ hp hM hS hB (lv_sub hl [] rfl)
              · have hp := oIf.f hp hc5
                by_cases hc6 : x2 = (6 : Int32)
                · have hp := oIf.t hp hc6
                  refine lv_tableIn (off := 122) (tgt := 295) hx hb dX5_statement_173 (by rw [hc6]; decide) (by rw [hc6]; decide) (by rw [hc6]; rfl) (by decide) ?_
                  refine lv_aload_n hx hb dX5_statement_295 rfl (lv_at hl 0 rfl) ?_
                  obtain ⟨hrec, hp⟩ := hp
                  obtain ⟨c41, hc1, hp⟩ := hp
                  refine x_callV (vx_runV (As := []) (rest := []) X (P_X5_fine_ok (l := l) hl0 hp) (cwV 0 hts (lw_V q1524 q1526 qs28 q179 q1527) rfl rfl rfl (by decide +kernel) ⟨Nat.le_of_ble_eq_true rfl, Nat.le_of_ble_eq_true rfl⟩) ⟨wPc.blind, w_recv hC.1 hM (ci := 4) (q := (RX5, TX5, 9)) rfl hrec, w_pre hC hM hS _⟩ rfl rfl hl.1 rfl (lv_room (Nat.le_of_ble_eq_true rfl)) dX5_statement_296 (w_room hB hc1)) hS hB hc1 (fun E ce q42 M43 H locs hp hM hS hB hcell hcv hcl => ?_) (fun M40 H locs hp hM hS hB => ?_)
                  · obtain ⟨rfl, hp⟩ := hp
                    exact x_out hlk (fun x h => (hnt x h).elim) hM hS (w_fin hB) hcell hcv hcl hp
                  · refine lv_goto (tgt := 315) hx hb dX5_statement_299 (by decide) ?_
                    exact hB315 _ _ _ _ _ _ _ hp hM hS hB (lv_sub hl [] rfl)
                · have hp := oIf.f hp hc6
                  refine lv_tableOut (tgt := 302) hx hb dX5_statement_173 (w_tsw 0 7 (by decide) (by decide) (fun i hi => ?_)) (by decide) ?_
                  · have hi2 : i = 0 ∨ i = 1 ∨ i = 2 ∨ i = 3 ∨ i = 4 ∨ i = 5 ∨ i = 6 := by omega
                    rcases hi2 with rfl | rfl | rfl | rfl | rfl | rfl | rfl
                    · exact fun h => hc0 (h.trans (by decide))
                    · exact fun h => hc1 (h.trans (by decide))
                    · exact fun h => hc2 (h.trans (by decide))
                    · exact fun h => hc3 (h.trans (by decide))
                    · exact fun h => hc4 (h.trans (by decide))
                    · exact fun h => hc5 (h.trans (by decide))
                    · exact fun h => hc6 (h.trans (by decide))
                  · refine x_new X hC hM hS hB (ci := 5) (C := RX6) (T := TX6) (N := 8) rfl in_X6 tyX6 tyX6_ok q1244 q1245 q185 rfl (by decide) dX5_statement_302 hp (fun a1 M2 H b3 cells slots hM hS hB hp => ?_)
                    refine lv_dup hx hb dX5_statement_305 rfl ?_
                    refine lv_iconst (v := 1) hx hb dX5_statement_306 (by decide) ?_
                    refine lv_aload_n hx hb dX5_statement_307 rfl (lv_at hl 0 rfl) ?_
                    refine x_getI X hC.1 hM (ci := 4) (C := RX5) (T := TX5) (N := 9) rfl in_X5 4 (by decide) q1133 (fun _ h9 => h9) dX5_statement_308 hp (fun v4 hp => ?_)
                    refine x_call0V (vx_runI (As := [.int (1 : Int32), .int v4]) (rest := [.ref a1]) X (P_X6_init_ok (l := l) hl0 hp) (cwI 2 hts (lw_meth q1255) rfl rfl rfl (hts _ q185) (hts _ q1253) (hts _ q1254) rfl (by decide +kernel) ⟨Nat.le_of_ble_eq_true rfl, Nat.le_of_ble_eq_true rfl⟩) ⟨wPc.blind, w_pre hC hM hS _⟩ rfl rfl hl.1 rfl (lv_room (Nat.le_of_ble_eq_true rfl)) dX5_statement_311 (w_room0 hB)) hS (w_room0 hB) (fun _ _ _ _ _ _ h => False.elim h) (fun M5 H locs hp hM hS => ?_)
                    refine vx_athrow hx hb dX5_statement_314 ?_
                    obtain ⟨ce, h1, h2, h3⟩ := w_exc hC.1 hM (ci := 5) (q := (RX6, TX6, 8)) rfl hp.1 hp.2.1
                    exact x_out hlk (fun x h => (hnt x h).elim) hM hS (w_fin hB) h1 h2 h3 hp.2.2
  refine lv_aload_n hx hb dX5_statement_0 rfl (lv_at hl 0 rfl) ?_
  refine x_getA X hC.1 hM (ci := 4) (C := RX5) (T := TX5) (N := 9) rfl in_X5 7 (by decide) q1136 (fun _ h9 => h9) dX5_statement_1 hp (fun a1 hp => ?_)
  refine lv_astore_n (lv' := [(1, .ref a1), (0, .ref t0)]) hx hb dX5_statement_4 rfl hl (by decide) rfl (fun ls hl => ?_)
  refine lv_iconst (v := (-1)) hx hb dX5_statement_5 (by decide) ?_
  refine lv_istore_n (lv' := [(2, .int (-1 : Int32)), (1, .ref a1), (0, .ref t0)]) hx hb dX5_statement_6 rfl hl (by decide) rfl (fun ls hl => ?_)
  refine lv_aload_n hx hb dX5_statement_7 rfl (lv_at hl 1 rfl) ?_
  obtain ⟨hrec, hp⟩ := hp
  refine x_call0I (vx_runV (As := []) (rest := []) X (P_J19_hashCode_ok (l := l) hl0 hp) (cwV 0 hts (lw_V q1165 q1166 q1167 q171 q1168) rfl rfl rfl (by decide +kernel) ⟨Nat.le_of_ble_eq_true rfl, Nat.le_of_ble_eq_true rfl⟩) ⟨wPc.blind, w_recv hC.1 hM (ci := 24) (q := (RJ19, TJ19, 4)) rfl hrec, w_pre hC hM hS _⟩ rfl rfl hl.1 rfl (lv_room (Nat.le_of_ble_eq_true rfl)) dX5_statement_8 (w_room0 hB)) hS (w_room0 hB) (fun _ _ _ _ _ _ h => False.elim h) (fun v4 M2 H locs hp hM hS => ?_)
  by_cases hc0 : v4 = (-891990013 : Int32)
  · have hp := oIf.t hp hc0
    refine lv_lookup (off := 79) (tgt := 90) hx hb dX5_statement_11 (by decide) (by rw [hc0]; rfl) (by decide) ?_
    refine lv_aload_n hx hb dX5_statement_90 rfl (lv_at hl 1 rfl) ?_
    refine x_ldcS X hC.1 (k := 14) (tx := "street") (List.mem_of_getElem? (i := 4) rfl) dX5_statement_91 ?_
    obtain ⟨hrec, hp⟩ := hp
    refine x_call0Z (vx_runV (As := [va_rf (some (G.2.2.2 14))]) (rest := []) X (P_J19_equals_ok (l := l) hl0 hp) (cwV 1 hts (lw_V q1226 q1227 q1228 q171 q1229) rfl rfl rfl (by decide +kernel) ⟨Nat.le_of_ble_eq_true rfl, Nat.le_of_ble_eq_true rfl⟩) ⟨wPc.blind, w_recv hC.1 hM (ci := 24) (q := (RJ19, TJ19, 4)) rfl hrec, w_pre hC hM hS _⟩ rfl rfl hl.1 rfl (lv_room (Nat.le_of_ble_eq_true rfl)) dX5_statement_93 (w_room0 hB)) hS (w_room0 hB) (fun _ _ _ _ _ _ h => False.elim h) (fun r7 M5 H locs hp hM hS => ?_)
    refine x_ifeqB (tgt := 172) hx hb dX5_statement_96 (by decide) (fun hc => ?_) (fun hc => ?_)
    · have hp := oIf.bf hp hc
      exact hB172 _ _ _ _ _ _ _ _ _ hp hM hS hB (lv_sub hl [2, 0] rfl)
    · have hp := oIf.bt hp hc
      refine lv_iconst (v := 1) hx hb dX5_statement_99 (by decide) ?_
      refine lv_istore_n (lv' := [(2, .int (1 : Int32)), (1, .ref a1), (0, .ref t0)]) hx hb dX5_statement_100 rfl hl (by decide) rfl (fun ls hl => ?_)
      refine lv_goto (tgt := 172) hx hb dX5_statement_101 (by decide) ?_
      exact hB172 _ _ _ _ _ _ _ _ _ hp hM hS hB (lv_sub hl [2, 0] rfl)
  · have hp := oIf.f hp hc0
    by_cases hc1 : v4 = (3143098 : Int32)
    · have hp := oIf.t hp hc1
      refine lv_lookup (off := 149) (tgt := 160) hx hb dX5_statement_11 (by decide) (by rw [hc1]; rfl) (by decide) ?_
      refine lv_aload_n hx hb dX5_statement_160 rfl (lv_at hl 1 rfl) ?_
      refine x_ldcS X hC.1 (k := 25) (tx := "fine") (List.mem_of_getElem? (i := 15) rfl) dX5_statement_161 ?_
      obtain ⟨hrec, hp⟩ := hp
      refine x_call0Z (vx_runV (As := [va_rf (some (G.2.2.2 25))]) (rest := []) X (P_J19_equals_ok (l := l) hl0 hp) (cwV 1 hts (lw_V q1226 q1227 q1228 q171 q1229) rfl rfl rfl (by decide +kernel) ⟨Nat.le_of_ble_eq_true rfl, Nat.le_of_ble_eq_true rfl⟩) ⟨wPc.blind, w_recv hC.1 hM (ci := 24) (q := (RJ19, TJ19, 4)) rfl hrec, w_pre hC hM hS _⟩ rfl rfl hl.1 rfl (lv_room (Nat.le_of_ble_eq_true rfl)) dX5_statement_163 (w_room0 hB)) hS (w_room0 hB) (fun _ _ _ _ _ _ h => False.elim h) (fun r10 M8 H locs hp hM hS => ?_)
      refine x_ifeqB (tgt := 172) hx hb dX5_statement_166 (by decide) (fun hc => ?_) (fun hc => ?_)
      · have hp := oIf.bf hp hc
        exact hB172 _ _ _ _ _ _ _ _ _ hp hM hS hB (lv_sub hl [2, 0] rfl)
      · have hp := oIf.bt hp hc
        refine lv_bipush (v := 6) hx hb dX5_statement_169 (by decide) ?_
        refine lv_istore_n (lv' := [(2, .int (6 : Int32)), (1, .ref a1), (0, .ref t0)]) hx hb dX5_statement_171 rfl hl (by decide) rfl (fun ls hl => ?_)
        exact hB172 _ _ _ _ _ _ _ _ _ hp hM hS hB (lv_sub hl [2, 0] rfl)
    · have hp := oIf.f hp hc1
      by_cases hc2 : v4 = (3556460 : Int32)
      · have hp := oIf.t hp hc2
        refine lv_lookup (off := 107) (tgt := 118) hx hb dX5_statement_11 (by decide) (by rw [hc2]; rfl) (by decide) ?_
        refine lv_aload_n hx hb dX5_statement_118 rfl (lv_at hl 1 rfl) ?_
        refine x_ldcS X hC.1 (k := 22) (tx := "term") (List.mem_of_getElem? (i := 12) rfl) dX5_statement_119 ?_
        obtain ⟨hrec, hp⟩ := hp
        refine x_call0Z (vx_runV (As := [va_rf (some (G.2.2.2 22))]) (rest := []) X (P_J19_equals_ok (l := l) hl0 hp) (cwV 1 hts (lw_V q1226 q1227 q1228 q171 q1229) rfl rfl rfl (by decide +kernel) ⟨Nat.le_of_ble_eq_true rfl, Nat.le_of_ble_eq_true rfl⟩) ⟨wPc.blind, w_recv hC.1 hM (ci := 24) (q := (RJ19, TJ19, 4)) rfl hrec, w_pre hC hM hS _⟩ rfl rfl hl.1 rfl (lv_room (Nat.le_of_ble_eq_true rfl)) dX5_statement_121 (w_room0 hB)) hS (w_room0 hB) (fun _ _ _ _ _ _ h => False.elim h) (fun r13 M11 H locs hp hM hS => ?_)
        refine x_ifeqB (tgt := 172) hx hb dX5_statement_124 (by decide) (fun hc => ?_) (fun hc => ?_)
        · have hp := oIf.bf hp hc
          exact hB172 _ _ _ _ _ _ _ _ _ hp hM hS hB (lv_sub hl [2, 0] rfl)
        · have hp := oIf.bt hp hc
          refine lv_iconst (v := 3) hx hb dX5_statement_127 (by decide) ?_
          refine lv_istore_n (lv' := [(2, .int (3 : Int32)), (1, .ref a1), (0, .ref t0)]) hx hb dX5_statement_128 rfl hl (by decide) rfl (fun ls hl => ?_)
          refine lv_goto (tgt := 172) hx hb dX5_statement_129 (by decide) ?_
          exact hB172 _ _ _ _ _ _ _ _ _ hp hM hS hB (lv_sub hl [2, 0] rfl)
      · have hp := oIf.f hp hc2
        by_cases hc3 : v4 = (3744684 : Int32)
        · have hp := oIf.t hp hc3
          refine lv_lookup (off := 65) (tgt := 76) hx hb dX5_statement_11 (by decide) (by rw [hc3]; rfl) (by decide) ?_
          refine lv_aload_n hx hb dX5_statement_76 rfl (lv_at hl 1 rfl) ?_
          refine x_ldcS X hC.1 (k := 10) (tx := "zone") (List.mem_of_getElem? (i := 0) rfl) dX5_statement_77 ?_
          obtain ⟨hrec, hp⟩ := hp
          refine x_call0Z (vx_runV (As := [va_rf (some (G.2.2.2 10))]) (rest := []) X (P_J19_equals_ok (l := l) hl0 hp) (cwV 1 hts (lw_V q1226 q1227 q1228 q171 q1229) rfl rfl rfl (by decide +kernel) ⟨Nat.le_of_ble_eq_true rfl, Nat.le_of_ble_eq_true rfl⟩) ⟨wPc.blind, w_recv hC.1 hM (ci := 24) (q := (RJ19, TJ19, 4)) rfl hrec, w_pre hC hM hS _⟩ rfl rfl hl.1 rfl (lv_room (Nat.le_of_ble_eq_true rfl)) dX5_statement_79 (w_room0 hB)) hS (w_room0 hB) (fun _ _ _ _ _ _ h => False.elim h) (fun r16 M14 H locs hp hM hS => ?_)
          refine x_ifeqB (tgt := 172) hx hb dX5_statement_82 (by decide) (fun hc => ?_) (fun hc => ?_)
          · have hp := oIf.bf hp hc
            exact hB172 _ _ _ _ _ _ _ _ _ hp hM hS hB (lv_sub hl [2, 0] rfl)
          · have hp := oIf.bt hp hc
            refine lv_iconst (v := 0) hx hb dX5_statement_85 (by decide) ?_
            refine lv_istore_n (lv' := [(2, .int (0 : Int32)), (1, .ref a1), (0, .ref t0)]) hx hb dX5_statement_86 rfl hl (by decide) rfl (fun ls hl => ?_)
            refine lv_goto (tgt := 172) hx hb dX5_statement_87 (by decide) ?_
            exact hB172 _ _ _ _ _ _ _ _ _ hp hM hS hB (lv_sub hl [2, 0] rfl)
        · have hp := oIf.f hp hc3
          by_cases hc4 : v4 = (99469088 : Int32)
          · have hp := oIf.t hp hc4
            refine lv_lookup (off := 93) (tgt := 104) hx hb dX5_statement_11 (by decide) (by rw [hc4]; rfl) (by decide) ?_
            refine lv_aload_n hx hb dX5_statement_104 rfl (lv_at hl 1 rfl) ?_
            refine x_ldcS X hC.1 (k := 18) (tx := "house") (List.mem_of_getElem? (i := 8) rfl) dX5_statement_105 ?_
            obtain ⟨hrec, hp⟩ := hp
            refine x_call0Z (vx_runV (As := [va_rf (some (G.2.2.2 18))]) (rest := []) X (P_J19_equals_ok (l := l) hl0 hp) (cwV 1 hts (lw_V q1226 q1227 q1228 q171 q1229) rfl rfl rfl (by decide +kernel) ⟨Nat.le_of_ble_eq_true rfl, Nat.le_of_ble_eq_true rfl⟩) ⟨wPc.blind, w_recv hC.1 hM (ci := 24) (q := (RJ19, TJ19, 4)) rfl hrec, w_pre hC hM hS _⟩ rfl rfl hl.1 rfl (lv_room (Nat.le_of_ble_eq_true rfl)) dX5_statement_107 (w_room0 hB)) hS (w_room0 hB) (fun _ _ _ _ _ _ h => False.elim h) (fun r19 M17 H locs hp hM hS => ?_)
            refine x_ifeqB (tgt := 172) hx hb dX5_statement_110 (by decide) (fun hc => ?_) (fun hc => ?_)
            · have hp := oIf.bf hp hc
              exact hB172 _ _ _ _ _ _ _ _ _ hp hM hS hB (lv_sub hl [2, 0] rfl)
            · have hp := oIf.bt hp hc
              refine lv_iconst (v := 2) hx hb dX5_statement_113 (by decide) ?_
              refine lv_istore_n (lv' := [(2, .int (2 : Int32)), (1, .ref a1), (0, .ref t0)]) hx hb dX5_statement_114 rfl hl (by decide) rfl (fun ls hl => ?_)
              refine lv_goto (tgt := 172) hx hb dX5_statement_115 (by decide) ?_
              exact hB172 _ _ _ _ _ _ _ _ _ hp hM hS hB (lv_sub hl [2, 0] rfl)
          · have hp := oIf.f hp hc4
            by_cases hc5 : v4 = (105650780 : Int32)
            · have hp := oIf.t hp hc5
              refine lv_lookup (off := 121) (tgt := 132) hx hb dX5_statement_11 (by decide) (by rw [hc5]; rfl) (by decide) ?_
              refine lv_aload_n hx hb dX5_statement_132 rfl (lv_at hl 1 rfl) ?_
              refine x_ldcS X hC.1 (k := 23) (tx := "offer") (List.mem_of_getElem? (i := 13) rfl) dX5_statement_133 ?_
              obtain ⟨hrec, hp⟩ := hp
              refine x_call0Z (vx_runV (As := [va_rf (some (G.2.2.2 23))]) (rest := []) X (P_J19_equals_ok (l := l) hl0 hp) (cwV 1 hts (lw_V q1226 q1227 q1228 q171 q1229) rfl rfl rfl (by decide +kernel) ⟨Nat.le_of_ble_eq_true rfl, Nat.le_of_ble_eq_true rfl⟩) ⟨wPc.blind, w_recv hC.1 hM (ci := 24) (q := (RJ19, TJ19, 4)) rfl hrec, w_pre hC hM hS _⟩ rfl rfl hl.1 rfl (lv_room (Nat.le_of_ble_eq_true rfl)) dX5_statement_135 (w_room0 hB)) hS (w_room0 hB) (fun _ _ _ _ _ _ h => False.elim h) (fun r22 M20 H locs hp hM hS => ?_)
              refine x_ifeqB (tgt := 172) hx hb dX5_statement_138 (by decide) (fun hc => ?_) (fun hc => ?_)
              · have hp := oIf.bf hp hc
                exact hB172 _ _ _ _ _ _ _ _ _ hp hM hS hB (lv_sub hl [2, 0] rfl)
              · have hp := oIf.bt hp hc
                refine lv_iconst (v := 4) hx hb dX5_statement_141 (by decide) ?_
                refine lv_istore_n (lv' := [(2, .int (4 : Int32)), (1, .ref a1), (0, .ref t0)]) hx hb dX5_statement_142 rfl hl (by decide) rfl (fun ls hl => ?_)
                refine lv_goto (tgt := 172) hx hb dX5_statement_143 (by decide) ?_
                exact hB172 _ _ _ _ _ _ _ _ _ hp hM hS hB (lv_sub hl [2, 0] rfl)
            · have hp := oIf.f hp hc5
              by_cases hc6 : v4 = (108399245 : Int32)
              · have hp := oIf.t hp hc6
                refine lv_lookup (off := 135) (tgt := 146) hx hb dX5_statement_11 (by decide) (by rw [hc6]; rfl) (by decide) ?_
                refine lv_aload_n hx hb dX5_statement_146 rfl (lv_at hl 1 rfl) ?_
                refine x_ldcS X hC.1 (k := 24) (tx := "renew") (List.mem_of_getElem? (i := 14) rfl) dX5_statement_147 ?_
                obtain ⟨hrec, hp⟩ := hp
                refine x_call0Z (vx_runV (As := [va_rf (some (G.2.2.2 24))]) (rest := []) X (P_J19_equals_ok (l := l) hl0 hp) (cwV 1 hts (lw_V q1226 q1227 q1228 q171 q1229) rfl rfl rfl (by decide +kernel) ⟨Nat.le_of_ble_eq_true rfl, Nat.le_of_ble_eq_true rfl⟩) ⟨wPc.blind, w_recv hC.1 hM (ci := 24) (q := (RJ19, TJ19, 4)) rfl hrec, w_pre hC hM hS _⟩ rfl rfl hl.1 rfl (lv_room (Nat.le_of_ble_eq_true rfl)) dX5_statement_149 (w_room0 hB)) hS (w_room0 hB) (fun _ _ _ _ _ _ h => False.elim h) (fun r25 M23 H locs hp hM hS => ?_)
                refine x_ifeqB (tgt := 172) hx hb dX5_statement_152 (by decide) (fun hc => ?_) (fun hc => ?_)
                · have hp := oIf.bf hp hc
                  exact hB172 _ _ _ _ _ _ _ _ _ hp hM hS hB (lv_sub hl [2, 0] rfl)
                · have hp := oIf.bt hp hc
                  refine lv_iconst (v := 5) hx hb dX5_statement_155 (by decide) ?_
                  refine lv_istore_n (lv' := [(2, .int (5 : Int32)), (1, .ref a1), (0, .ref t0)]) hx hb dX5_statement_156 rfl hl (by decide) rfl (fun ls hl => ?_)
                  refine lv_goto (tgt := 172) hx hb dX5_statement_157 (by decide) ?_
                  exact hB172 _ _ _ _ _ _ _ _ _ hp hM hS hB (lv_sub hl [2, 0] rfl)
              · have hp := oIf.f hp hc6
                refine lv_lookup (off := 161) (tgt := 172) hx hb dX5_statement_11 (by decide) ?_ (by decide) ?_
                · show Op.lookupswitch.offset [(-891990013, 79), (3143098, 149), (3556460, 107), (3744684, 65), (99469088, 93), (105650780, 121), (108399245, 135)] 161 _ = _
                  rw [lv_osw hc0 (by decide)]
                  rw [lv_osw hc1 (by decide)]
                  rw [lv_osw hc2 (by decide)]
                  rw [lv_osw hc3 (by decide)]
                  rw [lv_osw hc4 (by decide)]
                  rw [lv_osw hc5 (by decide)]
                  rw [lv_osw hc6 (by decide)]
                  rfl
                · exact hB172 _ _ _ _ _ _ _ _ _ hp hM hS hB (lv_sub hl [2, 0] rfl)
def B_X5_parse_25 (G : wG) (rec0 : Nat → wM → Nat → Prop) (Q : Option Nat → wM → Prop) (Xp : String → Nat → wM → Prop) (x0 : Nat) (y0 : Int32) (y1 : Nat) (M : wM) (bq : Nat) : Prop :=
  oIs M y1 4 (∃ c2, c2 ≤ bq ∧ P_X5_require G y1 y0 (1 : Int32) c2 M (fun M1 => oIs M1 x0 4 (∃ c4, c4 ≤ (bq - c2) ∧ P_X5_advance G x0 c4 M1 (fun M3 => rec0 x0 M3 ((bq - c2) - c4)))) (fun E q5 M6 => (E = "ParkingOffice$ParseException" ∧ Xp E q5 M6)))
def B_X5_parse_0 (G : wG) (rec0 : Nat → wM → Nat → Prop) (Q : Option Nat → wM → Prop) (Xp : String → Nat → wM → Prop) (x0 : Nat) (M : wM) (bq : Nat) : Prop :=
  oGetI M x0 4 5 (fun v1 => oIf (v1 = 0) (oGetA M x0 4 1 (fun a2 => Q (some a2) M)) (oIs M x0 4 (∃ c4, c4 ≤ bq ∧ P_X5_statement G x0 c4 M (fun M3 => oGetI M3 x0 4 5 (fun v5 => oIf (v5 = (3 : Int32)) (B_X5_parse_25 G rec0 Q Xp x0 (1 : Int32) x0 M3 (bq - c4)) (B_X5_parse_25 G rec0 Q Xp x0 (0 : Int32) x0 M3 (bq - c4)))) (fun E q6 M7 => (E = "ParkingOffice$ParseException" ∧ Xp E q6 M7)))))
def L_X5_parse_0 (G : wG) (Q : Option Nat → wM → Prop) (Xp : String → Nat → wM → Prop) : Nat → Nat → wM → Nat → Prop
  | 0 => fun _ _ _ => False
  | n + 1 => B_X5_parse_0 G (L_X5_parse_0 G Q Xp n) Q Xp
def P_X5_parse (G : wG) (t0 : Nat) (b : Nat) (M : wM) (Q : Option Nat → wM → Prop) (Xp : String → Nat → wM → Prop) : Prop :=
  ∃ n, L_X5_parse_0 G Q Xp n t0 M b
set_option maxHeartbeats 4000000 in
set_option maxRecDepth 100000 in
theorem P_X5_parse_ok {l : Launch} (hl0 : l.stackTraces = false) {G : wG} {t0 : Nat} {b : Nat} {M : wM} {Q : Option Nat → wM → Prop} {Xp : String → Nat → wM → Prop} (hp : P_X5_parse G t0 b M Q Xp) : wMet l yX5_parse (ws_ yX5_parse cX5_parse 1 (Option.some (Jvm.ClassFile.FieldType.object "ParkingOffice$Setup"))) 24 669 G [.ref t0] M b (wqR Q) Xp := by
  refine vx_ofW (cc := cX5_parse) (maxL := 1) (ret := Option.some (Jvm.ClassFile.FieldType.object "ParkingOffice$Setup")) (by decide) rfl ?_
  intro p e s m args below meth c s₁ B hml hnt hv
  obtain ⟨rfl, hM, hK, hZ, hz⟩ := hv
  have hC : wC G s := ⟨hK, hZ, hz⟩
  have hx := B.exec
  have hb := B.bytes
  have hr := B.returns
  have hts := atoms_spec (ws := (ws_ yX5_parse cX5_parse 1 (Option.some (Jvm.ClassFile.FieldType.object "ParkingOffice$Setup")))) B.pre
  have hts : ∀ w ∈ lw_all, w.before _ s = true := fun w h => hts w (List.mem_cons_of_mem _ h)
  have hown : s.vm.findClass RX5 = some m.cls := findClass_of_methodNamed B.named
  have hlk := B.notSynchronized
  have X : CallFix p m c cX5_parse 1 s ([.ref t0] : List Value).toArray lw_all RX5 := ⟨hx, hb, hml, hown, hts⟩
  have hS : va_S (wA G) s.heap s.heap [] := va_S.rf
  have hl := lv_entry ([.ref t0]) (n := 1) (Nat.le_of_ble_eq_true rfl)
  rw [lg_entry_eq]
  generalize (lg_sl ([.ref t0]) ++ List.replicate (1 - (lg_sl ([.ref t0])).length) Slot.unset).toArray = ls at hl ⊢
  have hl : lv_has ls 1 [(0, .ref t0)] := hl
  have hB : 0 + b ≤ ((headSpec (ws_ yX5_parse cX5_parse 1 (Option.some (Jvm.ClassFile.FieldType.object "ParkingOffice$Setup"))) ({ frames := 24, cells := b, slots := b, locals := 669 })).room).cells ∧ 0 + b ≤ ((headSpec (ws_ yX5_parse cX5_parse 1 (Option.some (Jvm.ClassFile.FieldType.object "ParkingOffice$Setup"))) ({ frames := 24, cells := b, slots := b, locals := 669 })).room).slots := ⟨Nat.le_of_eq (Nat.zero_add b), Nat.le_of_eq (Nat.zero_add b)⟩
  have hB25 : ∀ (rec0 : Nat → wM → Nat → Prop) (hrec0 : ∀ (x0 : Nat) (M : wM) (bq : Nat) (H : Heap) (locs : List Loc) (ls : Array Slot) (cells slots : Nat), rec0 x0 M bq → wR G M H → va_S (wA G) s.heap H locs → (cells + bq ≤ ((headSpec (ws_ yX5_parse cX5_parse 1 (Option.some (Jvm.ClassFile.FieldType.object "ParkingOffice$Setup"))) ({ frames := 24, cells := b, slots := b, locals := 669 })).room).cells ∧ slots + bq ≤ ((headSpec (ws_ yX5_parse cX5_parse 1 (Option.some (Jvm.ClassFile.FieldType.object "ParkingOffice$Setup"))) ({ frames := 24, cells := b, slots := b, locals := 669 })).room).slots) → lv_has ls 1 [(0, .ref x0)] → W p l e (headSpec (ws_ yX5_parse cX5_parse 1 (Option.some (Jvm.ClassFile.FieldType.object "ParkingOffice$Setup"))) ({ frames := 24, cells := b, slots := b, locals := 669 })).room s m ([.ref t0] : List Value).toArray below meth c H locs cells slots (vx_MQ below (wQ G (wqR Q)) (wXC G Xp) ([.ref t0] : List Value).toArray s b b (wA G)) (F0 m 0 ls [])), ∀ (x0 : Nat) (y0 : Int32) (y1 : Nat) (M : wM) (bq : Nat) (H : Heap) (locs : List Loc) (ls : Array Slot) (cells slots : Nat), B_X5_parse_25 G rec0 Q Xp x0 y0 y1 M bq → wR G M H → va_S (wA G) s.heap H locs → (cells + bq ≤ ((headSpec (ws_ yX5_parse cX5_parse 1 (Option.some (Jvm.ClassFile.FieldType.object "ParkingOffice$Setup"))) ({ frames := 24, cells := b, slots := b, locals := 669 })).room).cells ∧ slots + bq ≤ ((headSpec (ws_ yX5_parse cX5_parse 1 (Option.some (Jvm.ClassFile.FieldType.object "ParkingOffice$Setup"))) ({ frames := 24, cells := b, slots := b, locals := 669 })).room).slots) → lv_has ls 1 [(0, .ref x0)] → W p l e (headSpec (ws_ yX5_parse cX5_parse 1 (Option.some (Jvm.ClassFile.FieldType.object "ParkingOffice$Setup"))) ({ frames := 24, cells := b, slots := b, locals := 669 })).room s m ([.ref t0] : List Value).toArray below meth c H locs cells slots (vx_MQ below (wQ G (wqR Q)) (wXC G Xp) ([.ref t0] : List Value).toArray s b b (wA G)) (F0 m 25 ls [.int y0, .ref y1]) := by
    intro rec0 hrec0 x0 y0 y1 M bq H locs ls cells slots hp hM hS hB hl
    refine lv_iconst (v := 1) hx hb dX5_parse_25 (by decide) ?_
    obtain ⟨hrec, hp⟩ := hp
    obtain ⟨c2, hc1, hp⟩ := hp
    refine x_callV (vx_runV (As := [.int y0, .int (1 : Int32)]) (rest := []) X (P_X5_require_ok (l := l) hl0 hp) (cwV 2 hts (lw_V q1240 q1242 qs14 q179 q1243) rfl rfl rfl (by decide +kernel) ⟨Nat.le_of_ble_eq_true rfl, Nat.le_of_ble_eq_true rfl⟩) ⟨wPc.blind, w_recv hC.1 hM (ci := 4) (q := (RX5, TX5, 9)) rfl hrec, w_pre hC hM hS _⟩ rfl rfl hl.1 rfl (lv_room (Nat.le_of_ble_eq_true rfl)) dX5_parse_26 (w_room hB hc1)) hS hB hc1 (fun E ce q5 M6 H locs hp hM hS hB hcell hcv hcl => ?_) (fun M1 H locs hp hM hS hB => ?_)
    · obtain ⟨rfl, hp⟩ := hp
      exact x_out hlk (fun x h => (hnt x h).elim) hM hS (w_fin hB) hcell hcv hcl hp
    · refine lv_aload_n hx hb dX5_parse_29 rfl (lv_at hl 0 rfl) ?_
      obtain ⟨hrec, hp⟩ := hp
      obtain ⟨c4, hc1, hp⟩ := hp
      refine x_callV (vx_runV (As := []) (rest := []) X (P_X5_advance_ok (l := l) hl0 hp) (cwV 0 hts (lw_V q1097 q1099 qs10 q179 q1100) rfl rfl rfl (by decide +kernel) ⟨Nat.le_of_ble_eq_true rfl, Nat.le_of_ble_eq_true rfl⟩) ⟨wPc.blind, w_recv hC.1 hM (ci := 4) (q := (RX5, TX5, 9)) rfl hrec, w_pre hC hM hS _⟩ rfl rfl hl.1 rfl (lv_room (Nat.le_of_ble_eq_true rfl)) dX5_parse_30 (w_room hB hc1)) hS hB hc1 (fun _ _ _ _ _ _ h => False.elim h) (fun M3 H locs hp hM hS hB => ?_)
      refine lv_goto (tgt := 0) hx hb dX5_parse_33 (by decide) ?_
      exact hrec0 _ _ _ _ _ _ _ _ hp hM hS hB (lv_sub hl [0] rfl)
  have hB0 : ∀ (rec0 : Nat → wM → Nat → Prop) (hrec0 : ∀ (x0 : Nat) (M : wM) (bq : Nat) (H : Heap) (locs : List Loc) (ls : Array Slot) (cells slots : Nat), rec0 x0 M bq → wR G M H → va_S (wA G) s.heap H locs → (cells + bq ≤ ((headSpec (ws_ yX5_parse cX5_parse 1 (Option.some (Jvm.ClassFile.FieldType.object "ParkingOffice$Setup"))) ({ frames := 24, cells := b, slots := b, locals := 669 })).room).cells ∧ slots + bq ≤ ((headSpec (ws_ yX5_parse cX5_parse 1 (Option.some (Jvm.ClassFile.FieldType.object "ParkingOffice$Setup"))) ({ frames := 24, cells := b, slots := b, locals := 669 })).room).slots) → lv_has ls 1 [(0, .ref x0)] → W p l e (headSpec (ws_ yX5_parse cX5_parse 1 (Option.some (Jvm.ClassFile.FieldType.object "ParkingOffice$Setup"))) ({ frames := 24, cells := b, slots := b, locals := 669 })).room s m ([.ref t0] : List Value).toArray below meth c H locs cells slots (vx_MQ below (wQ G (wqR Q)) (wXC G Xp) ([.ref t0] : List Value).toArray s b b (wA G)) (F0 m 0 ls [])), ∀ (x0 : Nat) (M : wM) (bq : Nat) (H : Heap) (locs : List Loc) (ls : Array Slot) (cells slots : Nat), B_X5_parse_0 G rec0 Q Xp x0 M bq → wR G M H → va_S (wA G) s.heap H locs → (cells + bq ≤ ((headSpec (ws_ yX5_parse cX5_parse 1 (Option.some (Jvm.ClassFile.FieldType.object "ParkingOffice$Setup"))) ({ frames := 24, cells := b, slots := b, locals := 669 })).room).cells ∧ slots + bq ≤ ((headSpec (ws_ yX5_parse cX5_parse 1 (Option.some (Jvm.ClassFile.FieldType.object "ParkingOffice$Setup"))) ({ frames := 24, cells := b, slots := b, locals := 669 })).room).slots) → lv_has ls 1 [(0, .ref x0)] → W p l e (headSpec (ws_ yX5_parse cX5_parse 1 (Option.some (Jvm.ClassFile.FieldType.object "ParkingOffice$Setup"))) ({ frames := 24, cells := b, slots := b, locals := 669 })).room s m ([.ref t0] : List Value).toArray below meth c H locs cells slots (vx_MQ below (wQ G (wqR Q)) (wXC G Xp) ([.ref t0] : List Value).toArray s b b (wA G)) (F0 m 0 ls []) := by
    intro rec0 hrec0 x0 M bq H locs ls cells slots hp hM hS hB hl
    refine lv_aload_n hx hb dX5_parse_0 rfl (lv_at hl 0 rfl) ?_
    refine x_getI X hC.1 hM (ci := 4) (C := RX5) (T := TX5) (N := 9) rfl in_X5 5 (by decide) q1134 (fun _ h9 => h9) dX5_parse_1 hp (fun v1 hp => ?_)
    refine lv_if_eq (tgt := 36) hx hb dX5_parse_4 (by decide) (fun hc => ?_) (fun hc => ?_)
    · have hp := oIf.t hp hc
      refine lv_aload_n hx hb dX5_parse_36 rfl (lv_at hl 0 rfl) ?_
      refine x_getA X hC.1 hM (ci := 4) (C := RX5) (T := TX5) (N := 9) rfl in_X5 1 (by decide) q1130 (fun _ h9 => h9) dX5_parse_37 hp (fun a2 hp => ?_)
      exact x_aret (v := (some a2)) X hr (by first | exact Or.inl ⟨_, rfl⟩ | exact Or.inr ⟨_, rfl⟩) hlk hM hS (w_fin hB) dX5_parse_40 ⟨(some a2), rfl, hp⟩
    · have hp := oIf.f hp hc
      refine lv_aload_n hx hb dX5_parse_7 rfl (lv_at hl 0 rfl) ?_
      obtain ⟨hrec, hp⟩ := hp
      obtain ⟨c4, hc1, hp⟩ := hp
      refine x_callV (vx_runV (As := []) (rest := []) X (P_X5_statement_ok (l := l) hl0 hp) (cwV 0 hts (lw_V q1161 q1163 qs12 q179 q1164) rfl rfl rfl (by decide +kernel) ⟨Nat.le_of_ble_eq_true rfl, Nat.le_of_ble_eq_true rfl⟩) ⟨wPc.blind, w_recv hC.1 hM (ci := 4) (q := (RX5, TX5, 9)) rfl hrec, w_pre hC hM hS _⟩ rfl rfl hl.1 rfl (lv_room (Nat.le_of_ble_eq_true rfl)) dX5_parse_8 (w_room hB hc1)) hS hB hc1 (fun E ce q6 M7 H locs hp hM hS hB hcell hcv hcl => ?_) (fun M3 H locs hp hM hS hB => ?_)
      · obtain ⟨rfl, hp⟩ := hp
        exact x_out hlk (fun x h => (hnt x h).elim) hM hS (w_fin hB) hcell hcv hcl hp
      · refine lv_aload_n hx hb dX5_parse_11 rfl (lv_at hl 0 rfl) ?_
        refine lv_aload_n hx hb dX5_parse_12 rfl (lv_at hl 0 rfl) ?_
        refine x_getI X hC.1 hM (ci := 4) (C := RX5) (T := TX5) (N := 9) rfl in_X5 5 (by decide) q1134 (fun _ h9 => h9) dX5_parse_13 hp (fun v5 hp => ?_)
        refine lv_iconst (v := 3) hx hb dX5_parse_16 (by decide) ?_
        refine lv_icmp_ne (tgt := 24) hx hb dX5_parse_17 (by decide) (fun hc => ?_) (fun hc => ?_)
        · have hp := oIf.f hp hc
          refine lv_iconst (v := 0) hx hb dX5_parse_24 (by decide) ?_
          exact hB25 rec0 hrec0 _ _ _ _ _ _ _ _ _ _ hp hM hS hB (lv_sub hl [0] rfl)
        · have hp := oIf.t hp hc
          refine lv_iconst (v := 1) hx hb dX5_parse_20 (by decide) ?_
          refine lv_goto (tgt := 25) hx hb dX5_parse_21 (by decide) ?_
          exact hB25 rec0 hrec0 _ _ _ _ _ _ _ _ _ _ hp hM hS hB (lv_sub hl [0] rfl)
  have hL0 : ∀ (n : Nat), ∀ (x0 : Nat) (M : wM) (bq : Nat) (H : Heap) (locs : List Loc) (ls : Array Slot) (cells slots : Nat), L_X5_parse_0 G Q Xp n x0 M bq → wR G M H → va_S (wA G) s.heap H locs → (cells + bq ≤ ((headSpec (ws_ yX5_parse cX5_parse 1 (Option.some (Jvm.ClassFile.FieldType.object "ParkingOffice$Setup"))) ({ frames := 24, cells := b, slots := b, locals := 669 })).room).cells ∧ slots + bq ≤ ((headSpec (ws_ yX5_parse cX5_parse 1 (Option.some (Jvm.ClassFile.FieldType.object "ParkingOffice$Setup"))) ({ frames := 24, cells := b, slots := b, locals := 669 })).room).slots) → lv_has ls 1 [(0, .ref x0)] → W p l e (headSpec (ws_ yX5_parse cX5_parse 1 (Option.some (Jvm.ClassFile.FieldType.object "ParkingOffice$Setup"))) ({ frames := 24, cells := b, slots := b, locals := 669 })).room s m ([.ref t0] : List Value).toArray below meth c H locs cells slots (vx_MQ below (wQ G (wqR Q)) (wXC G Xp) ([.ref t0] : List Value).toArray s b b (wA G)) (F0 m 0 ls []) := by
    intro n
    induction n with
    | zero => intro _ _ _ _ _ _ _ _ hp; exact False.elim hp
    | succ n ih => intro x0 M bq H locs ls cells slots hp hM hS hB hl; exact hB0 (L_X5_parse_0 G Q Xp n) ih _ _ _ _ _ _ _ _ hp hM hS hB hl
  obtain ⟨n, hp⟩ := hp
  exact hL0 n _ _ _ _ _ _ _ _ hp hM hS hB (lv_sub hl [0] rfl)
def B_J25_circularClear_12 (G : wG) (rec12 : Nat → Int32 → Int32 → Int32 → wM → Prop) (Q : wM → Prop) (x0 : Nat) (x1 : Int32) (x2 : Int32) (x3 : Int32) (M : wM) : Prop :=
  oIf (x3 ≤ x1) (oIf (x3 = x2) (Q M) (rec12 x0 (0 : Int32) x2 x2 M)) (oAast G (.object "java/lang/Object") M x0 x1 none (fun M1 => rec12 x0 (x1 + 1) x2 x3 M1))
def L_J25_circularClear_12 (G : wG) (Q : wM → Prop) : Nat → Nat → Int32 → Int32 → Int32 → wM → Prop
  | 0 => fun _ _ _ _ _ => False
  | n + 1 => B_J25_circularClear_12 G (L_J25_circularClear_12 G Q n) Q
def B_J25_circularClear_11 (G : wG) (Q : wM → Prop) (x0 : Nat) (x1 : Int32) (x2 : Int32) (y0 : Int32) (M : wM) : Prop :=
  ∃ n, L_J25_circularClear_12 G Q n x0 x1 x2 y0 M
def P_J25_circularClear (G : wG) (p1 : Nat) (p2 : Int32) (p3 : Int32) (M : wM) (Q : wM → Prop) : Prop :=
  oIf (p3 < p2) (oAlen (.object "java/lang/Object") M p1 (fun v1 => B_J25_circularClear_11 G Q p1 p2 p3 v1 M)) (B_J25_circularClear_11 G Q p1 p2 p3 p3 M)
set_option maxHeartbeats 4000000 in
set_option maxRecDepth 100000 in
theorem P_J25_circularClear_ok {l : Launch} (hl0 : l.stackTraces = false) {G : wG} {p1 : Nat} {p2 : Int32} {p3 : Int32} {M : wM} {Q : wM → Prop} (hp : P_J25_circularClear G p1 p2 p3 M Q) : wMet l yJ25_circularClear (ws_ yJ25_circularClear cJ25_circularClear 4 (none)) 12 400 G [.ref p1, .int p2, .int p3] M 0 (wqV Q) wX0 := by
  refine vx_ofW (cc := cJ25_circularClear) (maxL := 4) (ret := none) (by decide) rfl ?_
  intro p e s m args below meth c s₁ B hml hnt hv
  obtain ⟨rfl, hM, hK, hZ, hz⟩ := hv
  have hC : wC G s := ⟨hK, hZ, hz⟩
  have hx := B.exec
  have hb := B.bytes
  have hr := B.returns
  have hts := atoms_spec (ws := (ws_ yJ25_circularClear cJ25_circularClear 4 (none))) B.pre
  have hts : ∀ w ∈ lw_all, w.before _ s = true := fun w h => hts w (List.mem_cons_of_mem _ h)
  have hown : s.vm.findClass RJ25 = some m.cls := findClass_of_methodNamed B.named
  have hlk := B.notSynchronized
  have X : CallFix p m c cJ25_circularClear 4 s ([.ref p1, .int p2, .int p3] : List Value).toArray lw_all RJ25 := ⟨hx, hb, hml, hown, hts⟩
  have hS : va_S (wA G) s.heap s.heap [] := va_S.rf
  have hl := lv_entry ([.ref p1, .int p2, .int p3]) (n := 4) (Nat.le_of_ble_eq_true rfl)
  rw [lg_entry_eq]
  generalize (lg_sl ([.ref p1, .int p2, .int p3]) ++ List.replicate (4 - (lg_sl ([.ref p1, .int p2, .int p3])).length) Slot.unset).toArray = ls at hl ⊢
  have hl : lv_has ls 4 [(0, .ref p1), (1, .int p2), (2, .int p3)] := hl
  have hB12 : ∀ (rec12 : Nat → Int32 → Int32 → Int32 → wM → Prop) (hrec12 : ∀ (x0 : Nat) (x1 : Int32) (x2 : Int32) (x3 : Int32) (M : wM) (H : Heap) (locs : List Loc) (ls : Array Slot), rec12 x0 x1 x2 x3 M → wR G M H → va_S (wA G) s.heap H locs → lv_has ls 4 [(0, .ref x0), (1, .int x1), (2, .int x2), (3, .int x3)] → W p l e (headSpec (ws_ yJ25_circularClear cJ25_circularClear 4 (none)) ({ frames := 12, cells := 0, slots := 0, locals := 400 })).room s m ([.ref p1, .int p2, .int p3] : List Value).toArray below meth c H locs 0 0 (vx_MQ below (wQ G (wqV Q)) (wXC G wX0) ([.ref p1, .int p2, .int p3] : List Value).toArray s 0 0 (wA G)) (F0 m 12 ls [])), ∀ (x0 : Nat) (x1 : Int32) (x2 : Int32) (x3 : Int32) (M : wM) (H : Heap) (locs : List Loc) (ls : Array Slot), B_J25_circularClear_12 G rec12 Q x0 x1 x2 x3 M → wR G M H → va_S (wA G) s.heap H locs → lv_has ls 4 [(0, .ref x0), (1, .int x1), (2, .int x2), (3, .int x3)] → W p l e (headSpec (ws_ yJ25_circularClear cJ25_circularClear 4 (none)) ({ frames := 12, cells := 0, slots := 0, locals := 400 })).room s m ([.ref p1, .int p2, .int p3] : List Value).toArray below meth c H locs 0 0 (vx_MQ below (wQ G (wqV Q)) (wXC G wX0) ([.ref p1, .int p2, .int p3] : List Value).toArray s 0 0 (wA G)) (F0 m 12 ls []) := by
    intro rec12 hrec12 x0 x1 x2 x3 M H locs ls hp hM hS hl
    refine lv_iload_n hx hb dJ25_circularClear_12 rfl (lv_at hl 1 rfl) ?_
    refine lv_iload_n hx hb dJ25_circularClear_13 rfl (lv_at hl 3 rfl) ?_
    refine lv_icmp_ge (tgt := 27) hx hb dJ25_circularClear_14 (by decide) (fun hc => ?_) (fun hc => ?_)
    · have hp := oIf.t hp hc
      refine lv_iload_n hx hb dJ25_circularClear_27 rfl (lv_at hl 3 rfl) ?_
      refine lv_iload_n hx hb dJ25_circularClear_28 rfl (lv_at hl 2 rfl) ?_
      refine lv_icmp_ne (tgt := 35) hx hb dJ25_circularClear_29 (by decide) (fun hc => ?_) (fun hc => ?_)
      · have hp := oIf.f hp hc
        refine lv_iconst (v := 0) hx hb dJ25_circularClear_35 (by decide) ?_
        refine lv_istore_n (lv' := [(1, .int (0 : Int32)), (0, .ref x0), (2, .int x2), (3, .int x3)]) hx hb dJ25_circularClear_36 rfl hl (by decide) rfl (fun ls hl => ?_)
        refine lv_iload_n hx hb dJ25_circularClear_37 rfl (lv_at hl 2 rfl) ?_
        refine lv_istore_n (lv' := [(3, .int x2), (1, .int (0 : Int32)), (0, .ref x0), (2, .int x2)]) hx hb dJ25_circularClear_38 rfl hl (by decide) rfl (fun ls hl => ?_)
        refine lv_goto (tgt := 12) hx hb dJ25_circularClear_39 (by decide) ?_
        exact hrec12 _ _ _ _ _ _ _ _ hp hM hS (lv_sub hl [2, 1, 3, 0] rfl)
      · have hp := oIf.t hp hc
        refine lv_goto (tgt := 42) hx hb dJ25_circularClear_32 (by decide) ?_
        exact x_vret X hr hlk hM hS ⟨Nat.le_refl _, Nat.le_refl _⟩ dJ25_circularClear_42 ⟨rfl, hp⟩
    · have hp := oIf.f hp hc
      refine lv_aload_n hx hb dJ25_circularClear_17 rfl (lv_at hl 0 rfl) ?_
      refine lv_iload_n hx hb dJ25_circularClear_18 rfl (lv_at hl 1 rfl) ?_
      refine lv_null hx hb dJ25_circularClear_19 ?_
      refine x_aast (r := none) X hC hM hS w_obj (C := "java/lang/Object") (by decide) dJ25_circularClear_20 hp (fun M1 H locs hM hS hp => ?_)
      refine lv_iinc (v := (x1 + 1)) (lv' := [(1, .int (x1 + 1)), (0, .ref x0), (2, .int x2), (3, .int x3)]) hx hb dJ25_circularClear_21 hl (k := 1) rfl rfl (by decide) rfl (fun ls hl => ?_)
      refine lv_goto (tgt := 12) hx hb dJ25_circularClear_24 (by decide) ?_
      exact hrec12 _ _ _ _ _ _ _ _ hp hM hS (lv_sub hl [1, 0, 2, 3] rfl)
  have hL12 : ∀ (n : Nat), ∀ (x0 : Nat) (x1 : Int32) (x2 : Int32) (x3 : Int32) (M : wM) (H : Heap) (locs : List Loc) (ls : Array Slot), L_J25_circularClear_12 G Q n x0 x1 x2 x3 M → wR G M H → va_S (wA G) s.heap H locs → lv_has ls 4 [(0, .ref x0), (1, .int x1), (2, .int x2), (3, .int x3)] → W p l e (headSpec (ws_ yJ25_circularClear cJ25_circularClear 4 (none)) ({ frames := 12, cells := 0, slots := 0, locals := 400 })).room s m ([.ref p1, .int p2, .int p3] : List Value).toArray below meth c H locs 0 0 (vx_MQ below (wQ G (wqV Q)) (wXC G wX0) ([.ref p1, .int p2, .int p3] : List Value).toArray s 0 0 (wA G)) (F0 m 12 ls []) := by
    intro n
    induction n with
    | zero => intro _ _ _ _ _ _ _ _ hp; exact False.elim hp
    | succ n ih => intro x0 x1 x2 x3 M H locs ls hp hM hS hl; exact hB12 (L_J25_circularClear_12 G Q n) ih _ _ _ _ _ _ _ _ hp hM hS hl
  have hB11 : ∀ (x0 : Nat) (x1 : Int32) (x2 : Int32) (y0 : Int32) (M : wM) (H : Heap) (locs : List Loc) (ls : Array Slot), B_J25_circularClear_11 G Q x0 x1 x2 y0 M → wR G M H → va_S (wA G) s.heap H locs → lv_has ls 4 [(0, .ref x0), (1, .int x1), (2, .int x2)] → W p l e (headSpec (ws_ yJ25_circularClear cJ25_circularClear 4 (none)) ({ frames := 12, cells := 0, slots := 0, locals := 400 })).room s m ([.ref p1, .int p2, .int p3] : List Value).toArray below meth c H locs 0 0 (vx_MQ below (wQ G (wqV Q)) (wXC G wX0) ([.ref p1, .int p2, .int p3] : List Value).toArray s 0 0 (wA G)) (F0 m 11 ls [.int y0]) := by
    intro x0 x1 x2 y0 M H locs ls hp hM hS hl
    refine lv_istore_n (lv' := [(3, .int y0), (0, .ref x0), (1, .int x1), (2, .int x2)]) hx hb dJ25_circularClear_11 rfl hl (by decide) rfl (fun ls hl => ?_)
    obtain ⟨n, hp⟩ := hp
    exact hL12 n _ _ _ _ _ _ _ _ hp hM hS (lv_sub hl [1, 2, 3, 0] rfl)
  refine lv_iload_n hx hb dJ25_circularClear_0 rfl (lv_at hl 1 rfl) ?_
  refine lv_iload_n hx hb dJ25_circularClear_1 rfl (lv_at hl 2 rfl) ?_
  refine lv_icmp_gt (tgt := 9) hx hb dJ25_circularClear_2 (by decide) (fun hc => ?_) (fun hc => ?_)
  · have hp := oIf.t hp hc
    refine lv_aload_n hx hb dJ25_circularClear_9 rfl (lv_at hl 0 rfl) ?_
    refine x_alen X hC.1 hM (ty := (.object "java/lang/Object")) (by decide) dJ25_circularClear_10 hp (fun v1 hp => ?_)
    exact hB11 _ _ _ _ _ _ _ _ hp hM hS (lv_sub hl [0, 1, 2] rfl)
  · have hp := oIf.f hp hc
    refine lv_iload_n hx hb dJ25_circularClear_5 rfl (lv_at hl 2 rfl) ?_
    refine lv_goto (tgt := 11) hx hb dJ25_circularClear_6 (by decide) ?_
    exact hB11 _ _ _ _ _ _ _ _ hp hM hS (lv_sub hl [0, 1, 2] rfl)
def P_J25_clear (G : wG) (t0 : Nat) (M : wM) (Q : wM → Prop) : Prop :=
  oGetA M t0 22 0 (fun a1 => oGetI M t0 22 1 (fun v2 => oGetI M t0 22 2 (fun v3 => P_J25_circularClear G a1 v2 v3 M (fun M4 => oPut G M4 t0 22 2 (.int (0 : Int32)) (fun M6 => oPut G M6 t0 22 1 (.int (0 : Int32)) (fun M7 => Q M7))))))
set_option maxHeartbeats 4000000 in
set_option maxRecDepth 100000 in
theorem P_J25_clear_ok {l : Launch} (hl0 : l.stackTraces = false) {G : wG} {t0 : Nat} {M : wM} {Q : wM → Prop} (hp : P_J25_clear G t0 M Q) : wMet l yJ25_clear (ws_ yJ25_clear cJ25_clear 1 (none)) 13 423 G [.ref t0] M 0 (wqV Q) wX0 := by
  refine vx_ofW (cc := cJ25_clear) (maxL := 1) (ret := none) (by decide) rfl ?_
  intro p e s m args below meth c s₁ B hml hnt hv
  obtain ⟨rfl, hM, hK, hZ, hz⟩ := hv
  have hC : wC G s := ⟨hK, hZ, hz⟩
  have hx := B.exec
  have hb := B.bytes
  have hr := B.returns
  have hts := atoms_spec (ws := (ws_ yJ25_clear cJ25_clear 1 (none))) B.pre
  have hts : ∀ w ∈ lw_all, w.before _ s = true := fun w h => hts w (List.mem_cons_of_mem _ h)
  have hown : s.vm.findClass RJ25 = some m.cls := findClass_of_methodNamed B.named
  have hlk := B.notSynchronized
  have X : CallFix p m c cJ25_clear 1 s ([.ref t0] : List Value).toArray lw_all RJ25 := ⟨hx, hb, hml, hown, hts⟩
  have hS : va_S (wA G) s.heap s.heap [] := va_S.rf
  have hl := lv_entry ([.ref t0]) (n := 1) (Nat.le_of_ble_eq_true rfl)
  rw [lg_entry_eq]
  generalize (lg_sl ([.ref t0]) ++ List.replicate (1 - (lg_sl ([.ref t0])).length) Slot.unset).toArray = ls at hl ⊢
  have hl : lv_has ls 1 [(0, .ref t0)] := hl
  refine lv_aload_n hx hb dJ25_clear_0 rfl (lv_at hl 0 rfl) ?_
  refine x_getA X hC.1 hM (ci := 22) (C := RJ25) (T := TJ25) (N := 3) rfl in_J25 0 (by decide) q961 (fun _ h9 => h9) dJ25_clear_1 hp (fun a1 hp => ?_)
  refine lv_aload_n hx hb dJ25_clear_4 rfl (lv_at hl 0 rfl) ?_
  refine x_getI X hC.1 hM (ci := 22) (C := RJ25) (T := TJ25) (N := 3) rfl in_J25 1 (by decide) q962 (fun _ h9 => h9) dJ25_clear_5 hp (fun v2 hp => ?_)
  refine lv_aload_n hx hb dJ25_clear_8 rfl (lv_at hl 0 rfl) ?_
  refine x_getI X hC.1 hM (ci := 22) (C := RJ25) (T := TJ25) (N := 3) rfl in_J25 2 (by decide) q963 (fun _ h9 => h9) dJ25_clear_9 hp (fun v3 hp => ?_)
  refine x_call0V (vx_runS (As := [.ref a1, .int v2, .int v3]) (rest := []) X (P_J25_circularClear_ok (l := l) hl0 hp) (va_cwS 3 hts (lw_S q1532 q1533 q177 q1534) rfl rfl rfl (by decide +kernel) ⟨Nat.le_of_ble_eq_true rfl, Nat.le_of_ble_eq_true rfl⟩) ⟨wPc.blind, w_pre hC hM hS _⟩ rfl rfl hl.1 rfl (lv_room (Nat.le_of_ble_eq_true rfl)) dJ25_clear_12 ⟨Nat.le_refl _, Nat.le_refl _⟩) hS ⟨Nat.le_refl _, Nat.le_refl _⟩ (fun _ _ _ _ _ _ h => False.elim h) (fun M4 H locs hp hM hS => ?_)
  refine lv_aload_n hx hb dJ25_clear_15 rfl (lv_at hl 0 rfl) ?_
  refine lv_aload_n hx hb dJ25_clear_16 rfl (lv_at hl 0 rfl) ?_
  refine lv_iconst (v := 0) hx hb dJ25_clear_17 (by decide) ?_
  refine lv_dup_x1 hx hb dJ25_clear_18 rfl rfl ?_
  refine x_put X hC.1 hM hS (ci := 22) (C := RJ25) (T := TJ25) (N := 3) rfl in_J25 tyJ25 tyJ25_ok nmJ25 2 (by decide) q963 (fun _ h9 => h9) rfl rfl rfl dJ25_clear_19 hp (fun M6 H locs hM hS hp => ?_)
  refine x_put X hC.1 hM hS (ci := 22) (C := RJ25) (T := TJ25) (N := 3) rfl in_J25 tyJ25 tyJ25_ok nmJ25 1 (by decide) q962 (fun _ h9 => h9) rfl rfl rfl dJ25_clear_22 hp (fun M7 H locs hM hS hp => ?_)
  exact x_vret X hr hlk hM hS ⟨Nat.le_refl _, Nat.le_refl _⟩ dJ25_clear_25 ⟨rfl, hp⟩
def B_X1_parse_64 (G : wG) (Q : Int32 → wM → Prop) (x0 : Nat) (y0 : Nat) (M : wM) (bq : Nat) : Prop :=
  oGetI M y0 5 6 (fun v1 => oPut G M x0 0 5 (.int v1) (fun M2 => oGetI M2 y0 5 7 (fun v3 => oPut G M2 x0 0 6 (.int v3) (fun M4 => oPut G M4 x0 0 4 (.int (0 : Int32)) (fun M5 => Q (-1 : Int32) M5)))))
def P_X1_parse (G : wG) (t0 : Nat) (b : Nat) (M : wM) (Q : Int32 → wM → Prop) : Prop :=
  oPut G M t0 0 5 (.int (0 : Int32)) (fun M1 => oPut G M1 t0 0 6 (.int (-1 : Int32)) (fun M2 => oNew G M2 b 1 [.null, .null, .null, .null, .null, .null, .null, .null, .int 0] (fun a3 M4 b5 => oNew G M4 b5 4 [.null, .null, .null, .int 0, .int 0, .int 0, .int 0, .null, .null] (fun a6 M7 b8 => ∃ c10, c10 ≤ b8 ∧ P_X5_init G a6 t0 c10 M7 (fun M9 => oIs M9 a6 4 (∃ c12, c12 ≤ (b8 - c10) ∧ P_X5_parse G a6 c12 M9 (fun r13 M11 => oRef r13 (fun a14 => ∃ c16, c16 ≤ ((b8 - c10) - c12) ∧ P_X2_init G a3 a14 c16 M11 (fun M15 => oPut G M15 t0 0 0 (.ref a3) (fun M17 => oGetA M17 t0 0 2 (fun a18 => oIs M17 a18 22 (P_J25_clear G a18 M17 (fun M19 => oPut G M19 t0 0 1 (va_rf none) (fun M21 => oIs M21 t0 0 (P_X1_setup G t0 M21 (fun r24 M22 => oRef r24 (fun a25 => oGetA M22 a25 2 2 (fun a26 => oIs M22 a26 16 (P_J2_size G a26 M22 (fun v29 M27 => oPut G M27 t0 0 4 (.int (0 : Int32)) (fun M30 => Q v29 M30))))))))))))))) (fun E q31 M32 => (E = "ParkingOffice$ParseException" ∧ (B_X1_parse_64 G Q t0 q31 M32 ((b8 - c10) - c12))))))))))
set_option maxHeartbeats 4000000 in
set_option maxRecDepth 100000 in
theorem P_X1_parse_ok {l : Launch} (hl0 : l.stackTraces = false) {G : wG} {t0 : Nat} {b : Nat} {M : wM} {Q : Int32 → wM → Prop} (hp : P_X1_parse G t0 b M Q) : wMet l yX1_parse (wsW_ yX1_parse cX1_parse 4 (Option.some Jvm.ClassFile.FieldType.int) [((10 : Nat), (57 : Nat), (64 : Nat), (107 : Nat)), ((10 : Nat), (57 : Nat), (90 : Nat), (0 : Nat)), ((64 : Nat), (83 : Nat), (90 : Nat), (0 : Nat))]) 25 689 G [.ref t0] M b (wqI Q) wX0 := by
  refine vx_ofWH (cc := cX1_parse) (maxL := 4) (ret := Option.some Jvm.ClassFile.FieldType.int) (hh := [((10 : Nat), (57 : Nat), (64 : Nat), (107 : Nat)), ((10 : Nat), (57 : Nat), (90 : Nat), (0 : Nat)), ((64 : Nat), (83 : Nat), (90 : Nat), (0 : Nat))]) (by decide) rfl ?_
  intro p e s m args below meth c s₁ B hml hv
  obtain ⟨rfl, hM, hK, hZ, hz⟩ := hv
  have hC : wC G s := ⟨hK, hZ, hz⟩
  have hx := B.exec
  have hb := B.bytes
  have hr := B.returns
  have hts := atoms_spec (ws := (wsW_ yX1_parse cX1_parse 4 (Option.some Jvm.ClassFile.FieldType.int) [((10 : Nat), (57 : Nat), (64 : Nat), (107 : Nat)), ((10 : Nat), (57 : Nat), (90 : Nat), (0 : Nat)), ((64 : Nat), (83 : Nat), (90 : Nat), (0 : Nat))])) B.pre
  have htab := vx_table (x := yX1_parse) B (hts _ List.mem_cons_self)
  have hts : ∀ w ∈ lw_all, w.before _ s = true := fun w h => hts w (List.mem_cons_of_mem _ h)
  have hown : s.vm.findClass RX1 = some m.cls := findClass_of_methodNamed B.named
  have hlk := B.notSynchronized
  have X : CallFix p m c cX1_parse 4 s ([.ref t0] : List Value).toArray lw_all RX1 := ⟨hx, hb, hml, hown, hts⟩
  have hS : va_S (wA G) s.heap s.heap [] := va_S.rf
  have hl := lv_entry ([.ref t0]) (n := 4) (Nat.le_of_ble_eq_true rfl)
  rw [lg_entry_eq]
  generalize (lg_sl ([.ref t0]) ++ List.replicate (4 - (lg_sl ([.ref t0])).length) Slot.unset).toArray = ls at hl ⊢
  have hl : lv_has ls 4 [(0, .ref t0)] := hl
  have hB : 0 + b ≤ ((headSpec (wsW_ yX1_parse cX1_parse 4 (Option.some Jvm.ClassFile.FieldType.int) [((10 : Nat), (57 : Nat), (64 : Nat), (107 : Nat)), ((10 : Nat), (57 : Nat), (90 : Nat), (0 : Nat)), ((64 : Nat), (83 : Nat), (90 : Nat), (0 : Nat))]) ({ frames := 25, cells := b, slots := b, locals := 689 })).room).cells ∧ 0 + b ≤ ((headSpec (wsW_ yX1_parse cX1_parse 4 (Option.some Jvm.ClassFile.FieldType.int) [((10 : Nat), (57 : Nat), (64 : Nat), (107 : Nat)), ((10 : Nat), (57 : Nat), (90 : Nat), (0 : Nat)), ((64 : Nat), (83 : Nat), (90 : Nat), (0 : Nat))]) ({ frames := 25, cells := b, slots := b, locals := 689 })).room).slots := ⟨Nat.le_of_eq (Nat.zero_add b), Nat.le_of_eq (Nat.zero_add b)⟩
  have hB64 : ∀ (x0 : Nat) (y0 : Nat) (M : wM) (bq : Nat) (H : Heap) (locs : List Loc) (ls : Array Slot) (cells slots : Nat), B_X1_parse_64 G Q x0 y0 M bq → wR G M H → va_S (wA G) s.heap H locs → (cells + bq ≤ ((headSpec (wsW_ yX1_parse cX1_parse 4 (Option.some Jvm.ClassFile.FieldType.int) [((10 : Nat), (57 : Nat), (64 : Nat), (107 : Nat)), ((10 : Nat), (57 : Nat), (90 : Nat), (0 : Nat)), ((64 : Nat), (83 : Nat), (90 : Nat), (0 : Nat))]) ({ frames := 25, cells := b, slots := b, locals := 689 })).room).cells ∧ slots + bq ≤ ((headSpec (wsW_ yX1_parse cX1_parse 4 (Option.some Jvm.ClassFile.FieldType.int) [((10 : Nat), (57 : Nat), (64 : Nat), (107 : Nat)), ((10 : Nat), (57 : Nat), (90 : Nat), (0 : Nat)), ((64 : Nat), (83 : Nat), (90 : Nat), (0 : Nat))]) ({ frames := 25, cells := b, slots := b, locals := 689 })).room).slots) → lv_has ls 4 [(0, .ref x0)] → W p l e (headSpec (wsW_ yX1_parse cX1_parse 4 (Option.some Jvm.ClassFile.FieldType.int) [((10 : Nat), (57 : Nat), (64 : Nat), (107 : Nat)), ((10 : Nat), (57 : Nat), (90 : Nat), (0 : Nat)), ((64 : Nat), (83 : Nat), (90 : Nat), (0 : Nat))]) ({ frames := 25, cells := b, slots := b, locals := 689 })).room s m ([.ref t0] : List Value).toArray below meth c H locs cells slots (vx_MQ below (wQ G (wqI Q)) (wXC G wX0) ([.ref t0] : List Value).toArray s b b (wA G)) (F0 m 64 ls [.ref y0]) := by
    intro x0 y0 M bq H locs ls cells slots hp hM hS hB hl
    refine lv_astore_n (lv' := [(1, .ref y0), (0, .ref x0)]) hx hb dX1_parse_64 rfl hl (by decide) rfl (fun ls hl => ?_)
    refine lv_aload_n hx hb dX1_parse_65 rfl (lv_at hl 1 rfl) ?_
    refine lv_aload_n hx hb dX1_parse_66 rfl (lv_at hl 0 rfl) ?_
    refine x_getIN X hC.1 hM (ci := 5) (C := RX6) (T := TX6) (N := 8) rfl in_X6 6 (by decide) q1263 (fun _ h9 => h9) dX1_parse_67 hp (fun v1 hp => ?_)
    refine x_put X hC.1 hM hS (ci := 0) (C := RX1) (T := TX1) (N := 8) rfl in_X1 tyX1 tyX1_ok nmX1 5 (by decide) q980 (fun _ h9 => h9) rfl rfl rfl dX1_parse_70 hp (fun M2 H locs hM hS hp => ?_)
    refine lv_aload_n hx hb dX1_parse_73 rfl (lv_at hl 1 rfl) ?_
    refine lv_aload_n hx hb dX1_parse_74 rfl (lv_at hl 0 rfl) ?_
    refine x_getIN X hC.1 hM (ci := 5) (C := RX6) (T := TX6) (N := 8) rfl in_X6 7 (by decide) q1265 (fun _ h9 => h9) dX1_parse_75 hp (fun v3 hp => ?_)
    refine x_put X hC.1 hM hS (ci := 0) (C := RX1) (T := TX1) (N := 8) rfl in_X1 tyX1 tyX1_ok nmX1 6 (by decide) q981 (fun _ h9 => h9) rfl rfl rfl dX1_parse_78 hp (fun M4 H locs hM hS hp => ?_)
    refine lv_iconst (v := (-1)) hx hb dX1_parse_81 (by decide) ?_
    refine lv_istore_n (lv' := [(2, .int (-1 : Int32)), (1, .ref y0), (0, .ref x0)]) hx hb dX1_parse_82 rfl hl (by decide) rfl (fun ls hl => ?_)
    refine lv_aload_n hx hb dX1_parse_83 rfl (lv_at hl 2 rfl) ?_
    refine lv_iconst (v := 0) hx hb dX1_parse_84 (by decide) ?_
    refine x_put X hC.1 hM hS (ci := 0) (C := RX1) (T := TX1) (N := 8) rfl in_X1 tyX1 tyX1_ok nmX1 4 (by decide) q979 (fun _ h9 => h9) rfl rfl rfl dX1_parse_85 hp (fun M5 H locs hM hS hp => ?_)
    refine lv_iload_n hx hb dX1_parse_88 rfl (lv_at hl 0 rfl) ?_
    exact x_iret X hr hlk hM hS (w_fin hB) dX1_parse_89 ⟨_, rfl, hp⟩
  refine lv_aload_n hx hb dX1_parse_0 rfl (lv_at hl 0 rfl) ?_
  refine lv_iconst (v := 0) hx hb dX1_parse_1 (by decide) ?_
  refine x_put X hC.1 hM hS (ci := 0) (C := RX1) (T := TX1) (N := 8) rfl in_X1 tyX1 tyX1_ok nmX1 5 (by decide) q980 (fun _ h9 => h9) rfl rfl rfl dX1_parse_2 hp (fun M1 H locs hM hS hp => ?_)
  refine lv_aload_n hx hb dX1_parse_5 rfl (lv_at hl 0 rfl) ?_
  refine lv_iconst (v := (-1)) hx hb dX1_parse_6 (by decide) ?_
  refine x_put X hC.1 hM hS (ci := 0) (C := RX1) (T := TX1) (N := 8) rfl in_X1 tyX1 tyX1_ok nmX1 6 (by decide) q981 (fun _ h9 => h9) rfl rfl rfl dX1_parse_7 hp (fun M2 H locs hM hS hp => ?_)
  refine lv_aload_n hx hb dX1_parse_10 rfl (lv_at hl 0 rfl) ?_
  refine x_new X hC hM hS hB (ci := 1) (C := RX2) (T := TX2) (N := 9) rfl in_X2 tyX2 tyX2_ok q220 q221 q149 rfl (by decide) dX1_parse_11 hp (fun a3 M4 H b5 cells slots hM hS hB hp => ?_)
  refine lv_dup hx hb dX1_parse_14 rfl ?_
  refine x_new X hC hM hS hB (ci := 4) (C := RX5) (T := TX5) (N := 9) rfl in_X5 tyX5 tyX5_ok q1020 q1021 q179 rfl (by decide) dX1_parse_15 hp (fun a6 M7 H b8 cells slots hM hS hB hp => ?_)
  refine lv_dup hx hb dX1_parse_18 rfl ?_
  refine lv_aload_n hx hb dX1_parse_19 rfl (lv_at hl 0 rfl) ?_
  obtain ⟨c10, hc1, hp⟩ := hp
  refine x_callV (vx_runI (As := [.ref t0]) (rest := [.ref a6, .ref a3, .ref a3, .ref t0]) X (P_X5_init_ok (l := l) hl0 hp) (cwI 1 hts (lw_meth q1024) rfl rfl rfl (hts _ q179) (hts _ q1022) (hts _ q1023) rfl (by decide +kernel) ⟨Nat.le_of_ble_eq_true rfl, Nat.le_of_ble_eq_true rfl⟩) ⟨wPc.blind, w_pre hC hM hS _⟩ rfl rfl hl.1 rfl (lv_room (Nat.le_of_ble_eq_true rfl)) dX1_parse_20 (w_room hB hc1)) hS hB hc1 (fun _ _ _ _ _ _ h => False.elim h) (fun M9 H locs hp hM hS hB => ?_)
  obtain ⟨hrec, hp⟩ := hp
  obtain ⟨c12, hc1, hp⟩ := hp
  refine x_callR (vx_runV (As := []) (rest := [.ref a3, .ref a3, .ref t0]) X (P_X5_parse_ok (l := l) hl0 hp) (cwV 0 hts (lw_V q1157 q1158 q1159 q179 q1160) rfl rfl rfl (by decide +kernel) ⟨Nat.le_of_ble_eq_true rfl, Nat.le_of_ble_eq_true rfl⟩) ⟨wPc.blind, w_recv hC.1 hM (ci := 4) (q := (RX5, TX5, 9)) rfl hrec, w_pre hC hM hS _⟩ rfl rfl hl.1 rfl (lv_room (Nat.le_of_ble_eq_true rfl)) dX1_parse_23 (w_room hB hc1)) hS hB hc1 (fun E ce q31 M32 H locs hp hM hS hB hcell hcv hcl => ?_) (fun r13 M11 H locs hp hM hS hB => ?_)
  · obtain ⟨rfl, hp⟩ := hp
    refine vx_catch (own := "ParkingOffice") (name := "ParkingOffice$ParseException") (E := "ParkingOffice$ParseException") hown [] ⟨10, 57, 64, 107⟩ [⟨10, 57, 90, 0⟩, ⟨64, 83, 90, 0⟩] (by rw [htab]; rfl) (fun _ h => absurd h List.not_mem_nil) (by decide) (by decide) (hts _ q1019) (va_Nw.use rfl (hC.1.2.2.1 _ q1246 rfl)) hcell hcv hcl ?_
    exact hB64 _ _ _ _ _ _ _ _ _ hp hM hS hB (lv_sub hl [0] rfl)
  · obtain ⟨a14, ea, hqa14⟩ := hp
    subst ea
    have hp := hqa14
    obtain ⟨c16, hc1, hp⟩ := hp
    refine x_callV (vx_runI (As := [.ref a14]) (rest := [.ref a3, .ref t0]) X (P_X2_init_ok (l := l) hl0 hp) (cwI 1 hts (lw_meth q443) rfl rfl rfl (hts _ q149) (hts _ q441) (hts _ q442) rfl (by decide +kernel) ⟨Nat.le_of_ble_eq_true rfl, Nat.le_of_ble_eq_true rfl⟩) ⟨wPc.blind, w_pre hC hM hS _⟩ rfl rfl hl.1 rfl (lv_room (Nat.le_of_ble_eq_true rfl)) dX1_parse_26 (w_room hB hc1)) hS hB hc1 (fun _ _ _ _ _ _ h => False.elim h) (fun M15 H locs hp hM hS hB => ?_)
    refine x_put X hC.1 hM hS (ci := 0) (C := RX1) (T := TX1) (N := 8) rfl in_X1 tyX1 tyX1_ok nmX1 0 (by decide) q973 (fun _ h9 => h9) rfl rfl rfl dX1_parse_29 hp (fun M17 H locs hM hS hp => ?_)
    refine lv_aload_n hx hb dX1_parse_32 rfl (lv_at hl 0 rfl) ?_
    refine x_getA X hC.1 hM (ci := 0) (C := RX1) (T := TX1) (N := 8) rfl in_X1 2 (by decide) q975 (fun _ h9 => h9) dX1_parse_33 hp (fun a18 hp => ?_)
    obtain ⟨hrec, hp⟩ := hp
    refine x_call0V (vx_runV (As := []) (rest := []) X (P_J25_clear_ok (l := l) hl0 hp) (cwV 0 hts (lw_V q1528 q1529 q1530 q177 q1531) rfl rfl rfl (by decide +kernel) ⟨Nat.le_of_ble_eq_true rfl, Nat.le_of_ble_eq_true rfl⟩) ⟨wPc.blind, w_recv hC.1 hM (ci := 22) (q := (RJ25, TJ25, 3)) rfl hrec, w_pre hC hM hS _⟩ rfl rfl hl.1 rfl (lv_room (Nat.le_of_ble_eq_true rfl)) dX1_parse_36 (w_room0 hB)) hS (w_room0 hB) (fun _ _ _ _ _ _ h => False.elim h) (fun M19 H locs hp hM hS => ?_)
    refine lv_aload_n hx hb dX1_parse_39 rfl (lv_at hl 0 rfl) ?_
    refine lv_null hx hb dX1_parse_40 ?_
    refine x_put X hC.1 hM hS (ci := 0) (C := RX1) (T := TX1) (N := 8) rfl in_X1 tyX1 tyX1_ok nmX1 1 (by decide) q974 (fun _ h9 => h9) rfl (w_nobj _ none) (w_fobj _ none) dX1_parse_41 hp (fun M21 H locs hM hS hp => ?_)
    refine lv_aload_n hx hb dX1_parse_44 rfl (lv_at hl 0 rfl) ?_
    obtain ⟨hrec, hp⟩ := hp
    refine x_call0R (vx_runV (As := []) (rest := []) X (P_X1_setup_ok (l := l) hl0 hp) (cwV 0 hts (lw_V q1535 q1537 qs29 q148 q1538) rfl rfl rfl (by decide +kernel) ⟨Nat.le_of_ble_eq_true rfl, Nat.le_of_ble_eq_true rfl⟩) ⟨wPc.blind, w_recv hC.1 hM (ci := 0) (q := (RX1, TX1, 8)) rfl hrec, w_pre hC hM hS _⟩ rfl rfl hl.1 rfl (lv_room (Nat.le_of_ble_eq_true rfl)) dX1_parse_45 (w_room0 hB)) hS (w_room0 hB) (fun _ _ _ _ _ _ h => False.elim h) (fun r24 M22 H locs hp hM hS => ?_)
    obtain ⟨a25, ea, hqa25⟩ := hp
    subst ea
    have hp := hqa25
    refine x_getAN X hC.1 hM (ci := 2) (C := RX3) (T := TX3) (N := 8) rfl in_X3 2 (by decide) q405 (fun _ h9 => h9) dX1_parse_48 hp (fun a26 hp => ?_)
    obtain ⟨hrec, hp⟩ := hp
    refine x_call0I5 (vx_runF (hC.1.1.1 16 (RJ2, TJ2, 3) rfl).2 (C := "java/util/ArrayList") (As := []) (rest := []) X (P_J2_size_ok (l := l) hl0 hp) (va_cwF 0 hts (lw_app (w_mem4 q1540 q496 q498 q153) (lw_meth q500)) rfl rfl rfl (wfw_13 hC.1) (by decide +kernel) ⟨Nat.le_of_ble_eq_true rfl, Nat.le_of_ble_eq_true rfl⟩) ⟨wPc.blind, w_recv hC.1 hM (ci := 16) (q := (RJ2, TJ2, 3)) rfl hrec, w_pre hC hM hS _⟩ rfl rfl hl.1 rfl (lv_room (Nat.le_of_ble_eq_true rfl)) dX1_parse_51 (w_room0 hB)) hS (w_room0 hB) (fun _ _ _ _ _ _ h => False.elim h) (fun v29 M27 H locs hp hM hS => ?_)
    refine lv_istore_n (lv' := [(1, .int v29), (0, .ref t0)]) hx hb dX1_parse_56 rfl hl (by decide) rfl (fun ls hl => ?_)
    refine lv_aload_n hx hb dX1_parse_57 rfl (lv_at hl 1 rfl) ?_
    refine lv_iconst (v := 0) hx hb dX1_parse_58 (by decide) ?_
    refine x_put X hC.1 hM hS (ci := 0) (C := RX1) (T := TX1) (N := 8) rfl in_X1 tyX1 tyX1_ok nmX1 4 (by decide) q979 (fun _ h9 => h9) rfl rfl rfl dX1_parse_59 hp (fun M30 H locs hM hS hp => ?_)
    refine lv_iload_n hx hb dX1_parse_62 rfl (lv_at hl 0 rfl) ?_
    exact x_iret X hr hlk hM hS (w_fin hB) dX1_parse_63 ⟨_, rfl, hp⟩
def P_X1_pass (G : wG) (t0 : Nat) (p1 : Int32) (b : Nat) (M : wM) (Q : Int32 → wM → Prop) (Xp : String → Nat → wM → Prop) : Prop :=
  P_X1_inRange G p1 (1 : Int32) (20160 : Int32) M (fun r3 M1 => ∃ c5, c5 ≤ b ∧ P_X1_checkArgument G (wb r3) c5 M1 (fun M4 => oIs M4 t0 0 (∃ c7, c7 ≤ (b - c5) ∧ P_X1_remember G t0 c7 M4 (fun M6 => oGetA M6 t0 0 0 (fun a8 => oGetA M6 t0 0 0 (fun a9 => oGetI M6 a9 1 8 (fun v10 => oIs M6 a8 1 (P_X2_passTo G a8 (v10 + p1) M6 (fun M11 => oGetA M11 t0 0 0 (fun a13 => oGetI M11 a13 1 8 (fun v14 => Q v14 M11)))))))))) (fun E q15 M16 => (E = "java/lang/IllegalArgumentException" ∧ Xp E q15 M16)))
set_option maxHeartbeats 4000000 in
set_option maxRecDepth 100000 in
theorem P_X1_pass_ok {l : Launch} (hl0 : l.stackTraces = false) {G : wG} {t0 : Nat} {p1 : Int32} {b : Nat} {M : wM} {Q : Int32 → wM → Prop} {Xp : String → Nat → wM → Prop} (hp : P_X1_pass G t0 p1 b M Q Xp) : wMet l yX1_pass (ws_ yX1_pass cX1_pass 2 (Option.some Jvm.ClassFile.FieldType.int)) 21 599 G [.ref t0, .int p1] M b (wqI Q) Xp := by
  refine vx_ofW (cc := cX1_pass) (maxL := 2) (ret := Option.some Jvm.ClassFile.FieldType.int) (by decide) rfl ?_
  intro p e s m args below meth c s₁ B hml hnt hv
  obtain ⟨rfl, hM, hK, hZ, hz⟩ := hv
  have hC : wC G s := ⟨hK, hZ, hz⟩
  have hx := B.exec
  have hb := B.bytes
  have hr := B.returns
  have hts := atoms_spec (ws := (ws_ yX1_pass cX1_pass 2 (Option.some Jvm.ClassFile.FieldType.int))) B.pre
  have hts : ∀ w ∈ lw_all, w.before _ s = true := fun w h => hts w (List.mem_cons_of_mem _ h)
  have hown : s.vm.findClass RX1 = some m.cls := findClass_of_methodNamed B.named
  have hlk := B.notSynchronized
  have X : CallFix p m c cX1_pass 2 s ([.ref t0, .int p1] : List Value).toArray lw_all RX1 := ⟨hx, hb, hml, hown, hts⟩
  have hS : va_S (wA G) s.heap s.heap [] := va_S.rf
  have hl := lv_entry ([.ref t0, .int p1]) (n := 2) (Nat.le_of_ble_eq_true rfl)
  rw [lg_entry_eq]
  generalize (lg_sl ([.ref t0, .int p1]) ++ List.replicate (2 - (lg_sl ([.ref t0, .int p1])).length) Slot.unset).toArray = ls at hl ⊢
  have hl : lv_has ls 2 [(0, .ref t0), (1, .int p1)] := hl
  have hB : 0 + b ≤ ((headSpec (ws_ yX1_pass cX1_pass 2 (Option.some Jvm.ClassFile.FieldType.int)) ({ frames := 21, cells := b, slots := b, locals := 599 })).room).cells ∧ 0 + b ≤ ((headSpec (ws_ yX1_pass cX1_pass 2 (Option.some Jvm.ClassFile.FieldType.int)) ({ frames := 21, cells := b, slots := b, locals := 599 })).room).slots := ⟨Nat.le_of_eq (Nat.zero_add b), Nat.le_of_eq (Nat.zero_add b)⟩
  refine lv_iload_n hx hb dX1_pass_0 rfl (lv_at hl 1 rfl) ?_
  refine lv_iconst (v := 1) hx hb dX1_pass_1 (by decide) ?_
  refine lv_sipush (v := 20160) hx hb dX1_pass_2 (by decide) ?_
  refine x_call0Z (vx_runS (As := [.int p1, .int (1 : Int32), .int (20160 : Int32)]) (rest := []) X (P_X1_inRange_ok (l := l) hl0 hp) (va_cwS 3 hts (lw_S q1012 q1013 q148 q1014) rfl rfl rfl (by decide +kernel) ⟨Nat.le_of_ble_eq_true rfl, Nat.le_of_ble_eq_true rfl⟩) ⟨wPc.blind, w_pre hC hM hS _⟩ rfl rfl hl.1 rfl (lv_room (Nat.le_of_ble_eq_true rfl)) dX1_pass_5 (w_room0 hB)) hS (w_room0 hB) (fun _ _ _ _ _ _ h => False.elim h) (fun r3 M1 H locs hp hM hS => ?_)
  obtain ⟨c5, hc1, hp⟩ := hp
  refine x_callV (vx_runS (As := [.int (wb r3)]) (rest := []) X (P_X1_checkArgument_ok (l := l) hl0 hp) (va_cwS 1 hts (lw_S q2325 q2326 q148 q2327) rfl rfl rfl (by decide +kernel) ⟨Nat.le_of_ble_eq_true rfl, Nat.le_of_ble_eq_true rfl⟩) ⟨wPc.blind, w_pre hC hM hS _⟩ rfl rfl hl.1 rfl (lv_room (Nat.le_of_ble_eq_true rfl)) dX1_pass_8 (w_room hB hc1)) hS hB hc1 (fun E ce q15 M16 H locs hp hM hS hB hcell hcv hcl => ?_) (fun M4 H locs hp hM hS hB => ?_)
  · obtain ⟨rfl, hp⟩ := hp
    exact x_out hlk (fun x h => (hnt x h).elim) hM hS (w_fin hB) hcell hcv hcl hp
  · refine lv_aload_n hx hb dX1_pass_11 rfl (lv_at hl 0 rfl) ?_
    obtain ⟨hrec, hp⟩ := hp
    obtain ⟨c7, hc1, hp⟩ := hp
    refine x_callV (vx_runV (As := []) (rest := []) X (P_X1_remember_ok (l := l) hl0 hp) (cwV 0 hts (lw_V q2543 q2545 qs49 q148 q2546) rfl rfl rfl (by decide +kernel) ⟨Nat.le_of_ble_eq_true rfl, Nat.le_of_ble_eq_true rfl⟩) ⟨wPc.blind, w_recv hC.1 hM (ci := 0) (q := (RX1, TX1, 8)) rfl hrec, w_pre hC hM hS _⟩ rfl rfl hl.1 rfl (lv_room (Nat.le_of_ble_eq_true rfl)) dX1_pass_12 (w_room hB hc1)) hS hB hc1 (fun _ _ _ _ _ _ h => False.elim h) (fun M6 H locs hp hM hS hB => ?_)
    refine lv_aload_n hx hb dX1_pass_15 rfl (lv_at hl 0 rfl) ?_
    refine x_getA X hC.1 hM (ci := 0) (C := RX1) (T := TX1) (N := 8) rfl in_X1 0 (by decide) q973 (fun _ h9 => h9) dX1_pass_16 hp (fun a8 hp => ?_)
    refine lv_aload_n hx hb dX1_pass_19 rfl (lv_at hl 0 rfl) ?_
    refine x_getA X hC.1 hM (ci := 0) (C := RX1) (T := TX1) (N := 8) rfl in_X1 0 (by decide) q973 (fun _ h9 => h9) dX1_pass_20 hp (fun a9 hp => ?_)
    refine x_getIN X hC.1 hM (ci := 1) (C := RX2) (T := TX2) (N := 9) rfl in_X2 8 (by decide) q934 (fun _ h9 => h9) dX1_pass_23 hp (fun v10 hp => ?_)
    refine lv_iload_n hx hb dX1_pass_26 rfl (lv_at hl 1 rfl) ?_
    refine lv_iadd hx hb dX1_pass_27 ?_
    obtain ⟨hrec, hp⟩ := hp
    refine x_call0V (vx_runV (As := [.int (v10 + p1)]) (rest := []) X (P_X2_passTo_ok (l := l) hl0 hp) (cwV 1 hts (lw_V q2594 q2595 q2596 q149 q2597) rfl rfl rfl (by decide +kernel) ⟨Nat.le_of_ble_eq_true rfl, Nat.le_of_ble_eq_true rfl⟩) ⟨wPc.blind, w_recv hC.1 hM (ci := 1) (q := (RX2, TX2, 9)) rfl hrec, w_pre hC hM hS _⟩ rfl rfl hl.1 rfl (lv_room (Nat.le_of_ble_eq_true rfl)) dX1_pass_28 (w_room0 hB)) hS (w_room0 hB) (fun _ _ _ _ _ _ h => False.elim h) (fun M11 H locs hp hM hS => ?_)
    refine lv_aload_n hx hb dX1_pass_31 rfl (lv_at hl 0 rfl) ?_
    refine x_getA X hC.1 hM (ci := 0) (C := RX1) (T := TX1) (N := 8) rfl in_X1 0 (by decide) q973 (fun _ h9 => h9) dX1_pass_32 hp (fun a13 hp => ?_)
    refine x_getIN X hC.1 hM (ci := 1) (C := RX2) (T := TX2) (N := 9) rfl in_X2 8 (by decide) q934 (fun _ h9 => h9) dX1_pass_35 hp (fun v14 hp => ?_)
    exact x_iret X hr hlk hM hS (w_fin hB) dX1_pass_38 ⟨_, rfl, hp⟩
def B_X1_permit_113 (G : wG) (Q : Int32 → wM → Prop) (Xp : String → Nat → wM → Prop) (y0 : Int32) (M : wM) (bq : Nat) : Prop :=
  Q y0 M
def P_X1_permit (G : wG) (t0 : Nat) (p1 : Int32) (p2 : Int32) (b : Nat) (M : wM) (Q : Int32 → wM → Prop) (Xp : String → Nat → wM → Prop) : Prop :=
  oIs M t0 0 (∃ c2, c2 ≤ b ∧ P_X1_permitAt G t0 p1 c2 M (fun r3 M1 => P_X1_inRange G p2 (0 : Int32) (7 : Int32) M1 (fun r6 M4 => ∃ c8, c8 ≤ (b - c2) ∧ P_X1_checkIndex G (wb r6) c8 M4 (fun M7 => oIf (p2 = (0 : Int32)) (oRef r3 (fun a11 => oGetI M7 a11 9 0 (fun v12 => B_X1_permit_113 G Q Xp v12 M7 ((b - c2) - c8)))) (oIf (p2 = (1 : Int32)) (oRef r3 (fun a13 => oGetI M7 a13 9 1 (fun v14 => B_X1_permit_113 G Q Xp v14 M7 ((b - c2) - c8)))) (oIf (p2 = (2 : Int32)) (oRef r3 (fun a15 => oGetI M7 a15 9 2 (fun v16 => B_X1_permit_113 G Q Xp v16 M7 ((b - c2) - c8)))) (oIf (p2 = (3 : Int32)) (oRef r3 (fun a17 => oGetI M7 a17 9 4 (fun v18 => B_X1_permit_113 G Q Xp v18 M7 ((b - c2) - c8)))) (oIf (p2 = (4 : Int32)) (oRef r3 (fun a19 => oGetI M7 a19 9 3 (fun v20 => B_X1_permit_113 G Q Xp v20 M7 ((b - c2) - c8)))) (oIf (p2 = (5 : Int32)) (oRef r3 (fun a21 => oGetI M7 a21 9 5 (fun v22 => B_X1_permit_113 G Q Xp v22 M7 ((b - c2) - c8)))) (oIf (p2 = (6 : Int32)) (oRef r3 (fun a23 => oGetI M7 a23 9 6 (fun v24 => B_X1_permit_113 G Q Xp v24 M7 ((b - c2) - c8)))) (oRef r3 (fun a9 => oGetI M7 a9 9 7 (fun v10 => B_X1_permit_113 G Q Xp v10 M7 ((b - c2) - c8))))))))))) (fun E q25 M26 => (E = "java/lang/IndexOutOfBoundsException" ∧ Xp E q25 M26)))) (fun E q27 M28 => (E = "java/lang/IndexOutOfBoundsException" ∧ Xp E q27 M28)))
set_option maxHeartbeats 4000000 in
set_option maxRecDepth 100000 in
theorem P_X1_permit_ok {l : Launch} (hl0 : l.stackTraces = false) {G : wG} {t0 : Nat} {p1 : Int32} {p2 : Int32} {b : Nat} {M : wM} {Q : Int32 → wM → Prop} {Xp : String → Nat → wM → Prop} (hp : P_X1_permit G t0 p1 p2 b M Q Xp) : wMet l yX1_permit (ws_ yX1_permit cX1_permit 4 (Option.some Jvm.ClassFile.FieldType.int)) 16 485 G [.ref t0, .int p1, .int p2] M b (wqI Q) Xp := by
  refine vx_ofW (cc := cX1_permit) (maxL := 4) (ret := Option.some Jvm.ClassFile.FieldType.int) (by decide) rfl ?_
  intro p e s m args below meth c s₁ B hml hnt hv
  obtain ⟨rfl, hM, hK, hZ, hz⟩ := hv
  have hC : wC G s := ⟨hK, hZ, hz⟩
  have hx := B.exec
  have hb := B.bytes
  have hr := B.returns
  have hts := atoms_spec (ws := (ws_ yX1_permit cX1_permit 4 (Option.some Jvm.ClassFile.FieldType.int))) B.pre
  have hts : ∀ w ∈ lw_all, w.before _ s = true := fun w h => hts w (List.mem_cons_of_mem _ h)
  have hown : s.vm.findClass RX1 = some m.cls := findClass_of_methodNamed B.named
  have hlk := B.notSynchronized
  have X : CallFix p m c cX1_permit 4 s ([.ref t0, .int p1, .int p2] : List Value).toArray lw_all RX1 := ⟨hx, hb, hml, hown, hts⟩
  have hS : va_S (wA G) s.heap s.heap [] := va_S.rf
  have hl := lv_entry ([.ref t0, .int p1, .int p2]) (n := 4) (Nat.le_of_ble_eq_true rfl)
  rw [lg_entry_eq]
  generalize (lg_sl ([.ref t0, .int p1, .int p2]) ++ List.replicate (4 - (lg_sl ([.ref t0, .int p1, .int p2])).length) Slot.unset).toArray = ls at hl ⊢
  have hl : lv_has ls 4 [(0, .ref t0), (1, .int p1), (2, .int p2)] := hl
  have hB : 0 + b ≤ ((headSpec (ws_ yX1_permit cX1_permit 4 (Option.some Jvm.ClassFile.FieldType.int)) ({ frames := 16, cells := b, slots := b, locals := 485 })).room).cells ∧ 0 + b ≤ ((headSpec (ws_ yX1_permit cX1_permit 4 (Option.some Jvm.ClassFile.FieldType.int)) ({ frames := 16, cells := b, slots := b, locals := 485 })).room).slots := ⟨Nat.le_of_eq (Nat.zero_add b), Nat.le_of_eq (Nat.zero_add b)⟩
  have hB113 : ∀ (y0 : Int32) (M : wM) (bq : Nat) (H : Heap) (locs : List Loc) (ls : Array Slot) (cells slots : Nat), B_X1_permit_113 G Q Xp y0 M bq → wR G M H → va_S (wA G) s.heap H locs → (cells + bq ≤ ((headSpec (ws_ yX1_permit cX1_permit 4 (Option.some Jvm.ClassFile.FieldType.int)) ({ frames := 16, cells := b, slots := b, locals := 485 })).room).cells ∧ slots + bq ≤ ((headSpec (ws_ yX1_permit cX1_permit 4 (Option.some Jvm.ClassFile.FieldType.int)) ({ frames := 16, cells := b, slots := b, locals := 485 })).room).slots) → lv_has ls 4 [] → W p l e (headSpec (ws_ yX1_permit cX1_permit 4 (Option.some Jvm.ClassFile.FieldType.int)) ({ frames := 16, cells := b, slots := b, locals := 485 })).room s m ([.ref t0, .int p1, .int p2] : List Value).toArray below meth c H locs cells slots (vx_MQ below (wQ G (wqI Q)) (wXC G Xp) ([.ref t0, .int p1, .int p2] : List Value).toArray s b b (wA G)) (F0 m 113 ls [.int y0]) := by
    intro y0 M bq H locs ls cells slots hp hM hS hB hl
    exact x_iret X hr hlk hM hS (w_fin hB) dX1_permit_113 ⟨_, rfl, hp⟩
  refine lv_aload_n hx hb dX1_permit_0 rfl (lv_at hl 0 rfl) ?_
  refine lv_iload_n hx hb dX1_permit_1 rfl (lv_at hl 1 rfl) ?_
  obtain ⟨hrec, hp⟩ := hp
  obtain ⟨c2, hc1, hp⟩ := hp
  refine x_callR (vx_runV (As := [.int p1]) (rest := []) X (P_X1_permitAt_ok (l := l) hl0 hp) (cwV 1 hts (lw_V q2352 q2354 qs41 q148 q2355) rfl rfl rfl (by decide +kernel) ⟨Nat.le_of_ble_eq_true rfl, Nat.le_of_ble_eq_true rfl⟩) ⟨wPc.blind, w_recv hC.1 hM (ci := 0) (q := (RX1, TX1, 8)) rfl hrec, w_pre hC hM hS _⟩ rfl rfl hl.1 rfl (lv_room (Nat.le_of_ble_eq_true rfl)) dX1_permit_2 (w_room hB hc1)) hS hB hc1 (fun E ce q27 M28 H locs hp hM hS hB hcell hcv hcl => ?_) (fun r3 M1 H locs hp hM hS hB => ?_)
  · obtain ⟨rfl, hp⟩ := hp
    exact x_out hlk (fun x h => (hnt x h).elim) hM hS (w_fin hB) hcell hcv hcl hp
  · refine x_astore_n (r := r3) (lv' := [(3, va_rf r3), (0, .ref t0), (1, .int p1), (2, .int p2)]) hx hb dX1_permit_5 rfl hl (by decide) rfl (fun ls hl => ?_)
    refine lv_iload_n hx hb dX1_permit_6 rfl (lv_at hl 3 rfl) ?_
    refine lv_iconst (v := 0) hx hb dX1_permit_7 (by decide) ?_
    refine lv_bipush (v := 7) hx hb dX1_permit_8 (by decide) ?_
    refine x_call0Z (vx_runS (As := [.int p2, .int (0 : Int32), .int (7 : Int32)]) (rest := []) X (P_X1_inRange_ok (l := l) hl0 hp) (va_cwS 3 hts (lw_S q1012 q1013 q148 q1014) rfl rfl rfl (by decide +kernel) ⟨Nat.le_of_ble_eq_true rfl, Nat.le_of_ble_eq_true rfl⟩) ⟨wPc.blind, w_pre hC hM hS _⟩ rfl rfl hl.1 rfl (lv_room (Nat.le_of_ble_eq_true rfl)) dX1_permit_10 (w_room0 hB)) hS (w_room0 hB) (fun _ _ _ _ _ _ h => False.elim h) (fun r6 M4 H locs hp hM hS => ?_)
    obtain ⟨c8, hc1, hp⟩ := hp
    refine x_callV (vx_runS (As := [.int (wb r6)]) (rest := []) X (P_X1_checkIndex_ok (l := l) hl0 hp) (va_cwS 1 hts (lw_S q2200 q2201 q148 q2202) rfl rfl rfl (by decide +kernel) ⟨Nat.le_of_ble_eq_true rfl, Nat.le_of_ble_eq_true rfl⟩) ⟨wPc.blind, w_pre hC hM hS _⟩ rfl rfl hl.1 rfl (lv_room (Nat.le_of_ble_eq_true rfl)) dX1_permit_13 (w_room hB hc1)) hS hB hc1 (fun E ce q25 M26 H locs hp hM hS hB hcell hcv hcl => ?_) (fun M7 H locs hp hM hS hB => ?_)
    · obtain ⟨rfl, hp⟩ := hp
      exact x_out hlk (fun x h => (hnt x h).elim) hM hS (w_fin hB) hcell hcv hcl hp
    · refine lv_iload_n hx hb dX1_permit_16 rfl (lv_at hl 3 rfl) ?_
      by_cases hc0 : p2 = (0 : Int32)
      · have hp := oIf.t hp hc0
        refine lv_tableIn (off := 43) (tgt := 60) hx hb dX1_permit_17 (by rw [hc0]; decide) (by rw [hc0]; decide) (by rw [hc0]; rfl) (by decide) ?_
        refine x_aload_n (r := r3) hx hb dX1_permit_60 rfl (lv_at hl 0 rfl) ?_
        obtain ⟨a11, ea, hqa11⟩ := hp
        subst ea
        have hp := hqa11
        have hl : lv_has ls 4 [(3, .ref a11), (0, .ref t0), (1, .int p1), (2, .int p2)] := hl
        refine x_getI X hC.1 hM (ci := 9) (C := RX12) (T := TX12) (N := 8) rfl in_X12 0 (by decide) q2107 (fun x9 h9 => u_same (hts _ q2102) x9 h9) dX1_permit_61 hp (fun v12 hp => ?_)
        refine lv_goto (tgt := 113) hx hb dX1_permit_64 (by decide) ?_
        exact hB113 _ _ _ _ _ _ _ _ hp hM hS hB (lv_sub hl [] rfl)
      · have hp := oIf.f hp hc0
        by_cases hc1 : p2 = (1 : Int32)
        · have hp := oIf.t hp hc1
          refine lv_tableIn (off := 50) (tgt := 67) hx hb dX1_permit_17 (by rw [hc1]; decide) (by rw [hc1]; decide) (by rw [hc1]; rfl) (by decide) ?_
          refine x_aload_n (r := r3) hx hb dX1_permit_67 rfl (lv_at hl 0 rfl) ?_
          obtain ⟨a13, ea, hqa13⟩ := hp
          subst ea
          have hp := hqa13
          have hl : lv_has ls 4 [(3, .ref a13), (0, .ref t0), (1, .int p1), (2, .int p2)] := hl
          refine x_getI X hC.1 hM (ci := 9) (C := RX12) (T := TX12) (N := 8) rfl in_X12 1 (by decide) q2116 (fun x9 h9 => u_same (hts _ q2111) x9 h9) dX1_permit_68 hp (fun v14 hp => ?_)
          refine lv_goto (tgt := 113) hx hb dX1_permit_71 (by decide) ?_
          exact hB113 _ _ _ _ _ _ _ _ hp hM hS hB (lv_sub hl [] rfl)
        · have hp := oIf.f hp hc1
          by_cases hc2 : p2 = (2 : Int32)
          · have hp := oIf.t hp hc2
            refine lv_tableIn (off := 57) (tgt := 74) hx hb dX1_permit_17 (by rw [hc2]; decide) (by rw [hc2]; decide) (by rw [hc2]; rfl) (by decide) ?_
            refine x_aload_n (r := r3) hx hb dX1_permit_74 rfl (lv_at hl 0 rfl) ?_
            obtain ⟨a15, ea, hqa15⟩ := hp
            subst ea
            have hp := hqa15
            have hl : lv_has ls 4 [(3, .ref a15), (0, .ref t0), (1, .int p1), (2, .int p2)] := hl
            refine x_getIN X hC.1 hM (ci := 9) (C := RX12) (T := TX12) (N := 8) rfl in_X12 2 (by decide) q2086 (fun _ h9 => h9) dX1_permit_75 hp (fun v16 hp => ?_)
            refine lv_goto (tgt := 113) hx hb dX1_permit_78 (by decide) ?_
            exact hB113 _ _ _ _ _ _ _ _ hp hM hS hB (lv_sub hl [] rfl)
          · have hp := oIf.f hp hc2
            by_cases hc3 : p2 = (3 : Int32)
            · have hp := oIf.t hp hc3
              refine lv_tableIn (off := 64) (tgt := 81) hx hb dX1_permit_17 (by rw [hc3]; decide) (by rw [hc3]; decide) (by rw [hc3]; rfl) (by decide) ?_
              refine x_aload_n (r := r3) hx hb dX1_permit_81 rfl (lv_at hl 0 rfl) ?_
              obtain ⟨a17, ea, hqa17⟩ := hp
              subst ea
              have hp := hqa17
              have hl : lv_has ls 4 [(3, .ref a17), (0, .ref t0), (1, .int p1), (2, .int p2)] := hl
              refine x_getIN X hC.1 hM (ci := 9) (C := RX12) (T := TX12) (N := 8) rfl in_X12 4 (by decide) q2091 (fun _ h9 => h9) dX1_permit_82 hp (fun v18 hp => ?_)
              refine lv_goto (tgt := 113) hx hb dX1_permit_85 (by decide) ?_
              exact hB113 _ _ _ _ _ _ _ _ hp hM hS hB (lv_sub hl [] rfl)
            · have hp := oIf.f hp hc3
              by_cases hc4 : p2 = (4 : Int32)
              · have hp := oIf.t hp hc4
                refine lv_tableIn (off := 71) (tgt := 88) hx hb dX1_permit_17 (by rw [hc4]; decide) (by rw [hc4]; decide) (by rw [hc4]; rfl) (by decide) ?_
                refine x_aload_n (r := r3) hx hb dX1_permit_88 rfl (lv_at hl 0 rfl) ?_
                obtain ⟨a19, ea, hqa19⟩ := hp
                subst ea
                have hp := hqa19
                have hl : lv_has ls 4 [(3, .ref a19), (0, .ref t0), (1, .int p1), (2, .int p2)] := hl
                refine x_getIN X hC.1 hM (ci := 9) (C := RX12) (T := TX12) (N := 8) rfl in_X12 3 (by decide) q2088 (fun _ h9 => h9) dX1_permit_89 hp (fun v20 hp => ?_)
                refine lv_goto (tgt := 113) hx hb dX1_permit_92 (by decide) ?_
                exact hB113 _ _ _ _ _ _ _ _ hp hM hS hB (lv_sub hl [] rfl)
              · have hp := oIf.f hp hc4
                by_cases hc5 : p2 = (5 : Int32)
                · have hp := oIf.t hp hc5
                  refine lv_tableIn (off := 78) (tgt := 95) hx hb dX1_permit_17 (by rw [hc5]; decide) (by rw [hc5]; decide) (by rw [hc5]; rfl) (by decide) ?_
                  refine x_aload_n (r := r3) hx hb dX1_permit_95 rfl (lv_at hl 0 rfl) ?_
                  obtain ⟨a21, ea, hqa21⟩ := hp
                  subst ea
                  have hp := hqa21
                  have hl : lv_has ls 4 [(3, .ref a21), (0, .ref t0), (1, .int p1), (2, .int p2)] := hl
                  refine x_getIN X hC.1 hM (ci := 9) (C := RX12) (T := TX12) (N := 8) rfl in_X12 5 (by decide) q2094 (fun _ h9 => h9) dX1_permit_96 hp (fun v22 hp => ?_)
                  refine lv_goto (tgt := 113) hx hb dX1_permit_99 (by decide) ?_
                  exact hB113 _ _ _ _ _ _ _ _ hp hM hS hB (lv_sub hl [] rfl)
                · have hp := oIf.f hp hc5
                  by_cases hc6 : p2 = (6 : Int32)
                  · have hp := oIf.t hp hc6
                    refine lv_tableIn (off := 85) (tgt := 102) hx hb dX1_permit_17 (by rw [hc6]; decide) (by rw [hc6]; decide) (by rw [hc6]; rfl) (by decide) ?_
                    refine x_aload_n (r := r3) hx hb dX1_permit_102 rfl (lv_at hl 0 rfl) ?_
                    obtain ⟨a23, ea, hqa23⟩ := hp
                    subst ea
                    have hp := hqa23
                    have hl : lv_has ls 4 [(3, .ref a23), (0, .ref t0), (1, .int p1), (2, .int p2)] := hl
                    refine x_getIN X hC.1 hM (ci := 9) (C := RX12) (T := TX12) (N := 8) rfl in_X12 6 (by decide) q2097 (fun _ h9 => h9) dX1_permit_103 hp (fun v24 hp => ?_)
                    refine lv_goto (tgt := 113) hx hb dX1_permit_106 (by decide) ?_
                    exact hB113 _ _ _ _ _ _ _ _ hp hM hS hB (lv_sub hl [] rfl)
                  · have hp := oIf.f hp hc6
                    refine lv_tableOut (tgt := 109) hx hb dX1_permit_17 (w_tsw 0 7 (by decide) (by decide) (fun i hi => ?_)) (by decide) ?_
                    · have hi2 : i = 0 ∨ i = 1 ∨ i = 2 ∨ i = 3 ∨ i = 4 ∨ i = 5 ∨ i = 6 := by omega
                      rcases hi2 with rfl | rfl | rfl | rfl | rfl | rfl | rfl
                      · exact fun h => hc0 (h.trans (by decide))
                      · exact fun h => hc1 (h.trans (by decide))
                      · exact fun h => hc2 (h.trans (by decide))
                      · exact fun h => hc3 (h.trans (by decide))
                      · exact fun h => hc4 (h.trans (by decide))
                      · exact fun h => hc5 (h.trans (by decide))
                      · exact fun h => hc6 (h.trans (by decide))
                    · refine x_aload_n (r := r3) hx hb dX1_permit_109 rfl (lv_at hl 0 rfl) ?_
                      obtain ⟨a9, ea, hqa9⟩ := hp
                      subst ea
                      have hp := hqa9
                      have hl : lv_has ls 4 [(3, .ref a9), (0, .ref t0), (1, .int p1), (2, .int p2)] := hl
                      refine x_getIN X hC.1 hM (ci := 9) (C := RX12) (T := TX12) (N := 8) rfl in_X12 7 (by decide) q2099 (fun _ h9 => h9) dX1_permit_110 hp (fun v10 hp => ?_)
                      exact hB113 _ _ _ _ _ _ _ _ hp hM hS hB (lv_sub hl [] rfl)
/-- a paper as a permit: a visit is none, by the machine's own exception, which is caught -/
def P_X1_asPermit (G : wG) (p1 : Nat) (b : Nat) (M : wM) (Q : Option Nat → wM → Prop) : Prop :=
  ((∃ fs, M p1 = some (.inr (9, fs))) ∧ Q (some p1) M) ∨ ((∃ fs, M p1 = some (.inr (10, fs))) ∧ 410 ≤ b ∧ Q none M)
theorem P_X1_asPermit_ok {l : Launch} (hl0 : l.stackTraces = false) {G : wG} {p1 : Nat} {b : Nat} {M : wM} {Q : Option Nat → wM → Prop} (hp : P_X1_asPermit G p1 b M Q) : wMet l yX1_asPermit (wsW_ yX1_asPermit cX1_asPermit 2 (Option.some (Jvm.ClassFile.FieldType.object "ParkingOffice$Permit")) [((0 : Nat), (4 : Nat), (5 : Nat), (330 : Nat))]) 14 10700 G [.ref p1] M b (wqR Q) wX0 := by
  sorry
def B_J2_init_2_64 (G : wG) (Q : wM → Prop) (M : wM) (bq : Nat) : Prop :=
  Q M
def P_J2_init_2 (G : wG) (t0 : Nat) (p1 : Nat) (b : Nat) (M : wM) (Q : wM → Prop) : Prop :=
  P_J1_init_J2 G t0 M (fun M1 => oIs M1 p1 16 (∃ c4, c4 ≤ b ∧ P_J2_toArray G p1 c4 M1 (fun r5 M3 => oRef r5 (fun a6 => oAlen (.object "java/lang/Object") M3 a6 (fun v7 => oPut G M3 t0 16 2 (.int v7) (fun M8 => oIf (v7 = 0) (oPut G M8 t0 16 1 (.ref (G.2.2.2 0)) (fun M9 => B_J2_init_2_64 G Q M9 (b - c4))) (oIs M8 p1 16 (oIf ((some (G.2.2.2 61)) = (some (G.2.2.2 61))) (oPut G M8 t0 16 1 (.ref a6) (fun M15 => B_J2_init_2_64 G Q M15 (b - c4))) (oGetI M8 t0 16 2 (fun v10 => ∃ c12, c12 ≤ (b - c4) ∧ P_J5_copyOf_2 G a6 v10 (G.2.2.2 60) c12 M8 (fun r13 M11 => oPut G M11 t0 16 1 (va_rf r13) (fun M14 => B_J2_init_2_64 G Q M14 ((b - c4) - c12)))))))))))))
set_option maxHeartbeats 4000000 in
set_option maxRecDepth 100000 in
theorem P_J2_init_2_ok {l : Launch} (hl0 : l.stackTraces = false) {G : wG} {t0 : Nat} {p1 : Nat} {b : Nat} {M : wM} {Q : wM → Prop} (hp : P_J2_init_2 G t0 p1 b M Q) : wMet l yJ2_init_2 (ws_ yJ2_init_2 cJ2_init_2 3 (none)) 15 464 G [.ref t0, .ref p1] M b (wqV Q) wX0 := by
  refine vx_ofW (cc := cJ2_init_2) (maxL := 3) (ret := none) (by decide) rfl ?_
  intro p e s m args below meth c s₁ B hml hnt hv
  obtain ⟨rfl, hM, hK, hZ, hz⟩ := hv
  have hC : wC G s := ⟨hK, hZ, hz⟩
  have hx := B.exec
  have hb := B.bytes
  have hr := B.returns
  have hts := atoms_spec (ws := (ws_ yJ2_init_2 cJ2_init_2 3 (none))) B.pre
  have hts : ∀ w ∈ lw_all, w.before _ s = true := fun w h => hts w (List.mem_cons_of_mem _ h)
  have hown : s.vm.findClass RJ2 = some m.cls := findClass_of_methodNamed B.named
  have hlk := B.notSynchronized
  have hin0 : meth.name = "<init>" := (name_of_methodNamed B.named B.method).1
  have X : CallFix p m c cJ2_init_2 3 s ([.ref t0, .ref p1] : List Value).toArray lw_all RJ2 := ⟨hx, hb, hml, hown, hts⟩
  have hS : va_S (wA G) s.heap s.heap [] := va_S.rf
  have hl := lv_entry ([.ref t0, .ref p1]) (n := 3) (Nat.le_of_ble_eq_true rfl)
  rw [lg_entry_eq]
  generalize (lg_sl ([.ref t0, .ref p1]) ++ List.replicate (3 - (lg_sl ([.ref t0, .ref p1])).length) Slot.unset).toArray = ls at hl ⊢
  have hl : lv_has ls 3 [(0, .ref t0), (1, .ref p1)] := hl
  have hB : 0 + b ≤ ((headSpec (ws_ yJ2_init_2 cJ2_init_2 3 (none)) ({ frames := 15, cells := b, slots := b, locals := 464 })).room).cells ∧ 0 + b ≤ ((headSpec (ws_ yJ2_init_2 cJ2_init_2 3 (none)) ({ frames := 15, cells := b, slots := b, locals := 464 })).room).slots := ⟨Nat.le_of_eq (Nat.zero_add b), Nat.le_of_eq (Nat.zero_add b)⟩
  have hB64 : ∀ (M : wM) (bq : Nat) (H : Heap) (locs : List Loc) (ls : Array Slot) (cells slots : Nat), B_J2_init_2_64 G Q M bq → wR G M H → va_S (wA G) s.heap H locs → (cells + bq ≤ ((headSpec (ws_ yJ2_init_2 cJ2_init_2 3 (none)) ({ frames := 15, cells := b, slots := b, locals := 464 })).room).cells ∧ slots + bq ≤ ((headSpec (ws_ yJ2_init_2 cJ2_init_2 3 (none)) ({ frames := 15, cells := b, slots := b, locals := 464 })).room).slots) → lv_has ls 3 [] → W p l e (headSpec (ws_ yJ2_init_2 cJ2_init_2 3 (none)) ({ frames := 15, cells := b, slots := b, locals := 464 })).room s m ([.ref t0, .ref p1] : List Value).toArray below meth c H locs cells slots (vx_MQ below (wQ G (wqV Q)) (wXC G wX0) ([.ref t0, .ref p1] : List Value).toArray s b b (wA G)) (F0 m 64 ls []) := by
    intro M bq H locs ls cells slots hp hM hS hB hl
    exact x_vret X hr hlk hM hS (w_fin hB) dJ2_init_2_64 ⟨rfl, hp⟩
  refine lv_aload_n hx hb dJ2_init_2_0 rfl (lv_at hl 0 rfl) ?_
  refine x_call0V (vx_runI (As := []) (rest := []) X (P_J1_init_J2_ok (l := l) hl0 hp) (cwI 0 hts (lw_meth q235) rfl rfl rfl (hts _ q152) (hts _ q233) (hts _ q234) rfl (by decide +kernel) ⟨Nat.le_of_ble_eq_true rfl, Nat.le_of_ble_eq_true rfl⟩) ⟨wPc.blind, w_pre hC hM hS _⟩ rfl rfl hl.1 rfl (lv_room (Nat.le_of_ble_eq_true rfl)) dJ2_init_2_1 (w_room0 hB)) hS (w_room0 hB) (fun _ _ _ _ _ _ h => False.elim h) (fun M1 H locs hp hM hS => ?_)
  refine lv_aload_n hx hb dJ2_init_2_4 rfl (lv_at hl 1 rfl) ?_
  obtain ⟨hrec, hp⟩ := hp
  obtain ⟨c4, hc1, hp⟩ := hp
  refine x_callR5 (vx_runF (hC.1.1.1 16 (RJ2, TJ2, 3) rfl).2 (C := "java/util/ArrayList") (As := []) (rest := []) X (P_J2_toArray_ok (l := l) hl0 hp) (va_cwF 0 hts (lw_app (w_mem4 q1570 q1589 q1591 q153) (lw_meth q1593)) rfl rfl rfl (wfw_4 hC.1) (by decide +kernel) ⟨Nat.le_of_ble_eq_true rfl, Nat.le_of_ble_eq_true rfl⟩) ⟨wPc.blind, w_recv hC.1 hM (ci := 16) (q := (RJ2, TJ2, 3)) rfl hrec, w_pre hC hM hS _⟩ rfl rfl hl.1 rfl (lv_room (Nat.le_of_ble_eq_true rfl)) dJ2_init_2_5 (w_room hB hc1)) hS hB hc1 (fun _ _ _ _ _ _ h => False.elim h) (fun r5 M3 H locs hp hM hS hB => ?_)
  refine x_astore_n (r := r5) (lv' := [(2, va_rf r5), (0, .ref t0), (1, .ref p1)]) hx hb dJ2_init_2_10 rfl hl (by decide) rfl (fun ls hl => ?_)
  refine lv_aload_n hx hb dJ2_init_2_11 rfl (lv_at hl 1 rfl) ?_
  refine x_aload_n (r := r5) hx hb dJ2_init_2_12 rfl (lv_at hl 0 rfl) ?_
  obtain ⟨a6, ea, hqa6⟩ := hp
  subst ea
  have hp := hqa6
  have hl : lv_has ls 3 [(2, .ref a6), (0, .ref t0), (1, .ref p1)] := hl
  refine x_alen X hC.1 hM (ty := (.object "java/lang/Object")) (by decide) dJ2_init_2_13 hp (fun v7 hp => ?_)
  refine lv_dup_x1 hx hb dJ2_init_2_14 rfl rfl ?_
  refine x_put X hC.1 hM hS (ci := 16) (C := RJ2) (T := TJ2) (N := 3) rfl in_J2 tyJ2 tyJ2_ok nmJ2 2 (by decide) q245 (fun _ h9 => h9) rfl rfl rfl dJ2_init_2_15 hp (fun M8 H locs hM hS hp => ?_)
  refine lv_if_eq (tgt := 57) hx hb dJ2_init_2_18 (by decide) (fun hc => ?_) (fun hc => ?_)
  · have hp := oIf.t hp hc
    refine lv_aload_n hx hb dJ2_init_2_57 rfl (lv_at hl 1 rfl) ?_
    refine x_gets X hC hS (C := "java/util/ArrayList") (n := "EMPTY_ELEMENTDATA") (d := "[Ljava/lang/Object;") (v := .inr 0) (List.mem_of_getElem? (i := 1) rfl) q1628 (fun _ h9 => h9) dJ2_init_2_58 ?_
    refine x_put X hC.1 hM hS (ci := 16) (C := RJ2) (T := TJ2) (N := 3) rfl in_J2 tyJ2 tyJ2_ok nmJ2 1 (by decide) q242 (fun _ h9 => h9) rfl rfl rfl dJ2_init_2_61 hp (fun M9 H locs hM hS hp => ?_)
    exact hB64 _ _ _ _ _ _ _ hp hM hS hB (lv_sub hl [] rfl)
  · have hp := oIf.f hp hc
    refine lv_aload_n hx hb dJ2_init_2_21 rfl (lv_at hl 2 rfl) ?_
    refine x_getCI X (hml.trans hl.1.symm) hC.1 hM q1616 (Nat.le_of_ble_eq_true rfl) (Nat.le_of_ble_eq_true rfl) dJ2_init_2_22 hp (fun hp => ?_)
    refine x_ldcM X hC.1 (C := "java/util/ArrayList") (k := 61) (List.mem_of_getElem? (i := 1) rfl) q1625 dJ2_init_2_27 ?_
    refine lv_acmp_ne (rx := (some (G.2.2.2 61))) (ry := (some (G.2.2.2 61))) (tgt := 40) hx hb dJ2_init_2_29 (by decide) (fun hc => ?_) (fun hc => ?_)
    · have hp := oIf.f hp hc
      refine lv_aload_n hx hb dJ2_init_2_40 rfl (lv_at hl 1 rfl) ?_
      refine lv_aload_n hx hb dJ2_init_2_41 rfl (lv_at hl 0 rfl) ?_
      refine lv_aload_n hx hb dJ2_init_2_42 rfl (lv_at hl 1 rfl) ?_
      refine x_getI X hC.1 hM (ci := 16) (C := RJ2) (T := TJ2) (N := 3) rfl in_J2 2 (by decide) q245 (fun _ h9 => h9) dJ2_init_2_43 hp (fun v10 hp => ?_)
      refine x_ldcM X hC.1 (C := "[Ljava/lang/Object;") (k := 60) (List.mem_of_getElem? (i := 0) rfl) q1626 dJ2_init_2_46 ?_
      obtain ⟨c12, hc1, hp⟩ := hp
      refine x_callR (vx_runS (As := [.ref a6, .int v10, .ref (G.2.2.2 60)]) (rest := [.ref t0]) X (P_J5_copyOf_2_ok (l := l) hl0 hp) (va_cwS 3 hts (lw_S q1627 q341 q156 q342) rfl rfl rfl (by decide +kernel) ⟨Nat.le_of_ble_eq_true rfl, Nat.le_of_ble_eq_true rfl⟩) ⟨wPc.blind, w_pre hC hM hS _⟩ rfl rfl hl.1 rfl (lv_room (Nat.le_of_ble_eq_true rfl)) dJ2_init_2_48 (w_room hB hc1)) hS hB hc1 (fun _ _ _ _ _ _ h => False.elim h) (fun r13 M11 H locs hp hM hS hB => ?_)
      refine x_put X hC.1 hM hS (ci := 16) (C := RJ2) (T := TJ2) (N := 3) rfl in_J2 tyJ2 tyJ2_ok nmJ2 1 (by decide) q242 (fun _ h9 => h9) rfl (w_narr _ r13) (w_farr _ r13) dJ2_init_2_51 hp (fun M14 H locs hM hS hp => ?_)
      refine lv_goto (tgt := 64) hx hb dJ2_init_2_54 (by decide) ?_
      exact hB64 _ _ _ _ _ _ _ hp hM hS hB (lv_sub hl [] rfl)
    · have hp := oIf.t hp hc
      refine lv_aload_n hx hb dJ2_init_2_32 rfl (lv_at hl 1 rfl) ?_
      refine lv_aload_n hx hb dJ2_init_2_33 rfl (lv_at hl 0 rfl) ?_
      refine x_put X hC.1 hM hS (ci := 16) (C := RJ2) (T := TJ2) (N := 3) rfl in_J2 tyJ2 tyJ2_ok nmJ2 1 (by decide) q242 (fun _ h9 => h9) rfl rfl rfl dJ2_init_2_34 hp (fun M15 H locs hM hS hp => ?_)
      refine lv_goto (tgt := 64) hx hb dJ2_init_2_37 (by decide) ?_
      exact hB64 _ _ _ _ _ _ _ hp hM hS hB (lv_sub hl [] rfl)
def B_X1_permitOf_91 (G : wG) (rec31 : Int32 → Nat → Int32 → wM → Nat → Prop) (Q : Int32 → wM → Prop) (x1 : Int32) (x2 : Nat) (x3 : Int32) (M : wM) (bq : Nat) : Prop :=
  rec31 x1 x2 (x3 + 1) M bq
def B_X1_permitOf_31 (G : wG) (rec31 : Int32 → Nat → Int32 → wM → Nat → Prop) (Q : Int32 → wM → Prop) (x1 : Int32) (x2 : Nat) (x3 : Int32) (M : wM) (bq : Nat) : Prop :=
  oIs M x2 16 (P_J2_size G x2 M (fun v3 M1 => oIf (v3 ≤ x3) (Q (-1 : Int32) M1) (oIs M1 x2 16 (P_J2_get G x2 x3 M1 (fun r6 M4 => oPap M4 r6 (fun a7 => oGetI M4 a7 9 1 (fun v9 => oIf (v9 = x1) (oIs M4 x2 16 (P_J2_get G x2 x3 M4 (fun r12 M10 => oPap M10 r12 (fun a13 => ∃ c16, c16 ≤ bq ∧ P_X1_asPermit G a13 c16 M10 (fun r17 M15 => oNull r17 (B_X1_permitOf_91 G rec31 Q x1 x2 x3 M15 (bq - c16)) (fun a18 => oIs M15 a18 9 (P_X12_isActive G a18 M15 (fun r21 M19 => oIf (r21 = true) (Q x3 M19) (B_X1_permitOf_91 G rec31 Q x1 x2 x3 M19 (bq - c16))))))) (fun a13 => ∃ c23, c23 ≤ bq ∧ P_X1_asPermit G a13 c23 M10 (fun r24 M22 => oNull r24 (B_X1_permitOf_91 G rec31 Q x1 x2 x3 M22 (bq - c23)) (fun a25 => oIs M22 a25 9 (P_X12_isActive G a25 M22 (fun r28 M26 => oIf (r28 = true) (Q x3 M26) (B_X1_permitOf_91 G rec31 Q x1 x2 x3 M26 (bq - c23)))))))))) (B_X1_permitOf_91 G rec31 Q x1 x2 x3 M4 bq))) (fun a7 => oGetI M4 a7 10 1 (fun v29 => oIf (v29 = x1) (oIs M4 x2 16 (P_J2_get G x2 x3 M4 (fun r32 M30 => oPap M30 r32 (fun a33 => ∃ c36, c36 ≤ bq ∧ P_X1_asPermit G a33 c36 M30 (fun r37 M35 => oNull r37 (B_X1_permitOf_91 G rec31 Q x1 x2 x3 M35 (bq - c36)) (fun a38 => oIs M35 a38 9 (P_X12_isActive G a38 M35 (fun r41 M39 => oIf (r41 = true) (Q x3 M39) (B_X1_permitOf_91 G rec31 Q x1 x2 x3 M39 (bq - c36))))))) (fun a33 => ∃ c43, c43 ≤ bq ∧ P_X1_asPermit G a33 c43 M30 (fun r44 M42 => oNull r44 (B_X1_permitOf_91 G rec31 Q x1 x2 x3 M42 (bq - c43)) (fun a45 => oIs M42 a45 9 (P_X12_isActive G a45 M42 (fun r48 M46 => oIf (r48 = true) (Q x3 M46) (B_X1_permitOf_91 G rec31 Q x1 x2 x3 M46 (bq - c43)))))))))) (B_X1_permitOf_91 G rec31 Q x1 x2 x3 M4 bq))))))))
def L_X1_permitOf_31 (G : wG) (Q : Int32 → wM → Prop) : Nat → Int32 → Nat → Int32 → wM → Nat → Prop
  | 0 => fun _ _ _ _ _ => False
  | n + 1 => B_X1_permitOf_31 G (L_X1_permitOf_31 G Q n) Q
def P_X1_permitOf (G : wG) (t0 : Nat) (p1 : Int32) (b : Nat) (M : wM) (Q : Int32 → wM → Prop) : Prop :=
  oNew G M b 16 [.int 0, .null, .int 0] (fun a1 M2 b3 => oGetA M2 t0 0 0 (fun a4 => oGetA M2 a4 1 1 (fun a5 => ∃ c7, c7 ≤ b3 ∧ P_J2_init_2 G a1 a5 c7 M2 (fun M6 => oGetA M6 t0 0 0 (fun a8 => oGetA M6 a8 1 2 (fun a9 => oIs M6 a1 16 (∃ c11, c11 ≤ (b3 - c7) ∧ P_J2_addAll G a1 a9 c11 M6 (fun r12 M10 => ∃ n, L_X1_permitOf_31 G Q n p1 a1 (0 : Int32) M10 ((b3 - c7) - c11)))))))))
set_option maxHeartbeats 4000000 in
set_option maxRecDepth 100000 in
theorem P_X1_permitOf_ok {l : Launch} (hl0 : l.stackTraces = false) {G : wG} {t0 : Nat} {p1 : Int32} {b : Nat} {M : wM} {Q : Int32 → wM → Prop} (hp : P_X1_permitOf G t0 p1 b M Q) : wMet l yX1_permitOf (ws_ yX1_permitOf cX1_permitOf 5 (Option.some Jvm.ClassFile.FieldType.int)) 16 10721 G [.ref t0, .int p1] M b (wqI Q) wX0 := by
  refine vx_ofW (cc := cX1_permitOf) (maxL := 5) (ret := Option.some Jvm.ClassFile.FieldType.int) (by decide) rfl ?_
  intro p e s m args below meth c s₁ B hml hnt hv
  obtain ⟨rfl, hM, hK, hZ, hz⟩ := hv
  have hC : wC G s := ⟨hK, hZ, hz⟩
  have hx := B.exec
  have hb := B.bytes
  have hr := B.returns
  have hts := atoms_spec (ws := (ws_ yX1_permitOf cX1_permitOf 5 (Option.some Jvm.ClassFile.FieldType.int))) B.pre
  have hts : ∀ w ∈ lw_all, w.before _ s = true := fun w h => hts w (List.mem_cons_of_mem _ h)
  have hown : s.vm.findClass RX1 = some m.cls := findClass_of_methodNamed B.named
  have hlk := B.notSynchronized
  have X : CallFix p m c cX1_permitOf 5 s ([.ref t0, .int p1] : List Value).toArray lw_all RX1 := ⟨hx, hb, hml, hown, hts⟩
  have hS : va_S (wA G) s.heap s.heap [] := va_S.rf
  have hl := lv_entry ([.ref t0, .int p1]) (n := 5) (Nat.le_of_ble_eq_true rfl)
  rw [lg_entry_eq]
  generalize (lg_sl ([.ref t0, .int p1]) ++ List.replicate (5 - (lg_sl ([.ref t0, .int p1])).length) Slot.unset).toArray = ls at hl ⊢
  have hl : lv_has ls 5 [(0, .ref t0), (1, .int p1)] := hl
  have hB : 0 + b ≤ ((headSpec (ws_ yX1_permitOf cX1_permitOf 5 (Option.some Jvm.ClassFile.FieldType.int)) ({ frames := 16, cells := b, slots := b, locals := 10721 })).room).cells ∧ 0 + b ≤ ((headSpec (ws_ yX1_permitOf cX1_permitOf 5 (Option.some Jvm.ClassFile.FieldType.int)) ({ frames := 16, cells := b, slots := b, locals := 10721 })).room).slots := ⟨Nat.le_of_eq (Nat.zero_add b), Nat.le_of_eq (Nat.zero_add b)⟩
  have hB91 : ∀ (rec31 : Int32 → Nat → Int32 → wM → Nat → Prop) (hrec31 : ∀ (x1 : Int32) (x2 : Nat) (x3 : Int32) (M : wM) (bq : Nat) (H : Heap) (locs : List Loc) (ls : Array Slot) (cells slots : Nat), rec31 x1 x2 x3 M bq → wR G M H → va_S (wA G) s.heap H locs → (cells + bq ≤ ((headSpec (ws_ yX1_permitOf cX1_permitOf 5 (Option.some Jvm.ClassFile.FieldType.int)) ({ frames := 16, cells := b, slots := b, locals := 10721 })).room).cells ∧ slots + bq ≤ ((headSpec (ws_ yX1_permitOf cX1_permitOf 5 (Option.some Jvm.ClassFile.FieldType.int)) ({ frames := 16, cells := b, slots := b, locals := 10721 })).room).slots) → lv_has ls 5 [(1, .int x1), (2, .ref x2), (3, .int x3)] → W p l e (headSpec (ws_ yX1_permitOf cX1_permitOf 5 (Option.some Jvm.ClassFile.FieldType.int)) ({ frames := 16, cells := b, slots := b, locals := 10721 })).room s m ([.ref t0, .int p1] : List Value).toArray below meth c H locs cells slots (vx_MQ below (wQ G (wqI Q)) (wXC G wX0) ([.ref t0, .int p1] : List Value).toArray s b b (wA G)) (F0 m 31 ls [])), ∀ (x1 : Int32) (x2 : Nat) (x3 : Int32) (M : wM) (bq : Nat) (H : Heap) (locs : List Loc) (ls : Array Slot) (cells slots : Nat), B_X1_permitOf_91 G rec31 Q x1 x2 x3 M bq → wR G M H → va_S (wA G) s.heap H locs → (cells + bq ≤ ((headSpec (ws_ yX1_permitOf cX1_permitOf 5 (Option.some Jvm.ClassFile.FieldType.int)) ({ frames := 16, cells := b, slots := b, locals := 10721 })).room).cells ∧ slots + bq ≤ ((headSpec (ws_ yX1_permitOf cX1_permitOf 5 (Option.some Jvm.ClassFile.FieldType.int)) ({ frames := 16, cells := b, slots := b, locals := 10721 })).room).slots) → lv_has ls 5 [(1, .int x1), (2, .ref x2), (3, .int x3)] → W p l e (headSpec (ws_ yX1_permitOf cX1_permitOf 5 (Option.some Jvm.ClassFile.FieldType.int)) ({ frames := 16, cells := b, slots := b, locals := 10721 })).room s m ([.ref t0, .int p1] : List Value).toArray below meth c H locs cells slots (vx_MQ below (wQ G (wqI Q)) (wXC G wX0) ([.ref t0, .int p1] : List Value).toArray s b b (wA G)) (F0 m 91 ls []) := by
    intro rec31 hrec31 x1 x2 x3 M bq H locs ls cells slots hp hM hS hB hl
    refine lv_iinc (v := (x3 + 1)) (lv' := [(3, .int (x3 + 1)), (1, .int x1), (2, .ref x2)]) hx hb dX1_permitOf_91 hl (k := 2) rfl rfl (by decide) rfl (fun ls hl => ?_)
    refine lv_goto (tgt := 31) hx hb dX1_permitOf_94 (by decide) ?_
    exact hrec31 _ _ _ _ _ _ _ _ _ _ hp hM hS hB (lv_sub hl [1, 2, 0] rfl)
  have hB31 : ∀ (rec31 : Int32 → Nat → Int32 → wM → Nat → Prop) (hrec31 : ∀ (x1 : Int32) (x2 : Nat) (x3 : Int32) (M : wM) (bq : Nat) (H : Heap) (locs : List Loc) (ls : Array Slot) (cells slots : Nat), rec31 x1 x2 x3 M bq → wR G M H → va_S (wA G) s.heap H locs → (cells + bq ≤ ((headSpec (ws_ yX1_permitOf cX1_permitOf 5 (Option.some Jvm.ClassFile.FieldType.int)) ({ frames := 16, cells := b, slots := b, locals := 10721 })).room).cells ∧ slots + bq ≤ ((headSpec (ws_ yX1_permitOf cX1_permitOf 5 (Option.some Jvm.ClassFile.FieldType.int)) ({ frames := 16, cells := b, slots := b, locals := 10721 })).room).slots) → lv_has ls 5 [(1, .int x1), (2, .ref x2), (3, .int x3)] → W p l e (headSpec (ws_ yX1_permitOf cX1_permitOf 5 (Option.some Jvm.ClassFile.FieldType.int)) ({ frames := 16, cells := b, slots := b, locals := 10721 })).room s m ([.ref t0, .int p1] : List Value).toArray below meth c H locs cells slots (vx_MQ below (wQ G (wqI Q)) (wXC G wX0) ([.ref t0, .int p1] : List Value).toArray s b b (wA G)) (F0 m 31 ls [])), ∀ (x1 : Int32) (x2 : Nat) (x3 : Int32) (M : wM) (bq : Nat) (H : Heap) (locs : List Loc) (ls : Array Slot) (cells slots : Nat), B_X1_permitOf_31 G rec31 Q x1 x2 x3 M bq → wR G M H → va_S (wA G) s.heap H locs → (cells + bq ≤ ((headSpec (ws_ yX1_permitOf cX1_permitOf 5 (Option.some Jvm.ClassFile.FieldType.int)) ({ frames := 16, cells := b, slots := b, locals := 10721 })).room).cells ∧ slots + bq ≤ ((headSpec (ws_ yX1_permitOf cX1_permitOf 5 (Option.some Jvm.ClassFile.FieldType.int)) ({ frames := 16, cells := b, slots := b, locals := 10721 })).room).slots) → lv_has ls 5 [(1, .int x1), (2, .ref x2), (3, .int x3)] → W p l e (headSpec (ws_ yX1_permitOf cX1_permitOf 5 (Option.some Jvm.ClassFile.FieldType.int)) ({ frames := 16, cells := b, slots := b, locals := 10721 })).room s m ([.ref t0, .int p1] : List Value).toArray below meth c H locs cells slots (vx_MQ below (wQ G (wqI Q)) (wXC G wX0) ([.ref t0, .int p1] : List Value).toArray s b b (wA G)) (F0 m 31 ls []) := by
    intro rec31 hrec31 x1 x2 x3 M bq H locs ls cells slots hp hM hS hB hl
    refine lv_iload_n hx hb dX1_permitOf_31 rfl (lv_at hl 2 rfl) ?_
    refine lv_aload_n hx hb dX1_permitOf_32 rfl (lv_at hl 1 rfl) ?_
    obtain ⟨hrec, hp⟩ := hp
    refine x_call0I5 (vx_runF (hC.1.1.1 16 (RJ2, TJ2, 3) rfl).2 (C := "java/util/ArrayList") (As := []) (rest := [.int x3]) X (P_J2_size_ok (l := l) hl0 hp) (va_cwF 0 hts (lw_app (w_mem4 q1540 q496 q498 q153) (lw_meth q500)) rfl rfl rfl (wfw_13 hC.1) (by decide +kernel) ⟨Nat.le_of_ble_eq_true rfl, Nat.le_of_ble_eq_true rfl⟩) ⟨wPc.blind, w_recv hC.1 hM (ci := 16) (q := (RJ2, TJ2, 3)) rfl hrec, w_pre hC hM hS _⟩ rfl rfl hl.1 rfl (lv_room (Nat.le_of_ble_eq_true rfl)) dX1_permitOf_33 (w_room0 hB)) hS (w_room0 hB) (fun _ _ _ _ _ _ h => False.elim h) (fun v3 M1 H locs hp hM hS => ?_)
    refine lv_icmp_ge (tgt := 97) hx hb dX1_permitOf_38 (by decide) (fun hc => ?_) (fun hc => ?_)
    · have hp := oIf.t hp hc
      refine lv_iconst (v := (-1)) hx hb dX1_permitOf_97 (by decide) ?_
      exact x_iret X hr hlk hM hS (w_fin hB) dX1_permitOf_98 ⟨_, rfl, hp⟩
    · have hp := oIf.f hp hc
      refine lv_aload_n hx hb dX1_permitOf_41 rfl (lv_at hl 1 rfl) ?_
      refine lv_iload_n hx hb dX1_permitOf_42 rfl (lv_at hl 2 rfl) ?_
      obtain ⟨hrec, hp⟩ := hp
      refine x_call0R5 (vx_runF (hC.1.1.1 16 (RJ2, TJ2, 3) rfl).2 (C := "java/util/ArrayList") (As := [.int x3]) (rest := []) X (P_J2_get_ok (l := l) hl0 hp) (va_cwF 1 hts (lw_app (w_mem4 q1667 q522 q524 q153) (lw_meth q526)) rfl rfl rfl (wfw_8 hC.1) (by decide +kernel) ⟨Nat.le_of_ble_eq_true rfl, Nat.le_of_ble_eq_true rfl⟩) ⟨wPc.blind, w_recv hC.1 hM (ci := 16) (q := (RJ2, TJ2, 3)) rfl hrec, w_pre hC hM hS _⟩ rfl rfl hl.1 rfl (lv_room (Nat.le_of_ble_eq_true rfl)) dX1_permitOf_43 (w_room0 hB)) hS (w_room0 hB) (fun _ _ _ _ _ _ h => False.elim h) (fun r6 M4 H locs hp hM hS => ?_)
      rcases hp with ⟨a7, fs8, h8, h9, hp⟩ | ⟨a7, fs8, h8, h9, hp⟩
      · rw [h8]
        refine x_cast (r := some a7) X hC.1 hM q1668 (ci := 9) rfl (Or.inr q3826) dX1_permitOf_48 ⟨fun v e => by cases e; exact ⟨fs8, h9⟩, hp⟩ (fun hp => ?_)
        refine x_getI X hC.1 hM (ci := 9) (C := RX12) (T := TX12) (N := 8) rfl in_X12 1 (by decide) q2117 (fun _ h9 => h9) dX1_permitOf_51 hp (fun v9 hp => ?_)
        refine lv_iload_n hx hb dX1_permitOf_54 rfl (lv_at hl 0 rfl) ?_
        refine lv_icmp_eq (tgt := 61) hx hb dX1_permitOf_55 (by decide) (fun hc => ?_) (fun hc => ?_)
        · have hp := oIf.t hp hc
          refine lv_aload_n hx hb dX1_permitOf_61 rfl (lv_at hl 1 rfl) ?_
          refine lv_iload_n hx hb dX1_permitOf_62 rfl (lv_at hl 2 rfl) ?_
          obtain ⟨hrec, hp⟩ := hp
          refine x_call0R5 (vx_runF (hC.1.1.1 16 (RJ2, TJ2, 3) rfl).2 (C := "java/util/ArrayList") (As := [.int x3]) (rest := []) X (P_J2_get_ok (l := l) hl0 hp) (va_cwF 1 hts (lw_app (w_mem4 q1667 q522 q524 q153) (lw_meth q526)) rfl rfl rfl (wfw_8 hC.1) (by decide +kernel) ⟨Nat.le_of_ble_eq_true rfl, Nat.le_of_ble_eq_true rfl⟩) ⟨wPc.blind, w_recv hC.1 hM (ci := 16) (q := (RJ2, TJ2, 3)) rfl hrec, w_pre hC hM hS _⟩ rfl rfl hl.1 rfl (lv_room (Nat.le_of_ble_eq_true rfl)) dX1_permitOf_63 (w_room0 hB)) hS (w_room0 hB) (fun _ _ _ _ _ _ h => False.elim h) (fun r12 M10 H locs hp hM hS => ?_)
          rcases hp with ⟨a13, fs14, h8, h9, hp⟩ | ⟨a13, fs14, h8, h9, hp⟩
          · rw [h8]
            refine x_cast (r := some a13) X hC.1 hM q1668 (ci := 9) rfl (Or.inr q3826) dX1_permitOf_68 ⟨fun v e => by cases e; exact ⟨fs14, h9⟩, hp⟩ (fun hp => ?_)
            obtain ⟨c16, hc1, hp⟩ := hp
            refine x_callR (vx_runSX (As := [.ref a13]) (rest := []) X (P_X1_asPermit_ok (l := l) hl0 hp) (vx_cwSW 1 hts (lw_SW q1669 q1670 q148 q1671) rfl rfl rfl (by decide +kernel) ⟨Nat.le_of_ble_eq_true rfl, Nat.le_of_ble_eq_true rfl⟩) ⟨wPc.blind, w_pre hC hM hS _⟩ rfl rfl hl.1 rfl (lv_room (Nat.le_of_ble_eq_true rfl)) dX1_permitOf_71 (w_room hB hc1)) hS hB hc1 (fun _ _ _ _ _ _ h => False.elim h) (fun r17 M15 H locs hp hM hS hB => ?_)
            refine x_astore (r := r17) (lv' := [(4, va_rf r17), (1, .int x1), (2, .ref x2), (3, .int x3)]) hx hb dX1_permitOf_74 hl (by decide) rfl (fun ls hl => ?_)
            refine x_aload (r := r17) hx hb dX1_permitOf_76 (lv_at hl 0 rfl) ?_
            refine x_ifnull (r := r17) (tgt := 91) hx hb dX1_permitOf_78 (by decide) (fun hc => ?_) (fun a18 hc => ?_)
            · have hqa18 := oNull.t hp hc
              subst hc
              have hp := hqa18
              have hl : lv_has ls 5 [(4, va_rf none), (1, .int x1), (2, .ref x2), (3, .int x3)] := hl
              exact hB91 rec31 hrec31 _ _ _ _ _ _ _ _ _ _ hp hM hS hB (lv_sub hl [1, 2, 3] rfl)
            · have hqa18 := oNull.f hp hc
              subst hc
              have hp := hqa18
              have hl : lv_has ls 5 [(4, .ref a18), (1, .int x1), (2, .ref x2), (3, .int x3)] := hl
              refine lv_aload hx hb dX1_permitOf_81 (lv_at hl 0 rfl) ?_
              obtain ⟨hrec, hp⟩ := hp
              refine x_call0Z (vx_runV (As := []) (rest := []) X (P_X12_isActive_ok (l := l) hl0 hp) (cwV 0 hts (lw_V q1687 q1688 q1689 q202 q1690) rfl rfl rfl (by decide +kernel) ⟨Nat.le_of_ble_eq_true rfl, Nat.le_of_ble_eq_true rfl⟩) ⟨wPc.blind, w_recv hC.1 hM (ci := 9) (q := (RX12, TX12, 8)) rfl hrec, w_pre hC hM hS _⟩ rfl rfl hl.1 rfl (lv_room (Nat.le_of_ble_eq_true rfl)) dX1_permitOf_83 (w_room0 hB)) hS (w_room0 hB) (fun _ _ _ _ _ _ h => False.elim h) (fun r21 M19 H locs hp hM hS => ?_)
              refine x_ifeqB (tgt := 91) hx hb dX1_permitOf_86 (by decide) (fun hc => ?_) (fun hc => ?_)
              · have hp := oIf.bf hp hc
                exact hB91 rec31 hrec31 _ _ _ _ _ _ _ _ _ _ hp hM hS hB (lv_sub hl [1, 2, 3] rfl)
              · have hp := oIf.bt hp hc
                refine lv_iload_n hx hb dX1_permitOf_89 rfl (lv_at hl 3 rfl) ?_
                exact x_iret X hr hlk hM hS (w_fin hB) dX1_permitOf_90 ⟨_, rfl, hp⟩
          · rw [h8]
            refine x_cast (r := some a13) X hC.1 hM q1668 (ci := 10) rfl (Or.inr q3827) dX1_permitOf_68 ⟨fun v e => by cases e; exact ⟨fs14, h9⟩, hp⟩ (fun hp => ?_)
            obtain ⟨c23, hc1, hp⟩ := hp
            refine x_callR (vx_runSX (As := [.ref a13]) (rest := []) X (P_X1_asPermit_ok (l := l) hl0 hp) (vx_cwSW 1 hts (lw_SW q1669 q1670 q148 q1671) rfl rfl rfl (by decide +kernel) ⟨Nat.le_of_ble_eq_true rfl, Nat.le_of_ble_eq_true rfl⟩) ⟨wPc.blind, w_pre hC hM hS _⟩ rfl rfl hl.1 rfl (lv_room (Nat.le_of_ble_eq_true rfl)) dX1_permitOf_71 (w_room hB hc1)) hS hB hc1 (fun _ _ _ _ _ _ h => False.elim h) (fun r24 M22 H locs hp hM hS hB => ?_)
            refine x_astore (r := r24) (lv' := [(4, va_rf r24), (1, .int x1), (2, .ref x2), (3, .int x3)]) hx hb dX1_permitOf_74 hl (by decide) rfl (fun ls hl => ?_)
            refine x_aload (r := r24) hx hb dX1_permitOf_76 (lv_at hl 0 rfl) ?_
            refine x_ifnull (r := r24) (tgt := 91) hx hb dX1_permitOf_78 (by decide) (fun hc => ?_) (fun a25 hc => ?_)
            · have hqa25 := oNull.t hp hc
              subst hc
              have hp := hqa25
              have hl : lv_has ls 5 [(4, va_rf none), (1, .int x1), (2, .ref x2), (3, .int x3)] := hl
              exact hB91 rec31 hrec31 _ _ _ _ _ _ _ _ _ _ hp hM hS hB (lv_sub hl [1, 2, 3] rfl)
            · have hqa25 := oNull.f hp hc
              subst hc
              have hp := hqa25
              have hl : lv_has ls 5 [(4, .ref a25), (1, .int x1), (2, .ref x2), (3, .int x3)] := hl
              refine lv_aload hx hb dX1_permitOf_81 (lv_at hl 0 rfl) ?_
              obtain ⟨hrec, hp⟩ := hp
              refine x_call0Z (vx_runV (As := []) (rest := []) X (P_X12_isActive_ok (l := l) hl0 hp) (cwV 0 hts (lw_V q1687 q1688 q1689 q202 q1690) rfl rfl rfl (by decide +kernel) ⟨Nat.le_of_ble_eq_true rfl, Nat.le_of_ble_eq_true rfl⟩) ⟨wPc.blind, w_recv hC.1 hM (ci := 9) (q := (RX12, TX12, 8)) rfl hrec, w_pre hC hM hS _⟩ rfl rfl hl.1 rfl (lv_room (Nat.le_of_ble_eq_true rfl)) dX1_permitOf_83 (w_room0 hB)) hS (w_room0 hB) (fun _ _ _ _ _ _ h => False.elim h) (fun r28 M26 H locs hp hM hS => ?_)
              refine x_ifeqB (tgt := 91) hx hb dX1_permitOf_86 (by decide) (fun hc => ?_) (fun hc => ?_)
              · have hp := oIf.bf hp hc
                exact hB91 rec31 hrec31 _ _ _ _ _ _ _ _ _ _ hp hM hS hB (lv_sub hl [1, 2, 3] rfl)
              · have hp := oIf.bt hp hc
                refine lv_iload_n hx hb dX1_permitOf_89 rfl (lv_at hl 3 rfl) ?_
                exact x_iret X hr hlk hM hS (w_fin hB) dX1_permitOf_90 ⟨_, rfl, hp⟩
        · have hp := oIf.f hp hc
          refine lv_goto (tgt := 91) hx hb dX1_permitOf_58 (by decide) ?_
          exact hB91 rec31 hrec31 _ _ _ _ _ _ _ _ _ _ hp hM hS hB (lv_sub hl [0, 1, 2] rfl)
      · rw [h8]
        refine x_cast (r := some a7) X hC.1 hM q1668 (ci := 10) rfl (Or.inr q3827) dX1_permitOf_48 ⟨fun v e => by cases e; exact ⟨fs8, h9⟩, hp⟩ (fun hp => ?_)
        refine x_getI X hC.1 hM (ci := 10) (C := RX13) (T := TX13) (N := 4) rfl in_X13 1 (by decide) q2117 (fun _ h9 => h9) dX1_permitOf_51 hp (fun v29 hp => ?_)
        refine lv_iload_n hx hb dX1_permitOf_54 rfl (lv_at hl 0 rfl) ?_
        refine lv_icmp_eq (tgt := 61) hx hb dX1_permitOf_55 (by decide) (fun hc => ?_) (fun hc => ?_)
        · have hp := oIf.t hp hc
          refine lv_aload_n hx hb dX1_permitOf_61 rfl (lv_at hl 1 rfl) ?_
          refine lv_iload_n hx hb dX1_permitOf_62 rfl (lv_at hl 2 rfl) ?_
          obtain ⟨hrec, hp⟩ := hp
          refine x_call0R5 (vx_runF (hC.1.1.1 16 (RJ2, TJ2, 3) rfl).2 (C := "java/util/ArrayList") (As := [.int x3]) (rest := []) X (P_J2_get_ok (l := l) hl0 hp) (va_cwF 1 hts (lw_app (w_mem4 q1667 q522 q524 q153) (lw_meth q526)) rfl rfl rfl (wfw_8 hC.1) (by decide +kernel) ⟨Nat.le_of_ble_eq_true rfl, Nat.le_of_ble_eq_true rfl⟩) ⟨wPc.blind, w_recv hC.1 hM (ci := 16) (q := (RJ2, TJ2, 3)) rfl hrec, w_pre hC hM hS _⟩ rfl rfl hl.1 rfl (lv_room (Nat.le_of_ble_eq_true rfl)) dX1_permitOf_63 (w_room0 hB)) hS (w_room0 hB) (fun _ _ _ _ _ _ h => False.elim h) (fun r32 M30 H locs hp hM hS => ?_)
          rcases hp with ⟨a33, fs34, h8, h9, hp⟩ | ⟨a33, fs34, h8, h9, hp⟩
          · rw [h8]
            refine x_cast (r := some a33) X hC.1 hM q1668 (ci := 9) rfl (Or.inr q3826) dX1_permitOf_68 ⟨fun v e => by cases e; exact ⟨fs34, h9⟩, hp⟩ (fun hp => ?_)
            obtain ⟨c36, hc1, hp⟩ := hp
            refine x_callR (vx_runSX (As := [.ref a33]) (rest := []) X (P_X1_asPermit_ok (l := l) hl0 hp) (vx_cwSW 1 hts (lw_SW q1669 q1670 q148 q1671) rfl rfl rfl (by decide +kernel) ⟨Nat.le_of_ble_eq_true rfl, Nat.le_of_ble_eq_true rfl⟩) ⟨wPc.blind, w_pre hC hM hS _⟩ rfl rfl hl.1 rfl (lv_room (Nat.le_of_ble_eq_true rfl)) dX1_permitOf_71 (w_room hB hc1)) hS hB hc1 (fun _ _ _ _ _ _ h => False.elim h) (fun r37 M35 H locs hp hM hS hB => ?_)
            refine x_astore (r := r37) (lv' := [(4, va_rf r37), (1, .int x1), (2, .ref x2), (3, .int x3)]) hx hb dX1_permitOf_74 hl (by decide) rfl (fun ls hl => ?_)
            refine x_aload (r := r37) hx hb dX1_permitOf_76 (lv_at hl 0 rfl) ?_
            refine x_ifnull (r := r37) (tgt := 91) hx hb dX1_permitOf_78 (by decide) (fun hc => ?_) (fun a38 hc => ?_)
            · have hqa38 := oNull.t hp hc
              subst hc
              have hp := hqa38
              have hl : lv_has ls 5 [(4, va_rf none), (1, .int x1), (2, .ref x2), (3, .int x3)] := hl
              exact hB91 rec31 hrec31 _ _ _ _ _ _ _ _ _ _ hp hM hS hB (lv_sub hl [1, 2, 3] rfl)
            · have hqa38 := oNull.f hp hc
              subst hc
              have hp := hqa38
              have hl : lv_has ls 5 [(4, .ref a38), (1, .int x1), (2, .ref x2), (3, .int x3)] := hl
              refine lv_aload hx hb dX1_permitOf_81 (lv_at hl 0 rfl) ?_
              obtain ⟨hrec, hp⟩ := hp
              refine x_call0Z (vx_runV (As := []) (rest := []) X (P_X12_isActive_ok (l := l) hl0 hp) (cwV 0 hts (lw_V q1687 q1688 q1689 q202 q1690) rfl rfl rfl (by decide +kernel) ⟨Nat.le_of_ble_eq_true rfl, Nat.le_of_ble_eq_true rfl⟩) ⟨wPc.blind, w_recv hC.1 hM (ci := 9) (q := (RX12, TX12, 8)) rfl hrec, w_pre hC hM hS _⟩ rfl rfl hl.1 rfl (lv_room (Nat.le_of_ble_eq_true rfl)) dX1_permitOf_83 (w_room0 hB)) hS (w_room0 hB) (fun _ _ _ _ _ _ h => False.elim h) (fun r41 M39 H locs hp hM hS => ?_)
              refine x_ifeqB (tgt := 91) hx hb dX1_permitOf_86 (by decide) (fun hc => ?_) (fun hc => ?_)
              · have hp := oIf.bf hp hc
                exact hB91 rec31 hrec31 _ _ _ _ _ _ _ _ _ _ hp hM hS hB (lv_sub hl [1, 2, 3] rfl)
              · have hp := oIf.bt hp hc
                refine lv_iload_n hx hb dX1_permitOf_89 rfl (lv_at hl 3 rfl) ?_
                exact x_iret X hr hlk hM hS (w_fin hB) dX1_permitOf_90 ⟨_, rfl, hp⟩
          · rw [h8]
            refine x_cast (r := some a33) X hC.1 hM q1668 (ci := 10) rfl (Or.inr q3827) dX1_permitOf_68 ⟨fun v e => by cases e; exact ⟨fs34, h9⟩, hp⟩ (fun hp => ?_)
            obtain ⟨c43, hc1, hp⟩ := hp
            refine x_callR (vx_runSX (As := [.ref a33]) (rest := []) X (P_X1_asPermit_ok (l := l) hl0 hp) (vx_cwSW 1 hts (lw_SW q1669 q1670 q148 q1671) rfl rfl rfl (by decide +kernel) ⟨Nat.le_of_ble_eq_true rfl, Nat.le_of_ble_eq_true rfl⟩) ⟨wPc.blind, w_pre hC hM hS _⟩ rfl rfl hl.1 rfl (lv_room (Nat.le_of_ble_eq_true rfl)) dX1_permitOf_71 (w_room hB hc1)) hS hB hc1 (fun _ _ _ _ _ _ h => False.elim h) (fun r44 M42 H locs hp hM hS hB => ?_)
            refine x_astore (r := r44) (lv' := [(4, va_rf r44), (1, .int x1), (2, .ref x2), (3, .int x3)]) hx hb dX1_permitOf_74 hl (by decide) rfl (fun ls hl => ?_)
            refine x_aload (r := r44) hx hb dX1_permitOf_76 (lv_at hl 0 rfl) ?_
            refine x_ifnull (r := r44) (tgt := 91) hx hb dX1_permitOf_78 (by decide) (fun hc => ?_) (fun a45 hc => ?_)
            · have hqa45 := oNull.t hp hc
              subst hc
              have hp := hqa45
              have hl : lv_has ls 5 [(4, va_rf none), (1, .int x1), (2, .ref x2), (3, .int x3)] := hl
              exact hB91 rec31 hrec31 _ _ _ _ _ _ _ _ _ _ hp hM hS hB (lv_sub hl [1, 2, 3] rfl)
            · have hqa45 := oNull.f hp hc
              subst hc
              have hp := hqa45
              have hl : lv_has ls 5 [(4, .ref a45), (1, .int x1), (2, .ref x2), (3, .int x3)] := hl
              refine lv_aload hx hb dX1_permitOf_81 (lv_at hl 0 rfl) ?_
              obtain ⟨hrec, hp⟩ := hp
              refine x_call0Z (vx_runV (As := []) (rest := []) X (P_X12_isActive_ok (l := l) hl0 hp) (cwV 0 hts (lw_V q1687 q1688 q1689 q202 q1690) rfl rfl rfl (by decide +kernel) ⟨Nat.le_of_ble_eq_true rfl, Nat.le_of_ble_eq_true rfl⟩) ⟨wPc.blind, w_recv hC.1 hM (ci := 9) (q := (RX12, TX12, 8)) rfl hrec, w_pre hC hM hS _⟩ rfl rfl hl.1 rfl (lv_room (Nat.le_of_ble_eq_true rfl)) dX1_permitOf_83 (w_room0 hB)) hS (w_room0 hB) (fun _ _ _ _ _ _ h => False.elim h) (fun r48 M46 H locs hp hM hS => ?_)
              refine x_ifeqB (tgt := 91) hx hb dX1_permitOf_86 (by decide) (fun hc => ?_) (fun hc => ?_)
              · have hp := oIf.bf hp hc
                exact hB91 rec31 hrec31 _ _ _ _ _ _ _ _ _ _ hp hM hS hB (lv_sub hl [1, 2, 3] rfl)
              · have hp := oIf.bt hp hc
                refine lv_iload_n hx hb dX1_permitOf_89 rfl (lv_at hl 3 rfl) ?_
                exact x_iret X hr hlk hM hS (w_fin hB) dX1_permitOf_90 ⟨_, rfl, hp⟩
        · have hp := oIf.f hp hc
          refine lv_goto (tgt := 91) hx hb dX1_permitOf_58 (by decide) ?_
          exact hB91 rec31 hrec31 _ _ _ _ _ _ _ _ _ _ hp hM hS hB (lv_sub hl [0, 1, 2] rfl)
  have hL31 : ∀ (n : Nat), ∀ (x1 : Int32) (x2 : Nat) (x3 : Int32) (M : wM) (bq : Nat) (H : Heap) (locs : List Loc) (ls : Array Slot) (cells slots : Nat), L_X1_permitOf_31 G Q n x1 x2 x3 M bq → wR G M H → va_S (wA G) s.heap H locs → (cells + bq ≤ ((headSpec (ws_ yX1_permitOf cX1_permitOf 5 (Option.some Jvm.ClassFile.FieldType.int)) ({ frames := 16, cells := b, slots := b, locals := 10721 })).room).cells ∧ slots + bq ≤ ((headSpec (ws_ yX1_permitOf cX1_permitOf 5 (Option.some Jvm.ClassFile.FieldType.int)) ({ frames := 16, cells := b, slots := b, locals := 10721 })).room).slots) → lv_has ls 5 [(1, .int x1), (2, .ref x2), (3, .int x3)] → W p l e (headSpec (ws_ yX1_permitOf cX1_permitOf 5 (Option.some Jvm.ClassFile.FieldType.int)) ({ frames := 16, cells := b, slots := b, locals := 10721 })).room s m ([.ref t0, .int p1] : List Value).toArray below meth c H locs cells slots (vx_MQ below (wQ G (wqI Q)) (wXC G wX0) ([.ref t0, .int p1] : List Value).toArray s b b (wA G)) (F0 m 31 ls []) := by
    intro n
    induction n with
    | zero => intro _ _ _ _ _ _ _ _ _ _ hp; exact False.elim hp
    | succ n ih => intro x1 x2 x3 M bq H locs ls cells slots hp hM hS hB hl; exact hB31 (L_X1_permitOf_31 G Q n) ih _ _ _ _ _ _ _ _ _ _ hp hM hS hB hl
  refine x_new X hC hM hS hB (ci := 16) (C := RJ2) (T := TJ2) (N := 3) rfl in_J2 tyJ2 tyJ2_ok q1565 q229 q153 rfl (by decide) dX1_permitOf_0 hp (fun a1 M2 H b3 cells slots hM hS hB hp => ?_)
  refine lv_dup hx hb dX1_permitOf_3 rfl ?_
  refine lv_aload_n hx hb dX1_permitOf_4 rfl (lv_at hl 0 rfl) ?_
  refine x_getA X hC.1 hM (ci := 0) (C := RX1) (T := TX1) (N := 8) rfl in_X1 0 (by decide) q973 (fun _ h9 => h9) dX1_permitOf_5 hp (fun a4 hp => ?_)
  refine x_getAN X hC.1 hM (ci := 1) (C := RX2) (T := TX2) (N := 9) rfl in_X2 1 (by decide) q920 (fun _ h9 => h9) dX1_permitOf_8 hp (fun a5 hp => ?_)
  obtain ⟨c7, hc1, hp⟩ := hp
  refine x_callV (vx_runI (As := [.ref a5]) (rest := [.ref a1]) X (P_J2_init_2_ok (l := l) hl0 hp) (cwI 1 hts (lw_meth q1568) rfl rfl rfl (hts _ q153) (hts _ q1566) (hts _ q1567) rfl (by decide +kernel) ⟨Nat.le_of_ble_eq_true rfl, Nat.le_of_ble_eq_true rfl⟩) ⟨wPc.blind, w_pre hC hM hS _⟩ rfl rfl hl.1 rfl (lv_room (Nat.le_of_ble_eq_true rfl)) dX1_permitOf_11 (w_room hB hc1)) hS hB hc1 (fun _ _ _ _ _ _ h => False.elim h) (fun M6 H locs hp hM hS hB => ?_)
  refine lv_astore_n (lv' := [(2, .ref a1), (0, .ref t0), (1, .int p1)]) hx hb dX1_permitOf_14 rfl hl (by decide) rfl (fun ls hl => ?_)
  refine lv_aload_n hx hb dX1_permitOf_15 rfl (lv_at hl 0 rfl) ?_
  refine lv_aload_n hx hb dX1_permitOf_16 rfl (lv_at hl 1 rfl) ?_
  refine x_getA X hC.1 hM (ci := 0) (C := RX1) (T := TX1) (N := 8) rfl in_X1 0 (by decide) q973 (fun _ h9 => h9) dX1_permitOf_17 hp (fun a8 hp => ?_)
  refine x_getAN X hC.1 hM (ci := 1) (C := RX2) (T := TX2) (N := 9) rfl in_X2 2 (by decide) q922 (fun _ h9 => h9) dX1_permitOf_20 hp (fun a9 hp => ?_)
  obtain ⟨hrec, hp⟩ := hp
  obtain ⟨c11, hc1, hp⟩ := hp
  refine x_callZ5 (vx_runF (hC.1.1.1 16 (RJ2, TJ2, 3) rfl).2 (C := "java/util/ArrayList") (As := [.ref a9]) (rest := []) X (P_J2_addAll_ok (l := l) hl0 hp) (va_cwF 1 hts (lw_app (w_mem4 q1631 q1634 q1636 q153) (lw_meth q1638)) rfl rfl rfl (wfw_6 hC.1) (by decide +kernel) ⟨Nat.le_of_ble_eq_true rfl, Nat.le_of_ble_eq_true rfl⟩) ⟨wPc.blind, w_recv hC.1 hM (ci := 16) (q := (RJ2, TJ2, 3)) rfl hrec, w_pre hC hM hS _⟩ rfl rfl hl.1 rfl (lv_room (Nat.le_of_ble_eq_true rfl)) dX1_permitOf_23 (w_room hB hc1)) hS hB hc1 (fun _ _ _ _ _ _ h => False.elim h) (fun r12 M10 H locs hp hM hS hB => ?_)
  refine lv_pop hx hb dX1_permitOf_28 rfl ?_
  refine lv_iconst (v := 0) hx hb dX1_permitOf_29 (by decide) ?_
  refine lv_istore_n (lv' := [(3, .int (0 : Int32)), (2, .ref a1), (0, .ref t0), (1, .int p1)]) hx hb dX1_permitOf_30 rfl hl (by decide) rfl (fun ls hl => ?_)
  obtain ⟨n, hp⟩ := hp
  exact hL31 n _ _ _ _ _ _ _ _ _ _ hp hM hS hB (lv_sub hl [3, 1, 0] rfl)
def B_J23_stringSize_16 (G : wG) (rec16 : Int32 → Int32 → Int32 → Int32 → wM → Prop) (Q : Int32 → wM → Prop) (x0 : Int32) (x1 : Int32) (x2 : Int32) (x3 : Int32) (M : wM) : Prop :=
  oIf ((10 : Int32) ≤ x3) (Q ((10 : Int32) + x1) M) (oIf (x0 ≤ x2) (rec16 x0 x1 ((10 : Int32) * x2) (x3 + 1) M) (Q (x3 + x1) M))
def L_J23_stringSize_16 (G : wG) (Q : Int32 → wM → Prop) : Nat → Int32 → Int32 → Int32 → Int32 → wM → Prop
  | 0 => fun _ _ _ _ _ => False
  | n + 1 => B_J23_stringSize_16 G (L_J23_stringSize_16 G Q n) Q
def B_J23_stringSize_11 (G : wG) (Q : Int32 → wM → Prop) (x0 : Int32) (x1 : Int32) (M : wM) : Prop :=
  ∃ n, L_J23_stringSize_16 G Q n x0 x1 (-10 : Int32) (1 : Int32) M
def P_J23_stringSize (G : wG) (p1 : Int32) (M : wM) (Q : Int32 → wM → Prop) : Prop :=
  oIf (p1 < 0) (B_J23_stringSize_11 G Q p1 (1 : Int32) M) (B_J23_stringSize_11 G Q (-p1) (0 : Int32) M)
set_option maxHeartbeats 4000000 in
set_option maxRecDepth 100000 in
theorem P_J23_stringSize_ok {l : Launch} (hl0 : l.stackTraces = false) {G : wG} {p1 : Int32} {M : wM} {Q : Int32 → wM → Prop} (hp : P_J23_stringSize G p1 M Q) : wMet l yJ23_stringSize (ws_ yJ23_stringSize cJ23_stringSize 4 (Option.some Jvm.ClassFile.FieldType.int)) 12 400 G [.int p1] M 0 (wqI Q) wX0 := by
  refine vx_ofW (cc := cJ23_stringSize) (maxL := 4) (ret := Option.some Jvm.ClassFile.FieldType.int) (by decide) rfl ?_
  intro p e s m args below meth c s₁ B hml hnt hv
  obtain ⟨rfl, hM, hK, hZ, hz⟩ := hv
  have hC : wC G s := ⟨hK, hZ, hz⟩
  have hx := B.exec
  have hb := B.bytes
  have hr := B.returns
  have hts := atoms_spec (ws := (ws_ yJ23_stringSize cJ23_stringSize 4 (Option.some Jvm.ClassFile.FieldType.int))) B.pre
  have hts : ∀ w ∈ lw_all, w.before _ s = true := fun w h => hts w (List.mem_cons_of_mem _ h)
  have hown : s.vm.findClass RJ23 = some m.cls := findClass_of_methodNamed B.named
  have hlk := B.notSynchronized
  have X : CallFix p m c cJ23_stringSize 4 s ([.int p1] : List Value).toArray lw_all RJ23 := ⟨hx, hb, hml, hown, hts⟩
  have hS : va_S (wA G) s.heap s.heap [] := va_S.rf
  have hl := lv_entry ([.int p1]) (n := 4) (Nat.le_of_ble_eq_true rfl)
  rw [lg_entry_eq]
  generalize (lg_sl ([.int p1]) ++ List.replicate (4 - (lg_sl ([.int p1])).length) Slot.unset).toArray = ls at hl ⊢
  have hl : lv_has ls 4 [(0, .int p1)] := hl
  have hB16 : ∀ (rec16 : Int32 → Int32 → Int32 → Int32 → wM → Prop) (hrec16 : ∀ (x0 : Int32) (x1 : Int32) (x2 : Int32) (x3 : Int32) (M : wM) (H : Heap) (locs : List Loc) (ls : Array Slot), rec16 x0 x1 x2 x3 M → wR G M H → va_S (wA G) s.heap H locs → lv_has ls 4 [(0, .int x0), (1, .int x1), (2, .int x2), (3, .int x3)] → W p l e (headSpec (ws_ yJ23_stringSize cJ23_stringSize 4 (Option.some Jvm.ClassFile.FieldType.int)) ({ frames := 12, cells := 0, slots := 0, locals := 400 })).room s m ([.int p1] : List Value).toArray below meth c H locs 0 0 (vx_MQ below (wQ G (wqI Q)) (wXC G wX0) ([.int p1] : List Value).toArray s 0 0 (wA G)) (F0 m 16 ls [])), ∀ (x0 : Int32) (x1 : Int32) (x2 : Int32) (x3 : Int32) (M : wM) (H : Heap) (locs : List Loc) (ls : Array Slot), B_J23_stringSize_16 G rec16 Q x0 x1 x2 x3 M → wR G M H → va_S (wA G) s.heap H locs → lv_has ls 4 [(0, .int x0), (1, .int x1), (2, .int x2), (3, .int x3)] → W p l e (headSpec (ws_ yJ23_stringSize cJ23_stringSize 4 (Option.some Jvm.ClassFile.FieldType.int)) ({ frames := 12, cells := 0, slots := 0, locals := 400 })).room s m ([.int p1] : List Value).toArray below meth c H locs 0 0 (vx_MQ below (wQ G (wqI Q)) (wXC G wX0) ([.int p1] : List Value).toArray s 0 0 (wA G)) (F0 m 16 ls []) := by
    intro rec16 hrec16 x0 x1 x2 x3 M H locs ls hp hM hS hl
    refine lv_iload_n hx hb dJ23_stringSize_16 rfl (lv_at hl 3 rfl) ?_
    refine lv_bipush (v := 10) hx hb dJ23_stringSize_17 (by decide) ?_
    refine lv_icmp_ge (tgt := 42) hx hb dJ23_stringSize_19 (by decide) (fun hc => ?_) (fun hc => ?_)
    · have hp := oIf.t hp hc
      refine lv_bipush (v := 10) hx hb dJ23_stringSize_42 (by decide) ?_
      refine lv_iload_n hx hb dJ23_stringSize_44 rfl (lv_at hl 1 rfl) ?_
      refine lv_iadd hx hb dJ23_stringSize_45 ?_
      exact x_iret X hr hlk hM hS ⟨Nat.le_refl _, Nat.le_refl _⟩ dJ23_stringSize_46 ⟨_, rfl, hp⟩
    · have hp := oIf.f hp hc
      refine lv_iload_n hx hb dJ23_stringSize_22 rfl (lv_at hl 0 rfl) ?_
      refine lv_iload_n hx hb dJ23_stringSize_23 rfl (lv_at hl 2 rfl) ?_
      refine lv_icmp_le (tgt := 31) hx hb dJ23_stringSize_24 (by decide) (fun hc => ?_) (fun hc => ?_)
      · have hp := oIf.t hp hc
        refine lv_bipush (v := 10) hx hb dJ23_stringSize_31 (by decide) ?_
        refine lv_iload_n hx hb dJ23_stringSize_33 rfl (lv_at hl 2 rfl) ?_
        refine lv_imul hx hb dJ23_stringSize_34 ?_
        refine lv_istore_n (lv' := [(2, .int ((10 : Int32) * x2)), (0, .int x0), (1, .int x1), (3, .int x3)]) hx hb dJ23_stringSize_35 rfl hl (by decide) rfl (fun ls hl => ?_)
        refine lv_iinc (v := (x3 + 1)) (lv' := [(3, .int (x3 + 1)), (2, .int ((10 : Int32) * x2)), (0, .int x0), (1, .int x1)]) hx hb dJ23_stringSize_36 hl (k := 3) rfl rfl (by decide) rfl (fun ls hl => ?_)
        refine lv_goto (tgt := 16) hx hb dJ23_stringSize_39 (by decide) ?_
        exact hrec16 _ _ _ _ _ _ _ _ hp hM hS (lv_sub hl [2, 3, 1, 0] rfl)
      · have hp := oIf.f hp hc
        refine lv_iload_n hx hb dJ23_stringSize_27 rfl (lv_at hl 3 rfl) ?_
        refine lv_iload_n hx hb dJ23_stringSize_28 rfl (lv_at hl 1 rfl) ?_
        refine lv_iadd hx hb dJ23_stringSize_29 ?_
        exact x_iret X hr hlk hM hS ⟨Nat.le_refl _, Nat.le_refl _⟩ dJ23_stringSize_30 ⟨_, rfl, hp⟩
  have hL16 : ∀ (n : Nat), ∀ (x0 : Int32) (x1 : Int32) (x2 : Int32) (x3 : Int32) (M : wM) (H : Heap) (locs : List Loc) (ls : Array Slot), L_J23_stringSize_16 G Q n x0 x1 x2 x3 M → wR G M H → va_S (wA G) s.heap H locs → lv_has ls 4 [(0, .int x0), (1, .int x1), (2, .int x2), (3, .int x3)] → W p l e (headSpec (ws_ yJ23_stringSize cJ23_stringSize 4 (Option.some Jvm.ClassFile.FieldType.int)) ({ frames := 12, cells := 0, slots := 0, locals := 400 })).room s m ([.int p1] : List Value).toArray below meth c H locs 0 0 (vx_MQ below (wQ G (wqI Q)) (wXC G wX0) ([.int p1] : List Value).toArray s 0 0 (wA G)) (F0 m 16 ls []) := by
    intro n
    induction n with
    | zero => intro _ _ _ _ _ _ _ _ hp; exact False.elim hp
    | succ n ih => intro x0 x1 x2 x3 M H locs ls hp hM hS hl; exact hB16 (L_J23_stringSize_16 G Q n) ih _ _ _ _ _ _ _ _ hp hM hS hl
  have hB11 : ∀ (x0 : Int32) (x1 : Int32) (M : wM) (H : Heap) (locs : List Loc) (ls : Array Slot), B_J23_stringSize_11 G Q x0 x1 M → wR G M H → va_S (wA G) s.heap H locs → lv_has ls 4 [(0, .int x0), (1, .int x1)] → W p l e (headSpec (ws_ yJ23_stringSize cJ23_stringSize 4 (Option.some Jvm.ClassFile.FieldType.int)) ({ frames := 12, cells := 0, slots := 0, locals := 400 })).room s m ([.int p1] : List Value).toArray below meth c H locs 0 0 (vx_MQ below (wQ G (wqI Q)) (wXC G wX0) ([.int p1] : List Value).toArray s 0 0 (wA G)) (F0 m 11 ls []) := by
    intro x0 x1 M H locs ls hp hM hS hl
    refine lv_bipush (v := (-10)) hx hb dJ23_stringSize_11 (by decide) ?_
    refine lv_istore_n (lv' := [(2, .int (-10 : Int32)), (0, .int x0), (1, .int x1)]) hx hb dJ23_stringSize_13 rfl hl (by decide) rfl (fun ls hl => ?_)
    refine lv_iconst (v := 1) hx hb dJ23_stringSize_14 (by decide) ?_
    refine lv_istore_n (lv' := [(3, .int (1 : Int32)), (2, .int (-10 : Int32)), (0, .int x0), (1, .int x1)]) hx hb dJ23_stringSize_15 rfl hl (by decide) rfl (fun ls hl => ?_)
    obtain ⟨n, hp⟩ := hp
    exact hL16 n _ _ _ _ _ _ _ _ hp hM hS (lv_sub hl [2, 3, 1, 0] rfl)
  refine lv_iconst (v := 1) hx hb dJ23_stringSize_0 (by decide) ?_
  refine lv_istore_n (lv' := [(1, .int (1 : Int32)), (0, .int p1)]) hx hb dJ23_stringSize_1 rfl hl (by decide) rfl (fun ls hl => ?_)
  refine lv_iload_n hx hb dJ23_stringSize_2 rfl (lv_at hl 1 rfl) ?_
  refine lv_if_lt (tgt := 11) hx hb dJ23_stringSize_3 (by decide) (fun hc => ?_) (fun hc => ?_)
  · have hp := oIf.t hp hc
    exact hB11 _ _ _ _ _ _ hp hM hS (lv_sub hl [1, 0] rfl)
  · have hp := oIf.f hp hc
    refine lv_iconst (v := 0) hx hb dJ23_stringSize_6 (by decide) ?_
    refine lv_istore_n (lv' := [(1, .int (0 : Int32)), (0, .int p1)]) hx hb dJ23_stringSize_7 rfl hl (by decide) rfl (fun ls hl => ?_)
    refine lv_iload_n hx hb dJ23_stringSize_8 rfl (lv_at hl 1 rfl) ?_
    refine lv_ineg hx hb dJ23_stringSize_9 ?_
    refine lv_istore_n (lv' := [(0, .int (-p1)), (1, .int (0 : Int32))]) hx hb dJ23_stringSize_10 rfl hl (by decide) rfl (fun ls hl => ?_)
    exact hB11 _ _ _ _ _ _ hp hM hS (lv_sub hl [0, 1] rfl)
def B_J23_getChars_118 (G : wG) (Q : Int32 → wM → Prop) (x5 : Int32) (M : wM) : Prop :=
  Q x5 M
def B_J23_getChars_104 (G : wG) (Q : Int32 → wM → Prop) (x2 : Nat) (x5 : Int32) (x6 : Int32) (M : wM) : Prop :=
  oIf (x6 = 0) (B_J23_getChars_118 G Q x5 M) (oBast G M x2 (x5 + (-1)) (45 : Int32) (fun M1 => B_J23_getChars_118 G Q (x5 + (-1)) M1))
def B_J23_getChars_22 (G : wG) (rec22 : Int32 → Nat → Int32 → Int32 → wM → Prop) (Q : Int32 → wM → Prop) (x0 : Int32) (x2 : Nat) (x5 : Int32) (x6 : Int32) (M : wM) : Prop :=
  oIf ((-100 : Int32) < x0) (oIald .byte M (G.2.2.2 51) (-x0) (fun v1 => oBast G M x2 (x5 + (-1)) v1 (fun M2 => oIf ((-9 : Int32) ≤ x0) (B_J23_getChars_104 G Q x2 (x5 + (-1)) x6 M2) (oIald .byte M2 (G.2.2.2 50) (-x0) (fun v3 => oBast G M2 x2 ((x5 + (-1)) + (-1)) v3 (fun M4 => B_J23_getChars_104 G Q x2 ((x5 + (-1)) + (-1)) x6 M4)))))) (oIald .byte M (G.2.2.2 51) (((x0 / (100 : Int32)) * (100 : Int32)) - x0) (fun v5 => oBast G M x2 (x5 + (-1)) v5 (fun M6 => oIald .byte M6 (G.2.2.2 50) (((x0 / (100 : Int32)) * (100 : Int32)) - x0) (fun v7 => oBast G M6 x2 ((x5 + (-1)) + (-1)) v7 (fun M8 => rec22 (x0 / (100 : Int32)) x2 ((x5 + (-1)) + (-1)) x6 M8)))))
def L_J23_getChars_22 (G : wG) (Q : Int32 → wM → Prop) : Nat → Int32 → Nat → Int32 → Int32 → wM → Prop
  | 0 => fun _ _ _ _ _ => False
  | n + 1 => B_J23_getChars_22 G (L_J23_getChars_22 G Q n) Q
def B_J23_getChars_12 (G : wG) (Q : Int32 → wM → Prop) (x0 : Int32) (x2 : Nat) (x5 : Int32) (y0 : Int32) (M : wM) : Prop :=
  oIf (y0 = 0) (∃ n, L_J23_getChars_22 G Q n (-x0) x2 x5 y0 M) (∃ n, L_J23_getChars_22 G Q n x0 x2 x5 y0 M)
def P_J23_getChars (G : wG) (p1 : Int32) (p2 : Int32) (p3 : Nat) (M : wM) (Q : Int32 → wM → Prop) : Prop :=
  oIf (0 ≤ p1) (B_J23_getChars_12 G Q p1 p3 p2 (0 : Int32) M) (B_J23_getChars_12 G Q p1 p3 p2 (1 : Int32) M)
set_option maxHeartbeats 4000000 in
set_option maxRecDepth 100000 in
theorem P_J23_getChars_ok {l : Launch} (hl0 : l.stackTraces = false) {G : wG} {p1 : Int32} {p2 : Int32} {p3 : Nat} {M : wM} {Q : Int32 → wM → Prop} (hp : P_J23_getChars G p1 p2 p3 M Q) : wMet l yJ23_getChars (ws_ yJ23_getChars cJ23_getChars 7 (Option.some Jvm.ClassFile.FieldType.int)) 12 400 G [.int p1, .int p2, .ref p3] M 0 (wqI Q) wX0 := by
  refine vx_ofW (cc := cJ23_getChars) (maxL := 7) (ret := Option.some Jvm.ClassFile.FieldType.int) (by decide) rfl ?_
  intro p e s m args below meth c s₁ B hml hnt hv
  obtain ⟨rfl, hM, hK, hZ, hz⟩ := hv
  have hC : wC G s := ⟨hK, hZ, hz⟩
  have hx := B.exec
  have hb := B.bytes
  have hr := B.returns
  have hts := atoms_spec (ws := (ws_ yJ23_getChars cJ23_getChars 7 (Option.some Jvm.ClassFile.FieldType.int))) B.pre
  have hts : ∀ w ∈ lw_all, w.before _ s = true := fun w h => hts w (List.mem_cons_of_mem _ h)
  have hown : s.vm.findClass RJ23 = some m.cls := findClass_of_methodNamed B.named
  have hlk := B.notSynchronized
  have X : CallFix p m c cJ23_getChars 7 s ([.int p1, .int p2, .ref p3] : List Value).toArray lw_all RJ23 := ⟨hx, hb, hml, hown, hts⟩
  have hS : va_S (wA G) s.heap s.heap [] := va_S.rf
  have hl := lv_entry ([.int p1, .int p2, .ref p3]) (n := 7) (Nat.le_of_ble_eq_true rfl)
  rw [lg_entry_eq]
  generalize (lg_sl ([.int p1, .int p2, .ref p3]) ++ List.replicate (7 - (lg_sl ([.int p1, .int p2, .ref p3])).length) Slot.unset).toArray = ls at hl ⊢
  have hl : lv_has ls 7 [(0, .int p1), (1, .int p2), (2, .ref p3)] := hl
  have hB118 : ∀ (x5 : Int32) (M : wM) (H : Heap) (locs : List Loc) (ls : Array Slot), B_J23_getChars_118 G Q x5 M → wR G M H → va_S (wA G) s.heap H locs → lv_has ls 7 [(5, .int x5)] → W p l e (headSpec (ws_ yJ23_getChars cJ23_getChars 7 (Option.some Jvm.ClassFile.FieldType.int)) ({ frames := 12, cells := 0, slots := 0, locals := 400 })).room s m ([.int p1, .int p2, .ref p3] : List Value).toArray below meth c H locs 0 0 (vx_MQ below (wQ G (wqI Q)) (wXC G wX0) ([.int p1, .int p2, .ref p3] : List Value).toArray s 0 0 (wA G)) (F0 m 118 ls []) := by
    intro x5 M H locs ls hp hM hS hl
    refine lv_iload hx hb dJ23_getChars_118 (lv_at hl 0 rfl) ?_
    exact x_iret X hr hlk hM hS ⟨Nat.le_refl _, Nat.le_refl _⟩ dJ23_getChars_120 ⟨_, rfl, hp⟩
  have hB104 : ∀ (x2 : Nat) (x5 : Int32) (x6 : Int32) (M : wM) (H : Heap) (locs : List Loc) (ls : Array Slot), B_J23_getChars_104 G Q x2 x5 x6 M → wR G M H → va_S (wA G) s.heap H locs → lv_has ls 7 [(2, .ref x2), (5, .int x5), (6, .int x6)] → W p l e (headSpec (ws_ yJ23_getChars cJ23_getChars 7 (Option.some Jvm.ClassFile.FieldType.int)) ({ frames := 12, cells := 0, slots := 0, locals := 400 })).room s m ([.int p1, .int p2, .ref p3] : List Value).toArray below meth c H locs 0 0 (vx_MQ below (wQ G (wqI Q)) (wXC G wX0) ([.int p1, .int p2, .ref p3] : List Value).toArray s 0 0 (wA G)) (F0 m 104 ls []) := by
    intro x2 x5 x6 M H locs ls hp hM hS hl
    refine lv_iload hx hb dJ23_getChars_104 (lv_at hl 2 rfl) ?_
    refine lv_if_eq (tgt := 118) hx hb dJ23_getChars_106 (by decide) (fun hc => ?_) (fun hc => ?_)
    · have hp := oIf.t hp hc
      exact hB118 _ _ _ _ _ hp hM hS (lv_sub hl [1] rfl)
    · have hp := oIf.f hp hc
      refine lv_aload_n hx hb dJ23_getChars_109 rfl (lv_at hl 0 rfl) ?_
      refine lv_iinc (v := (x5 + (-1))) (lv' := [(5, .int (x5 + (-1))), (2, .ref x2), (6, .int x6)]) hx hb dJ23_getChars_110 hl (k := 1) rfl rfl (by decide) rfl (fun ls hl => ?_)
      refine lv_iload hx hb dJ23_getChars_113 (lv_at hl 0 rfl) ?_
      refine lv_bipush (v := 45) hx hb dJ23_getChars_115 (by decide) ?_
      refine x_bast X hC.1 hM hS dJ23_getChars_117 hp (fun M1 H locs hM hS hp => ?_)
      exact hB118 _ _ _ _ _ hp hM hS (lv_sub hl [0] rfl)
  have hB22 : ∀ (rec22 : Int32 → Nat → Int32 → Int32 → wM → Prop) (hrec22 : ∀ (x0 : Int32) (x2 : Nat) (x5 : Int32) (x6 : Int32) (M : wM) (H : Heap) (locs : List Loc) (ls : Array Slot), rec22 x0 x2 x5 x6 M → wR G M H → va_S (wA G) s.heap H locs → lv_has ls 7 [(0, .int x0), (2, .ref x2), (5, .int x5), (6, .int x6)] → W p l e (headSpec (ws_ yJ23_getChars cJ23_getChars 7 (Option.some Jvm.ClassFile.FieldType.int)) ({ frames := 12, cells := 0, slots := 0, locals := 400 })).room s m ([.int p1, .int p2, .ref p3] : List Value).toArray below meth c H locs 0 0 (vx_MQ below (wQ G (wqI Q)) (wXC G wX0) ([.int p1, .int p2, .ref p3] : List Value).toArray s 0 0 (wA G)) (F0 m 22 ls [])), ∀ (x0 : Int32) (x2 : Nat) (x5 : Int32) (x6 : Int32) (M : wM) (H : Heap) (locs : List Loc) (ls : Array Slot), B_J23_getChars_22 G rec22 Q x0 x2 x5 x6 M → wR G M H → va_S (wA G) s.heap H locs → lv_has ls 7 [(0, .int x0), (2, .ref x2), (5, .int x5), (6, .int x6)] → W p l e (headSpec (ws_ yJ23_getChars cJ23_getChars 7 (Option.some Jvm.ClassFile.FieldType.int)) ({ frames := 12, cells := 0, slots := 0, locals := 400 })).room s m ([.int p1, .int p2, .ref p3] : List Value).toArray below meth c H locs 0 0 (vx_MQ below (wQ G (wqI Q)) (wXC G wX0) ([.int p1, .int p2, .ref p3] : List Value).toArray s 0 0 (wA G)) (F0 m 22 ls []) := by
    intro rec22 hrec22 x0 x2 x5 x6 M H locs ls hp hM hS hl
    refine lv_iload_n hx hb dJ23_getChars_22 rfl (lv_at hl 0 rfl) ?_
    refine lv_bipush (v := (-100)) hx hb dJ23_getChars_23 (by decide) ?_
    refine lv_icmp_gt (tgt := 72) hx hb dJ23_getChars_25 (by decide) (fun hc => ?_) (fun hc => ?_)
    · have hp := oIf.t hp hc
      refine lv_aload_n hx hb dJ23_getChars_72 rfl (lv_at hl 1 rfl) ?_
      refine lv_iinc (v := (x5 + (-1))) (lv' := [(5, .int (x5 + (-1))), (0, .int x0), (2, .ref x2), (6, .int x6)]) hx hb dJ23_getChars_73 hl (k := 2) rfl rfl (by decide) rfl (fun ls hl => ?_)
      refine lv_iload hx hb dJ23_getChars_76 (lv_at hl 0 rfl) ?_
      refine x_gets X hC hS (C := "java/lang/Integer") (n := "DigitOnes") (d := "[B") (v := .inr 51) (List.mem_of_getElem? (i := 7) rfl) q750 (fun _ h9 => h9) dJ23_getChars_78 ?_
      refine lv_iload_n hx hb dJ23_getChars_81 rfl (lv_at hl 1 rfl) ?_
      refine lv_ineg hx hb dJ23_getChars_82 ?_
      refine x_bald X hC.1 hM dJ23_getChars_83 hp (fun v1 hp => ?_)
      refine x_bast X hC.1 hM hS dJ23_getChars_84 hp (fun M2 H locs hM hS hp => ?_)
      refine lv_iload_n hx hb dJ23_getChars_85 rfl (lv_at hl 1 rfl) ?_
      refine lv_bipush (v := (-9)) hx hb dJ23_getChars_86 (by decide) ?_
      refine lv_icmp_ge (tgt := 104) hx hb dJ23_getChars_88 (by decide) (fun hc => ?_) (fun hc => ?_)
      · have hp := oIf.t hp hc
        exact hB104 _ _ _ _ _ _ _ hp hM hS (lv_sub hl [2, 0, 3] rfl)
      · have hp := oIf.f hp hc
        refine lv_aload_n hx hb dJ23_getChars_91 rfl (lv_at hl 2 rfl) ?_
        refine lv_iinc (v := ((x5 + (-1)) + (-1))) (lv' := [(5, .int ((x5 + (-1)) + (-1))), (0, .int x0), (2, .ref x2), (6, .int x6)]) hx hb dJ23_getChars_92 hl (k := 0) rfl rfl (by decide) rfl (fun ls hl => ?_)
        refine lv_iload hx hb dJ23_getChars_95 (lv_at hl 0 rfl) ?_
        refine x_gets X hC hS (C := "java/lang/Integer") (n := "DigitTens") (d := "[B") (v := .inr 50) (List.mem_of_getElem? (i := 6) rfl) q752 (fun _ h9 => h9) dJ23_getChars_97 ?_
        refine lv_iload_n hx hb dJ23_getChars_100 rfl (lv_at hl 1 rfl) ?_
        refine lv_ineg hx hb dJ23_getChars_101 ?_
        refine x_bald X hC.1 hM dJ23_getChars_102 hp (fun v3 hp => ?_)
        refine x_bast X hC.1 hM hS dJ23_getChars_103 hp (fun M4 H locs hM hS hp => ?_)
        exact hB104 _ _ _ _ _ _ _ hp hM hS (lv_sub hl [2, 0, 3] rfl)
    · have hp := oIf.f hp hc
      refine lv_iload_n hx hb dJ23_getChars_28 rfl (lv_at hl 0 rfl) ?_
      refine lv_bipush (v := 100) hx hb dJ23_getChars_29 (by decide) ?_
      refine lv_idiv hx hb dJ23_getChars_31 (by decide) ?_
      refine lv_istore_n (lv' := [(3, .int (x0 / (100 : Int32))), (0, .int x0), (2, .ref x2), (5, .int x5), (6, .int x6)]) hx hb dJ23_getChars_32 rfl hl (by decide) rfl (fun ls hl => ?_)
      refine lv_iload_n hx hb dJ23_getChars_33 rfl (lv_at hl 0 rfl) ?_
      refine lv_bipush (v := 100) hx hb dJ23_getChars_34 (by decide) ?_
      refine lv_imul hx hb dJ23_getChars_36 ?_
      refine lv_iload_n hx hb dJ23_getChars_37 rfl (lv_at hl 1 rfl) ?_
      refine lv_isub hx hb dJ23_getChars_38 ?_
      refine lv_istore (lv' := [(4, .int (((x0 / (100 : Int32)) * (100 : Int32)) - x0)), (3, .int (x0 / (100 : Int32))), (0, .int x0), (2, .ref x2), (5, .int x5), (6, .int x6)]) hx hb dJ23_getChars_39 hl (by decide) rfl (fun ls hl => ?_)
      refine lv_iload_n hx hb dJ23_getChars_41 rfl (lv_at hl 1 rfl) ?_
      refine lv_istore_n (lv' := [(0, .int (x0 / (100 : Int32))), (4, .int (((x0 / (100 : Int32)) * (100 : Int32)) - x0)), (3, .int (x0 / (100 : Int32))), (2, .ref x2), (5, .int x5), (6, .int x6)]) hx hb dJ23_getChars_42 rfl hl (by decide) rfl (fun ls hl => ?_)
      refine lv_aload_n hx hb dJ23_getChars_43 rfl (lv_at hl 3 rfl) ?_
      refine lv_iinc (v := (x5 + (-1))) (lv' := [(5, .int (x5 + (-1))), (0, .int (x0 / (100 : Int32))), (4, .int (((x0 / (100 : Int32)) * (100 : Int32)) - x0)), (3, .int (x0 / (100 : Int32))), (2, .ref x2), (6, .int x6)]) hx hb dJ23_getChars_44 hl (k := 4) rfl rfl (by decide) rfl (fun ls hl => ?_)
      refine lv_iload hx hb dJ23_getChars_47 (lv_at hl 0 rfl) ?_
      refine x_gets X hC hS (C := "java/lang/Integer") (n := "DigitOnes") (d := "[B") (v := .inr 51) (List.mem_of_getElem? (i := 7) rfl) q750 (fun _ h9 => h9) dJ23_getChars_49 ?_
      refine lv_iload hx hb dJ23_getChars_52 (lv_at hl 2 rfl) ?_
      refine x_bald X hC.1 hM dJ23_getChars_54 hp (fun v5 hp => ?_)
      refine x_bast X hC.1 hM hS dJ23_getChars_55 hp (fun M6 H locs hM hS hp => ?_)
      refine lv_aload_n hx hb dJ23_getChars_56 rfl (lv_at hl 4 rfl) ?_
      refine lv_iinc (v := ((x5 + (-1)) + (-1))) (lv' := [(5, .int ((x5 + (-1)) + (-1))), (0, .int (x0 / (100 : Int32))), (4, .int (((x0 / (100 : Int32)) * (100 : Int32)) - x0)), (3, .int (x0 / (100 : Int32))), (2, .ref x2), (6, .int x6)]) hx hb dJ23_getChars_57 hl (k := 0) rfl rfl (by decide) rfl (fun ls hl => ?_)
      refine lv_iload hx hb dJ23_getChars_60 (lv_at hl 0 rfl) ?_
      refine x_gets X hC hS (C := "java/lang/Integer") (n := "DigitTens") (d := "[B") (v := .inr 50) (List.mem_of_getElem? (i := 6) rfl) q752 (fun _ h9 => h9) dJ23_getChars_62 ?_
      refine lv_iload hx hb dJ23_getChars_65 (lv_at hl 2 rfl) ?_
      refine x_bald X hC.1 hM dJ23_getChars_67 hp (fun v7 hp => ?_)
      refine x_bast X hC.1 hM hS dJ23_getChars_68 hp (fun M8 H locs hM hS hp => ?_)
      refine lv_goto (tgt := 22) hx hb dJ23_getChars_69 (by decide) ?_
      exact hrec22 _ _ _ _ _ _ _ _ hp hM hS (lv_sub hl [1, 4, 0, 5] rfl)
  have hL22 : ∀ (n : Nat), ∀ (x0 : Int32) (x2 : Nat) (x5 : Int32) (x6 : Int32) (M : wM) (H : Heap) (locs : List Loc) (ls : Array Slot), L_J23_getChars_22 G Q n x0 x2 x5 x6 M → wR G M H → va_S (wA G) s.heap H locs → lv_has ls 7 [(0, .int x0), (2, .ref x2), (5, .int x5), (6, .int x6)] → W p l e (headSpec (ws_ yJ23_getChars cJ23_getChars 7 (Option.some Jvm.ClassFile.FieldType.int)) ({ frames := 12, cells := 0, slots := 0, locals := 400 })).room s m ([.int p1, .int p2, .ref p3] : List Value).toArray below meth c H locs 0 0 (vx_MQ below (wQ G (wqI Q)) (wXC G wX0) ([.int p1, .int p2, .ref p3] : List Value).toArray s 0 0 (wA G)) (F0 m 22 ls []) := by
    intro n
    induction n with
    | zero => intro _ _ _ _ _ _ _ _ hp; exact False.elim hp
    | succ n ih => intro x0 x2 x5 x6 M H locs ls hp hM hS hl; exact hB22 (L_J23_getChars_22 G Q n) ih _ _ _ _ _ _ _ _ hp hM hS hl
  have hB12 : ∀ (x0 : Int32) (x2 : Nat) (x5 : Int32) (y0 : Int32) (M : wM) (H : Heap) (locs : List Loc) (ls : Array Slot), B_J23_getChars_12 G Q x0 x2 x5 y0 M → wR G M H → va_S (wA G) s.heap H locs → lv_has ls 7 [(0, .int x0), (2, .ref x2), (5, .int x5)] → W p l e (headSpec (ws_ yJ23_getChars cJ23_getChars 7 (Option.some Jvm.ClassFile.FieldType.int)) ({ frames := 12, cells := 0, slots := 0, locals := 400 })).room s m ([.int p1, .int p2, .ref p3] : List Value).toArray below meth c H locs 0 0 (vx_MQ below (wQ G (wqI Q)) (wXC G wX0) ([.int p1, .int p2, .ref p3] : List Value).toArray s 0 0 (wA G)) (F0 m 12 ls [.int y0]) := by
    intro x0 x2 x5 y0 M H locs ls hp hM hS hl
    refine lv_istore (lv' := [(6, .int y0), (0, .int x0), (2, .ref x2), (5, .int x5)]) hx hb dJ23_getChars_12 hl (by decide) rfl (fun ls hl => ?_)
    refine lv_iload hx hb dJ23_getChars_14 (lv_at hl 0 rfl) ?_
    refine lv_if_ne (tgt := 22) hx hb dJ23_getChars_16 (by decide) (fun hc => ?_) (fun hc => ?_)
    · have hp := oIf.f hp hc
      obtain ⟨n, hp⟩ := hp
      exact hL22 n _ _ _ _ _ _ _ _ hp hM hS (lv_sub hl [1, 2, 3, 0] rfl)
    · have hp := oIf.t hp hc
      refine lv_iload_n hx hb dJ23_getChars_19 rfl (lv_at hl 1 rfl) ?_
      refine lv_ineg hx hb dJ23_getChars_20 ?_
      refine lv_istore_n (lv' := [(0, .int (-x0)), (6, .int y0), (2, .ref x2), (5, .int x5)]) hx hb dJ23_getChars_21 rfl hl (by decide) rfl (fun ls hl => ?_)
      obtain ⟨n, hp⟩ := hp
      exact hL22 n _ _ _ _ _ _ _ _ hp hM hS (lv_sub hl [0, 2, 3, 1] rfl)
  refine lv_iload_n hx hb dJ23_getChars_0 rfl (lv_at hl 1 rfl) ?_
  refine lv_istore (lv' := [(5, .int p2), (0, .int p1), (1, .int p2), (2, .ref p3)]) hx hb dJ23_getChars_1 hl (by decide) rfl (fun ls hl => ?_)
  refine lv_iload_n hx hb dJ23_getChars_3 rfl (lv_at hl 1 rfl) ?_
  refine lv_if_ge (tgt := 11) hx hb dJ23_getChars_4 (by decide) (fun hc => ?_) (fun hc => ?_)
  · have hp := oIf.t hp hc
    refine lv_iconst (v := 0) hx hb dJ23_getChars_11 (by decide) ?_
    exact hB12 _ _ _ _ _ _ _ _ hp hM hS (lv_sub hl [1, 3, 0] rfl)
  · have hp := oIf.f hp hc
    refine lv_iconst (v := 1) hx hb dJ23_getChars_7 (by decide) ?_
    refine lv_goto (tgt := 12) hx hb dJ23_getChars_8 (by decide) ?_
    exact hB12 _ _ _ _ _ _ _ _ hp hM hS (lv_sub hl [1, 3, 0] rfl)
def B_J17_append_2_J18_48 (G : wG) (Q : Option Nat → wM → Prop) (x0 : Nat) (x3 : Int32) (M : wM) (bq : Nat) : Prop :=
  oPut G M x0 23 3 (.int x3) (fun M1 => Q (some x0) M1)
def P_J17_append_2_J18 (G : wG) (t0 : Nat) (p1 : Int32) (b : Nat) (M : wM) (Q : Option Nat → wM → Prop) : Prop :=
  oGetI M t0 23 3 (fun v1 => P_J23_stringSize G p1 M (fun v4 M2 => oIs M2 t0 23 (∃ c6, c6 ≤ b ∧ P_J17_ensureCapacityInternal_J18 G t0 (v1 + v4) c6 M2 (fun M5 => oIs M5 t0 23 (P_J17_isLatin1_J18 G t0 M5 (fun r9 M7 => oIf (r9 = true) (oGetA M7 t0 23 0 (fun a11 => P_J23_getChars G p1 (v1 + v4) a11 M7 (fun v14 M12 => B_J17_append_2_J18_48 G Q t0 (v1 + v4) M12 (b - c6)))) (False)))))))
set_option maxHeartbeats 4000000 in
set_option maxRecDepth 100000 in
theorem P_J17_append_2_J18_ok {l : Launch} (hl0 : l.stackTraces = false) {G : wG} {t0 : Nat} {p1 : Int32} {b : Nat} {M : wM} {Q : Option Nat → wM → Prop} (hp : P_J17_append_2_J18 G t0 p1 b M Q) : wMet l yJ17_append_2 (ws_ yJ17_append_2 cJ17_append_2 4 (Option.some (Jvm.ClassFile.FieldType.object "java/lang/AbstractStringBuilder"))) 16 492 G [.ref t0, .int p1] M b (wqR Q) wX0 := by
  refine vx_ofW (cc := cJ17_append_2) (maxL := 4) (ret := Option.some (Jvm.ClassFile.FieldType.object "java/lang/AbstractStringBuilder")) (by decide) rfl ?_
  intro p e s m args below meth c s₁ B hml hnt hv
  obtain ⟨rfl, hM, hK, hZ, hz⟩ := hv
  have hC : wC G s := ⟨hK, hZ, hz⟩
  have hx := B.exec
  have hb := B.bytes
  have hr := B.returns
  have hts := atoms_spec (ws := (ws_ yJ17_append_2 cJ17_append_2 4 (Option.some (Jvm.ClassFile.FieldType.object "java/lang/AbstractStringBuilder")))) B.pre
  have hts : ∀ w ∈ lw_all, w.before _ s = true := fun w h => hts w (List.mem_cons_of_mem _ h)
  have hown : s.vm.findClass RJ17 = some m.cls := findClass_of_methodNamed B.named
  have hlk := B.notSynchronized
  have X : CallFix p m c cJ17_append_2 4 s ([.ref t0, .int p1] : List Value).toArray lw_all RJ17 := ⟨hx, hb, hml, hown, hts⟩
  have hS : va_S (wA G) s.heap s.heap [] := va_S.rf
  have hl := lv_entry ([.ref t0, .int p1]) (n := 4) (Nat.le_of_ble_eq_true rfl)
  rw [lg_entry_eq]
  generalize (lg_sl ([.ref t0, .int p1]) ++ List.replicate (4 - (lg_sl ([.ref t0, .int p1])).length) Slot.unset).toArray = ls at hl ⊢
  have hl : lv_has ls 4 [(0, .ref t0), (1, .int p1)] := hl
  have hB : 0 + b ≤ ((headSpec (ws_ yJ17_append_2 cJ17_append_2 4 (Option.some (Jvm.ClassFile.FieldType.object "java/lang/AbstractStringBuilder"))) ({ frames := 16, cells := b, slots := b, locals := 492 })).room).cells ∧ 0 + b ≤ ((headSpec (ws_ yJ17_append_2 cJ17_append_2 4 (Option.some (Jvm.ClassFile.FieldType.object "java/lang/AbstractStringBuilder"))) ({ frames := 16, cells := b, slots := b, locals := 492 })).room).slots := ⟨Nat.le_of_eq (Nat.zero_add b), Nat.le_of_eq (Nat.zero_add b)⟩
  have hB48 : ∀ (x0 : Nat) (x3 : Int32) (M : wM) (bq : Nat) (H : Heap) (locs : List Loc) (ls : Array Slot) (cells slots : Nat), B_J17_append_2_J18_48 G Q x0 x3 M bq → wR G M H → va_S (wA G) s.heap H locs → (cells + bq ≤ ((headSpec (ws_ yJ17_append_2 cJ17_append_2 4 (Option.some (Jvm.ClassFile.FieldType.object "java/lang/AbstractStringBuilder"))) ({ frames := 16, cells := b, slots := b, locals := 492 })).room).cells ∧ slots + bq ≤ ((headSpec (ws_ yJ17_append_2 cJ17_append_2 4 (Option.some (Jvm.ClassFile.FieldType.object "java/lang/AbstractStringBuilder"))) ({ frames := 16, cells := b, slots := b, locals := 492 })).room).slots) → lv_has ls 4 [(0, .ref x0), (3, .int x3)] → W p l e (headSpec (ws_ yJ17_append_2 cJ17_append_2 4 (Option.some (Jvm.ClassFile.FieldType.object "java/lang/AbstractStringBuilder"))) ({ frames := 16, cells := b, slots := b, locals := 492 })).room s m ([.ref t0, .int p1] : List Value).toArray below meth c H locs cells slots (vx_MQ below (wQ G (wqR Q)) (wXC G wX0) ([.ref t0, .int p1] : List Value).toArray s b b (wA G)) (F0 m 48 ls []) := by
    intro x0 x3 M bq H locs ls cells slots hp hM hS hB hl
    refine lv_aload_n hx hb dJ17_append_2_48 rfl (lv_at hl 0 rfl) ?_
    refine lv_iload_n hx hb dJ17_append_2_49 rfl (lv_at hl 1 rfl) ?_
    refine x_put X hC.1 hM hS (ci := 23) (C := RJ18) (T := TJ18) (N := 4) rfl in_J18 tyJ18 tyJ18_ok nmJ18 3 (by decide) q620 (fun _ h9 => h9) rfl rfl rfl dJ17_append_2_50 hp (fun M1 H locs hM hS hp => ?_)
    refine lv_aload_n hx hb dJ17_append_2_53 rfl (lv_at hl 0 rfl) ?_
    exact x_aret (v := (some x0)) X hr (by first | exact Or.inl ⟨_, rfl⟩ | exact Or.inr ⟨_, rfl⟩) hlk hM hS (w_fin hB) dJ17_append_2_54 ⟨(some x0), rfl, hp⟩
  refine lv_aload_n hx hb dJ17_append_2_0 rfl (lv_at hl 0 rfl) ?_
  refine x_getI X hC.1 hM (ci := 23) (C := RJ18) (T := TJ18) (N := 4) rfl in_J18 3 (by decide) q620 (fun _ h9 => h9) dJ17_append_2_1 hp (fun v1 hp => ?_)
  refine lv_istore_n (lv' := [(2, .int v1), (0, .ref t0), (1, .int p1)]) hx hb dJ17_append_2_4 rfl hl (by decide) rfl (fun ls hl => ?_)
  refine lv_iload_n hx hb dJ17_append_2_5 rfl (lv_at hl 0 rfl) ?_
  refine lv_iload_n hx hb dJ17_append_2_6 rfl (lv_at hl 2 rfl) ?_
  refine x_call0I (vx_runS (As := [.int p1]) (rest := [.int v1]) X (P_J23_stringSize_ok (l := l) hl0 hp) (va_cwS 1 hts (lw_S q744 q745 q175 q746) rfl rfl rfl (by decide +kernel) ⟨Nat.le_of_ble_eq_true rfl, Nat.le_of_ble_eq_true rfl⟩) ⟨wPc.blind, w_pre hC hM hS _⟩ rfl rfl hl.1 rfl (lv_room (Nat.le_of_ble_eq_true rfl)) dJ17_append_2_7 (w_room0 hB)) hS (w_room0 hB) (fun _ _ _ _ _ _ h => False.elim h) (fun v4 M2 H locs hp hM hS => ?_)
  refine lv_iadd hx hb dJ17_append_2_10 ?_
  refine lv_istore_n (lv' := [(3, .int (v1 + v4)), (2, .int v1), (0, .ref t0), (1, .int p1)]) hx hb dJ17_append_2_11 rfl hl (by decide) rfl (fun ls hl => ?_)
  refine lv_aload_n hx hb dJ17_append_2_12 rfl (lv_at hl 2 rfl) ?_
  refine lv_iload_n hx hb dJ17_append_2_13 rfl (lv_at hl 0 rfl) ?_
  obtain ⟨hrec, hp⟩ := hp
  obtain ⟨c6, hc1, hp⟩ := hp
  refine x_callV (w_runP hC (As := [.int (v1 + v4)]) (rest := []) 1 X (P_J17_ensureCapacityInternal_J18_ok (l := l) hl0 hp) q646 q645 q169 (by decide) q643 q3803 (by decide) (by decide +kernel) rfl rfl ⟨Nat.le_of_ble_eq_true rfl, Nat.le_of_ble_eq_true rfl⟩ ⟨wPc.blind, w_recv hC.1 hM (ci := 23) (q := (RJ18, TJ18, 4)) rfl hrec, w_pre hC hM hS _⟩ rfl rfl hl.1 rfl (lv_room (Nat.le_of_ble_eq_true rfl)) dJ17_append_2_14 (w_room hB hc1)) hS hB hc1 (fun _ _ _ _ _ _ h => False.elim h) (fun M5 H locs hp hM hS hB => ?_)
  refine lv_aload_n hx hb dJ17_append_2_17 rfl (lv_at hl 2 rfl) ?_
  obtain ⟨hrec, hp⟩ := hp
  refine x_call0Z (vx_runU (As := []) (rest := []) X (P_J17_isLatin1_J18_ok (l := l) hl0 hp) (va_cwU 0 hts (lw_app (w_mem5 q663 q665 q666 q664 q169) (lw_meth q667)) rfl rfl rfl rfl (by decide +kernel) ⟨Nat.le_of_ble_eq_true rfl, Nat.le_of_ble_eq_true rfl⟩) ⟨wPc.blind, w_recv hC.1 hM (ci := 23) (q := (RJ18, TJ18, 4)) rfl hrec, w_pre hC hM hS _⟩ rfl rfl hl.1 rfl (lv_room (Nat.le_of_ble_eq_true rfl)) dJ17_append_2_18 (w_room0 hB)) hS (w_room0 hB) (fun _ _ _ _ _ _ h => False.elim h) (fun r9 M7 H locs hp hM hS => ?_)
  refine x_ifeqB (tgt := 37) hx hb dJ17_append_2_21 (by decide) (fun hc => ?_) (fun hc => ?_)
  · have hp := oIf.bf hp hc
    exact hp.elim
  · have hp := oIf.bt hp hc
    refine lv_iload_n hx hb dJ17_append_2_24 rfl (lv_at hl 3 rfl) ?_
    refine lv_iload_n hx hb dJ17_append_2_25 rfl (lv_at hl 0 rfl) ?_
    refine lv_aload_n hx hb dJ17_append_2_26 rfl (lv_at hl 2 rfl) ?_
    refine x_getA X hC.1 hM (ci := 23) (C := RJ18) (T := TJ18) (N := 4) rfl in_J18 0 (by decide) q616 (fun _ h9 => h9) dJ17_append_2_27 hp (fun a11 hp => ?_)
    refine x_call0I (vx_runS (As := [.int p1, .int (v1 + v4), .ref a11]) (rest := []) X (P_J23_getChars_ok (l := l) hl0 hp) (va_cwS 3 hts (lw_S q747 q748 q175 q749) rfl rfl rfl (by decide +kernel) ⟨Nat.le_of_ble_eq_true rfl, Nat.le_of_ble_eq_true rfl⟩) ⟨wPc.blind, w_pre hC hM hS _⟩ rfl rfl hl.1 rfl (lv_room (Nat.le_of_ble_eq_true rfl)) dJ17_append_2_30 (w_room0 hB)) hS (w_room0 hB) (fun _ _ _ _ _ _ h => False.elim h) (fun v14 M12 H locs hp hM hS => ?_)
    refine lv_pop hx hb dJ17_append_2_33 rfl ?_
    refine lv_goto (tgt := 48) hx hb dJ17_append_2_34 (by decide) ?_
    exact hB48 _ _ _ _ _ _ _ _ _ hp hM hS hB (lv_sub hl [2, 0] rfl)
def P_J18_append_2 (G : wG) (t0 : Nat) (p1 : Int32) (b : Nat) (M : wM) (Q : Option Nat → wM → Prop) : Prop :=
  oIs M t0 23 (∃ c2, c2 ≤ b ∧ P_J17_append_2_J18 G t0 p1 c2 M (fun r3 M1 => Q (some t0) M1))
set_option maxHeartbeats 4000000 in
set_option maxRecDepth 100000 in
theorem P_J18_append_2_ok {l : Launch} (hl0 : l.stackTraces = false) {G : wG} {t0 : Nat} {p1 : Int32} {b : Nat} {M : wM} {Q : Option Nat → wM → Prop} (hp : P_J18_append_2 G t0 p1 b M Q) : wMet l yJ18_append_2 (ws_ yJ18_append_2 cJ18_append_2 2 (Option.some (Jvm.ClassFile.FieldType.object "java/lang/StringBuilder"))) 17 515 G [.ref t0, .int p1] M b (wqR Q) wX0 := by
  refine vx_ofW (cc := cJ18_append_2) (maxL := 2) (ret := Option.some (Jvm.ClassFile.FieldType.object "java/lang/StringBuilder")) (by decide) rfl ?_
  intro p e s m args below meth c s₁ B hml hnt hv
  obtain ⟨rfl, hM, hK, hZ, hz⟩ := hv
  have hC : wC G s := ⟨hK, hZ, hz⟩
  have hx := B.exec
  have hb := B.bytes
  have hr := B.returns
  have hts := atoms_spec (ws := (ws_ yJ18_append_2 cJ18_append_2 2 (Option.some (Jvm.ClassFile.FieldType.object "java/lang/StringBuilder")))) B.pre
  have hts : ∀ w ∈ lw_all, w.before _ s = true := fun w h => hts w (List.mem_cons_of_mem _ h)
  have hown : s.vm.findClass RJ18 = some m.cls := findClass_of_methodNamed B.named
  have hlk := B.notSynchronized
  have X : CallFix p m c cJ18_append_2 2 s ([.ref t0, .int p1] : List Value).toArray lw_all RJ18 := ⟨hx, hb, hml, hown, hts⟩
  have hS : va_S (wA G) s.heap s.heap [] := va_S.rf
  have hl := lv_entry ([.ref t0, .int p1]) (n := 2) (Nat.le_of_ble_eq_true rfl)
  rw [lg_entry_eq]
  generalize (lg_sl ([.ref t0, .int p1]) ++ List.replicate (2 - (lg_sl ([.ref t0, .int p1])).length) Slot.unset).toArray = ls at hl ⊢
  have hl : lv_has ls 2 [(0, .ref t0), (1, .int p1)] := hl
  have hB : 0 + b ≤ ((headSpec (ws_ yJ18_append_2 cJ18_append_2 2 (Option.some (Jvm.ClassFile.FieldType.object "java/lang/StringBuilder"))) ({ frames := 17, cells := b, slots := b, locals := 515 })).room).cells ∧ 0 + b ≤ ((headSpec (ws_ yJ18_append_2 cJ18_append_2 2 (Option.some (Jvm.ClassFile.FieldType.object "java/lang/StringBuilder"))) ({ frames := 17, cells := b, slots := b, locals := 515 })).room).slots := ⟨Nat.le_of_eq (Nat.zero_add b), Nat.le_of_eq (Nat.zero_add b)⟩
  refine lv_aload_n hx hb dJ18_append_2_0 rfl (lv_at hl 0 rfl) ?_
  refine lv_iload_n hx hb dJ18_append_2_1 rfl (lv_at hl 1 rfl) ?_
  obtain ⟨hrec, hp⟩ := hp
  obtain ⟨c2, hc1, hp⟩ := hp
  refine x_callR (vx_runSU (hC.1.1.1 23 (RJ18, TJ18, 4) rfl).2 (As := [.int p1]) (rest := []) X (P_J17_append_2_J18_ok (l := l) hl0 hp) (va_cwSU 1 hts (lw_app (w_mem5 q741 q3808 q629 q742 q169) (lw_meth q743)) rfl rfl rfl (by decide +kernel) ⟨Nat.le_of_ble_eq_true rfl, Nat.le_of_ble_eq_true rfl⟩) ⟨wPc.blind, w_recv hC.1 hM (ci := 23) (q := (RJ18, TJ18, 4)) rfl hrec, w_pre hC hM hS _⟩ rfl rfl hl.1 rfl (lv_room (Nat.le_of_ble_eq_true rfl)) dJ18_append_2_2 (w_room hB hc1)) hS hB hc1 (fun _ _ _ _ _ _ h => False.elim h) (fun r3 M1 H locs hp hM hS hB => ?_)
  refine lv_pop hx hb dJ18_append_2_5 (w_cat _) ?_
  refine lv_aload_n hx hb dJ18_append_2_6 rfl (lv_at hl 0 rfl) ?_
  exact x_aret (v := (some t0)) X hr (by first | exact Or.inl ⟨_, rfl⟩ | exact Or.inr ⟨_, rfl⟩) hlk hM hS (w_fin hB) dJ18_append_2_7 ⟨(some t0), rfl, hp⟩
def P_X1_write (G : wG) (t0 : Nat) (p1 : Int32) (p2 : Int32) (b : Nat) (M : wM) (Q : wM → Prop) : Prop :=
  oGetA M t0 0 7 (fun a1 => oIs M a1 23 (∃ c3, c3 ≤ b ∧ P_J18_append_3 G a1 p1 c3 M (fun r4 M2 => oRef r4 (fun a5 => oIs M2 a5 23 (∃ c7, c7 ≤ (b - c3) ∧ P_J18_append_2 G a5 p2 c7 M2 (fun r8 M6 => oRef r8 (fun a9 => oIs M6 a9 23 (∃ c11, c11 ≤ ((b - c3) - c7) ∧ P_J18_append_3 G a9 (10 : Int32) c11 M6 (fun r12 M10 => Q M10)))))))))
set_option maxHeartbeats 4000000 in
set_option maxRecDepth 100000 in
theorem P_X1_write_ok {l : Launch} (hl0 : l.stackTraces = false) {G : wG} {t0 : Nat} {p1 : Int32} {p2 : Int32} {b : Nat} {M : wM} {Q : wM → Prop} (hp : P_X1_write G t0 p1 p2 b M Q) : wMet l yX1_write (ws_ yX1_write cX1_write 3 (none)) 18 536 G [.ref t0, .int p1, .int p2] M b (wqV Q) wX0 := by
  refine vx_ofW (cc := cX1_write) (maxL := 3) (ret := none) (by decide) rfl ?_
  intro p e s m args below meth c s₁ B hml hnt hv
  obtain ⟨rfl, hM, hK, hZ, hz⟩ := hv
  have hC : wC G s := ⟨hK, hZ, hz⟩
  have hx := B.exec
  have hb := B.bytes
  have hr := B.returns
  have hts := atoms_spec (ws := (ws_ yX1_write cX1_write 3 (none))) B.pre
  have hts : ∀ w ∈ lw_all, w.before _ s = true := fun w h => hts w (List.mem_cons_of_mem _ h)
  have hown : s.vm.findClass RX1 = some m.cls := findClass_of_methodNamed B.named
  have hlk := B.notSynchronized
  have X : CallFix p m c cX1_write 3 s ([.ref t0, .int p1, .int p2] : List Value).toArray lw_all RX1 := ⟨hx, hb, hml, hown, hts⟩
  have hS : va_S (wA G) s.heap s.heap [] := va_S.rf
  have hl := lv_entry ([.ref t0, .int p1, .int p2]) (n := 3) (Nat.le_of_ble_eq_true rfl)
  rw [lg_entry_eq]
  generalize (lg_sl ([.ref t0, .int p1, .int p2]) ++ List.replicate (3 - (lg_sl ([.ref t0, .int p1, .int p2])).length) Slot.unset).toArray = ls at hl ⊢
  have hl : lv_has ls 3 [(0, .ref t0), (1, .int p1), (2, .int p2)] := hl
  have hB : 0 + b ≤ ((headSpec (ws_ yX1_write cX1_write 3 (none)) ({ frames := 18, cells := b, slots := b, locals := 536 })).room).cells ∧ 0 + b ≤ ((headSpec (ws_ yX1_write cX1_write 3 (none)) ({ frames := 18, cells := b, slots := b, locals := 536 })).room).slots := ⟨Nat.le_of_eq (Nat.zero_add b), Nat.le_of_eq (Nat.zero_add b)⟩
  refine lv_aload_n hx hb dX1_write_0 rfl (lv_at hl 0 rfl) ?_
  refine x_getA X hC.1 hM (ci := 0) (C := RX1) (T := TX1) (N := 8) rfl in_X1 7 (by decide) q982 (fun _ h9 => h9) dX1_write_1 hp (fun a1 hp => ?_)
  refine lv_iload_n hx hb dX1_write_4 rfl (lv_at hl 1 rfl) ?_
  obtain ⟨hrec, hp⟩ := hp
  obtain ⟨c3, hc1, hp⟩ := hp
  refine x_callR (vx_runV (As := [.int p1]) (rest := []) X (P_J18_append_3_ok (l := l) hl0 hp) (cwV 1 hts (lw_V q2340 q1109 q1110 q170 q1111) rfl rfl rfl (by decide +kernel) ⟨Nat.le_of_ble_eq_true rfl, Nat.le_of_ble_eq_true rfl⟩) ⟨wPc.blind, w_recv hC.1 hM (ci := 23) (q := (RJ18, TJ18, 4)) rfl hrec, w_pre hC hM hS _⟩ rfl rfl hl.1 rfl (lv_room (Nat.le_of_ble_eq_true rfl)) dX1_write_5 (w_room hB hc1)) hS hB hc1 (fun _ _ _ _ _ _ h => False.elim h) (fun r4 M2 H locs hp hM hS hB => ?_)
  refine lv_iload_n hx hb dX1_write_8 rfl (lv_at hl 2 rfl) ?_
  obtain ⟨a5, ea, hqa5⟩ := hp
  subst ea
  have hp := hqa5
  obtain ⟨hrec, hp⟩ := hp
  obtain ⟨c7, hc1, hp⟩ := hp
  refine x_callR (vx_runV (As := [.int p2]) (rest := []) X (P_J18_append_2_ok (l := l) hl0 hp) (cwV 1 hts (lw_V q3112 q738 q739 q170 q740) rfl rfl rfl (by decide +kernel) ⟨Nat.le_of_ble_eq_true rfl, Nat.le_of_ble_eq_true rfl⟩) ⟨wPc.blind, w_recv hC.1 hM (ci := 23) (q := (RJ18, TJ18, 4)) rfl hrec, w_pre hC hM hS _⟩ rfl rfl hl.1 rfl (lv_room (Nat.le_of_ble_eq_true rfl)) dX1_write_9 (w_room hB hc1)) hS hB hc1 (fun _ _ _ _ _ _ h => False.elim h) (fun r8 M6 H locs hp hM hS hB => ?_)
  refine lv_bipush (v := 10) hx hb dX1_write_12 (by decide) ?_
  obtain ⟨a9, ea, hqa9⟩ := hp
  subst ea
  have hp := hqa9
  obtain ⟨hrec, hp⟩ := hp
  obtain ⟨c11, hc1, hp⟩ := hp
  refine x_callR (vx_runV (As := [.int (10 : Int32)]) (rest := []) X (P_J18_append_3_ok (l := l) hl0 hp) (cwV 1 hts (lw_V q2340 q1109 q1110 q170 q1111) rfl rfl rfl (by decide +kernel) ⟨Nat.le_of_ble_eq_true rfl, Nat.le_of_ble_eq_true rfl⟩) ⟨wPc.blind, w_recv hC.1 hM (ci := 23) (q := (RJ18, TJ18, 4)) rfl hrec, w_pre hC hM hS _⟩ rfl rfl hl.1 rfl (lv_room (Nat.le_of_ble_eq_true rfl)) dX1_write_14 (w_room hB hc1)) hS hB hc1 (fun _ _ _ _ _ _ h => False.elim h) (fun r12 M10 H locs hp hM hS hB => ?_)
  refine lv_pop hx hb dX1_write_17 (w_cat _) ?_
  exact x_vret X hr hlk hM hS (w_fin hB) dX1_write_18 ⟨rfl, hp⟩
def B_X1_writeAll_75 (G : wG) (rec3 : Nat → Int32 → Int32 → Int32 → Int32 → wM → Nat → Prop) (Q : wM → Prop) (x0 : Nat) (x1 : Int32) (x2 : Int32) (x3 : Int32) (x4 : Int32) (M : wM) (bq : Nat) : Prop :=
  rec3 x0 x1 x2 x3 (x4 + 1) M bq
def B_X1_writeAll_3 (G : wG) (rec3 : Nat → Int32 → Int32 → Int32 → Int32 → wM → Nat → Prop) (Q : wM → Prop) (x0 : Nat) (x1 : Int32) (x2 : Int32) (x3 : Int32) (x4 : Int32) (M : wM) (bq : Nat) : Prop :=
  oGetA M x0 0 0 (fun a1 => oGetA M a1 1 1 (fun a2 => oIs M a2 16 (P_J2_size G a2 M (fun v5 M3 => oIf (v5 ≤ x4) (Q M3) (oGetA M3 x0 0 0 (fun a6 => oGetA M3 a6 1 1 (fun a7 => oIs M3 a7 16 (P_J2_get G a7 x4 M3 (fun r10 M8 => oCast M8 r10 9 (oRef r10 (fun a11 => oGetI M8 a11 9 2 (fun v12 => oIf (v12 = x2) (oGetA M8 x0 0 0 (fun a13 => oGetA M8 a13 1 1 (fun a14 => oIs M8 a14 16 (P_J2_get G a14 x4 M8 (fun r17 M15 => oCast M15 r17 9 (oRef r17 (fun a18 => oGetI M15 a18 9 4 (fun v19 => oIf (v19 = x3) (oIs M15 x0 0 (∃ c21, c21 ≤ bq ∧ P_X1_write G x0 x1 x4 c21 M15 (fun M20 => B_X1_writeAll_75 G rec3 Q x0 x1 x2 x3 x4 M20 (bq - c21)))) (B_X1_writeAll_75 G rec3 Q x0 x1 x2 x3 x4 M15 bq))))))))) (B_X1_writeAll_75 G rec3 Q x0 x1 x2 x3 x4 M8 bq)))))))))))))
def L_X1_writeAll_3 (G : wG) (Q : wM → Prop) : Nat → Nat → Int32 → Int32 → Int32 → Int32 → wM → Nat → Prop
  | 0 => fun _ _ _ _ _ _ _ => False
  | n + 1 => B_X1_writeAll_3 G (L_X1_writeAll_3 G Q n) Q
def P_X1_writeAll (G : wG) (t0 : Nat) (p1 : Int32) (p2 : Int32) (p3 : Int32) (b : Nat) (M : wM) (Q : wM → Prop) : Prop :=
  ∃ n, L_X1_writeAll_3 G Q n t0 p1 p2 p3 (0 : Int32) M b
set_option maxHeartbeats 4000000 in
set_option maxRecDepth 100000 in
theorem P_X1_writeAll_ok {l : Launch} (hl0 : l.stackTraces = false) {G : wG} {t0 : Nat} {p1 : Int32} {p2 : Int32} {p3 : Int32} {b : Nat} {M : wM} {Q : wM → Prop} (hp : P_X1_writeAll G t0 p1 p2 p3 b M Q) : wMet l yX1_writeAll (ws_ yX1_writeAll cX1_writeAll 5 (none)) 19 558 G [.ref t0, .int p1, .int p2, .int p3] M b (wqV Q) wX0 := by
  refine vx_ofW (cc := cX1_writeAll) (maxL := 5) (ret := none) (by decide) rfl ?_
  intro p e s m args below meth c s₁ B hml hnt hv
  obtain ⟨rfl, hM, hK, hZ, hz⟩ := hv
  have hC : wC G s := ⟨hK, hZ, hz⟩
  have hx := B.exec
  have hb := B.bytes
  have hr := B.returns
  have hts := atoms_spec (ws := (ws_ yX1_writeAll cX1_writeAll 5 (none))) B.pre
  have hts : ∀ w ∈ lw_all, w.before _ s = true := fun w h => hts w (List.mem_cons_of_mem _ h)
  have hown : s.vm.findClass RX1 = some m.cls := findClass_of_methodNamed B.named
  have hlk := B.notSynchronized
  have X : CallFix p m c cX1_writeAll 5 s ([.ref t0, .int p1, .int p2, .int p3] : List Value).toArray lw_all RX1 := ⟨hx, hb, hml, hown, hts⟩
  have hS : va_S (wA G) s.heap s.heap [] := va_S.rf
  have hl := lv_entry ([.ref t0, .int p1, .int p2, .int p3]) (n := 5) (Nat.le_of_ble_eq_true rfl)
  rw [lg_entry_eq]
  generalize (lg_sl ([.ref t0, .int p1, .int p2, .int p3]) ++ List.replicate (5 - (lg_sl ([.ref t0, .int p1, .int p2, .int p3])).length) Slot.unset).toArray = ls at hl ⊢
  have hl : lv_has ls 5 [(0, .ref t0), (1, .int p1), (2, .int p2), (3, .int p3)] := hl
  have hB : 0 + b ≤ ((headSpec (ws_ yX1_writeAll cX1_writeAll 5 (none)) ({ frames := 19, cells := b, slots := b, locals := 558 })).room).cells ∧ 0 + b ≤ ((headSpec (ws_ yX1_writeAll cX1_writeAll 5 (none)) ({ frames := 19, cells := b, slots := b, locals := 558 })).room).slots := ⟨Nat.le_of_eq (Nat.zero_add b), Nat.le_of_eq (Nat.zero_add b)⟩
  have hB75 : ∀ (rec3 : Nat → Int32 → Int32 → Int32 → Int32 → wM → Nat → Prop) (hrec3 : ∀ (x0 : Nat) (x1 : Int32) (x2 : Int32) (x3 : Int32) (x4 : Int32) (M : wM) (bq : Nat) (H : Heap) (locs : List Loc) (ls : Array Slot) (cells slots : Nat), rec3 x0 x1 x2 x3 x4 M bq → wR G M H → va_S (wA G) s.heap H locs → (cells + bq ≤ ((headSpec (ws_ yX1_writeAll cX1_writeAll 5 (none)) ({ frames := 19, cells := b, slots := b, locals := 558 })).room).cells ∧ slots + bq ≤ ((headSpec (ws_ yX1_writeAll cX1_writeAll 5 (none)) ({ frames := 19, cells := b, slots := b, locals := 558 })).room).slots) → lv_has ls 5 [(0, .ref x0), (1, .int x1), (2, .int x2), (3, .int x3), (4, .int x4)] → W p l e (headSpec (ws_ yX1_writeAll cX1_writeAll 5 (none)) ({ frames := 19, cells := b, slots := b, locals := 558 })).room s m ([.ref t0, .int p1, .int p2, .int p3] : List Value).toArray below meth c H locs cells slots (vx_MQ below (wQ G (wqV Q)) (wXC G wX0) ([.ref t0, .int p1, .int p2, .int p3] : List Value).toArray s b b (wA G)) (F0 m 3 ls [])), ∀ (x0 : Nat) (x1 : Int32) (x2 : Int32) (x3 : Int32) (x4 : Int32) (M : wM) (bq : Nat) (H : Heap) (locs : List Loc) (ls : Array Slot) (cells slots : Nat), B_X1_writeAll_75 G rec3 Q x0 x1 x2 x3 x4 M bq → wR G M H → va_S (wA G) s.heap H locs → (cells + bq ≤ ((headSpec (ws_ yX1_writeAll cX1_writeAll 5 (none)) ({ frames := 19, cells := b, slots := b, locals := 558 })).room).cells ∧ slots + bq ≤ ((headSpec (ws_ yX1_writeAll cX1_writeAll 5 (none)) ({ frames := 19, cells := b, slots := b, locals := 558 })).room).slots) → lv_has ls 5 [(0, .ref x0), (1, .int x1), (2, .int x2), (3, .int x3), (4, .int x4)] → W p l e (headSpec (ws_ yX1_writeAll cX1_writeAll 5 (none)) ({ frames := 19, cells := b, slots := b, locals := 558 })).room s m ([.ref t0, .int p1, .int p2, .int p3] : List Value).toArray below meth c H locs cells slots (vx_MQ below (wQ G (wqV Q)) (wXC G wX0) ([.ref t0, .int p1, .int p2, .int p3] : List Value).toArray s b b (wA G)) (F0 m 75 ls []) := by
    intro rec3 hrec3 x0 x1 x2 x3 x4 M bq H locs ls cells slots hp hM hS hB hl
    refine lv_iinc (v := (x4 + 1)) (lv' := [(4, .int (x4 + 1)), (0, .ref x0), (1, .int x1), (2, .int x2), (3, .int x3)]) hx hb dX1_writeAll_75 hl (k := 4) rfl rfl (by decide) rfl (fun ls hl => ?_)
    refine lv_goto (tgt := 3) hx hb dX1_writeAll_78 (by decide) ?_
    exact hrec3 _ _ _ _ _ _ _ _ _ _ _ _ hp hM hS hB (lv_sub hl [1, 2, 3, 4, 0] rfl)
  have hB3 : ∀ (rec3 : Nat → Int32 → Int32 → Int32 → Int32 → wM → Nat → Prop) (hrec3 : ∀ (x0 : Nat) (x1 : Int32) (x2 : Int32) (x3 : Int32) (x4 : Int32) (M : wM) (bq : Nat) (H : Heap) (locs : List Loc) (ls : Array Slot) (cells slots : Nat), rec3 x0 x1 x2 x3 x4 M bq → wR G M H → va_S (wA G) s.heap H locs → (cells + bq ≤ ((headSpec (ws_ yX1_writeAll cX1_writeAll 5 (none)) ({ frames := 19, cells := b, slots := b, locals := 558 })).room).cells ∧ slots + bq ≤ ((headSpec (ws_ yX1_writeAll cX1_writeAll 5 (none)) ({ frames := 19, cells := b, slots := b, locals := 558 })).room).slots) → lv_has ls 5 [(0, .ref x0), (1, .int x1), (2, .int x2), (3, .int x3), (4, .int x4)] → W p l e (headSpec (ws_ yX1_writeAll cX1_writeAll 5 (none)) ({ frames := 19, cells := b, slots := b, locals := 558 })).room s m ([.ref t0, .int p1, .int p2, .int p3] : List Value).toArray below meth c H locs cells slots (vx_MQ below (wQ G (wqV Q)) (wXC G wX0) ([.ref t0, .int p1, .int p2, .int p3] : List Value).toArray s b b (wA G)) (F0 m 3 ls [])), ∀ (x0 : Nat) (x1 : Int32) (x2 : Int32) (x3 : Int32) (x4 : Int32) (M : wM) (bq : Nat) (H : Heap) (locs : List Loc) (ls : Array Slot) (cells slots : Nat), B_X1_writeAll_3 G rec3 Q x0 x1 x2 x3 x4 M bq → wR G M H → va_S (wA G) s.heap H locs → (cells + bq ≤ ((headSpec (ws_ yX1_writeAll cX1_writeAll 5 (none)) ({ frames := 19, cells := b, slots := b, locals := 558 })).room).cells ∧ slots + bq ≤ ((headSpec (ws_ yX1_writeAll cX1_writeAll 5 (none)) ({ frames := 19, cells := b, slots := b, locals := 558 })).room).slots) → lv_has ls 5 [(0, .ref x0), (1, .int x1), (2, .int x2), (3, .int x3), (4, .int x4)] → W p l e (headSpec (ws_ yX1_writeAll cX1_writeAll 5 (none)) ({ frames := 19, cells := b, slots := b, locals := 558 })).room s m ([.ref t0, .int p1, .int p2, .int p3] : List Value).toArray below meth c H locs cells slots (vx_MQ below (wQ G (wqV Q)) (wXC G wX0) ([.ref t0, .int p1, .int p2, .int p3] : List Value).toArray s b b (wA G)) (F0 m 3 ls []) := by
    intro rec3 hrec3 x0 x1 x2 x3 x4 M bq H locs ls cells slots hp hM hS hB hl
    refine lv_iload hx hb dX1_writeAll_3 (lv_at hl 4 rfl) ?_
    refine lv_aload_n hx hb dX1_writeAll_5 rfl (lv_at hl 0 rfl) ?_
    refine x_getA X hC.1 hM (ci := 0) (C := RX1) (T := TX1) (N := 8) rfl in_X1 0 (by decide) q973 (fun _ h9 => h9) dX1_writeAll_6 hp (fun a1 hp => ?_)
    refine x_getAN X hC.1 hM (ci := 1) (C := RX2) (T := TX2) (N := 9) rfl in_X2 1 (by decide) q920 (fun _ h9 => h9) dX1_writeAll_9 hp (fun a2 hp => ?_)
    obtain ⟨hrec, hp⟩ := hp
    refine x_call0I5 (vx_runF (hC.1.1.1 16 (RJ2, TJ2, 3) rfl).2 (C := "java/util/ArrayList") (As := []) (rest := [.int x4]) X (P_J2_size_ok (l := l) hl0 hp) (va_cwF 0 hts (lw_app (w_mem4 q1540 q496 q498 q153) (lw_meth q500)) rfl rfl rfl (wfw_13 hC.1) (by decide +kernel) ⟨Nat.le_of_ble_eq_true rfl, Nat.le_of_ble_eq_true rfl⟩) ⟨wPc.blind, w_recv hC.1 hM (ci := 16) (q := (RJ2, TJ2, 3)) rfl hrec, w_pre hC hM hS _⟩ rfl rfl hl.1 rfl (lv_room (Nat.le_of_ble_eq_true rfl)) dX1_writeAll_12 (w_room0 hB)) hS (w_room0 hB) (fun _ _ _ _ _ _ h => False.elim h) (fun v5 M3 H locs hp hM hS => ?_)
    refine lv_icmp_ge (tgt := 81) hx hb dX1_writeAll_17 (by decide) (fun hc => ?_) (fun hc => ?_)
    · have hp := oIf.t hp hc
      exact x_vret X hr hlk hM hS (w_fin hB) dX1_writeAll_81 ⟨rfl, hp⟩
    · have hp := oIf.f hp hc
      refine lv_aload_n hx hb dX1_writeAll_20 rfl (lv_at hl 0 rfl) ?_
      refine x_getA X hC.1 hM (ci := 0) (C := RX1) (T := TX1) (N := 8) rfl in_X1 0 (by decide) q973 (fun _ h9 => h9) dX1_writeAll_21 hp (fun a6 hp => ?_)
      refine x_getAN X hC.1 hM (ci := 1) (C := RX2) (T := TX2) (N := 9) rfl in_X2 1 (by decide) q920 (fun _ h9 => h9) dX1_writeAll_24 hp (fun a7 hp => ?_)
      refine lv_iload hx hb dX1_writeAll_27 (lv_at hl 4 rfl) ?_
      obtain ⟨hrec, hp⟩ := hp
      refine x_call0R5 (vx_runF (hC.1.1.1 16 (RJ2, TJ2, 3) rfl).2 (C := "java/util/ArrayList") (As := [.int x4]) (rest := []) X (P_J2_get_ok (l := l) hl0 hp) (va_cwF 1 hts (lw_app (w_mem4 q1667 q522 q524 q153) (lw_meth q526)) rfl rfl rfl (wfw_8 hC.1) (by decide +kernel) ⟨Nat.le_of_ble_eq_true rfl, Nat.le_of_ble_eq_true rfl⟩) ⟨wPc.blind, w_recv hC.1 hM (ci := 16) (q := (RJ2, TJ2, 3)) rfl hrec, w_pre hC hM hS _⟩ rfl rfl hl.1 rfl (lv_room (Nat.le_of_ble_eq_true rfl)) dX1_writeAll_29 (w_room0 hB)) hS (w_room0 hB) (fun _ _ _ _ _ _ h => False.elim h) (fun r10 M8 H locs hp hM hS => ?_)
      refine x_cast (r := r10) X hC.1 hM q1686 (ci := 9) rfl (Or.inl rfl) dX1_writeAll_34 hp (fun hp => ?_)
      obtain ⟨a11, ea, hqa11⟩ := hp
      subst ea
      have hp := hqa11
      refine x_getIN X hC.1 hM (ci := 9) (C := RX12) (T := TX12) (N := 8) rfl in_X12 2 (by decide) q2086 (fun _ h9 => h9) dX1_writeAll_37 hp (fun v12 hp => ?_)
      refine lv_iload_n hx hb dX1_writeAll_40 rfl (lv_at hl 2 rfl) ?_
      refine lv_icmp_ne (tgt := 75) hx hb dX1_writeAll_41 (by decide) (fun hc => ?_) (fun hc => ?_)
      · have hp := oIf.f hp hc
        exact hB75 rec3 hrec3 _ _ _ _ _ _ _ _ _ _ _ _ hp hM hS hB (lv_sub hl [0, 1, 2, 3, 4] rfl)
      · have hp := oIf.t hp hc
        refine lv_aload_n hx hb dX1_writeAll_44 rfl (lv_at hl 0 rfl) ?_
        refine x_getA X hC.1 hM (ci := 0) (C := RX1) (T := TX1) (N := 8) rfl in_X1 0 (by decide) q973 (fun _ h9 => h9) dX1_writeAll_45 hp (fun a13 hp => ?_)
        refine x_getAN X hC.1 hM (ci := 1) (C := RX2) (T := TX2) (N := 9) rfl in_X2 1 (by decide) q920 (fun _ h9 => h9) dX1_writeAll_48 hp (fun a14 hp => ?_)
        refine lv_iload hx hb dX1_writeAll_51 (lv_at hl 4 rfl) ?_
        obtain ⟨hrec, hp⟩ := hp
        refine x_call0R5 (vx_runF (hC.1.1.1 16 (RJ2, TJ2, 3) rfl).2 (C := "java/util/ArrayList") (As := [.int x4]) (rest := []) X (P_J2_get_ok (l := l) hl0 hp) (va_cwF 1 hts (lw_app (w_mem4 q1667 q522 q524 q153) (lw_meth q526)) rfl rfl rfl (wfw_8 hC.1) (by decide +kernel) ⟨Nat.le_of_ble_eq_true rfl, Nat.le_of_ble_eq_true rfl⟩) ⟨wPc.blind, w_recv hC.1 hM (ci := 16) (q := (RJ2, TJ2, 3)) rfl hrec, w_pre hC hM hS _⟩ rfl rfl hl.1 rfl (lv_room (Nat.le_of_ble_eq_true rfl)) dX1_writeAll_53 (w_room0 hB)) hS (w_room0 hB) (fun _ _ _ _ _ _ h => False.elim h) (fun r17 M15 H locs hp hM hS => ?_)
        refine x_cast (r := r17) X hC.1 hM q1686 (ci := 9) rfl (Or.inl rfl) dX1_writeAll_58 hp (fun hp => ?_)
        obtain ⟨a18, ea, hqa18⟩ := hp
        subst ea
        have hp := hqa18
        refine x_getIN X hC.1 hM (ci := 9) (C := RX12) (T := TX12) (N := 8) rfl in_X12 4 (by decide) q2091 (fun _ h9 => h9) dX1_writeAll_61 hp (fun v19 hp => ?_)
        refine lv_iload_n hx hb dX1_writeAll_64 rfl (lv_at hl 3 rfl) ?_
        refine lv_icmp_ne (tgt := 75) hx hb dX1_writeAll_65 (by decide) (fun hc => ?_) (fun hc => ?_)
        · have hp := oIf.f hp hc
          exact hB75 rec3 hrec3 _ _ _ _ _ _ _ _ _ _ _ _ hp hM hS hB (lv_sub hl [0, 1, 2, 3, 4] rfl)
        · have hp := oIf.t hp hc
          refine lv_aload_n hx hb dX1_writeAll_68 rfl (lv_at hl 0 rfl) ?_
          refine lv_iload_n hx hb dX1_writeAll_69 rfl (lv_at hl 1 rfl) ?_
          refine lv_iload hx hb dX1_writeAll_70 (lv_at hl 4 rfl) ?_
          obtain ⟨hrec, hp⟩ := hp
          obtain ⟨c21, hc1, hp⟩ := hp
          refine x_callV (vx_runV (As := [.int x1, .int x4]) (rest := []) X (P_X1_write_ok (l := l) hl0 hp) (cwV 2 hts (lw_V q3108 q3110 qs60 q148 q3111) rfl rfl rfl (by decide +kernel) ⟨Nat.le_of_ble_eq_true rfl, Nat.le_of_ble_eq_true rfl⟩) ⟨wPc.blind, w_recv hC.1 hM (ci := 0) (q := (RX1, TX1, 8)) rfl hrec, w_pre hC hM hS _⟩ rfl rfl hl.1 rfl (lv_room (Nat.le_of_ble_eq_true rfl)) dX1_writeAll_72 (w_room hB hc1)) hS hB hc1 (fun _ _ _ _ _ _ h => False.elim h) (fun M20 H locs hp hM hS hB => ?_)
          exact hB75 rec3 hrec3 _ _ _ _ _ _ _ _ _ _ _ _ hp hM hS hB (lv_sub hl [0, 1, 2, 3, 4] rfl)
  have hL3 : ∀ (n : Nat), ∀ (x0 : Nat) (x1 : Int32) (x2 : Int32) (x3 : Int32) (x4 : Int32) (M : wM) (bq : Nat) (H : Heap) (locs : List Loc) (ls : Array Slot) (cells slots : Nat), L_X1_writeAll_3 G Q n x0 x1 x2 x3 x4 M bq → wR G M H → va_S (wA G) s.heap H locs → (cells + bq ≤ ((headSpec (ws_ yX1_writeAll cX1_writeAll 5 (none)) ({ frames := 19, cells := b, slots := b, locals := 558 })).room).cells ∧ slots + bq ≤ ((headSpec (ws_ yX1_writeAll cX1_writeAll 5 (none)) ({ frames := 19, cells := b, slots := b, locals := 558 })).room).slots) → lv_has ls 5 [(0, .ref x0), (1, .int x1), (2, .int x2), (3, .int x3), (4, .int x4)] → W p l e (headSpec (ws_ yX1_writeAll cX1_writeAll 5 (none)) ({ frames := 19, cells := b, slots := b, locals := 558 })).room s m ([.ref t0, .int p1, .int p2, .int p3] : List Value).toArray below meth c H locs cells slots (vx_MQ below (wQ G (wqV Q)) (wXC G wX0) ([.ref t0, .int p1, .int p2, .int p3] : List Value).toArray s b b (wA G)) (F0 m 3 ls []) := by
    intro n
    induction n with
    | zero => intro _ _ _ _ _ _ _ _ _ _ _ _ hp; exact False.elim hp
    | succ n ih => intro x0 x1 x2 x3 x4 M bq H locs ls cells slots hp hM hS hB hl; exact hB3 (L_X1_writeAll_3 G Q n) ih _ _ _ _ _ _ _ _ _ _ _ _ hp hM hS hB hl
  refine lv_iconst (v := 0) hx hb dX1_writeAll_0 (by decide) ?_
  refine lv_istore (lv' := [(4, .int (0 : Int32)), (0, .ref t0), (1, .int p1), (2, .int p2), (3, .int p3)]) hx hb dX1_writeAll_1 hl (by decide) rfl (fun ls hl => ?_)
  obtain ⟨n, hp⟩ := hp
  exact hL3 n _ _ _ _ _ _ _ _ _ _ _ _ hp hM hS hB (lv_sub hl [1, 2, 3, 4, 0] rfl)
def P_J23_intValue (G : wG) (t0 : Nat) (M : wM) (Q : Int32 → wM → Prop) : Prop :=
  oGetI M t0 25 0 (fun v1 => Q v1 M)
set_option maxHeartbeats 4000000 in
set_option maxRecDepth 100000 in
theorem P_J23_intValue_ok {l : Launch} (hl0 : l.stackTraces = false) {G : wG} {t0 : Nat} {M : wM} {Q : Int32 → wM → Prop} (hp : P_J23_intValue G t0 M Q) : wMet l yJ23_intValue (ws_ yJ23_intValue cJ23_intValue 1 (Option.some Jvm.ClassFile.FieldType.int)) 12 400 G [.ref t0] M 0 (wqI Q) wX0 := by
  refine vx_ofW (cc := cJ23_intValue) (maxL := 1) (ret := Option.some Jvm.ClassFile.FieldType.int) (by decide) rfl ?_
  intro p e s m args below meth c s₁ B hml hnt hv
  obtain ⟨rfl, hM, hK, hZ, hz⟩ := hv
  have hC : wC G s := ⟨hK, hZ, hz⟩
  have hx := B.exec
  have hb := B.bytes
  have hr := B.returns
  have hts := atoms_spec (ws := (ws_ yJ23_intValue cJ23_intValue 1 (Option.some Jvm.ClassFile.FieldType.int))) B.pre
  have hts : ∀ w ∈ lw_all, w.before _ s = true := fun w h => hts w (List.mem_cons_of_mem _ h)
  have hown : s.vm.findClass RJ23 = some m.cls := findClass_of_methodNamed B.named
  have hlk := B.notSynchronized
  have X : CallFix p m c cJ23_intValue 1 s ([.ref t0] : List Value).toArray lw_all RJ23 := ⟨hx, hb, hml, hown, hts⟩
  have hS : va_S (wA G) s.heap s.heap [] := va_S.rf
  have hl := lv_entry ([.ref t0]) (n := 1) (Nat.le_of_ble_eq_true rfl)
  rw [lg_entry_eq]
  generalize (lg_sl ([.ref t0]) ++ List.replicate (1 - (lg_sl ([.ref t0])).length) Slot.unset).toArray = ls at hl ⊢
  have hl : lv_has ls 1 [(0, .ref t0)] := hl
  refine lv_aload_n hx hb dJ23_intValue_0 rfl (lv_at hl 0 rfl) ?_
  refine x_getI X hC.1 hM (ci := 25) (C := RJ23) (T := TJ23) (N := 1) rfl in_J23 0 (by decide) q2392 (fun _ h9 => h9) dJ23_intValue_1 hp (fun v1 hp => ?_)
  exact x_iret X hr hlk hM hS ⟨Nat.le_refl _, Nat.le_refl _⟩ dJ23_intValue_4 ⟨_, rfl, hp⟩
def P_J5_rangeCheck (G : wG) (p1 : Int32) (p2 : Int32) (p3 : Int32) (M : wM) (Q : wM → Prop) : Prop :=
  oIf (p2 ≤ p3) (oIf (0 ≤ p2) (oIf (p3 ≤ p1) (Q M) (False)) (False)) (False)
set_option maxHeartbeats 4000000 in
set_option maxRecDepth 100000 in
theorem P_J5_rangeCheck_ok {l : Launch} (hl0 : l.stackTraces = false) {G : wG} {p1 : Int32} {p2 : Int32} {p3 : Int32} {M : wM} {Q : wM → Prop} (hp : P_J5_rangeCheck G p1 p2 p3 M Q) : wMet l yJ5_rangeCheck (ws_ yJ5_rangeCheck cJ5_rangeCheck 3 (none)) 12 400 G [.int p1, .int p2, .int p3] M 0 (wqV Q) wX0 := by
  refine vx_ofW (cc := cJ5_rangeCheck) (maxL := 3) (ret := none) (by decide) rfl ?_
  intro p e s m args below meth c s₁ B hml hnt hv
  obtain ⟨rfl, hM, hK, hZ, hz⟩ := hv
  have hC : wC G s := ⟨hK, hZ, hz⟩
  have hx := B.exec
  have hb := B.bytes
  have hr := B.returns
  have hts := atoms_spec (ws := (ws_ yJ5_rangeCheck cJ5_rangeCheck 3 (none))) B.pre
  have hts : ∀ w ∈ lw_all, w.before _ s = true := fun w h => hts w (List.mem_cons_of_mem _ h)
  have hown : s.vm.findClass RJ5 = some m.cls := findClass_of_methodNamed B.named
  have hlk := B.notSynchronized
  have X : CallFix p m c cJ5_rangeCheck 3 s ([.int p1, .int p2, .int p3] : List Value).toArray lw_all RJ5 := ⟨hx, hb, hml, hown, hts⟩
  have hS : va_S (wA G) s.heap s.heap [] := va_S.rf
  have hl := lv_entry ([.int p1, .int p2, .int p3]) (n := 3) (Nat.le_of_ble_eq_true rfl)
  rw [lg_entry_eq]
  generalize (lg_sl ([.int p1, .int p2, .int p3]) ++ List.replicate (3 - (lg_sl ([.int p1, .int p2, .int p3])).length) Slot.unset).toArray = ls at hl ⊢
  have hl : lv_has ls 3 [(0, .int p1), (1, .int p2), (2, .int p3)] := hl
  refine lv_iload_n hx hb dJ5_rangeCheck_0 rfl (lv_at hl 1 rfl) ?_
  refine lv_iload_n hx hb dJ5_rangeCheck_1 rfl (lv_at hl 2 rfl) ?_
  refine lv_icmp_le (tgt := 46) hx hb dJ5_rangeCheck_2 (by decide) (fun hc => ?_) (fun hc => ?_)
  · have hp := oIf.t hp hc
    refine lv_iload_n hx hb dJ5_rangeCheck_46 rfl (lv_at hl 1 rfl) ?_
    refine lv_if_ge (tgt := 59) hx hb dJ5_rangeCheck_47 (by decide) (fun hc => ?_) (fun hc => ?_)
    · have hp := oIf.t hp hc
      refine lv_iload_n hx hb dJ5_rangeCheck_59 rfl (lv_at hl 2 rfl) ?_
      refine lv_iload_n hx hb dJ5_rangeCheck_60 rfl (lv_at hl 0 rfl) ?_
      refine lv_icmp_le (tgt := 73) hx hb dJ5_rangeCheck_61 (by decide) (fun hc => ?_) (fun hc => ?_)
      · have hp := oIf.t hp hc
        exact x_vret X hr hlk hM hS ⟨Nat.le_refl _, Nat.le_refl _⟩ dJ5_rangeCheck_73 ⟨rfl, hp⟩
      · have hp := oIf.f hp hc
        exact hp.elim
    · have hp := oIf.f hp hc
      exact hp.elim
  · have hp := oIf.f hp hc
    exact hp.elim
def B_J5_fill_10 (G : wG) (rec10 : Nat → Int32 → Int32 → Int32 → wM → Prop) (Q : wM → Prop) (x0 : Nat) (x2 : Int32) (x3 : Int32) (x4 : Int32) (M : wM) : Prop :=
  oIf (x2 ≤ x4) (Q M) (oBast G M x0 x4 x3 (fun M1 => rec10 x0 x2 x3 (x4 + 1) M1))
def L_J5_fill_10 (G : wG) (Q : wM → Prop) : Nat → Nat → Int32 → Int32 → Int32 → wM → Prop
  | 0 => fun _ _ _ _ _ => False
  | n + 1 => B_J5_fill_10 G (L_J5_fill_10 G Q n) Q
def P_J5_fill (G : wG) (p1 : Nat) (p2 : Int32) (p3 : Int32) (p4 : Int32) (M : wM) (Q : wM → Prop) : Prop :=
  oAlen .byte M p1 (fun v1 => P_J5_rangeCheck G v1 p2 p3 M (fun M2 => ∃ n, L_J5_fill_10 G Q n p1 p3 p4 p2 M2))
set_option maxHeartbeats 4000000 in
set_option maxRecDepth 100000 in
theorem P_J5_fill_ok {l : Launch} (hl0 : l.stackTraces = false) {G : wG} {p1 : Nat} {p2 : Int32} {p3 : Int32} {p4 : Int32} {M : wM} {Q : wM → Prop} (hp : P_J5_fill G p1 p2 p3 p4 M Q) : wMet l yJ5_fill (ws_ yJ5_fill cJ5_fill 5 (none)) 13 422 G [.ref p1, .int p2, .int p3, .int p4] M 0 (wqV Q) wX0 := by
  refine vx_ofW (cc := cJ5_fill) (maxL := 5) (ret := none) (by decide) rfl ?_
  intro p e s m args below meth c s₁ B hml hnt hv
  obtain ⟨rfl, hM, hK, hZ, hz⟩ := hv
  have hC : wC G s := ⟨hK, hZ, hz⟩
  have hx := B.exec
  have hb := B.bytes
  have hr := B.returns
  have hts := atoms_spec (ws := (ws_ yJ5_fill cJ5_fill 5 (none))) B.pre
  have hts : ∀ w ∈ lw_all, w.before _ s = true := fun w h => hts w (List.mem_cons_of_mem _ h)
  have hown : s.vm.findClass RJ5 = some m.cls := findClass_of_methodNamed B.named
  have hlk := B.notSynchronized
  have X : CallFix p m c cJ5_fill 5 s ([.ref p1, .int p2, .int p3, .int p4] : List Value).toArray lw_all RJ5 := ⟨hx, hb, hml, hown, hts⟩
  have hS : va_S (wA G) s.heap s.heap [] := va_S.rf
  have hl := lv_entry ([.ref p1, .int p2, .int p3, .int p4]) (n := 5) (Nat.le_of_ble_eq_true rfl)
  rw [lg_entry_eq]
  generalize (lg_sl ([.ref p1, .int p2, .int p3, .int p4]) ++ List.replicate (5 - (lg_sl ([.ref p1, .int p2, .int p3, .int p4])).length) Slot.unset).toArray = ls at hl ⊢
  have hl : lv_has ls 5 [(0, .ref p1), (1, .int p2), (2, .int p3), (3, .int p4)] := hl
  have hB10 : ∀ (rec10 : Nat → Int32 → Int32 → Int32 → wM → Prop) (hrec10 : ∀ (x0 : Nat) (x2 : Int32) (x3 : Int32) (x4 : Int32) (M : wM) (H : Heap) (locs : List Loc) (ls : Array Slot), rec10 x0 x2 x3 x4 M → wR G M H → va_S (wA G) s.heap H locs → lv_has ls 5 [(0, .ref x0), (2, .int x2), (3, .int x3), (4, .int x4)] → W p l e (headSpec (ws_ yJ5_fill cJ5_fill 5 (none)) ({ frames := 13, cells := 0, slots := 0, locals := 422 })).room s m ([.ref p1, .int p2, .int p3, .int p4] : List Value).toArray below meth c H locs 0 0 (vx_MQ below (wQ G (wqV Q)) (wXC G wX0) ([.ref p1, .int p2, .int p3, .int p4] : List Value).toArray s 0 0 (wA G)) (F0 m 10 ls [])), ∀ (x0 : Nat) (x2 : Int32) (x3 : Int32) (x4 : Int32) (M : wM) (H : Heap) (locs : List Loc) (ls : Array Slot), B_J5_fill_10 G rec10 Q x0 x2 x3 x4 M → wR G M H → va_S (wA G) s.heap H locs → lv_has ls 5 [(0, .ref x0), (2, .int x2), (3, .int x3), (4, .int x4)] → W p l e (headSpec (ws_ yJ5_fill cJ5_fill 5 (none)) ({ frames := 13, cells := 0, slots := 0, locals := 422 })).room s m ([.ref p1, .int p2, .int p3, .int p4] : List Value).toArray below meth c H locs 0 0 (vx_MQ below (wQ G (wqV Q)) (wXC G wX0) ([.ref p1, .int p2, .int p3, .int p4] : List Value).toArray s 0 0 (wA G)) (F0 m 10 ls []) := by
    intro rec10 hrec10 x0 x2 x3 x4 M H locs ls hp hM hS hl
    refine lv_iload hx hb dJ5_fill_10 (lv_at hl 3 rfl) ?_
    refine lv_iload_n hx hb dJ5_fill_12 rfl (lv_at hl 1 rfl) ?_
    refine lv_icmp_ge (tgt := 27) hx hb dJ5_fill_13 (by decide) (fun hc => ?_) (fun hc => ?_)
    · have hp := oIf.t hp hc
      exact x_vret X hr hlk hM hS ⟨Nat.le_refl _, Nat.le_refl _⟩ dJ5_fill_27 ⟨rfl, hp⟩
    · have hp := oIf.f hp hc
      refine lv_aload_n hx hb dJ5_fill_16 rfl (lv_at hl 0 rfl) ?_
      refine lv_iload hx hb dJ5_fill_17 (lv_at hl 3 rfl) ?_
      refine lv_iload_n hx hb dJ5_fill_19 rfl (lv_at hl 2 rfl) ?_
      refine x_bast X hC.1 hM hS dJ5_fill_20 hp (fun M1 H locs hM hS hp => ?_)
      refine lv_iinc (v := (x4 + 1)) (lv' := [(4, .int (x4 + 1)), (0, .ref x0), (2, .int x2), (3, .int x3)]) hx hb dJ5_fill_21 hl (k := 3) rfl rfl (by decide) rfl (fun ls hl => ?_)
      refine lv_goto (tgt := 10) hx hb dJ5_fill_24 (by decide) ?_
      exact hrec10 _ _ _ _ _ _ _ _ hp hM hS (lv_sub hl [1, 2, 3, 0] rfl)
  have hL10 : ∀ (n : Nat), ∀ (x0 : Nat) (x2 : Int32) (x3 : Int32) (x4 : Int32) (M : wM) (H : Heap) (locs : List Loc) (ls : Array Slot), L_J5_fill_10 G Q n x0 x2 x3 x4 M → wR G M H → va_S (wA G) s.heap H locs → lv_has ls 5 [(0, .ref x0), (2, .int x2), (3, .int x3), (4, .int x4)] → W p l e (headSpec (ws_ yJ5_fill cJ5_fill 5 (none)) ({ frames := 13, cells := 0, slots := 0, locals := 422 })).room s m ([.ref p1, .int p2, .int p3, .int p4] : List Value).toArray below meth c H locs 0 0 (vx_MQ below (wQ G (wqV Q)) (wXC G wX0) ([.ref p1, .int p2, .int p3, .int p4] : List Value).toArray s 0 0 (wA G)) (F0 m 10 ls []) := by
    intro n
    induction n with
    | zero => intro _ _ _ _ _ _ _ _ hp; exact False.elim hp
    | succ n ih => intro x0 x2 x3 x4 M H locs ls hp hM hS hl; exact hB10 (L_J5_fill_10 G Q n) ih _ _ _ _ _ _ _ _ hp hM hS hl
  refine lv_aload_n hx hb dJ5_fill_0 rfl (lv_at hl 0 rfl) ?_
  refine x_alen X hC.1 hM (ty := .byte) (by decide) dJ5_fill_1 hp (fun v1 hp => ?_)
  refine lv_iload_n hx hb dJ5_fill_2 rfl (lv_at hl 1 rfl) ?_
  refine lv_iload_n hx hb dJ5_fill_3 rfl (lv_at hl 2 rfl) ?_
  refine x_call0V (vx_runS (As := [.int v1, .int p2, .int p3]) (rest := []) X (P_J5_rangeCheck_ok (l := l) hl0 hp) (va_cwS 3 hts (lw_S q3088 q3089 q156 q3090) rfl rfl rfl (by decide +kernel) ⟨Nat.le_of_ble_eq_true rfl, Nat.le_of_ble_eq_true rfl⟩) ⟨wPc.blind, w_pre hC hM hS _⟩ rfl rfl hl.1 rfl (lv_room (Nat.le_of_ble_eq_true rfl)) dJ5_fill_4 ⟨Nat.le_refl _, Nat.le_refl _⟩) hS ⟨Nat.le_refl _, Nat.le_refl _⟩ (fun _ _ _ _ _ _ h => False.elim h) (fun M2 H locs hp hM hS => ?_)
  refine lv_iload_n hx hb dJ5_fill_7 rfl (lv_at hl 1 rfl) ?_
  refine lv_istore (lv' := [(4, .int p2), (0, .ref p1), (1, .int p2), (2, .int p3), (3, .int p4)]) hx hb dJ5_fill_8 hl (by decide) rfl (fun ls hl => ?_)
  obtain ⟨n, hp⟩ := hp
  exact hL10 n _ _ _ _ _ _ _ _ hp hM hS (lv_sub hl [1, 3, 4, 0] rfl)
def P_J21_fillNull (G : wG) (p1 : Nat) (p2 : Int32) (p3 : Int32) (M : wM) (Q : wM → Prop) : Prop :=
  P_J5_fill G p1 p2 p3 (0 : Int32) M (fun M1 => Q M1)
set_option maxHeartbeats 4000000 in
set_option maxRecDepth 100000 in
theorem P_J21_fillNull_ok {l : Launch} (hl0 : l.stackTraces = false) {G : wG} {p1 : Nat} {p2 : Int32} {p3 : Int32} {M : wM} {Q : wM → Prop} (hp : P_J21_fillNull G p1 p2 p3 M Q) : wMet l yJ21_fillNull (ws_ yJ21_fillNull cJ21_fillNull 3 (none)) 14 446 G [.ref p1, .int p2, .int p3] M 0 (wqV Q) wX0 := by
  refine vx_ofW (cc := cJ21_fillNull) (maxL := 3) (ret := none) (by decide) rfl ?_
  intro p e s m args below meth c s₁ B hml hnt hv
  obtain ⟨rfl, hM, hK, hZ, hz⟩ := hv
  have hC : wC G s := ⟨hK, hZ, hz⟩
  have hx := B.exec
  have hb := B.bytes
  have hr := B.returns
  have hts := atoms_spec (ws := (ws_ yJ21_fillNull cJ21_fillNull 3 (none))) B.pre
  have hts : ∀ w ∈ lw_all, w.before _ s = true := fun w h => hts w (List.mem_cons_of_mem _ h)
  have hown : s.vm.findClass RJ21 = some m.cls := findClass_of_methodNamed B.named
  have hlk := B.notSynchronized
  have X : CallFix p m c cJ21_fillNull 3 s ([.ref p1, .int p2, .int p3] : List Value).toArray lw_all RJ21 := ⟨hx, hb, hml, hown, hts⟩
  have hS : va_S (wA G) s.heap s.heap [] := va_S.rf
  have hl := lv_entry ([.ref p1, .int p2, .int p3]) (n := 3) (Nat.le_of_ble_eq_true rfl)
  rw [lg_entry_eq]
  generalize (lg_sl ([.ref p1, .int p2, .int p3]) ++ List.replicate (3 - (lg_sl ([.ref p1, .int p2, .int p3])).length) Slot.unset).toArray = ls at hl ⊢
  have hl : lv_has ls 3 [(0, .ref p1), (1, .int p2), (2, .int p3)] := hl
  refine lv_aload_n hx hb dJ21_fillNull_0 rfl (lv_at hl 0 rfl) ?_
  refine lv_iload_n hx hb dJ21_fillNull_1 rfl (lv_at hl 1 rfl) ?_
  refine lv_iload_n hx hb dJ21_fillNull_2 rfl (lv_at hl 2 rfl) ?_
  refine lv_iconst (v := 0) hx hb dJ21_fillNull_3 (by decide) ?_
  refine x_call0V (vx_runS (As := [.ref p1, .int p2, .int p3, .int (0 : Int32)]) (rest := []) X (P_J5_fill_ok (l := l) hl0 hp) (va_cwS 4 hts (lw_S q3085 q3086 q156 q3087) rfl rfl rfl (by decide +kernel) ⟨Nat.le_of_ble_eq_true rfl, Nat.le_of_ble_eq_true rfl⟩) ⟨wPc.blind, w_pre hC hM hS _⟩ rfl rfl hl.1 rfl (lv_room (Nat.le_of_ble_eq_true rfl)) dJ21_fillNull_4 ⟨Nat.le_refl _, Nat.le_refl _⟩) hS ⟨Nat.le_refl _, Nat.le_refl _⟩ (fun _ _ _ _ _ _ h => False.elim h) (fun M1 H locs hp hM hS => ?_)
  exact x_vret X hr hlk hM hS ⟨Nat.le_refl _, Nat.le_refl _⟩ dJ21_fillNull_7 ⟨rfl, hp⟩
def B_J17_setLength_J18_76 (G : wG) (Q : wM → Prop) (x0 : Nat) (x1 : Int32) (M : wM) (bq : Nat) : Prop :=
  oPut G M x0 23 3 (.int x1) (fun M1 => Q M1)
def P_J17_setLength_J18 (G : wG) (t0 : Nat) (p1 : Int32) (b : Nat) (M : wM) (Q : wM → Prop) : Prop :=
  oIf (0 ≤ p1) (oIs M t0 23 (∃ c2, c2 ≤ b ∧ P_J17_ensureCapacityInternal_J18 G t0 p1 c2 M (fun M1 => oGetI M1 t0 23 3 (fun v3 => oIf (p1 ≤ v3) (oGetI M1 t0 23 3 (fun v4 => oIf (v4 ≤ p1) (B_J17_setLength_J18_76 G Q t0 p1 M1 (b - c2)) (oPut G M1 t0 23 2 (.int (1 : Int32)) (fun M5 => B_J17_setLength_J18_76 G Q t0 p1 M5 (b - c2))))) (oIs M1 t0 23 (P_J17_isLatin1_J18 G t0 M1 (fun r8 M6 => oIf (r8 = true) (oGetA M6 t0 23 0 (fun a11 => oGetI M6 t0 23 3 (fun v12 => P_J21_fillNull G a11 v12 p1 M6 (fun M13 => B_J17_setLength_J18_76 G Q t0 p1 M13 (b - c2))))) (False)))))))) (False)
set_option maxHeartbeats 4000000 in
set_option maxRecDepth 100000 in
theorem P_J17_setLength_J18_ok {l : Launch} (hl0 : l.stackTraces = false) {G : wG} {t0 : Nat} {p1 : Int32} {b : Nat} {M : wM} {Q : wM → Prop} (hp : P_J17_setLength_J18 G t0 p1 b M Q) : wMet l yJ17_setLength (ws_ yJ17_setLength cJ17_setLength 2 (none)) 16 492 G [.ref t0, .int p1] M b (wqV Q) wX0 := by
  refine vx_ofW (cc := cJ17_setLength) (maxL := 2) (ret := none) (by decide) rfl ?_
  intro p e s m args below meth c s₁ B hml hnt hv
  obtain ⟨rfl, hM, hK, hZ, hz⟩ := hv
  have hC : wC G s := ⟨hK, hZ, hz⟩
  have hx := B.exec
  have hb := B.bytes
  have hr := B.returns
  have hts := atoms_spec (ws := (ws_ yJ17_setLength cJ17_setLength 2 (none))) B.pre
  have hts : ∀ w ∈ lw_all, w.before _ s = true := fun w h => hts w (List.mem_cons_of_mem _ h)
  have hown : s.vm.findClass RJ17 = some m.cls := findClass_of_methodNamed B.named
  have hlk := B.notSynchronized
  have X : CallFix p m c cJ17_setLength 2 s ([.ref t0, .int p1] : List Value).toArray lw_all RJ17 := ⟨hx, hb, hml, hown, hts⟩
  have hS : va_S (wA G) s.heap s.heap [] := va_S.rf
  have hl := lv_entry ([.ref t0, .int p1]) (n := 2) (Nat.le_of_ble_eq_true rfl)
  rw [lg_entry_eq]
  generalize (lg_sl ([.ref t0, .int p1]) ++ List.replicate (2 - (lg_sl ([.ref t0, .int p1])).length) Slot.unset).toArray = ls at hl ⊢
  have hl : lv_has ls 2 [(0, .ref t0), (1, .int p1)] := hl
  have hB : 0 + b ≤ ((headSpec (ws_ yJ17_setLength cJ17_setLength 2 (none)) ({ frames := 16, cells := b, slots := b, locals := 492 })).room).cells ∧ 0 + b ≤ ((headSpec (ws_ yJ17_setLength cJ17_setLength 2 (none)) ({ frames := 16, cells := b, slots := b, locals := 492 })).room).slots := ⟨Nat.le_of_eq (Nat.zero_add b), Nat.le_of_eq (Nat.zero_add b)⟩
  have hB76 : ∀ (x0 : Nat) (x1 : Int32) (M : wM) (bq : Nat) (H : Heap) (locs : List Loc) (ls : Array Slot) (cells slots : Nat), B_J17_setLength_J18_76 G Q x0 x1 M bq → wR G M H → va_S (wA G) s.heap H locs → (cells + bq ≤ ((headSpec (ws_ yJ17_setLength cJ17_setLength 2 (none)) ({ frames := 16, cells := b, slots := b, locals := 492 })).room).cells ∧ slots + bq ≤ ((headSpec (ws_ yJ17_setLength cJ17_setLength 2 (none)) ({ frames := 16, cells := b, slots := b, locals := 492 })).room).slots) → lv_has ls 2 [(0, .ref x0), (1, .int x1)] → W p l e (headSpec (ws_ yJ17_setLength cJ17_setLength 2 (none)) ({ frames := 16, cells := b, slots := b, locals := 492 })).room s m ([.ref t0, .int p1] : List Value).toArray below meth c H locs cells slots (vx_MQ below (wQ G (wqV Q)) (wXC G wX0) ([.ref t0, .int p1] : List Value).toArray s b b (wA G)) (F0 m 76 ls []) := by
    intro x0 x1 M bq H locs ls cells slots hp hM hS hB hl
    refine lv_aload_n hx hb dJ17_setLength_76 rfl (lv_at hl 0 rfl) ?_
    refine lv_iload_n hx hb dJ17_setLength_77 rfl (lv_at hl 1 rfl) ?_
    refine x_put X hC.1 hM hS (ci := 23) (C := RJ18) (T := TJ18) (N := 4) rfl in_J18 tyJ18 tyJ18_ok nmJ18 3 (by decide) q620 (fun _ h9 => h9) rfl rfl rfl dJ17_setLength_78 hp (fun M1 H locs hM hS hp => ?_)
    exact x_vret X hr hlk hM hS (w_fin hB) dJ17_setLength_81 ⟨rfl, hp⟩
  refine lv_iload_n hx hb dJ17_setLength_0 rfl (lv_at hl 1 rfl) ?_
  refine lv_if_ge (tgt := 13) hx hb dJ17_setLength_1 (by decide) (fun hc => ?_) (fun hc => ?_)
  · have hp := oIf.t hp hc
    refine lv_aload_n hx hb dJ17_setLength_13 rfl (lv_at hl 0 rfl) ?_
    refine lv_iload_n hx hb dJ17_setLength_14 rfl (lv_at hl 1 rfl) ?_
    obtain ⟨hrec, hp⟩ := hp
    obtain ⟨c2, hc1, hp⟩ := hp
    refine x_callV (w_runP hC (As := [.int p1]) (rest := []) 1 X (P_J17_ensureCapacityInternal_J18_ok (l := l) hl0 hp) q646 q645 q169 (by decide) q643 q3803 (by decide) (by decide +kernel) rfl rfl ⟨Nat.le_of_ble_eq_true rfl, Nat.le_of_ble_eq_true rfl⟩ ⟨wPc.blind, w_recv hC.1 hM (ci := 23) (q := (RJ18, TJ18, 4)) rfl hrec, w_pre hC hM hS _⟩ rfl rfl hl.1 rfl (lv_room (Nat.le_of_ble_eq_true rfl)) dJ17_setLength_15 (w_room hB hc1)) hS hB hc1 (fun _ _ _ _ _ _ h => False.elim h) (fun M1 H locs hp hM hS hB => ?_)
    refine lv_aload_n hx hb dJ17_setLength_18 rfl (lv_at hl 0 rfl) ?_
    refine x_getI X hC.1 hM (ci := 23) (C := RJ18) (T := TJ18) (N := 4) rfl in_J18 3 (by decide) q620 (fun _ h9 => h9) dJ17_setLength_19 hp (fun v3 hp => ?_)
    refine lv_iload_n hx hb dJ17_setLength_22 rfl (lv_at hl 1 rfl) ?_
    refine lv_icmp_ge (tgt := 63) hx hb dJ17_setLength_23 (by decide) (fun hc => ?_) (fun hc => ?_)
    · have hp := oIf.t hp hc
      refine lv_aload_n hx hb dJ17_setLength_63 rfl (lv_at hl 0 rfl) ?_
      refine x_getI X hC.1 hM (ci := 23) (C := RJ18) (T := TJ18) (N := 4) rfl in_J18 3 (by decide) q620 (fun _ h9 => h9) dJ17_setLength_64 hp (fun v4 hp => ?_)
      refine lv_iload_n hx hb dJ17_setLength_67 rfl (lv_at hl 1 rfl) ?_
      refine lv_icmp_le (tgt := 76) hx hb dJ17_setLength_68 (by decide) (fun hc => ?_) (fun hc => ?_)
      · have hp := oIf.t hp hc
        exact hB76 _ _ _ _ _ _ _ _ _ hp hM hS hB (lv_sub hl [0, 1] rfl)
      · have hp := oIf.f hp hc
        refine lv_aload_n hx hb dJ17_setLength_71 rfl (lv_at hl 0 rfl) ?_
        refine lv_iconst (v := 1) hx hb dJ17_setLength_72 (by decide) ?_
        refine x_put X hC.1 hM hS (ci := 23) (C := RJ18) (T := TJ18) (N := 4) rfl in_J18 tyJ18 tyJ18_ok nmJ18 2 (by decide) q618 (fun _ h9 => h9) rfl (by decide) (by decide) dJ17_setLength_73 hp (fun M5 H locs hM hS hp => ?_)
        exact hB76 _ _ _ _ _ _ _ _ _ hp hM hS hB (lv_sub hl [0, 1] rfl)
    · have hp := oIf.f hp hc
      refine lv_aload_n hx hb dJ17_setLength_26 rfl (lv_at hl 0 rfl) ?_
      obtain ⟨hrec, hp⟩ := hp
      refine x_call0Z (vx_runU (As := []) (rest := []) X (P_J17_isLatin1_J18_ok (l := l) hl0 hp) (va_cwU 0 hts (lw_app (w_mem5 q663 q665 q666 q664 q169) (lw_meth q667)) rfl rfl rfl rfl (by decide +kernel) ⟨Nat.le_of_ble_eq_true rfl, Nat.le_of_ble_eq_true rfl⟩) ⟨wPc.blind, w_recv hC.1 hM (ci := 23) (q := (RJ18, TJ18, 4)) rfl hrec, w_pre hC hM hS _⟩ rfl rfl hl.1 rfl (lv_room (Nat.le_of_ble_eq_true rfl)) dJ17_setLength_27 (w_room0 hB)) hS (w_room0 hB) (fun _ _ _ _ _ _ h => False.elim h) (fun r8 M6 H locs hp hM hS => ?_)
      refine x_ifeqB (tgt := 48) hx hb dJ17_setLength_30 (by decide) (fun hc => ?_) (fun hc => ?_)
      · have hp := oIf.bf hp hc
        exact hp.elim
      · have hp := oIf.bt hp hc
        refine lv_aload_n hx hb dJ17_setLength_33 rfl (lv_at hl 0 rfl) ?_
        refine x_getA X hC.1 hM (ci := 23) (C := RJ18) (T := TJ18) (N := 4) rfl in_J18 0 (by decide) q616 (fun _ h9 => h9) dJ17_setLength_34 hp (fun a11 hp => ?_)
        refine lv_aload_n hx hb dJ17_setLength_37 rfl (lv_at hl 0 rfl) ?_
        refine x_getI X hC.1 hM (ci := 23) (C := RJ18) (T := TJ18) (N := 4) rfl in_J18 3 (by decide) q620 (fun _ h9 => h9) dJ17_setLength_38 hp (fun v12 hp => ?_)
        refine lv_iload_n hx hb dJ17_setLength_41 rfl (lv_at hl 1 rfl) ?_
        refine x_call0V (vx_runS (As := [.ref a11, .int v12, .int p1]) (rest := []) X (P_J21_fillNull_ok (l := l) hl0 hp) (va_cwS 3 hts (lw_S q3082 q3083 q173 q3084) rfl rfl rfl (by decide +kernel) ⟨Nat.le_of_ble_eq_true rfl, Nat.le_of_ble_eq_true rfl⟩) ⟨wPc.blind, w_pre hC hM hS _⟩ rfl rfl hl.1 rfl (lv_room (Nat.le_of_ble_eq_true rfl)) dJ17_setLength_42 (w_room0 hB)) hS (w_room0 hB) (fun _ _ _ _ _ _ h => False.elim h) (fun M13 H locs hp hM hS => ?_)
        refine lv_goto (tgt := 76) hx hb dJ17_setLength_45 (by decide) ?_
        exact hB76 _ _ _ _ _ _ _ _ _ hp hM hS hB (lv_sub hl [0, 1] rfl)
  · have hp := oIf.f hp hc
    exact hp.elim
def P_J18_setLength (G : wG) (t0 : Nat) (p1 : Int32) (b : Nat) (M : wM) (Q : wM → Prop) : Prop :=
  oIs M t0 23 (∃ c2, c2 ≤ b ∧ P_J17_setLength_J18 G t0 p1 c2 M (fun M1 => Q M1))
set_option maxHeartbeats 4000000 in
set_option maxRecDepth 100000 in
theorem P_J18_setLength_ok {l : Launch} (hl0 : l.stackTraces = false) {G : wG} {t0 : Nat} {p1 : Int32} {b : Nat} {M : wM} {Q : wM → Prop} (hp : P_J18_setLength G t0 p1 b M Q) : wMet l yJ18_setLength (ws_ yJ18_setLength cJ18_setLength 2 (none)) 17 513 G [.ref t0, .int p1] M b (wqV Q) wX0 := by
  refine vx_ofW (cc := cJ18_setLength) (maxL := 2) (ret := none) (by decide) rfl ?_
  intro p e s m args below meth c s₁ B hml hnt hv
  obtain ⟨rfl, hM, hK, hZ, hz⟩ := hv
  have hC : wC G s := ⟨hK, hZ, hz⟩
  have hx := B.exec
  have hb := B.bytes
  have hr := B.returns
  have hts := atoms_spec (ws := (ws_ yJ18_setLength cJ18_setLength 2 (none))) B.pre
  have hts : ∀ w ∈ lw_all, w.before _ s = true := fun w h => hts w (List.mem_cons_of_mem _ h)
  have hown : s.vm.findClass RJ18 = some m.cls := findClass_of_methodNamed B.named
  have hlk := B.notSynchronized
  have X : CallFix p m c cJ18_setLength 2 s ([.ref t0, .int p1] : List Value).toArray lw_all RJ18 := ⟨hx, hb, hml, hown, hts⟩
  have hS : va_S (wA G) s.heap s.heap [] := va_S.rf
  have hl := lv_entry ([.ref t0, .int p1]) (n := 2) (Nat.le_of_ble_eq_true rfl)
  rw [lg_entry_eq]
  generalize (lg_sl ([.ref t0, .int p1]) ++ List.replicate (2 - (lg_sl ([.ref t0, .int p1])).length) Slot.unset).toArray = ls at hl ⊢
  have hl : lv_has ls 2 [(0, .ref t0), (1, .int p1)] := hl
  have hB : 0 + b ≤ ((headSpec (ws_ yJ18_setLength cJ18_setLength 2 (none)) ({ frames := 17, cells := b, slots := b, locals := 513 })).room).cells ∧ 0 + b ≤ ((headSpec (ws_ yJ18_setLength cJ18_setLength 2 (none)) ({ frames := 17, cells := b, slots := b, locals := 513 })).room).slots := ⟨Nat.le_of_eq (Nat.zero_add b), Nat.le_of_eq (Nat.zero_add b)⟩
  refine lv_aload_n hx hb dJ18_setLength_0 rfl (lv_at hl 0 rfl) ?_
  refine lv_iload_n hx hb dJ18_setLength_1 rfl (lv_at hl 1 rfl) ?_
  obtain ⟨hrec, hp⟩ := hp
  obtain ⟨c2, hc1, hp⟩ := hp
  refine x_callV (vx_runSU (hC.1.1.1 23 (RJ18, TJ18, 4) rfl).2 (As := [.int p1]) (rest := []) X (P_J17_setLength_J18_ok (l := l) hl0 hp) (va_cwSU 1 hts (lw_app (w_mem5 q3060 q3822 q629 q3061 q169) (lw_meth q3062)) rfl rfl rfl (by decide +kernel) ⟨Nat.le_of_ble_eq_true rfl, Nat.le_of_ble_eq_true rfl⟩) ⟨wPc.blind, w_recv hC.1 hM (ci := 23) (q := (RJ18, TJ18, 4)) rfl hrec, w_pre hC hM hS _⟩ rfl rfl hl.1 rfl (lv_room (Nat.le_of_ble_eq_true rfl)) dJ18_setLength_2 (w_room hB hc1)) hS hB hc1 (fun _ _ _ _ _ _ h => False.elim h) (fun M1 H locs hp hM hS hB => ?_)
  exact x_vret X hr hlk hM hS (w_fin hB) dJ18_setLength_5 ⟨rfl, hp⟩
def P_J22_init_J23 (G : wG) (t0 : Nat) (M : wM) (Q : wM → Prop) : Prop :=
  Q M
set_option maxHeartbeats 4000000 in
set_option maxRecDepth 100000 in
theorem P_J22_init_J23_ok {l : Launch} (hl0 : l.stackTraces = false) {G : wG} {t0 : Nat} {M : wM} {Q : wM → Prop} (hp : P_J22_init_J23 G t0 M Q) : wMet l yJ22_init (ws_ yJ22_init cJ22_init 1 (none)) 12 400 G [.ref t0] M 0 (wqV Q) wX0 := by
  refine vx_ofW (cc := cJ22_init) (maxL := 1) (ret := none) (by decide) rfl ?_
  intro p e s m args below meth c s₁ B hml hnt hv
  obtain ⟨rfl, hM, hK, hZ, hz⟩ := hv
  have hC : wC G s := ⟨hK, hZ, hz⟩
  have hx := B.exec
  have hb := B.bytes
  have hr := B.returns
  have hts := atoms_spec (ws := (ws_ yJ22_init cJ22_init 1 (none))) B.pre
  have hts : ∀ w ∈ lw_all, w.before _ s = true := fun w h => hts w (List.mem_cons_of_mem _ h)
  have hown : s.vm.findClass RJ22 = some m.cls := findClass_of_methodNamed B.named
  have hlk := B.notSynchronized
  have hin0 : meth.name = "<init>" := (name_of_methodNamed B.named B.method).1
  have X : CallFix p m c cJ22_init 1 s ([.ref t0] : List Value).toArray lw_all RJ22 := ⟨hx, hb, hml, hown, hts⟩
  have hS : va_S (wA G) s.heap s.heap [] := va_S.rf
  have hl := lv_entry ([.ref t0]) (n := 1) (Nat.le_of_ble_eq_true rfl)
  rw [lg_entry_eq]
  generalize (lg_sl ([.ref t0]) ++ List.replicate (1 - (lg_sl ([.ref t0])).length) Slot.unset).toArray = ls at hl ⊢
  have hl : lv_has ls 1 [(0, .ref t0)] := hl
  refine lv_aload_n hx hb dJ22_init_0 rfl (lv_at hl 0 rfl) ?_
  refine W.objInit hx hb hown (hts _ q2391) (hts _ q218) (hts _ q219) rfl (by rw [hml]; exact hl.1) rfl dJ22_init_1 (Nat.le_of_ble_eq_true rfl) (Nat.le_of_ble_eq_true rfl) ?_
  refine W.eq (g2 := F0 m 4 ls []) rfl ?_
  exact x_vret X hr hlk hM hS ⟨Nat.le_refl _, Nat.le_refl _⟩ dJ22_init_4 ⟨rfl, hp⟩
def P_J23_init (G : wG) (t0 : Nat) (p1 : Int32) (M : wM) (Q : wM → Prop) : Prop :=
  P_J22_init_J23 G t0 M (fun M1 => oPut G M1 t0 25 0 (.int p1) (fun M3 => Q M3))
set_option maxHeartbeats 4000000 in
set_option maxRecDepth 100000 in
theorem P_J23_init_ok {l : Launch} (hl0 : l.stackTraces = false) {G : wG} {t0 : Nat} {p1 : Int32} {M : wM} {Q : wM → Prop} (hp : P_J23_init G t0 p1 M Q) : wMet l yJ23_init (ws_ yJ23_init cJ23_init 2 (none)) 13 420 G [.ref t0, .int p1] M 0 (wqV Q) wX0 := by
  refine vx_ofW (cc := cJ23_init) (maxL := 2) (ret := none) (by decide) rfl ?_
  intro p e s m args below meth c s₁ B hml hnt hv
  obtain ⟨rfl, hM, hK, hZ, hz⟩ := hv
  have hC : wC G s := ⟨hK, hZ, hz⟩
  have hx := B.exec
  have hb := B.bytes
  have hr := B.returns
  have hts := atoms_spec (ws := (ws_ yJ23_init cJ23_init 2 (none))) B.pre
  have hts : ∀ w ∈ lw_all, w.before _ s = true := fun w h => hts w (List.mem_cons_of_mem _ h)
  have hown : s.vm.findClass RJ23 = some m.cls := findClass_of_methodNamed B.named
  have hlk := B.notSynchronized
  have hin0 : meth.name = "<init>" := (name_of_methodNamed B.named B.method).1
  have X : CallFix p m c cJ23_init 2 s ([.ref t0, .int p1] : List Value).toArray lw_all RJ23 := ⟨hx, hb, hml, hown, hts⟩
  have hS : va_S (wA G) s.heap s.heap [] := va_S.rf
  have hl := lv_entry ([.ref t0, .int p1]) (n := 2) (Nat.le_of_ble_eq_true rfl)
  rw [lg_entry_eq]
  generalize (lg_sl ([.ref t0, .int p1]) ++ List.replicate (2 - (lg_sl ([.ref t0, .int p1])).length) Slot.unset).toArray = ls at hl ⊢
  have hl : lv_has ls 2 [(0, .ref t0), (1, .int p1)] := hl
  refine lv_aload_n hx hb dJ23_init_0 rfl (lv_at hl 0 rfl) ?_
  refine x_call0V (vx_runI (As := []) (rest := []) X (P_J22_init_J23_ok (l := l) hl0 hp) (cwI 0 hts (lw_meth q2390) rfl rfl rfl (hts _ q174) (hts _ q2388) (hts _ q2389) rfl (by decide +kernel) ⟨Nat.le_of_ble_eq_true rfl, Nat.le_of_ble_eq_true rfl⟩) ⟨wPc.blind, w_pre hC hM hS _⟩ rfl rfl hl.1 rfl (lv_room (Nat.le_of_ble_eq_true rfl)) dJ23_init_1 ⟨Nat.le_refl _, Nat.le_refl _⟩) hS ⟨Nat.le_refl _, Nat.le_refl _⟩ (fun _ _ _ _ _ _ h => False.elim h) (fun M1 H locs hp hM hS => ?_)
  refine lv_aload_n hx hb dJ23_init_4 rfl (lv_at hl 0 rfl) ?_
  refine lv_iload_n hx hb dJ23_init_5 rfl (lv_at hl 1 rfl) ?_
  refine x_putF X hC.1 hM hS (ci := 25) (C := RJ23) (T := TJ23) (N := 1) rfl in_J23 tyJ23 tyJ23_ok nmJ23 0 (by decide) q2392 (fun _ h9 => h9) rfl hin0 rfl rfl rfl dJ23_init_6 hp (fun M3 H locs hM hS hp => ?_)
  exact x_vret X hr hlk hM hS ⟨Nat.le_refl _, Nat.le_refl _⟩ dJ23_init_9 ⟨rfl, hp⟩
def B_J23_valueOf_23 (G : wG) (Q : Option Nat → wM → Prop) (x0 : Int32) (M : wM) (bq : Nat) : Prop :=
  oNew G M bq 25 [.int 0] (fun a1 M2 b3 => P_J23_init G a1 x0 M2 (fun M4 => Q (some a1) M4))
def P_J23_valueOf (G : wG) (p1 : Int32) (b : Nat) (M : wM) (Q : Option Nat → wM → Prop) : Prop :=
  oIf (p1 < (-128 : Int32)) (B_J23_valueOf_23 G Q p1 M b) (oIf ((127 : Int32) < p1) (B_J23_valueOf_23 G Q p1 M b) (oAald (.object "java/lang/Integer") M (G.2.2.2 2) (p1 + (128 : Int32)) (fun r1 => Q r1 M)))
set_option maxHeartbeats 4000000 in
set_option maxRecDepth 100000 in
theorem P_J23_valueOf_ok {l : Launch} (hl0 : l.stackTraces = false) {G : wG} {p1 : Int32} {b : Nat} {M : wM} {Q : Option Nat → wM → Prop} (hp : P_J23_valueOf G p1 b M Q) : wMet l yJ23_valueOf (ws_ yJ23_valueOf cJ23_valueOf 1 (Option.some (Jvm.ClassFile.FieldType.object "java/lang/Integer"))) 14 441 G [.int p1] M b (wqR Q) wX0 := by
  refine vx_ofW (cc := cJ23_valueOf) (maxL := 1) (ret := Option.some (Jvm.ClassFile.FieldType.object "java/lang/Integer")) (by decide) rfl ?_
  intro p e s m args below meth c s₁ B hml hnt hv
  obtain ⟨rfl, hM, hK, hZ, hz⟩ := hv
  have hC : wC G s := ⟨hK, hZ, hz⟩
  have hx := B.exec
  have hb := B.bytes
  have hr := B.returns
  have hts := atoms_spec (ws := (ws_ yJ23_valueOf cJ23_valueOf 1 (Option.some (Jvm.ClassFile.FieldType.object "java/lang/Integer")))) B.pre
  have hts : ∀ w ∈ lw_all, w.before _ s = true := fun w h => hts w (List.mem_cons_of_mem _ h)
  have hown : s.vm.findClass RJ23 = some m.cls := findClass_of_methodNamed B.named
  have hlk := B.notSynchronized
  have X : CallFix p m c cJ23_valueOf 1 s ([.int p1] : List Value).toArray lw_all RJ23 := ⟨hx, hb, hml, hown, hts⟩
  have hS : va_S (wA G) s.heap s.heap [] := va_S.rf
  have hl := lv_entry ([.int p1]) (n := 1) (Nat.le_of_ble_eq_true rfl)
  rw [lg_entry_eq]
  generalize (lg_sl ([.int p1]) ++ List.replicate (1 - (lg_sl ([.int p1])).length) Slot.unset).toArray = ls at hl ⊢
  have hl : lv_has ls 1 [(0, .int p1)] := hl
  have hB : 0 + b ≤ ((headSpec (ws_ yJ23_valueOf cJ23_valueOf 1 (Option.some (Jvm.ClassFile.FieldType.object "java/lang/Integer"))) ({ frames := 14, cells := b, slots := b, locals := 441 })).room).cells ∧ 0 + b ≤ ((headSpec (ws_ yJ23_valueOf cJ23_valueOf 1 (Option.some (Jvm.ClassFile.FieldType.object "java/lang/Integer"))) ({ frames := 14, cells := b, slots := b, locals := 441 })).room).slots := ⟨Nat.le_of_eq (Nat.zero_add b), Nat.le_of_eq (Nat.zero_add b)⟩
  have hB23 : ∀ (x0 : Int32) (M : wM) (bq : Nat) (H : Heap) (locs : List Loc) (ls : Array Slot) (cells slots : Nat), B_J23_valueOf_23 G Q x0 M bq → wR G M H → va_S (wA G) s.heap H locs → (cells + bq ≤ ((headSpec (ws_ yJ23_valueOf cJ23_valueOf 1 (Option.some (Jvm.ClassFile.FieldType.object "java/lang/Integer"))) ({ frames := 14, cells := b, slots := b, locals := 441 })).room).cells ∧ slots + bq ≤ ((headSpec (ws_ yJ23_valueOf cJ23_valueOf 1 (Option.some (Jvm.ClassFile.FieldType.object "java/lang/Integer"))) ({ frames := 14, cells := b, slots := b, locals := 441 })).room).slots) → lv_has ls 1 [(0, .int x0)] → W p l e (headSpec (ws_ yJ23_valueOf cJ23_valueOf 1 (Option.some (Jvm.ClassFile.FieldType.object "java/lang/Integer"))) ({ frames := 14, cells := b, slots := b, locals := 441 })).room s m ([.int p1] : List Value).toArray below meth c H locs cells slots (vx_MQ below (wQ G (wqR Q)) (wXC G wX0) ([.int p1] : List Value).toArray s b b (wA G)) (F0 m 23 ls []) := by
    intro x0 M bq H locs ls cells slots hp hM hS hB hl
    refine x_new X hC hM hS hB (ci := 25) (C := RJ23) (T := TJ23) (N := 1) rfl in_J23 tyJ23 tyJ23_ok q1326 q2384 q175 rfl (by decide) dJ23_valueOf_23 hp (fun a1 M2 H b3 cells slots hM hS hB hp => ?_)
    refine lv_dup hx hb dJ23_valueOf_26 rfl ?_
    refine lv_iload_n hx hb dJ23_valueOf_27 rfl (lv_at hl 0 rfl) ?_
    refine x_call0V (vx_runI (As := [.int x0]) (rest := [.ref a1]) X (P_J23_init_ok (l := l) hl0 hp) (cwI 1 hts (lw_meth q2387) rfl rfl rfl (hts _ q175) (hts _ q2385) (hts _ q2386) rfl (by decide +kernel) ⟨Nat.le_of_ble_eq_true rfl, Nat.le_of_ble_eq_true rfl⟩) ⟨wPc.blind, w_pre hC hM hS _⟩ rfl rfl hl.1 rfl (lv_room (Nat.le_of_ble_eq_true rfl)) dJ23_valueOf_28 (w_room0 hB)) hS (w_room0 hB) (fun _ _ _ _ _ _ h => False.elim h) (fun M4 H locs hp hM hS => ?_)
    exact x_aret (v := (some a1)) X hr (by first | exact Or.inl ⟨_, rfl⟩ | exact Or.inr ⟨_, rfl⟩) hlk hM hS (w_fin hB) dJ23_valueOf_31 ⟨(some a1), rfl, hp⟩
  refine lv_iload_n hx hb dJ23_valueOf_0 rfl (lv_at hl 0 rfl) ?_
  refine lv_bipush (v := (-128)) hx hb dJ23_valueOf_1 (by decide) ?_
  refine lv_icmp_lt (tgt := 23) hx hb dJ23_valueOf_3 (by decide) (fun hc => ?_) (fun hc => ?_)
  · have hp := oIf.t hp hc
    exact hB23 _ _ _ _ _ _ _ _ hp hM hS hB (lv_sub hl [0] rfl)
  · have hp := oIf.f hp hc
    refine lv_iload_n hx hb dJ23_valueOf_6 rfl (lv_at hl 0 rfl) ?_
    refine x_gets X hC hS (C := "java/lang/Integer$IntegerCache") (n := "high") (d := "I") (v := .inl 127) (List.mem_of_getElem? (i := 4) rfl) q2380 (fun _ h9 => h9) dJ23_valueOf_7 ?_
    refine lv_icmp_gt (tgt := 23) hx hb dJ23_valueOf_10 (by decide) (fun hc => ?_) (fun hc => ?_)
    · have hp := oIf.t hp hc
      exact hB23 _ _ _ _ _ _ _ _ hp hM hS hB (lv_sub hl [0] rfl)
    · have hp := oIf.f hp hc
      refine x_gets X hC hS (C := "java/lang/Integer$IntegerCache") (n := "cache") (d := "[Ljava/lang/Integer;") (v := .inr 2) (List.mem_of_getElem? (i := 3) rfl) q2382 (fun _ h9 => h9) dJ23_valueOf_13 ?_
      refine lv_iload_n hx hb dJ23_valueOf_16 rfl (lv_at hl 0 rfl) ?_
      refine lv_sipush (v := 128) hx hb dJ23_valueOf_17 (by decide) ?_
      refine lv_iadd hx hb dJ23_valueOf_20 ?_
      refine x_aald X hC.1 hM (ty := (.object "java/lang/Integer")) (by decide) rfl dJ23_valueOf_21 hp (fun r1 hp => ?_)
      exact x_aret (v := r1) X hr (by first | exact Or.inl ⟨_, rfl⟩ | exact Or.inr ⟨_, rfl⟩) hlk hM hS (w_fin hB) dJ23_valueOf_22 ⟨r1, rfl, hp⟩
def B_J8_linkBefore_42 (G : wG) (Q : wM → Prop) (x0 : Nat) (M : wM) (bq : Nat) : Prop :=
  oGetI M x0 17 1 (fun v1 => oPut G M x0 17 1 (.int (v1 + (1 : Int32))) (fun M2 => oGetI M2 x0 17 0 (fun v3 => oPut G M2 x0 17 0 (.int (v3 + (1 : Int32))) (fun M4 => Q M4))))
def P_J8_linkBefore (G : wG) (t0 : Nat) (p1 : Option Nat) (p2 : Option Nat) (b : Nat) (M : wM) (Q : wM → Prop) : Prop :=
  oRef p2 (fun a1 => oGetR M a1 18 2 (fun r2 => oNew G M b 18 [.null, .null, .null] (fun a3 M4 b5 => P_J6_init G a3 r2 p1 (some a1) M4 (fun M6 => oPut G M6 a1 18 2 (.ref a3) (fun M8 => oNull r2 (oPut G M8 t0 17 2 (.ref a3) (fun M10 => B_J8_linkBefore_42 G Q t0 M10 b5)) (fun a9 => oPut G M8 a9 18 1 (.ref a3) (fun M11 => B_J8_linkBefore_42 G Q t0 M11 b5)))))))
set_option maxHeartbeats 4000000 in
set_option maxRecDepth 100000 in
theorem P_J8_linkBefore_ok {l : Launch} (hl0 : l.stackTraces = false) {G : wG} {t0 : Nat} {p1 : Option Nat} {p2 : Option Nat} {b : Nat} {M : wM} {Q : wM → Prop} (hp : P_J8_linkBefore G t0 p1 p2 b M Q) : wMet l yJ8_linkBefore (ws_ yJ8_linkBefore cJ8_linkBefore 5 (none)) 13 423 G [.ref t0, va_rf p1, va_rf p2] M b (wqV Q) wX0 := by
  refine vx_ofW (cc := cJ8_linkBefore) (maxL := 5) (ret := none) (by decide) rfl ?_
  intro p e s m args below meth c s₁ B hml hnt hv
  obtain ⟨rfl, hM, hK, hZ, hz⟩ := hv
  have hC : wC G s := ⟨hK, hZ, hz⟩
  have hx := B.exec
  have hb := B.bytes
  have hr := B.returns
  have hts := atoms_spec (ws := (ws_ yJ8_linkBefore cJ8_linkBefore 5 (none))) B.pre
  have hts : ∀ w ∈ lw_all, w.before _ s = true := fun w h => hts w (List.mem_cons_of_mem _ h)
  have hown : s.vm.findClass RJ8 = some m.cls := findClass_of_methodNamed B.named
  have hlk := B.notSynchronized
  have X : CallFix p m c cJ8_linkBefore 5 s ([.ref t0, va_rf p1, va_rf p2] : List Value).toArray lw_all RJ8 := ⟨hx, hb, hml, hown, hts⟩
  have hS : va_S (wA G) s.heap s.heap [] := va_S.rf
  have hl := lv_entry ([.ref t0, va_rf p1, va_rf p2]) (n := 5) (by cases p1 <;> cases p2 <;> exact Nat.le_of_ble_eq_true rfl)
  rw [lg_entry_eq]
  generalize (lg_sl ([.ref t0, va_rf p1, va_rf p2]) ++ List.replicate (5 - (lg_sl ([.ref t0, va_rf p1, va_rf p2])).length) Slot.unset).toArray = ls at hl ⊢
  have hl : lv_has ls 5 [(0, .ref t0), (1, va_rf p1), (2, va_rf p2)] := by cases p1 <;> cases p2 <;> exact hl
  have hB : 0 + b ≤ ((headSpec (ws_ yJ8_linkBefore cJ8_linkBefore 5 (none)) ({ frames := 13, cells := b, slots := b, locals := 423 })).room).cells ∧ 0 + b ≤ ((headSpec (ws_ yJ8_linkBefore cJ8_linkBefore 5 (none)) ({ frames := 13, cells := b, slots := b, locals := 423 })).room).slots := ⟨Nat.le_of_eq (Nat.zero_add b), Nat.le_of_eq (Nat.zero_add b)⟩
  have hB42 : ∀ (x0 : Nat) (M : wM) (bq : Nat) (H : Heap) (locs : List Loc) (ls : Array Slot) (cells slots : Nat), B_J8_linkBefore_42 G Q x0 M bq → wR G M H → va_S (wA G) s.heap H locs → (cells + bq ≤ ((headSpec (ws_ yJ8_linkBefore cJ8_linkBefore 5 (none)) ({ frames := 13, cells := b, slots := b, locals := 423 })).room).cells ∧ slots + bq ≤ ((headSpec (ws_ yJ8_linkBefore cJ8_linkBefore 5 (none)) ({ frames := 13, cells := b, slots := b, locals := 423 })).room).slots) → lv_has ls 5 [(0, .ref x0)] → W p l e (headSpec (ws_ yJ8_linkBefore cJ8_linkBefore 5 (none)) ({ frames := 13, cells := b, slots := b, locals := 423 })).room s m ([.ref t0, va_rf p1, va_rf p2] : List Value).toArray below meth c H locs cells slots (vx_MQ below (wQ G (wqV Q)) (wXC G wX0) ([.ref t0, va_rf p1, va_rf p2] : List Value).toArray s b b (wA G)) (F0 m 42 ls []) := by
    intro x0 M bq H locs ls cells slots hp hM hS hB hl
    refine lv_aload_n hx hb dJ8_linkBefore_42 rfl (lv_at hl 0 rfl) ?_
    refine lv_dup hx hb dJ8_linkBefore_43 rfl ?_
    refine x_getI X hC.1 hM (ci := 17) (C := RJ8) (T := TJ8) (N := 4) rfl in_J8 1 (by decide) q456 (fun _ h9 => h9) dJ8_linkBefore_44 hp (fun v1 hp => ?_)
    refine lv_iconst (v := 1) hx hb dJ8_linkBefore_47 (by decide) ?_
    refine lv_iadd hx hb dJ8_linkBefore_48 ?_
    refine x_put X hC.1 hM hS (ci := 17) (C := RJ8) (T := TJ8) (N := 4) rfl in_J8 tyJ8 tyJ8_ok nmJ8 1 (by decide) q456 (fun _ h9 => h9) rfl rfl rfl dJ8_linkBefore_49 hp (fun M2 H locs hM hS hp => ?_)
    refine lv_aload_n hx hb dJ8_linkBefore_52 rfl (lv_at hl 0 rfl) ?_
    refine lv_dup hx hb dJ8_linkBefore_53 rfl ?_
    refine x_getI X hC.1 hM (ci := 17) (C := RJ8) (T := TJ8) (N := 4) rfl in_J8 0 (by decide) q252 (fun x9 h9 => u_same (hts _ q248) x9 h9) dJ8_linkBefore_54 hp (fun v3 hp => ?_)
    refine lv_iconst (v := 1) hx hb dJ8_linkBefore_57 (by decide) ?_
    refine lv_iadd hx hb dJ8_linkBefore_58 ?_
    refine x_put X hC.1 hM hS (ci := 17) (C := RJ8) (T := TJ8) (N := 4) rfl in_J8 tyJ8 tyJ8_ok nmJ8 0 (by decide) q252 (fun x9 h9 => u_same (hts _ q248) x9 h9) rfl rfl rfl dJ8_linkBefore_59 hp (fun M4 H locs hM hS hp => ?_)
    exact x_vret X hr hlk hM hS (w_fin hB) dJ8_linkBefore_62 ⟨rfl, hp⟩
  refine x_aload_n (r := p2) hx hb dJ8_linkBefore_0 rfl (lv_at hl 2 rfl) ?_
  obtain ⟨a1, ea, hqa1⟩ := hp
  subst ea
  have hp := hqa1
  have hl : lv_has ls 5 [(0, .ref t0), (1, va_rf p1), (2, .ref a1)] := hl
  refine x_getR X hC.1 hM (ci := 18) (C := RJ6) (T := TJ6) (N := 3) rfl in_J6 2 (by decide) q386 (fun _ h9 => h9) dJ8_linkBefore_1 hp (fun r2 hp => ?_)
  refine x_astore_n (r := r2) (lv' := [(3, va_rf r2), (0, .ref t0), (1, va_rf p1), (2, .ref a1)]) hx hb dJ8_linkBefore_4 rfl hl (by decide) rfl (fun ls hl => ?_)
  refine x_new X hC hM hS hB (ci := 18) (C := RJ6) (T := TJ6) (N := 3) rfl in_J6 tyJ6 tyJ6_ok q373 q374 q158 rfl (by decide) dJ8_linkBefore_5 hp (fun a3 M4 H b5 cells slots hM hS hB hp => ?_)
  refine lv_dup hx hb dJ8_linkBefore_8 rfl ?_
  refine x_aload_n (r := r2) hx hb dJ8_linkBefore_9 rfl (lv_at hl 0 rfl) ?_
  refine x_aload_n (r := p1) hx hb dJ8_linkBefore_10 rfl (lv_at hl 2 rfl) ?_
  refine lv_aload_n hx hb dJ8_linkBefore_11 rfl (lv_at hl 3 rfl) ?_
  refine x_call0V (vx_runI (As := [va_rf r2, va_rf p1, va_rf (some a1)]) (rest := [.ref a3]) X (P_J6_init_ok (l := l) hl0 hp) (cwI 3 hts (lw_meth q377) rfl rfl rfl (hts _ q158) (hts _ q375) (hts _ q376) rfl (by decide +kernel) ⟨Nat.le_of_ble_eq_true rfl, Nat.le_of_ble_eq_true rfl⟩) ⟨wPc.blind, w_pre hC hM hS _⟩ rfl rfl hl.1 rfl (lv_room (Nat.le_of_ble_eq_true rfl)) dJ8_linkBefore_12 (w_room0 hB)) hS (w_room0 hB) (fun _ _ _ _ _ _ h => False.elim h) (fun M6 H locs hp hM hS => ?_)
  refine lv_astore (lv' := [(4, .ref a3), (3, va_rf r2), (0, .ref t0), (1, va_rf p1), (2, .ref a1)]) hx hb dJ8_linkBefore_15 hl (by decide) (by cases r2 <;> rfl) (fun ls hl => ?_)
  refine lv_aload_n hx hb dJ8_linkBefore_17 rfl (lv_at hl 4 rfl) ?_
  refine lv_aload hx hb dJ8_linkBefore_18 (lv_at hl 0 rfl) ?_
  refine x_put X hC.1 hM hS (ci := 18) (C := RJ6) (T := TJ6) (N := 3) rfl in_J6 tyJ6 tyJ6_ok nmJ6 2 (by decide) q386 (fun _ h9 => h9) rfl rfl rfl dJ8_linkBefore_20 hp (fun M8 H locs hM hS hp => ?_)
  refine x_aload_n (r := r2) hx hb dJ8_linkBefore_23 rfl (lv_at hl 1 rfl) ?_
  refine x_ifnonnull (r := r2) (tgt := 36) hx hb dJ8_linkBefore_24 (by decide) (fun a9 hc => ?_) (fun hc => ?_)
  · have hqa9 := oNull.f hp hc
    subst hc
    have hp := hqa9
    have hl : lv_has ls 5 [(4, .ref a3), (3, .ref a9), (0, .ref t0), (1, va_rf p1), (2, .ref a1)] := hl
    refine lv_aload_n hx hb dJ8_linkBefore_36 rfl (lv_at hl 1 rfl) ?_
    refine lv_aload hx hb dJ8_linkBefore_37 (lv_at hl 0 rfl) ?_
    refine x_put X hC.1 hM hS (ci := 18) (C := RJ6) (T := TJ6) (N := 3) rfl in_J6 tyJ6 tyJ6_ok nmJ6 1 (by decide) q384 (fun _ h9 => h9) rfl rfl rfl dJ8_linkBefore_39 hp (fun M11 H locs hM hS hp => ?_)
    exact hB42 _ _ _ _ _ _ _ _ hp hM hS hB (lv_sub hl [2] rfl)
  · have hqa9 := oNull.t hp hc
    subst hc
    have hp := hqa9
    have hl : lv_has ls 5 [(4, .ref a3), (3, va_rf none), (0, .ref t0), (1, va_rf p1), (2, .ref a1)] := hl
    refine lv_aload_n hx hb dJ8_linkBefore_27 rfl (lv_at hl 2 rfl) ?_
    refine lv_aload hx hb dJ8_linkBefore_28 (lv_at hl 0 rfl) ?_
    refine x_put X hC.1 hM hS (ci := 17) (C := RJ8) (T := TJ8) (N := 4) rfl in_J8 tyJ8 tyJ8_ok nmJ8 2 (by decide) q458 (fun _ h9 => h9) rfl rfl rfl dJ8_linkBefore_30 hp (fun M10 H locs hM hS hp => ?_)
    refine lv_goto (tgt := 42) hx hb dJ8_linkBefore_33 (by decide) ?_
    exact hB42 _ _ _ _ _ _ _ _ hp hM hS hB (lv_sub hl [2] rfl)
def B_J8_add_2_31 (G : wG) (Q : wM → Prop) (M : wM) (bq : Nat) : Prop :=
  Q M
def P_J8_add_2 (G : wG) (t0 : Nat) (p1 : Int32) (p2 : Option Nat) (b : Nat) (M : wM) (Q : wM → Prop) : Prop :=
  oIs M t0 17 (P_J8_checkPositionIndex G t0 p1 M (fun M1 => oGetI M1 t0 17 1 (fun v3 => oIf (p1 = v3) (oIs M1 t0 17 (∃ c10, c10 ≤ b ∧ P_J8_linkLast G t0 p2 c10 M1 (fun M9 => B_J8_add_2_31 G Q M9 (b - c10)))) (oIs M1 t0 17 (P_J8_node G t0 p1 M1 (fun r6 M4 => oIs M4 t0 17 (∃ c8, c8 ≤ b ∧ P_J8_linkBefore G t0 p2 r6 c8 M4 (fun M7 => B_J8_add_2_31 G Q M7 (b - c8)))))))))
set_option maxHeartbeats 4000000 in
set_option maxRecDepth 100000 in
theorem P_J8_add_2_ok {l : Launch} (hl0 : l.stackTraces = false) {G : wG} {t0 : Nat} {p1 : Int32} {p2 : Option Nat} {b : Nat} {M : wM} {Q : wM → Prop} (hp : P_J8_add_2 G t0 p1 p2 b M Q) : wMet l yJ8_add_2 (ws_ yJ8_add_2 cJ8_add_2 3 (none)) 14 447 G [.ref t0, .int p1, va_rf p2] M b (wqV Q) wX0 := by
  refine vx_ofW (cc := cJ8_add_2) (maxL := 3) (ret := none) (by decide) rfl ?_
  intro p e s m args below meth c s₁ B hml hnt hv
  obtain ⟨rfl, hM, hK, hZ, hz⟩ := hv
  have hC : wC G s := ⟨hK, hZ, hz⟩
  have hx := B.exec
  have hb := B.bytes
  have hr := B.returns
  have hts := atoms_spec (ws := (ws_ yJ8_add_2 cJ8_add_2 3 (none))) B.pre
  have hts : ∀ w ∈ lw_all, w.before _ s = true := fun w h => hts w (List.mem_cons_of_mem _ h)
  have hown : s.vm.findClass RJ8 = some m.cls := findClass_of_methodNamed B.named
  have hlk := B.notSynchronized
  have X : CallFix p m c cJ8_add_2 3 s ([.ref t0, .int p1, va_rf p2] : List Value).toArray lw_all RJ8 := ⟨hx, hb, hml, hown, hts⟩
  have hS : va_S (wA G) s.heap s.heap [] := va_S.rf
  have hl := lv_entry ([.ref t0, .int p1, va_rf p2]) (n := 3) (by cases p2 <;> exact Nat.le_of_ble_eq_true rfl)
  rw [lg_entry_eq]
  generalize (lg_sl ([.ref t0, .int p1, va_rf p2]) ++ List.replicate (3 - (lg_sl ([.ref t0, .int p1, va_rf p2])).length) Slot.unset).toArray = ls at hl ⊢
  have hl : lv_has ls 3 [(0, .ref t0), (1, .int p1), (2, va_rf p2)] := by cases p2 <;> exact hl
  have hB : 0 + b ≤ ((headSpec (ws_ yJ8_add_2 cJ8_add_2 3 (none)) ({ frames := 14, cells := b, slots := b, locals := 447 })).room).cells ∧ 0 + b ≤ ((headSpec (ws_ yJ8_add_2 cJ8_add_2 3 (none)) ({ frames := 14, cells := b, slots := b, locals := 447 })).room).slots := ⟨Nat.le_of_eq (Nat.zero_add b), Nat.le_of_eq (Nat.zero_add b)⟩
  have hB31 : ∀ (M : wM) (bq : Nat) (H : Heap) (locs : List Loc) (ls : Array Slot) (cells slots : Nat), B_J8_add_2_31 G Q M bq → wR G M H → va_S (wA G) s.heap H locs → (cells + bq ≤ ((headSpec (ws_ yJ8_add_2 cJ8_add_2 3 (none)) ({ frames := 14, cells := b, slots := b, locals := 447 })).room).cells ∧ slots + bq ≤ ((headSpec (ws_ yJ8_add_2 cJ8_add_2 3 (none)) ({ frames := 14, cells := b, slots := b, locals := 447 })).room).slots) → lv_has ls 3 [] → W p l e (headSpec (ws_ yJ8_add_2 cJ8_add_2 3 (none)) ({ frames := 14, cells := b, slots := b, locals := 447 })).room s m ([.ref t0, .int p1, va_rf p2] : List Value).toArray below meth c H locs cells slots (vx_MQ below (wQ G (wqV Q)) (wXC G wX0) ([.ref t0, .int p1, va_rf p2] : List Value).toArray s b b (wA G)) (F0 m 31 ls []) := by
    intro M bq H locs ls cells slots hp hM hS hB hl
    exact x_vret X hr hlk hM hS (w_fin hB) dJ8_add_2_31 ⟨rfl, hp⟩
  refine lv_aload_n hx hb dJ8_add_2_0 rfl (lv_at hl 0 rfl) ?_
  refine lv_iload_n hx hb dJ8_add_2_1 rfl (lv_at hl 1 rfl) ?_
  obtain ⟨hrec, hp⟩ := hp
  refine x_call0V (vx_runV (As := [.int p1]) (rest := []) X (P_J8_checkPositionIndex_ok (l := l) hl0 hp) (cwV 1 hts (lw_V q1656 q1658 qs31 q160 q1659) rfl rfl rfl (by decide +kernel) ⟨Nat.le_of_ble_eq_true rfl, Nat.le_of_ble_eq_true rfl⟩) ⟨wPc.blind, w_recv hC.1 hM (ci := 17) (q := (RJ8, TJ8, 4)) rfl hrec, w_pre hC hM hS _⟩ rfl rfl hl.1 rfl (lv_room (Nat.le_of_ble_eq_true rfl)) dJ8_add_2_2 (w_room0 hB)) hS (w_room0 hB) (fun _ _ _ _ _ _ h => False.elim h) (fun M1 H locs hp hM hS => ?_)
  refine lv_iload_n hx hb dJ8_add_2_5 rfl (lv_at hl 1 rfl) ?_
  refine lv_aload_n hx hb dJ8_add_2_6 rfl (lv_at hl 0 rfl) ?_
  refine x_getI X hC.1 hM (ci := 17) (C := RJ8) (T := TJ8) (N := 4) rfl in_J8 1 (by decide) q456 (fun _ h9 => h9) dJ8_add_2_7 hp (fun v3 hp => ?_)
  refine lv_icmp_ne (tgt := 21) hx hb dJ8_add_2_10 (by decide) (fun hc => ?_) (fun hc => ?_)
  · have hp := oIf.f hp hc
    refine lv_aload_n hx hb dJ8_add_2_21 rfl (lv_at hl 0 rfl) ?_
    refine x_aload_n (r := p2) hx hb dJ8_add_2_22 rfl (lv_at hl 2 rfl) ?_
    refine lv_aload_n hx hb dJ8_add_2_23 rfl (lv_at hl 0 rfl) ?_
    refine lv_iload_n hx hb dJ8_add_2_24 rfl (lv_at hl 1 rfl) ?_
    obtain ⟨hrec, hp⟩ := hp
    refine x_call0R (vx_runV (As := [.int p1]) (rest := [va_rf p2, .ref t0]) X (P_J8_node_ok (l := l) hl0 hp) (cwV 1 hts (lw_V q907 q908 q909 q160 q910) rfl rfl rfl (by decide +kernel) ⟨Nat.le_of_ble_eq_true rfl, Nat.le_of_ble_eq_true rfl⟩) ⟨wPc.blind, w_recv hC.1 hM (ci := 17) (q := (RJ8, TJ8, 4)) rfl hrec, w_pre hC hM hS _⟩ rfl rfl hl.1 rfl (lv_room (by cases p2 <;> exact Nat.le_of_ble_eq_true rfl)) dJ8_add_2_25 (w_room0 hB)) hS (w_room0 hB) (fun _ _ _ _ _ _ h => False.elim h) (fun r6 M4 H locs hp hM hS => ?_)
    obtain ⟨hrec, hp⟩ := hp
    obtain ⟨c8, hc1, hp⟩ := hp
    refine x_callV (vx_runV (As := [va_rf p2, va_rf r6]) (rest := []) X (P_J8_linkBefore_ok (l := l) hl0 hp) (cwV 2 hts (lw_V q2400 q2401 q2402 q160 q2403) rfl rfl rfl (by decide +kernel) ⟨Nat.le_of_ble_eq_true rfl, Nat.le_of_ble_eq_true rfl⟩) ⟨wPc.blind, w_recv hC.1 hM (ci := 17) (q := (RJ8, TJ8, 4)) rfl hrec, w_pre hC hM hS _⟩ rfl rfl hl.1 rfl (lv_room (Nat.le_of_ble_eq_true rfl)) dJ8_add_2_28 (w_room hB hc1)) hS hB hc1 (fun _ _ _ _ _ _ h => False.elim h) (fun M7 H locs hp hM hS hB => ?_)
    exact hB31 _ _ _ _ _ _ _ hp hM hS hB (lv_sub hl [] rfl)
  · have hp := oIf.t hp hc
    refine lv_aload_n hx hb dJ8_add_2_13 rfl (lv_at hl 0 rfl) ?_
    refine x_aload_n (r := p2) hx hb dJ8_add_2_14 rfl (lv_at hl 2 rfl) ?_
    obtain ⟨hrec, hp⟩ := hp
    obtain ⟨c10, hc1, hp⟩ := hp
    refine x_callV (vx_runV (As := [va_rf p2]) (rest := []) X (P_J8_linkLast_ok (l := l) hl0 hp) (cwV 1 hts (lw_V q369 q370 q371 q160 q372) rfl rfl rfl (by decide +kernel) ⟨Nat.le_of_ble_eq_true rfl, Nat.le_of_ble_eq_true rfl⟩) ⟨wPc.blind, w_recv hC.1 hM (ci := 17) (q := (RJ8, TJ8, 4)) rfl hrec, w_pre hC hM hS _⟩ rfl rfl hl.1 rfl (lv_room (Nat.le_of_ble_eq_true rfl)) dJ8_add_2_15 (w_room hB hc1)) hS hB hc1 (fun _ _ _ _ _ _ h => False.elim h) (fun M9 H locs hp hM hS hB => ?_)
    refine lv_goto (tgt := 31) hx hb dJ8_add_2_18 (by decide) ?_
    exact hB31 _ _ _ _ _ _ _ hp hM hS hB (lv_sub hl [] rfl)
def B_J8_isElementIndex_17 (G : wG) (Q : Bool → wM → Prop) (y0 : Int32) (M : wM) : Prop :=
  ∃ r : Bool, y0 = wb r ∧ Q r M
def B_J8_isElementIndex_16 (G : wG) (Q : Bool → wM → Prop) (M : wM) : Prop :=
  B_J8_isElementIndex_17 G Q (0 : Int32) M
def P_J8_isElementIndex (G : wG) (t0 : Nat) (p1 : Int32) (M : wM) (Q : Bool → wM → Prop) : Prop :=
  oIf (p1 < 0) (B_J8_isElementIndex_16 G Q M) (oGetI M t0 17 1 (fun v1 => oIf (v1 ≤ p1) (B_J8_isElementIndex_16 G Q M) (B_J8_isElementIndex_17 G Q (1 : Int32) M)))
set_option maxHeartbeats 4000000 in
set_option maxRecDepth 100000 in
theorem P_J8_isElementIndex_ok {l : Launch} (hl0 : l.stackTraces = false) {G : wG} {t0 : Nat} {p1 : Int32} {M : wM} {Q : Bool → wM → Prop} (hp : P_J8_isElementIndex G t0 p1 M Q) : wMet l yJ8_isElementIndex (ws_ yJ8_isElementIndex cJ8_isElementIndex 2 (Option.some Jvm.ClassFile.FieldType.boolean)) 12 400 G [.ref t0, .int p1] M 0 (wqZ Q) wX0 := by
  refine vx_ofW (cc := cJ8_isElementIndex) (maxL := 2) (ret := Option.some Jvm.ClassFile.FieldType.boolean) (by decide) rfl ?_
  intro p e s m args below meth c s₁ B hml hnt hv
  obtain ⟨rfl, hM, hK, hZ, hz⟩ := hv
  have hC : wC G s := ⟨hK, hZ, hz⟩
  have hx := B.exec
  have hb := B.bytes
  have hr := B.returns
  have hts := atoms_spec (ws := (ws_ yJ8_isElementIndex cJ8_isElementIndex 2 (Option.some Jvm.ClassFile.FieldType.boolean))) B.pre
  have hts : ∀ w ∈ lw_all, w.before _ s = true := fun w h => hts w (List.mem_cons_of_mem _ h)
  have hown : s.vm.findClass RJ8 = some m.cls := findClass_of_methodNamed B.named
  have hlk := B.notSynchronized
  have X : CallFix p m c cJ8_isElementIndex 2 s ([.ref t0, .int p1] : List Value).toArray lw_all RJ8 := ⟨hx, hb, hml, hown, hts⟩
  have hS : va_S (wA G) s.heap s.heap [] := va_S.rf
  have hl := lv_entry ([.ref t0, .int p1]) (n := 2) (Nat.le_of_ble_eq_true rfl)
  rw [lg_entry_eq]
  generalize (lg_sl ([.ref t0, .int p1]) ++ List.replicate (2 - (lg_sl ([.ref t0, .int p1])).length) Slot.unset).toArray = ls at hl ⊢
  have hl : lv_has ls 2 [(0, .ref t0), (1, .int p1)] := hl
  have hB17 : ∀ (y0 : Int32) (M : wM) (H : Heap) (locs : List Loc) (ls : Array Slot), B_J8_isElementIndex_17 G Q y0 M → wR G M H → va_S (wA G) s.heap H locs → lv_has ls 2 [] → W p l e (headSpec (ws_ yJ8_isElementIndex cJ8_isElementIndex 2 (Option.some Jvm.ClassFile.FieldType.boolean)) ({ frames := 12, cells := 0, slots := 0, locals := 400 })).room s m ([.ref t0, .int p1] : List Value).toArray below meth c H locs 0 0 (vx_MQ below (wQ G (wqZ Q)) (wXC G wX0) ([.ref t0, .int p1] : List Value).toArray s 0 0 (wA G)) (F0 m 17 ls [.int y0]) := by
    intro y0 M H locs ls hp hM hS hl
    obtain ⟨r, hr0, hp⟩ := hp
    exact x_zret X hr hlk hM hS ⟨Nat.le_refl _, Nat.le_refl _⟩ (by rw [hr0]; exact w_nz _) dJ8_isElementIndex_17 ⟨r, by rw [hr0], hp⟩
  have hB16 : ∀ (M : wM) (H : Heap) (locs : List Loc) (ls : Array Slot), B_J8_isElementIndex_16 G Q M → wR G M H → va_S (wA G) s.heap H locs → lv_has ls 2 [] → W p l e (headSpec (ws_ yJ8_isElementIndex cJ8_isElementIndex 2 (Option.some Jvm.ClassFile.FieldType.boolean)) ({ frames := 12, cells := 0, slots := 0, locals := 400 })).room s m ([.ref t0, .int p1] : List Value).toArray below meth c H locs 0 0 (vx_MQ below (wQ G (wqZ Q)) (wXC G wX0) ([.ref t0, .int p1] : List Value).toArray s 0 0 (wA G)) (F0 m 16 ls []) := by
    intro M H locs ls hp hM hS hl
    refine lv_iconst (v := 0) hx hb dJ8_isElementIndex_16 (by decide) ?_
    exact hB17 _ _ _ _ _ hp hM hS (lv_sub hl [] rfl)
  refine lv_iload_n hx hb dJ8_isElementIndex_0 rfl (lv_at hl 1 rfl) ?_
  refine lv_if_lt (tgt := 16) hx hb dJ8_isElementIndex_1 (by decide) (fun hc => ?_) (fun hc => ?_)
  · have hp := oIf.t hp hc
    exact hB16 _ _ _ _ hp hM hS (lv_sub hl [] rfl)
  · have hp := oIf.f hp hc
    refine lv_iload_n hx hb dJ8_isElementIndex_4 rfl (lv_at hl 1 rfl) ?_
    refine lv_aload_n hx hb dJ8_isElementIndex_5 rfl (lv_at hl 0 rfl) ?_
    refine x_getI X hC.1 hM (ci := 17) (C := RJ8) (T := TJ8) (N := 4) rfl in_J8 1 (by decide) q456 (fun _ h9 => h9) dJ8_isElementIndex_6 hp (fun v1 hp => ?_)
    refine lv_icmp_ge (tgt := 16) hx hb dJ8_isElementIndex_9 (by decide) (fun hc => ?_) (fun hc => ?_)
    · have hp := oIf.t hp hc
      exact hB16 _ _ _ _ hp hM hS (lv_sub hl [] rfl)
    · have hp := oIf.f hp hc
      refine lv_iconst (v := 1) hx hb dJ8_isElementIndex_12 (by decide) ?_
      refine lv_goto (tgt := 17) hx hb dJ8_isElementIndex_13 (by decide) ?_
      exact hB17 _ _ _ _ _ hp hM hS (lv_sub hl [] rfl)
def P_J8_checkElementIndex (G : wG) (t0 : Nat) (p1 : Int32) (M : wM) (Q : wM → Prop) : Prop :=
  oIs M t0 17 (P_J8_isElementIndex G t0 p1 M (fun r3 M1 => oIf (r3 = true) (Q M1) (False)))
set_option maxHeartbeats 4000000 in
set_option maxRecDepth 100000 in
theorem P_J8_checkElementIndex_ok {l : Launch} (hl0 : l.stackTraces = false) {G : wG} {t0 : Nat} {p1 : Int32} {M : wM} {Q : wM → Prop} (hp : P_J8_checkElementIndex G t0 p1 M Q) : wMet l yJ8_checkElementIndex (ws_ yJ8_checkElementIndex cJ8_checkElementIndex 2 (none)) 13 421 G [.ref t0, .int p1] M 0 (wqV Q) wX0 := by
  refine vx_ofW (cc := cJ8_checkElementIndex) (maxL := 2) (ret := none) (by decide) rfl ?_
  intro p e s m args below meth c s₁ B hml hnt hv
  obtain ⟨rfl, hM, hK, hZ, hz⟩ := hv
  have hC : wC G s := ⟨hK, hZ, hz⟩
  have hx := B.exec
  have hb := B.bytes
  have hr := B.returns
  have hts := atoms_spec (ws := (ws_ yJ8_checkElementIndex cJ8_checkElementIndex 2 (none))) B.pre
  have hts : ∀ w ∈ lw_all, w.before _ s = true := fun w h => hts w (List.mem_cons_of_mem _ h)
  have hown : s.vm.findClass RJ8 = some m.cls := findClass_of_methodNamed B.named
  have hlk := B.notSynchronized
  have X : CallFix p m c cJ8_checkElementIndex 2 s ([.ref t0, .int p1] : List Value).toArray lw_all RJ8 := ⟨hx, hb, hml, hown, hts⟩
  have hS : va_S (wA G) s.heap s.heap [] := va_S.rf
  have hl := lv_entry ([.ref t0, .int p1]) (n := 2) (Nat.le_of_ble_eq_true rfl)
  rw [lg_entry_eq]
  generalize (lg_sl ([.ref t0, .int p1]) ++ List.replicate (2 - (lg_sl ([.ref t0, .int p1])).length) Slot.unset).toArray = ls at hl ⊢
  have hl : lv_has ls 2 [(0, .ref t0), (1, .int p1)] := hl
  refine lv_aload_n hx hb dJ8_checkElementIndex_0 rfl (lv_at hl 0 rfl) ?_
  refine lv_iload_n hx hb dJ8_checkElementIndex_1 rfl (lv_at hl 1 rfl) ?_
  obtain ⟨hrec, hp⟩ := hp
  refine x_call0Z (vx_runV (As := [.int p1]) (rest := []) X (P_J8_isElementIndex_ok (l := l) hl0 hp) (cwV 1 hts (lw_V q890 q892 qs6 q160 q893) rfl rfl rfl (by decide +kernel) ⟨Nat.le_of_ble_eq_true rfl, Nat.le_of_ble_eq_true rfl⟩) ⟨wPc.blind, w_recv hC.1 hM (ci := 17) (q := (RJ8, TJ8, 4)) rfl hrec, w_pre hC hM hS _⟩ rfl rfl hl.1 rfl (lv_room (Nat.le_of_ble_eq_true rfl)) dJ8_checkElementIndex_2 ⟨Nat.le_refl _, Nat.le_refl _⟩) hS ⟨Nat.le_refl _, Nat.le_refl _⟩ (fun _ _ _ _ _ _ h => False.elim h) (fun r3 M1 H locs hp hM hS => ?_)
  refine x_ifneB (tgt := 21) hx hb dJ8_checkElementIndex_5 (by decide) (fun hc => ?_) (fun hc => ?_)
  · have hp := oIf.bt hp hc
    exact x_vret X hr hlk hM hS ⟨Nat.le_refl _, Nat.le_refl _⟩ dJ8_checkElementIndex_21 ⟨rfl, hp⟩
  · have hp := oIf.bf hp hc
    exact hp.elim

set_option maxRecDepth 100000
def P_X1_checkState (G : wG) (p1 : Int32) (b : Nat) (M : wM) (Q : wM → Prop) (Xp : String → Nat → wM → Prop) : Prop :=
  oIf (p1 = 0) (7 ≤ b ∧ ∀ q : Nat, Xp "java/lang/IllegalStateException" q M) (Q M)
set_option maxHeartbeats 4000000 in
set_option maxRecDepth 100000 in
theorem P_X1_checkState_ok {l : Launch} (hl0 : l.stackTraces = false) {G : wG} {p1 : Int32} {b : Nat} {M : wM} {Q : wM → Prop} {Xp : String → Nat → wM → Prop} (hp : P_X1_checkState G p1 b M Q Xp) : wMet l yX1_checkState (ws_ yX1_checkState cX1_checkState 1 (none)) 12 400 G [.int p1] M b (wqV Q) Xp := by
  refine vx_ofW (cc := cX1_checkState) (maxL := 1) (ret := none) (by decide) rfl ?_
  intro p e s m args below meth c s₁ B hml hnt hv
  obtain ⟨rfl, hM, hK, hZ, hz⟩ := hv
  have hC : wC G s := ⟨hK, hZ, hz⟩
  have hx := B.exec
  have hb := B.bytes
  have hr := B.returns
  have hts := atoms_spec (ws := (ws_ yX1_checkState cX1_checkState 1 (none))) B.pre
  have hts : ∀ w ∈ lw_all, w.before _ s = true := fun w h => hts w (List.mem_cons_of_mem _ h)
  have hown : s.vm.findClass RX1 = some m.cls := findClass_of_methodNamed B.named
  have hlk := B.notSynchronized
  have X : CallFix p m c cX1_checkState 1 s ([.int p1] : List Value).toArray lw_all RX1 := ⟨hx, hb, hml, hown, hts⟩
  have hS : va_S (wA G) s.heap s.heap [] := va_S.rf
  have hl := lv_entry ([.int p1]) (n := 1) (Nat.le_of_ble_eq_true rfl)
  rw [lg_entry_eq]
  generalize (lg_sl ([.int p1]) ++ List.replicate (1 - (lg_sl ([.int p1])).length) Slot.unset).toArray = ls at hl ⊢
  have hl : lv_has ls 1 [(0, .int p1)] := hl
  have hB : 0 + b ≤ ((headSpec (ws_ yX1_checkState cX1_checkState 1 (none)) ({ frames := 12, cells := b, slots := b, locals := 400 })).room).cells ∧ 0 + b ≤ ((headSpec (ws_ yX1_checkState cX1_checkState 1 (none)) ({ frames := 12, cells := b, slots := b, locals := 400 })).room).slots := ⟨Nat.le_of_eq (Nat.zero_add b), Nat.le_of_eq (Nat.zero_add b)⟩
  refine lv_iload_n hx hb dX1_checkState_0 rfl (lv_at hl 0 rfl) ?_
  refine lv_if_ne (tgt := 12) hx hb dX1_checkState_1 (by decide) (fun hc => ?_) (fun hc => ?_)
  · have hp := oIf.f hp hc
    exact x_vret X hr hlk hM hS (w_fin hB) dX1_checkState_12 ⟨rfl, hp⟩
  · have hp := oIf.t hp hc
    exact x_throw0 X hC hl0 hM hS hB ⟨Nat.le_refl _, Nat.le_refl _⟩ (by decide +kernel) (by decide +kernel) q2674 q200 vg_X1_IllegalStateException (w_recat hts hC.1 vt_X1_IllegalStateException) (hl.1.trans hml.symm) dX1_checkState_4 dX1_checkState_7 dX1_checkState_8 dX1_checkState_11 (fun x h => (hnt x h).elim) (Nat.le_of_ble_eq_true rfl) (Nat.le_of_ble_eq_true rfl) hlk hp.1 hp.2
def B_J25_inc_10 (G : wG) (Q : Int32 → wM → Prop) (x0 : Int32) (M : wM) : Prop :=
  Q x0 M
def P_J25_inc (G : wG) (p1 : Int32) (p2 : Int32) (M : wM) (Q : Int32 → wM → Prop) : Prop :=
  oIf ((p1 + 1) < p2) (B_J25_inc_10 G Q (p1 + 1) M) (B_J25_inc_10 G Q (0 : Int32) M)
set_option maxHeartbeats 4000000 in
set_option maxRecDepth 100000 in
theorem P_J25_inc_ok {l : Launch} (hl0 : l.stackTraces = false) {G : wG} {p1 : Int32} {p2 : Int32} {M : wM} {Q : Int32 → wM → Prop} (hp : P_J25_inc G p1 p2 M Q) : wMet l yJ25_inc (ws_ yJ25_inc cJ25_inc 2 (Option.some Jvm.ClassFile.FieldType.int)) 12 400 G [.int p1, .int p2] M 0 (wqI Q) wX0 := by
  refine vx_ofW (cc := cJ25_inc) (maxL := 2) (ret := Option.some Jvm.ClassFile.FieldType.int) (by decide) rfl ?_
  intro p e s m args below meth c s₁ B hml hnt hv
  obtain ⟨rfl, hM, hK, hZ, hz⟩ := hv
  have hC : wC G s := ⟨hK, hZ, hz⟩
  have hx := B.exec
  have hb := B.bytes
  have hr := B.returns
  have hts := atoms_spec (ws := (ws_ yJ25_inc cJ25_inc 2 (Option.some Jvm.ClassFile.FieldType.int))) B.pre
  have hts : ∀ w ∈ lw_all, w.before _ s = true := fun w h => hts w (List.mem_cons_of_mem _ h)
  have hown : s.vm.findClass RJ25 = some m.cls := findClass_of_methodNamed B.named
  have hlk := B.notSynchronized
  have X : CallFix p m c cJ25_inc 2 s ([.int p1, .int p2] : List Value).toArray lw_all RJ25 := ⟨hx, hb, hml, hown, hts⟩
  have hS : va_S (wA G) s.heap s.heap [] := va_S.rf
  have hl := lv_entry ([.int p1, .int p2]) (n := 2) (Nat.le_of_ble_eq_true rfl)
  rw [lg_entry_eq]
  generalize (lg_sl ([.int p1, .int p2]) ++ List.replicate (2 - (lg_sl ([.int p1, .int p2])).length) Slot.unset).toArray = ls at hl ⊢
  have hl : lv_has ls 2 [(0, .int p1), (1, .int p2)] := hl
  have hB10 : ∀ (x0 : Int32) (M : wM) (H : Heap) (locs : List Loc) (ls : Array Slot), B_J25_inc_10 G Q x0 M → wR G M H → va_S (wA G) s.heap H locs → lv_has ls 2 [(0, .int x0)] → W p l e (headSpec (ws_ yJ25_inc cJ25_inc 2 (Option.some Jvm.ClassFile.FieldType.int)) ({ frames := 12, cells := 0, slots := 0, locals := 400 })).room s m ([.int p1, .int p2] : List Value).toArray below meth c H locs 0 0 (vx_MQ below (wQ G (wqI Q)) (wXC G wX0) ([.int p1, .int p2] : List Value).toArray s 0 0 (wA G)) (F0 m 10 ls []) := by
    intro x0 M H locs ls hp hM hS hl
    refine lv_iload_n hx hb dJ25_inc_10 rfl (lv_at hl 0 rfl) ?_
    exact x_iret X hr hlk hM hS ⟨Nat.le_refl _, Nat.le_refl _⟩ dJ25_inc_11 ⟨_, rfl, hp⟩
  refine lv_iinc (v := (p1 + 1)) (lv' := [(0, .int (p1 + 1)), (1, .int p2)]) hx hb dJ25_inc_0 hl (k := 0) rfl rfl (by decide) rfl (fun ls hl => ?_)
  refine lv_iload_n hx hb dJ25_inc_3 rfl (lv_at hl 0 rfl) ?_
  refine lv_iload_n hx hb dJ25_inc_4 rfl (lv_at hl 1 rfl) ?_
  refine lv_icmp_lt (tgt := 10) hx hb dJ25_inc_5 (by decide) (fun hc => ?_) (fun hc => ?_)
  · have hp := oIf.t hp hc
    exact hB10 _ _ _ _ _ hp hM hS (lv_sub hl [0] rfl)
  · have hp := oIf.f hp hc
    refine lv_iconst (v := 0) hx hb dJ25_inc_8 (by decide) ?_
    refine lv_istore_n (lv' := [(0, .int (0 : Int32)), (1, .int p2)]) hx hb dJ25_inc_9 rfl hl (by decide) rfl (fun ls hl => ?_)
    exact hB10 _ _ _ _ _ hp hM hS (lv_sub hl [0] rfl)
def B_J25_newCapacity_61 (G : wG) (Q : Int32 → wM → Prop) (y0 : Int32) (M : wM) : Prop :=
  Q y0 M
def P_J25_newCapacity (G : wG) (t0 : Nat) (p1 : Int32) (p2 : Int32) (M : wM) (Q : Int32 → wM → Prop) : Prop :=
  oGetA M t0 22 0 (fun a1 => oAlen (.object "java/lang/Object") M a1 (fun v2 => oIf (((v2 + p1) - (2147483639 : Int32)) ≤ 0) (oIf (p1 ≤ p2) (oIf (0 ≤ ((v2 + p2) - (2147483639 : Int32))) (B_J25_newCapacity_61 G Q (2147483639 : Int32) M) (B_J25_newCapacity_61 G Q (v2 + p2) M)) (Q (v2 + p1) M)) (oIf (0 ≤ (v2 + p1)) (Q (2147483647 : Int32) M) (False))))
set_option maxHeartbeats 4000000 in
set_option maxRecDepth 100000 in
theorem P_J25_newCapacity_ok {l : Launch} (hl0 : l.stackTraces = false) {G : wG} {t0 : Nat} {p1 : Int32} {p2 : Int32} {M : wM} {Q : Int32 → wM → Prop} (hp : P_J25_newCapacity G t0 p1 p2 M Q) : wMet l yJ25_newCapacity (ws_ yJ25_newCapacity cJ25_newCapacity 5 (Option.some Jvm.ClassFile.FieldType.int)) 12 400 G [.ref t0, .int p1, .int p2] M 0 (wqI Q) wX0 := by
  refine vx_ofW (cc := cJ25_newCapacity) (maxL := 5) (ret := Option.some Jvm.ClassFile.FieldType.int) (by decide) rfl ?_
  intro p e s m args below meth c s₁ B hml hnt hv
  obtain ⟨rfl, hM, hK, hZ, hz⟩ := hv
  have hC : wC G s := ⟨hK, hZ, hz⟩
  have hx := B.exec
  have hb := B.bytes
  have hr := B.returns
  have hts := atoms_spec (ws := (ws_ yJ25_newCapacity cJ25_newCapacity 5 (Option.some Jvm.ClassFile.FieldType.int))) B.pre
  have hts : ∀ w ∈ lw_all, w.before _ s = true := fun w h => hts w (List.mem_cons_of_mem _ h)
  have hown : s.vm.findClass RJ25 = some m.cls := findClass_of_methodNamed B.named
  have hlk := B.notSynchronized
  have X : CallFix p m c cJ25_newCapacity 5 s ([.ref t0, .int p1, .int p2] : List Value).toArray lw_all RJ25 := ⟨hx, hb, hml, hown, hts⟩
  have hS : va_S (wA G) s.heap s.heap [] := va_S.rf
  have hl := lv_entry ([.ref t0, .int p1, .int p2]) (n := 5) (Nat.le_of_ble_eq_true rfl)
  rw [lg_entry_eq]
  generalize (lg_sl ([.ref t0, .int p1, .int p2]) ++ List.replicate (5 - (lg_sl ([.ref t0, .int p1, .int p2])).length) Slot.unset).toArray = ls at hl ⊢
  have hl : lv_has ls 5 [(0, .ref t0), (1, .int p1), (2, .int p2)] := hl
  have hB61 : ∀ (y0 : Int32) (M : wM) (H : Heap) (locs : List Loc) (ls : Array Slot), B_J25_newCapacity_61 G Q y0 M → wR G M H → va_S (wA G) s.heap H locs → lv_has ls 5 [] → W p l e (headSpec (ws_ yJ25_newCapacity cJ25_newCapacity 5 (Option.some Jvm.ClassFile.FieldType.int)) ({ frames := 12, cells := 0, slots := 0, locals := 400 })).room s m ([.ref t0, .int p1, .int p2] : List Value).toArray below meth c H locs 0 0 (vx_MQ below (wQ G (wqI Q)) (wXC G wX0) ([.ref t0, .int p1, .int p2] : List Value).toArray s 0 0 (wA G)) (F0 m 61 ls [.int y0]) := by
    intro y0 M H locs ls hp hM hS hl
    exact x_iret X hr hlk hM hS ⟨Nat.le_refl _, Nat.le_refl _⟩ dJ25_newCapacity_61 ⟨_, rfl, hp⟩
  refine lv_aload_n hx hb dJ25_newCapacity_0 rfl (lv_at hl 0 rfl) ?_
  refine x_getA X hC.1 hM (ci := 22) (C := RJ25) (T := TJ25) (N := 3) rfl in_J25 0 (by decide) q961 (fun _ h9 => h9) dJ25_newCapacity_1 hp (fun a1 hp => ?_)
  refine x_alen X hC.1 hM (ty := (.object "java/lang/Object")) (by decide) dJ25_newCapacity_4 hp (fun v2 hp => ?_)
  refine lv_istore_n (lv' := [(3, .int v2), (0, .ref t0), (1, .int p1), (2, .int p2)]) hx hb dJ25_newCapacity_5 rfl hl (by decide) rfl (fun ls hl => ?_)
  refine lv_iload_n hx hb dJ25_newCapacity_6 rfl (lv_at hl 0 rfl) ?_
  refine lv_iload_n hx hb dJ25_newCapacity_7 rfl (lv_at hl 2 rfl) ?_
  refine lv_iadd hx hb dJ25_newCapacity_8 ?_
  refine lv_dup hx hb dJ25_newCapacity_9 rfl ?_
  refine lv_istore (lv' := [(4, .int (v2 + p1)), (3, .int v2), (0, .ref t0), (1, .int p1), (2, .int p2)]) hx hb dJ25_newCapacity_10 hl (by decide) rfl (fun ls hl => ?_)
  refine lv_ldc (v := 2147483639) hx hb hown (hts _ q2571) dJ25_newCapacity_12 ?_
  refine lv_isub hx hb dJ25_newCapacity_14 ?_
  refine lv_if_le (tgt := 36) hx hb dJ25_newCapacity_15 (by decide) (fun hc => ?_) (fun hc => ?_)
  · have hp := oIf.t hp hc
    refine lv_iload_n hx hb dJ25_newCapacity_36 rfl (lv_at hl 3 rfl) ?_
    refine lv_iload_n hx hb dJ25_newCapacity_37 rfl (lv_at hl 4 rfl) ?_
    refine lv_icmp_le (tgt := 44) hx hb dJ25_newCapacity_38 (by decide) (fun hc => ?_) (fun hc => ?_)
    · have hp := oIf.t hp hc
      refine lv_iload_n hx hb dJ25_newCapacity_44 rfl (lv_at hl 1 rfl) ?_
      refine lv_iload_n hx hb dJ25_newCapacity_45 rfl (lv_at hl 4 rfl) ?_
      refine lv_iadd hx hb dJ25_newCapacity_46 ?_
      refine lv_ldc (v := 2147483639) hx hb hown (hts _ q2571) dJ25_newCapacity_47 ?_
      refine lv_isub hx hb dJ25_newCapacity_49 ?_
      refine lv_if_ge (tgt := 59) hx hb dJ25_newCapacity_50 (by decide) (fun hc => ?_) (fun hc => ?_)
      · have hp := oIf.t hp hc
        refine lv_ldc (v := 2147483639) hx hb hown (hts _ q2571) dJ25_newCapacity_59 ?_
        exact hB61 _ _ _ _ _ hp hM hS (lv_sub hl [] rfl)
      · have hp := oIf.f hp hc
        refine lv_iload_n hx hb dJ25_newCapacity_53 rfl (lv_at hl 1 rfl) ?_
        refine lv_iload_n hx hb dJ25_newCapacity_54 rfl (lv_at hl 4 rfl) ?_
        refine lv_iadd hx hb dJ25_newCapacity_55 ?_
        refine lv_goto (tgt := 61) hx hb dJ25_newCapacity_56 (by decide) ?_
        exact hB61 _ _ _ _ _ hp hM hS (lv_sub hl [] rfl)
    · have hp := oIf.f hp hc
      refine lv_iload hx hb dJ25_newCapacity_41 (lv_at hl 0 rfl) ?_
      exact x_iret X hr hlk hM hS ⟨Nat.le_refl _, Nat.le_refl _⟩ dJ25_newCapacity_43 ⟨_, rfl, hp⟩
  · have hp := oIf.f hp hc
    refine lv_iload hx hb dJ25_newCapacity_18 (lv_at hl 0 rfl) ?_
    refine lv_if_ge (tgt := 33) hx hb dJ25_newCapacity_20 (by decide) (fun hc => ?_) (fun hc => ?_)
    · have hp := oIf.t hp hc
      refine lv_ldc (v := 2147483647) hx hb hown (hts _ q2592) dJ25_newCapacity_33 ?_
      exact x_iret X hr hlk hM hS ⟨Nat.le_refl _, Nat.le_refl _⟩ dJ25_newCapacity_35 ⟨_, rfl, hp⟩
    · have hp := oIf.f hp hc
      exact hp.elim
def B_J25_grow_164 (G : wG) (Q : wM → Prop) (M : wM) (bq : Nat) : Prop :=
  Q M
def B_J25_grow_145 (G : wG) (rec145 : Nat → Int32 → Int32 → wM → Nat → Prop) (Q : wM → Prop) (x5 : Nat) (x7 : Int32) (x8 : Int32) (M : wM) (bq : Nat) : Prop :=
  oIf (x8 ≤ x7) (B_J25_grow_164 G Q M bq) (oAast G (.object "java/lang/Object") M x5 x7 none (fun M1 => rec145 x5 (x7 + 1) x8 M1 bq))
def L_J25_grow_145 (G : wG) (Q : wM → Prop) : Nat → Nat → Int32 → Int32 → wM → Nat → Prop
  | 0 => fun _ _ _ _ _ => False
  | n + 1 => B_J25_grow_145 G (L_J25_grow_145 G Q n) Q
def B_J25_grow_96 (G : wG) (Q : wM → Prop) (x0 : Nat) (x2 : Int32) (x3 : Int32) (x5 : Option Nat) (M : wM) (bq : Nat) : Prop :=
  oGetI M x0 22 1 (fun v1 => oGetI M x0 22 1 (fun v2 => oGetI M x0 22 1 (fun v3 => oRef x5 (fun a4 => oCopyR G M a4 v1 a4 (v2 + (x3 - x2)) (x2 - v3) (fun M5 => oGetI M5 x0 22 1 (fun v6 => oGetI M5 x0 22 1 (fun v7 => oPut G M5 x0 22 1 (.int (v7 + (x3 - x2))) (fun M8 => ∃ n, L_J25_grow_145 G Q n a4 v6 (v7 + (x3 - x2)) M8 bq))))))))
def B_J25_grow_49 (G : wG) (Q : wM → Prop) (x0 : Nat) (x2 : Int32) (x3 : Int32) (M : wM) (bq : Nat) : Prop :=
  oGetA M x0 22 0 (fun a1 => ∃ c3, c3 ≤ bq ∧ P_J5_copyOf G a1 x3 c3 M (fun r4 M2 => oPut G M2 x0 22 0 (va_rf r4) (fun M5 => oGetI M5 x0 22 2 (fun v6 => oGetI M5 x0 22 1 (fun v7 => oIf (v6 < v7) (B_J25_grow_96 G Q x0 x2 x3 r4 M5 (bq - c3)) (oGetI M5 x0 22 2 (fun v8 => oGetI M5 x0 22 1 (fun v9 => oIf (v8 = v9) (oGetI M5 x0 22 1 (fun v10 => oRef r4 (fun a11 => oAald (.object "java/lang/Object") M5 a11 v10 (fun r12 => oNull r12 (B_J25_grow_164 G Q M5 (bq - c3)) (fun a13 => B_J25_grow_96 G Q x0 x2 x3 (some a11) M5 (bq - c3)))))) (B_J25_grow_164 G Q M5 (bq - c3))))))))))
def B_J25_grow_41 (G : wG) (Q : wM → Prop) (x0 : Nat) (x1 : Int32) (x2 : Int32) (x4 : Int32) (M : wM) (bq : Nat) : Prop :=
  oIs M x0 22 (P_J25_newCapacity G x0 x1 x4 M (fun v3 M1 => B_J25_grow_49 G Q x0 x2 v3 M1 bq))
def B_J25_grow_21 (G : wG) (Q : wM → Prop) (x0 : Nat) (x1 : Int32) (x2 : Int32) (y0 : Int32) (M : wM) (bq : Nat) : Prop :=
  oIf (y0 < x1) (B_J25_grow_41 G Q x0 x1 x2 y0 M bq) (oIf (((x2 + y0) - (2147483639 : Int32)) ≤ 0) (B_J25_grow_49 G Q x0 x2 (x2 + y0) M bq) (B_J25_grow_41 G Q x0 x1 x2 y0 M bq))
def P_J25_grow (G : wG) (t0 : Nat) (p1 : Int32) (b : Nat) (M : wM) (Q : wM → Prop) : Prop :=
  oGetA M t0 22 0 (fun a1 => oAlen (.object "java/lang/Object") M a1 (fun v2 => oIf ((64 : Int32) ≤ v2) (B_J25_grow_21 G Q t0 p1 v2 (v2 >>> ((1 : Int32) &&& 31)) M b) (B_J25_grow_21 G Q t0 p1 v2 (v2 + (2 : Int32)) M b)))
set_option maxHeartbeats 4000000 in
set_option maxRecDepth 100000 in
theorem P_J25_grow_ok {l : Launch} (hl0 : l.stackTraces = false) {G : wG} {t0 : Nat} {p1 : Int32} {b : Nat} {M : wM} {Q : wM → Prop} (hp : P_J25_grow G t0 p1 b M Q) : wMet l yJ25_grow (ws_ yJ25_grow cJ25_grow 9 (none)) 14 444 G [.ref t0, .int p1] M b (wqV Q) wX0 := by
  refine vx_ofW (cc := cJ25_grow) (maxL := 9) (ret := none) (by decide) rfl ?_
  intro p e s m args below meth c s₁ B hml hnt hv
  obtain ⟨rfl, hM, hK, hZ, hz⟩ := hv
  have hC : wC G s := ⟨hK, hZ, hz⟩
  have hx := B.exec
  have hb := B.bytes
  have hr := B.returns
  have hts := atoms_spec (ws := (ws_ yJ25_grow cJ25_grow 9 (none))) B.pre
  have hts : ∀ w ∈ lw_all, w.before _ s = true := fun w h => hts w (List.mem_cons_of_mem _ h)
  have hown : s.vm.findClass RJ25 = some m.cls := findClass_of_methodNamed B.named
  have hlk := B.notSynchronized
  have X : CallFix p m c cJ25_grow 9 s ([.ref t0, .int p1] : List Value).toArray lw_all RJ25 := ⟨hx, hb, hml, hown, hts⟩
  have hS : va_S (wA G) s.heap s.heap [] := va_S.rf
  have hl := lv_entry ([.ref t0, .int p1]) (n := 9) (Nat.le_of_ble_eq_true rfl)
  rw [lg_entry_eq]
  generalize (lg_sl ([.ref t0, .int p1]) ++ List.replicate (9 - (lg_sl ([.ref t0, .int p1])).length) Slot.unset).toArray = ls at hl ⊢
  have hl : lv_has ls 9 [(0, .ref t0), (1, .int p1)] := hl
  have hB : 0 + b ≤ ((headSpec (ws_ yJ25_grow cJ25_grow 9 (none)) ({ frames := 14, cells := b, slots := b, locals := 444 })).room).cells ∧ 0 + b ≤ ((headSpec (ws_ yJ25_grow cJ25_grow 9 (none)) ({ frames := 14, cells := b, slots := b, locals := 444 })).room).slots := ⟨Nat.le_of_eq (Nat.zero_add b), Nat.le_of_eq (Nat.zero_add b)⟩
  have hB164 : ∀ (M : wM) (bq : Nat) (H : Heap) (locs : List Loc) (ls : Array Slot) (cells slots : Nat), B_J25_grow_164 G Q M bq → wR G M H → va_S (wA G) s.heap H locs → (cells + bq ≤ ((headSpec (ws_ yJ25_grow cJ25_grow 9 (none)) ({ frames := 14, cells := b, slots := b, locals := 444 })).room).cells ∧ slots + bq ≤ ((headSpec (ws_ yJ25_grow cJ25_grow 9 (none)) ({ frames := 14, cells := b, slots := b, locals := 444 })).room).slots) → lv_has ls 9 [] → W p l e (headSpec (ws_ yJ25_grow cJ25_grow 9 (none)) ({ frames := 14, cells := b, slots := b, locals := 444 })).room s m ([.ref t0, .int p1] : List Value).toArray below meth c H locs cells slots (vx_MQ below (wQ G (wqV Q)) (wXC G wX0) ([.ref t0, .int p1] : List Value).toArray s b b (wA G)) (F0 m 164 ls []) := by
    intro M bq H locs ls cells slots hp hM hS hB hl
    exact x_vret X hr hlk hM hS (w_fin hB) dJ25_grow_164 ⟨rfl, hp⟩
  have hB145 : ∀ (rec145 : Nat → Int32 → Int32 → wM → Nat → Prop) (hrec145 : ∀ (x5 : Nat) (x7 : Int32) (x8 : Int32) (M : wM) (bq : Nat) (H : Heap) (locs : List Loc) (ls : Array Slot) (cells slots : Nat), rec145 x5 x7 x8 M bq → wR G M H → va_S (wA G) s.heap H locs → (cells + bq ≤ ((headSpec (ws_ yJ25_grow cJ25_grow 9 (none)) ({ frames := 14, cells := b, slots := b, locals := 444 })).room).cells ∧ slots + bq ≤ ((headSpec (ws_ yJ25_grow cJ25_grow 9 (none)) ({ frames := 14, cells := b, slots := b, locals := 444 })).room).slots) → lv_has ls 9 [(5, .ref x5), (7, .int x7), (8, .int x8)] → W p l e (headSpec (ws_ yJ25_grow cJ25_grow 9 (none)) ({ frames := 14, cells := b, slots := b, locals := 444 })).room s m ([.ref t0, .int p1] : List Value).toArray below meth c H locs cells slots (vx_MQ below (wQ G (wqV Q)) (wXC G wX0) ([.ref t0, .int p1] : List Value).toArray s b b (wA G)) (F0 m 145 ls [])), ∀ (x5 : Nat) (x7 : Int32) (x8 : Int32) (M : wM) (bq : Nat) (H : Heap) (locs : List Loc) (ls : Array Slot) (cells slots : Nat), B_J25_grow_145 G rec145 Q x5 x7 x8 M bq → wR G M H → va_S (wA G) s.heap H locs → (cells + bq ≤ ((headSpec (ws_ yJ25_grow cJ25_grow 9 (none)) ({ frames := 14, cells := b, slots := b, locals := 444 })).room).cells ∧ slots + bq ≤ ((headSpec (ws_ yJ25_grow cJ25_grow 9 (none)) ({ frames := 14, cells := b, slots := b, locals := 444 })).room).slots) → lv_has ls 9 [(5, .ref x5), (7, .int x7), (8, .int x8)] → W p l e (headSpec (ws_ yJ25_grow cJ25_grow 9 (none)) ({ frames := 14, cells := b, slots := b, locals := 444 })).room s m ([.ref t0, .int p1] : List Value).toArray below meth c H locs cells slots (vx_MQ below (wQ G (wqV Q)) (wXC G wX0) ([.ref t0, .int p1] : List Value).toArray s b b (wA G)) (F0 m 145 ls []) := by
    intro rec145 hrec145 x5 x7 x8 M bq H locs ls cells slots hp hM hS hB hl
    refine lv_iload hx hb dJ25_grow_145 (lv_at hl 1 rfl) ?_
    refine lv_iload hx hb dJ25_grow_147 (lv_at hl 2 rfl) ?_
    refine lv_icmp_ge (tgt := 164) hx hb dJ25_grow_149 (by decide) (fun hc => ?_) (fun hc => ?_)
    · have hp := oIf.t hp hc
      exact hB164 _ _ _ _ _ _ _ hp hM hS hB (lv_sub hl [] rfl)
    · have hp := oIf.f hp hc
      refine lv_aload hx hb dJ25_grow_152 (lv_at hl 0 rfl) ?_
      refine lv_iload hx hb dJ25_grow_154 (lv_at hl 1 rfl) ?_
      refine lv_null hx hb dJ25_grow_156 ?_
      refine x_aast (r := none) X hC hM hS w_obj (C := "java/lang/Object") (by decide) dJ25_grow_157 hp (fun M1 H locs hM hS hp => ?_)
      refine lv_iinc (v := (x7 + 1)) (lv' := [(7, .int (x7 + 1)), (5, .ref x5), (8, .int x8)]) hx hb dJ25_grow_158 hl (k := 1) rfl rfl (by decide) rfl (fun ls hl => ?_)
      refine lv_goto (tgt := 145) hx hb dJ25_grow_161 (by decide) ?_
      exact hrec145 _ _ _ _ _ _ _ _ _ _ hp hM hS hB (lv_sub hl [1, 0, 2] rfl)
  have hL145 : ∀ (n : Nat), ∀ (x5 : Nat) (x7 : Int32) (x8 : Int32) (M : wM) (bq : Nat) (H : Heap) (locs : List Loc) (ls : Array Slot) (cells slots : Nat), L_J25_grow_145 G Q n x5 x7 x8 M bq → wR G M H → va_S (wA G) s.heap H locs → (cells + bq ≤ ((headSpec (ws_ yJ25_grow cJ25_grow 9 (none)) ({ frames := 14, cells := b, slots := b, locals := 444 })).room).cells ∧ slots + bq ≤ ((headSpec (ws_ yJ25_grow cJ25_grow 9 (none)) ({ frames := 14, cells := b, slots := b, locals := 444 })).room).slots) → lv_has ls 9 [(5, .ref x5), (7, .int x7), (8, .int x8)] → W p l e (headSpec (ws_ yJ25_grow cJ25_grow 9 (none)) ({ frames := 14, cells := b, slots := b, locals := 444 })).room s m ([.ref t0, .int p1] : List Value).toArray below meth c H locs cells slots (vx_MQ below (wQ G (wqV Q)) (wXC G wX0) ([.ref t0, .int p1] : List Value).toArray s b b (wA G)) (F0 m 145 ls []) := by
    intro n
    induction n with
    | zero => intro _ _ _ _ _ _ _ _ _ _ hp; exact False.elim hp
    | succ n ih => intro x5 x7 x8 M bq H locs ls cells slots hp hM hS hB hl; exact hB145 (L_J25_grow_145 G Q n) ih _ _ _ _ _ _ _ _ _ _ hp hM hS hB hl
  have hB96 : ∀ (x0 : Nat) (x2 : Int32) (x3 : Int32) (x5 : Option Nat) (M : wM) (bq : Nat) (H : Heap) (locs : List Loc) (ls : Array Slot) (cells slots : Nat), B_J25_grow_96 G Q x0 x2 x3 x5 M bq → wR G M H → va_S (wA G) s.heap H locs → (cells + bq ≤ ((headSpec (ws_ yJ25_grow cJ25_grow 9 (none)) ({ frames := 14, cells := b, slots := b, locals := 444 })).room).cells ∧ slots + bq ≤ ((headSpec (ws_ yJ25_grow cJ25_grow 9 (none)) ({ frames := 14, cells := b, slots := b, locals := 444 })).room).slots) → lv_has ls 9 [(0, .ref x0), (2, .int x2), (3, .int x3), (5, va_rf x5)] → W p l e (headSpec (ws_ yJ25_grow cJ25_grow 9 (none)) ({ frames := 14, cells := b, slots := b, locals := 444 })).room s m ([.ref t0, .int p1] : List Value).toArray below meth c H locs cells slots (vx_MQ below (wQ G (wqV Q)) (wXC G wX0) ([.ref t0, .int p1] : List Value).toArray s b b (wA G)) (F0 m 96 ls []) := by
    intro x0 x2 x3 x5 M bq H locs ls cells slots hp hM hS hB hl
    refine lv_iload_n hx hb dJ25_grow_96 rfl (lv_at hl 2 rfl) ?_
    refine lv_iload_n hx hb dJ25_grow_97 rfl (lv_at hl 1 rfl) ?_
    refine lv_isub hx hb dJ25_grow_98 ?_
    refine lv_istore (lv' := [(6, .int (x3 - x2)), (0, .ref x0), (2, .int x2), (3, .int x3), (5, va_rf x5)]) hx hb dJ25_grow_99 hl (by decide) (by cases x5 <;> rfl) (fun ls hl => ?_)
    refine x_aload (r := x5) hx hb dJ25_grow_101 (lv_at hl 4 rfl) ?_
    refine lv_aload_n hx hb dJ25_grow_103 rfl (lv_at hl 1 rfl) ?_
    refine x_getI X hC.1 hM (ci := 22) (C := RJ25) (T := TJ25) (N := 3) rfl in_J25 1 (by decide) q962 (fun _ h9 => h9) dJ25_grow_104 hp (fun v1 hp => ?_)
    refine x_aload (r := x5) hx hb dJ25_grow_107 (lv_at hl 4 rfl) ?_
    refine lv_aload_n hx hb dJ25_grow_109 rfl (lv_at hl 1 rfl) ?_
    refine x_getI X hC.1 hM (ci := 22) (C := RJ25) (T := TJ25) (N := 3) rfl in_J25 1 (by decide) q962 (fun _ h9 => h9) dJ25_grow_110 hp (fun v2 hp => ?_)
    refine lv_iload hx hb dJ25_grow_113 (lv_at hl 0 rfl) ?_
    refine lv_iadd hx hb dJ25_grow_115 ?_
    refine lv_iload_n hx hb dJ25_grow_116 rfl (lv_at hl 2 rfl) ?_
    refine lv_aload_n hx hb dJ25_grow_117 rfl (lv_at hl 1 rfl) ?_
    refine x_getI X hC.1 hM (ci := 22) (C := RJ25) (T := TJ25) (N := 3) rfl in_J25 1 (by decide) q962 (fun _ h9 => h9) dJ25_grow_118 hp (fun v3 hp => ?_)
    refine lv_isub hx hb dJ25_grow_121 ?_
    obtain ⟨a4, ea, hqa4⟩ := hp
    subst ea
    have hp := hqa4
    have hl : lv_has ls 9 [(6, .int (x3 - x2)), (0, .ref x0), (2, .int x2), (3, .int x3), (5, .ref a4)] := hl
    refine x_copyR X (hml.trans hl.1.symm) hC hM hS q1587 q351 q350 q157 (Nat.le_of_ble_eq_true rfl) (Nat.le_of_ble_eq_true rfl) dJ25_grow_122 hp (fun M5 H locs hM hS hp => ?_)
    refine lv_aload_n hx hb dJ25_grow_125 rfl (lv_at hl 1 rfl) ?_
    refine x_getI X hC.1 hM (ci := 22) (C := RJ25) (T := TJ25) (N := 3) rfl in_J25 1 (by decide) q962 (fun _ h9 => h9) dJ25_grow_126 hp (fun v6 hp => ?_)
    refine lv_istore (lv' := [(7, .int v6), (6, .int (x3 - x2)), (0, .ref x0), (2, .int x2), (3, .int x3), (5, .ref a4)]) hx hb dJ25_grow_129 hl (by decide) rfl (fun ls hl => ?_)
    refine lv_aload_n hx hb dJ25_grow_131 rfl (lv_at hl 2 rfl) ?_
    refine lv_dup hx hb dJ25_grow_132 rfl ?_
    refine x_getI X hC.1 hM (ci := 22) (C := RJ25) (T := TJ25) (N := 3) rfl in_J25 1 (by decide) q962 (fun _ h9 => h9) dJ25_grow_133 hp (fun v7 hp => ?_)
    refine lv_iload hx hb dJ25_grow_136 (lv_at hl 1 rfl) ?_
    refine lv_iadd hx hb dJ25_grow_138 ?_
    refine lv_dup_x1 hx hb dJ25_grow_139 rfl rfl ?_
    refine x_put X hC.1 hM hS (ci := 22) (C := RJ25) (T := TJ25) (N := 3) rfl in_J25 tyJ25 tyJ25_ok nmJ25 1 (by decide) q962 (fun _ h9 => h9) rfl rfl rfl dJ25_grow_140 hp (fun M8 H locs hM hS hp => ?_)
    refine lv_istore (lv' := [(8, .int (v7 + (x3 - x2))), (7, .int v6), (6, .int (x3 - x2)), (0, .ref x0), (2, .int x2), (3, .int x3), (5, .ref a4)]) hx hb dJ25_grow_143 hl (by decide) rfl (fun ls hl => ?_)
    obtain ⟨n, hp⟩ := hp
    exact hL145 n _ _ _ _ _ _ _ _ _ _ hp hM hS hB (lv_sub hl [6, 1, 0] rfl)
  have hB49 : ∀ (x0 : Nat) (x2 : Int32) (x3 : Int32) (M : wM) (bq : Nat) (H : Heap) (locs : List Loc) (ls : Array Slot) (cells slots : Nat), B_J25_grow_49 G Q x0 x2 x3 M bq → wR G M H → va_S (wA G) s.heap H locs → (cells + bq ≤ ((headSpec (ws_ yJ25_grow cJ25_grow 9 (none)) ({ frames := 14, cells := b, slots := b, locals := 444 })).room).cells ∧ slots + bq ≤ ((headSpec (ws_ yJ25_grow cJ25_grow 9 (none)) ({ frames := 14, cells := b, slots := b, locals := 444 })).room).slots) → lv_has ls 9 [(0, .ref x0), (2, .int x2), (3, .int x3)] → W p l e (headSpec (ws_ yJ25_grow cJ25_grow 9 (none)) ({ frames := 14, cells := b, slots := b, locals := 444 })).room s m ([.ref t0, .int p1] : List Value).toArray below meth c H locs cells slots (vx_MQ below (wQ G (wqV Q)) (wXC G wX0) ([.ref t0, .int p1] : List Value).toArray s b b (wA G)) (F0 m 49 ls []) := by
    intro x0 x2 x3 M bq H locs ls cells slots hp hM hS hB hl
    refine lv_aload_n hx hb dJ25_grow_49 rfl (lv_at hl 0 rfl) ?_
    refine lv_aload_n hx hb dJ25_grow_50 rfl (lv_at hl 0 rfl) ?_
    refine x_getA X hC.1 hM (ci := 22) (C := RJ25) (T := TJ25) (N := 3) rfl in_J25 0 (by decide) q961 (fun _ h9 => h9) dJ25_grow_51 hp (fun a1 hp => ?_)
    refine lv_iload_n hx hb dJ25_grow_54 rfl (lv_at hl 2 rfl) ?_
    obtain ⟨c3, hc1, hp⟩ := hp
    refine x_callR (vx_runS (As := [.ref a1, .int x3]) (rest := [.ref x0]) X (P_J5_copyOf_ok (l := l) hl0 hp) (va_cwS 2 hts (lw_S q2593 q294 q156 q295) rfl rfl rfl (by decide +kernel) ⟨Nat.le_of_ble_eq_true rfl, Nat.le_of_ble_eq_true rfl⟩) ⟨wPc.blind, w_pre hC hM hS _⟩ rfl rfl hl.1 rfl (lv_room (Nat.le_of_ble_eq_true rfl)) dJ25_grow_55 (w_room hB hc1)) hS hB hc1 (fun _ _ _ _ _ _ h => False.elim h) (fun r4 M2 H locs hp hM hS hB => ?_)
    refine lv_dup_x1 hx hb dJ25_grow_58 (w_cat _) rfl ?_
    refine x_put X hC.1 hM hS (ci := 22) (C := RJ25) (T := TJ25) (N := 3) rfl in_J25 tyJ25 tyJ25_ok nmJ25 0 (by decide) q961 (fun _ h9 => h9) rfl (w_narr _ r4) (w_farr _ r4) dJ25_grow_59 hp (fun M5 H locs hM hS hp => ?_)
    refine x_astore (r := r4) (lv' := [(5, va_rf r4), (0, .ref x0), (2, .int x2), (3, .int x3)]) hx hb dJ25_grow_62 hl (by decide) rfl (fun ls hl => ?_)
    refine lv_aload_n hx hb dJ25_grow_64 rfl (lv_at hl 1 rfl) ?_
    refine x_getI X hC.1 hM (ci := 22) (C := RJ25) (T := TJ25) (N := 3) rfl in_J25 2 (by decide) q963 (fun _ h9 => h9) dJ25_grow_65 hp (fun v6 hp => ?_)
    refine lv_aload_n hx hb dJ25_grow_68 rfl (lv_at hl 1 rfl) ?_
    refine x_getI X hC.1 hM (ci := 22) (C := RJ25) (T := TJ25) (N := 3) rfl in_J25 1 (by decide) q962 (fun _ h9 => h9) dJ25_grow_69 hp (fun v7 hp => ?_)
    refine lv_icmp_lt (tgt := 96) hx hb dJ25_grow_72 (by decide) (fun hc => ?_) (fun hc => ?_)
    · have hp := oIf.t hp hc
      exact hB96 _ _ _ _ _ _ _ _ _ _ _ hp hM hS hB (lv_sub hl [1, 2, 3, 0] rfl)
    · have hp := oIf.f hp hc
      refine lv_aload_n hx hb dJ25_grow_75 rfl (lv_at hl 1 rfl) ?_
      refine x_getI X hC.1 hM (ci := 22) (C := RJ25) (T := TJ25) (N := 3) rfl in_J25 2 (by decide) q963 (fun _ h9 => h9) dJ25_grow_76 hp (fun v8 hp => ?_)
      refine lv_aload_n hx hb dJ25_grow_79 rfl (lv_at hl 1 rfl) ?_
      refine x_getI X hC.1 hM (ci := 22) (C := RJ25) (T := TJ25) (N := 3) rfl in_J25 1 (by decide) q962 (fun _ h9 => h9) dJ25_grow_80 hp (fun v9 hp => ?_)
      refine lv_icmp_ne (tgt := 164) hx hb dJ25_grow_83 (by decide) (fun hc => ?_) (fun hc => ?_)
      · have hp := oIf.f hp hc
        exact hB164 _ _ _ _ _ _ _ hp hM hS hB (lv_sub hl [] rfl)
      · have hp := oIf.t hp hc
        refine x_aload (r := r4) hx hb dJ25_grow_86 (lv_at hl 0 rfl) ?_
        refine lv_aload_n hx hb dJ25_grow_88 rfl (lv_at hl 1 rfl) ?_
        refine x_getI X hC.1 hM (ci := 22) (C := RJ25) (T := TJ25) (N := 3) rfl in_J25 1 (by decide) q962 (fun _ h9 => h9) dJ25_grow_89 hp (fun v10 hp => ?_)
        obtain ⟨a11, ea, hqa11⟩ := hp
        subst ea
        have hp := hqa11
        have hl : lv_has ls 9 [(5, .ref a11), (0, .ref x0), (2, .int x2), (3, .int x3)] := hl
        refine x_aald X hC.1 hM (ty := (.object "java/lang/Object")) (by decide) rfl dJ25_grow_92 hp (fun r12 hp => ?_)
        refine x_ifnull (r := r12) (tgt := 164) hx hb dJ25_grow_93 (by decide) (fun hc => ?_) (fun a13 hc => ?_)
        · have hqa13 := oNull.t hp hc
          subst hc
          have hp := hqa13
          exact hB164 _ _ _ _ _ _ _ hp hM hS hB (lv_sub hl [] rfl)
        · have hqa13 := oNull.f hp hc
          subst hc
          have hp := hqa13
          exact hB96 _ _ _ _ _ _ _ _ _ _ _ hp hM hS hB (lv_sub hl [1, 2, 3, 0] rfl)
  have hB41 : ∀ (x0 : Nat) (x1 : Int32) (x2 : Int32) (x4 : Int32) (M : wM) (bq : Nat) (H : Heap) (locs : List Loc) (ls : Array Slot) (cells slots : Nat), B_J25_grow_41 G Q x0 x1 x2 x4 M bq → wR G M H → va_S (wA G) s.heap H locs → (cells + bq ≤ ((headSpec (ws_ yJ25_grow cJ25_grow 9 (none)) ({ frames := 14, cells := b, slots := b, locals := 444 })).room).cells ∧ slots + bq ≤ ((headSpec (ws_ yJ25_grow cJ25_grow 9 (none)) ({ frames := 14, cells := b, slots := b, locals := 444 })).room).slots) → lv_has ls 9 [(0, .ref x0), (1, .int x1), (2, .int x2), (4, .int x4)] → W p l e (headSpec (ws_ yJ25_grow cJ25_grow 9 (none)) ({ frames := 14, cells := b, slots := b, locals := 444 })).room s m ([.ref t0, .int p1] : List Value).toArray below meth c H locs cells slots (vx_MQ below (wQ G (wqV Q)) (wXC G wX0) ([.ref t0, .int p1] : List Value).toArray s b b (wA G)) (F0 m 41 ls []) := by
    intro x0 x1 x2 x4 M bq H locs ls cells slots hp hM hS hB hl
    refine lv_aload_n hx hb dJ25_grow_41 rfl (lv_at hl 0 rfl) ?_
    refine lv_iload_n hx hb dJ25_grow_42 rfl (lv_at hl 1 rfl) ?_
    refine lv_iload hx hb dJ25_grow_43 (lv_at hl 3 rfl) ?_
    obtain ⟨hrec, hp⟩ := hp
    refine x_call0I (vx_runV (As := [.int x1, .int x4]) (rest := []) X (P_J25_newCapacity_ok (l := l) hl0 hp) (cwV 2 hts (lw_V q2572 q2574 qs51 q177 q2575) rfl rfl rfl (by decide +kernel) ⟨Nat.le_of_ble_eq_true rfl, Nat.le_of_ble_eq_true rfl⟩) ⟨wPc.blind, w_recv hC.1 hM (ci := 22) (q := (RJ25, TJ25, 3)) rfl hrec, w_pre hC hM hS _⟩ rfl rfl hl.1 rfl (lv_room (Nat.le_of_ble_eq_true rfl)) dJ25_grow_45 (w_room0 hB)) hS (w_room0 hB) (fun _ _ _ _ _ _ h => False.elim h) (fun v3 M1 H locs hp hM hS => ?_)
    refine lv_istore_n (lv' := [(3, .int v3), (0, .ref x0), (1, .int x1), (2, .int x2), (4, .int x4)]) hx hb dJ25_grow_48 rfl hl (by decide) rfl (fun ls hl => ?_)
    exact hB49 _ _ _ _ _ _ _ _ _ _ hp hM hS hB (lv_sub hl [1, 3, 0] rfl)
  have hB21 : ∀ (x0 : Nat) (x1 : Int32) (x2 : Int32) (y0 : Int32) (M : wM) (bq : Nat) (H : Heap) (locs : List Loc) (ls : Array Slot) (cells slots : Nat), B_J25_grow_21 G Q x0 x1 x2 y0 M bq → wR G M H → va_S (wA G) s.heap H locs → (cells + bq ≤ ((headSpec (ws_ yJ25_grow cJ25_grow 9 (none)) ({ frames := 14, cells := b, slots := b, locals := 444 })).room).cells ∧ slots + bq ≤ ((headSpec (ws_ yJ25_grow cJ25_grow 9 (none)) ({ frames := 14, cells := b, slots := b, locals := 444 })).room).slots) → lv_has ls 9 [(0, .ref x0), (1, .int x1), (2, .int x2)] → W p l e (headSpec (ws_ yJ25_grow cJ25_grow 9 (none)) ({ frames := 14, cells := b, slots := b, locals := 444 })).room s m ([.ref t0, .int p1] : List Value).toArray below meth c H locs cells slots (vx_MQ below (wQ G (wqV Q)) (wXC G wX0) ([.ref t0, .int p1] : List Value).toArray s b b (wA G)) (F0 m 21 ls [.int y0]) := by
    intro x0 x1 x2 y0 M bq H locs ls cells slots hp hM hS hB hl
    refine lv_istore (lv' := [(4, .int y0), (0, .ref x0), (1, .int x1), (2, .int x2)]) hx hb dJ25_grow_21 hl (by decide) rfl (fun ls hl => ?_)
    refine lv_iload hx hb dJ25_grow_23 (lv_at hl 0 rfl) ?_
    refine lv_iload_n hx hb dJ25_grow_25 rfl (lv_at hl 2 rfl) ?_
    refine lv_icmp_lt (tgt := 41) hx hb dJ25_grow_26 (by decide) (fun hc => ?_) (fun hc => ?_)
    · have hp := oIf.t hp hc
      exact hB41 _ _ _ _ _ _ _ _ _ _ _ hp hM hS hB (lv_sub hl [1, 2, 3, 0] rfl)
    · have hp := oIf.f hp hc
      refine lv_iload_n hx hb dJ25_grow_29 rfl (lv_at hl 3 rfl) ?_
      refine lv_iload hx hb dJ25_grow_30 (lv_at hl 0 rfl) ?_
      refine lv_iadd hx hb dJ25_grow_32 ?_
      refine lv_dup hx hb dJ25_grow_33 rfl ?_
      refine lv_istore_n (lv' := [(3, .int (x2 + y0)), (4, .int y0), (0, .ref x0), (1, .int x1), (2, .int x2)]) hx hb dJ25_grow_34 rfl hl (by decide) rfl (fun ls hl => ?_)
      refine lv_ldc (v := 2147483639) hx hb hown (hts _ q2571) dJ25_grow_35 ?_
      refine lv_isub hx hb dJ25_grow_37 ?_
      refine lv_if_le (tgt := 49) hx hb dJ25_grow_38 (by decide) (fun hc => ?_) (fun hc => ?_)
      · have hp := oIf.t hp hc
        exact hB49 _ _ _ _ _ _ _ _ _ _ hp hM hS hB (lv_sub hl [2, 4, 0] rfl)
      · have hp := oIf.f hp hc
        exact hB41 _ _ _ _ _ _ _ _ _ _ _ hp hM hS hB (lv_sub hl [2, 3, 4, 1] rfl)
  refine lv_aload_n hx hb dJ25_grow_0 rfl (lv_at hl 0 rfl) ?_
  refine x_getA X hC.1 hM (ci := 22) (C := RJ25) (T := TJ25) (N := 3) rfl in_J25 0 (by decide) q961 (fun _ h9 => h9) dJ25_grow_1 hp (fun a1 hp => ?_)
  refine x_alen X hC.1 hM (ty := (.object "java/lang/Object")) (by decide) dJ25_grow_4 hp (fun v2 hp => ?_)
  refine lv_istore_n (lv' := [(2, .int v2), (0, .ref t0), (1, .int p1)]) hx hb dJ25_grow_5 rfl hl (by decide) rfl (fun ls hl => ?_)
  refine lv_iload_n hx hb dJ25_grow_6 rfl (lv_at hl 0 rfl) ?_
  refine lv_bipush (v := 64) hx hb dJ25_grow_7 (by decide) ?_
  refine lv_icmp_ge (tgt := 18) hx hb dJ25_grow_9 (by decide) (fun hc => ?_) (fun hc => ?_)
  · have hp := oIf.t hp hc
    refine lv_iload_n hx hb dJ25_grow_18 rfl (lv_at hl 0 rfl) ?_
    refine lv_iconst (v := 1) hx hb dJ25_grow_19 (by decide) ?_
    refine lv_ishr hx hb dJ25_grow_20 ?_
    exact hB21 _ _ _ _ _ _ _ _ _ _ _ hp hM hS hB (lv_sub hl [1, 2, 0] rfl)
  · have hp := oIf.f hp hc
    refine lv_iload_n hx hb dJ25_grow_12 rfl (lv_at hl 0 rfl) ?_
    refine lv_iconst (v := 2) hx hb dJ25_grow_13 (by decide) ?_
    refine lv_iadd hx hb dJ25_grow_14 ?_
    refine lv_goto (tgt := 21) hx hb dJ25_grow_15 (by decide) ?_
    exact hB21 _ _ _ _ _ _ _ _ _ _ _ hp hM hS hB (lv_sub hl [1, 2, 0] rfl)
def B_J25_addLast_50 (G : wG) (Q : wM → Prop) (M : wM) (bq : Nat) : Prop :=
  Q M
def P_J25_addLast (G : wG) (t0 : Nat) (p1 : Option Nat) (b : Nat) (M : wM) (Q : wM → Prop) : Prop :=
  oNull p1 (False) (fun a1 => oGetA M t0 22 0 (fun a2 => oGetI M t0 22 2 (fun v3 => oAast G (.object "java/lang/Object") M a2 v3 (some a1) (fun M4 => oGetI M4 t0 22 1 (fun v5 => oGetI M4 t0 22 2 (fun v6 => oAlen (.object "java/lang/Object") M4 a2 (fun v7 => P_J25_inc G v6 v7 M4 (fun v10 M8 => oPut G M8 t0 22 2 (.int v10) (fun M11 => oIf (v5 = v10) (oIs M11 t0 22 (∃ c13, c13 ≤ b ∧ P_J25_grow G t0 (1 : Int32) c13 M11 (fun M12 => B_J25_addLast_50 G Q M12 (b - c13)))) (B_J25_addLast_50 G Q M11 b))))))))))
set_option maxHeartbeats 4000000 in
set_option maxRecDepth 100000 in
theorem P_J25_addLast_ok {l : Launch} (hl0 : l.stackTraces = false) {G : wG} {t0 : Nat} {p1 : Option Nat} {b : Nat} {M : wM} {Q : wM → Prop} (hp : P_J25_addLast G t0 p1 b M Q) : wMet l yJ25_addLast (ws_ yJ25_addLast cJ25_addLast 3 (none)) 15 472 G [.ref t0, va_rf p1] M b (wqV Q) wX0 := by
  refine vx_ofW (cc := cJ25_addLast) (maxL := 3) (ret := none) (by decide) rfl ?_
  intro p e s m args below meth c s₁ B hml hnt hv
  obtain ⟨rfl, hM, hK, hZ, hz⟩ := hv
  have hC : wC G s := ⟨hK, hZ, hz⟩
  have hx := B.exec
  have hb := B.bytes
  have hr := B.returns
  have hts := atoms_spec (ws := (ws_ yJ25_addLast cJ25_addLast 3 (none))) B.pre
  have hts : ∀ w ∈ lw_all, w.before _ s = true := fun w h => hts w (List.mem_cons_of_mem _ h)
  have hown : s.vm.findClass RJ25 = some m.cls := findClass_of_methodNamed B.named
  have hlk := B.notSynchronized
  have X : CallFix p m c cJ25_addLast 3 s ([.ref t0, va_rf p1] : List Value).toArray lw_all RJ25 := ⟨hx, hb, hml, hown, hts⟩
  have hS : va_S (wA G) s.heap s.heap [] := va_S.rf
  have hl := lv_entry ([.ref t0, va_rf p1]) (n := 3) (by cases p1 <;> exact Nat.le_of_ble_eq_true rfl)
  rw [lg_entry_eq]
  generalize (lg_sl ([.ref t0, va_rf p1]) ++ List.replicate (3 - (lg_sl ([.ref t0, va_rf p1])).length) Slot.unset).toArray = ls at hl ⊢
  have hl : lv_has ls 3 [(0, .ref t0), (1, va_rf p1)] := by cases p1 <;> exact hl
  have hB : 0 + b ≤ ((headSpec (ws_ yJ25_addLast cJ25_addLast 3 (none)) ({ frames := 15, cells := b, slots := b, locals := 472 })).room).cells ∧ 0 + b ≤ ((headSpec (ws_ yJ25_addLast cJ25_addLast 3 (none)) ({ frames := 15, cells := b, slots := b, locals := 472 })).room).slots := ⟨Nat.le_of_eq (Nat.zero_add b), Nat.le_of_eq (Nat.zero_add b)⟩
  have hB50 : ∀ (M : wM) (bq : Nat) (H : Heap) (locs : List Loc) (ls : Array Slot) (cells slots : Nat), B_J25_addLast_50 G Q M bq → wR G M H → va_S (wA G) s.heap H locs → (cells + bq ≤ ((headSpec (ws_ yJ25_addLast cJ25_addLast 3 (none)) ({ frames := 15, cells := b, slots := b, locals := 472 })).room).cells ∧ slots + bq ≤ ((headSpec (ws_ yJ25_addLast cJ25_addLast 3 (none)) ({ frames := 15, cells := b, slots := b, locals := 472 })).room).slots) → lv_has ls 3 [] → W p l e (headSpec (ws_ yJ25_addLast cJ25_addLast 3 (none)) ({ frames := 15, cells := b, slots := b, locals := 472 })).room s m ([.ref t0, va_rf p1] : List Value).toArray below meth c H locs cells slots (vx_MQ below (wQ G (wqV Q)) (wXC G wX0) ([.ref t0, va_rf p1] : List Value).toArray s b b (wA G)) (F0 m 50 ls []) := by
    intro M bq H locs ls cells slots hp hM hS hB hl
    exact x_vret X hr hlk hM hS (w_fin hB) dJ25_addLast_50 ⟨rfl, hp⟩
  refine x_aload_n (r := p1) hx hb dJ25_addLast_0 rfl (lv_at hl 1 rfl) ?_
  refine x_ifnonnull (r := p1) (tgt := 12) hx hb dJ25_addLast_1 (by decide) (fun a1 hc => ?_) (fun hc => ?_)
  · have hqa1 := oNull.f hp hc
    subst hc
    have hp := hqa1
    have hl : lv_has ls 3 [(0, .ref t0), (1, .ref a1)] := hl
    refine lv_aload_n hx hb dJ25_addLast_12 rfl (lv_at hl 0 rfl) ?_
    refine x_getA X hC.1 hM (ci := 22) (C := RJ25) (T := TJ25) (N := 3) rfl in_J25 0 (by decide) q961 (fun _ h9 => h9) dJ25_addLast_13 hp (fun a2 hp => ?_)
    refine lv_astore_n (lv' := [(2, .ref a2), (0, .ref t0), (1, .ref a1)]) hx hb dJ25_addLast_16 rfl hl (by decide) rfl (fun ls hl => ?_)
    refine lv_aload_n hx hb dJ25_addLast_17 rfl (lv_at hl 0 rfl) ?_
    refine lv_aload_n hx hb dJ25_addLast_18 rfl (lv_at hl 1 rfl) ?_
    refine x_getI X hC.1 hM (ci := 22) (C := RJ25) (T := TJ25) (N := 3) rfl in_J25 2 (by decide) q963 (fun _ h9 => h9) dJ25_addLast_19 hp (fun v3 hp => ?_)
    refine lv_aload_n hx hb dJ25_addLast_22 rfl (lv_at hl 2 rfl) ?_
    refine x_aast (r := (some a1)) X hC hM hS w_obj (C := "java/lang/Object") (by decide) dJ25_addLast_23 hp (fun M4 H locs hM hS hp => ?_)
    refine lv_aload_n hx hb dJ25_addLast_24 rfl (lv_at hl 1 rfl) ?_
    refine x_getI X hC.1 hM (ci := 22) (C := RJ25) (T := TJ25) (N := 3) rfl in_J25 1 (by decide) q962 (fun _ h9 => h9) dJ25_addLast_25 hp (fun v5 hp => ?_)
    refine lv_aload_n hx hb dJ25_addLast_28 rfl (lv_at hl 1 rfl) ?_
    refine lv_aload_n hx hb dJ25_addLast_29 rfl (lv_at hl 1 rfl) ?_
    refine x_getI X hC.1 hM (ci := 22) (C := RJ25) (T := TJ25) (N := 3) rfl in_J25 2 (by decide) q963 (fun _ h9 => h9) dJ25_addLast_30 hp (fun v6 hp => ?_)
    refine lv_aload_n hx hb dJ25_addLast_33 rfl (lv_at hl 0 rfl) ?_
    refine x_alen X hC.1 hM (ty := (.object "java/lang/Object")) (by decide) dJ25_addLast_34 hp (fun v7 hp => ?_)
    refine x_call0I (vx_runS (As := [.int v6, .int v7]) (rest := [.ref t0, .int v5]) X (P_J25_inc_ok (l := l) hl0 hp) (va_cwS 2 hts (lw_S q2558 q2559 q177 q2560) rfl rfl rfl (by decide +kernel) ⟨Nat.le_of_ble_eq_true rfl, Nat.le_of_ble_eq_true rfl⟩) ⟨wPc.blind, w_pre hC hM hS _⟩ rfl rfl hl.1 rfl (lv_room (Nat.le_of_ble_eq_true rfl)) dJ25_addLast_35 (w_room0 hB)) hS (w_room0 hB) (fun _ _ _ _ _ _ h => False.elim h) (fun v10 M8 H locs hp hM hS => ?_)
    refine lv_dup_x1 hx hb dJ25_addLast_38 rfl rfl ?_
    refine x_put X hC.1 hM hS (ci := 22) (C := RJ25) (T := TJ25) (N := 3) rfl in_J25 tyJ25 tyJ25_ok nmJ25 2 (by decide) q963 (fun _ h9 => h9) rfl rfl rfl dJ25_addLast_39 hp (fun M11 H locs hM hS hp => ?_)
    refine lv_icmp_ne (tgt := 50) hx hb dJ25_addLast_42 (by decide) (fun hc => ?_) (fun hc => ?_)
    · have hp := oIf.f hp hc
      exact hB50 _ _ _ _ _ _ _ hp hM hS hB (lv_sub hl [] rfl)
    · have hp := oIf.t hp hc
      refine lv_aload_n hx hb dJ25_addLast_45 rfl (lv_at hl 1 rfl) ?_
      refine lv_iconst (v := 1) hx hb dJ25_addLast_46 (by decide) ?_
      obtain ⟨hrec, hp⟩ := hp
      obtain ⟨c13, hc1, hp⟩ := hp
      refine x_callV (vx_runV (As := [.int (1 : Int32)]) (rest := []) X (P_J25_grow_ok (l := l) hl0 hp) (cwV 1 hts (lw_V q2567 q2569 qs50 q177 q2570) rfl rfl rfl (by decide +kernel) ⟨Nat.le_of_ble_eq_true rfl, Nat.le_of_ble_eq_true rfl⟩) ⟨wPc.blind, w_recv hC.1 hM (ci := 22) (q := (RJ25, TJ25, 3)) rfl hrec, w_pre hC hM hS _⟩ rfl rfl hl.1 rfl (lv_room (Nat.le_of_ble_eq_true rfl)) dJ25_addLast_47 (w_room hB hc1)) hS hB hc1 (fun _ _ _ _ _ _ h => False.elim h) (fun M12 H locs hp hM hS hB => ?_)
      exact hB50 _ _ _ _ _ _ _ hp hM hS hB (lv_sub hl [] rfl)
  · have hqa1 := oNull.t hp hc
    subst hc
    have hp := hqa1
    have hl : lv_has ls 3 [(0, .ref t0), (1, va_rf none)] := hl
    exact hp.elim
def B_J36_hasNext_19 (G : wG) (Q : Bool → wM → Prop) (y0 : Int32) (M : wM) : Prop :=
  ∃ r : Bool, y0 = wb r ∧ Q r M
def P_J36_hasNext (G : wG) (t0 : Nat) (M : wM) (Q : Bool → wM → Prop) : Prop :=
  oGetI M t0 19 2 (fun v1 => oGetA M t0 19 4 (fun a2 => oGetI M a2 17 1 (fun v3 => oIf (v3 ≤ v1) (B_J36_hasNext_19 G Q (0 : Int32) M) (B_J36_hasNext_19 G Q (1 : Int32) M))))
set_option maxHeartbeats 4000000 in
set_option maxRecDepth 100000 in
theorem P_J36_hasNext_ok {l : Launch} (hl0 : l.stackTraces = false) {G : wG} {t0 : Nat} {M : wM} {Q : Bool → wM → Prop} (hp : P_J36_hasNext G t0 M Q) : wMet l yJ36_hasNext (ws_ yJ36_hasNext cJ36_hasNext 1 (Option.some Jvm.ClassFile.FieldType.boolean)) 12 400 G [.ref t0] M 0 (wqZ Q) wX0 := by
  refine vx_ofW (cc := cJ36_hasNext) (maxL := 1) (ret := Option.some Jvm.ClassFile.FieldType.boolean) (by decide) rfl ?_
  intro p e s m args below meth c s₁ B hml hnt hv
  obtain ⟨rfl, hM, hK, hZ, hz⟩ := hv
  have hC : wC G s := ⟨hK, hZ, hz⟩
  have hx := B.exec
  have hb := B.bytes
  have hr := B.returns
  have hts := atoms_spec (ws := (ws_ yJ36_hasNext cJ36_hasNext 1 (Option.some Jvm.ClassFile.FieldType.boolean))) B.pre
  have hts : ∀ w ∈ lw_all, w.before _ s = true := fun w h => hts w (List.mem_cons_of_mem _ h)
  have hown : s.vm.findClass RJ36 = some m.cls := findClass_of_methodNamed B.named
  have hlk := B.notSynchronized
  have X : CallFix p m c cJ36_hasNext 1 s ([.ref t0] : List Value).toArray lw_all RJ36 := ⟨hx, hb, hml, hown, hts⟩
  have hS : va_S (wA G) s.heap s.heap [] := va_S.rf
  have hl := lv_entry ([.ref t0]) (n := 1) (Nat.le_of_ble_eq_true rfl)
  rw [lg_entry_eq]
  generalize (lg_sl ([.ref t0]) ++ List.replicate (1 - (lg_sl ([.ref t0])).length) Slot.unset).toArray = ls at hl ⊢
  have hl : lv_has ls 1 [(0, .ref t0)] := hl
  have hB19 : ∀ (y0 : Int32) (M : wM) (H : Heap) (locs : List Loc) (ls : Array Slot), B_J36_hasNext_19 G Q y0 M → wR G M H → va_S (wA G) s.heap H locs → lv_has ls 1 [] → W p l e (headSpec (ws_ yJ36_hasNext cJ36_hasNext 1 (Option.some Jvm.ClassFile.FieldType.boolean)) ({ frames := 12, cells := 0, slots := 0, locals := 400 })).room s m ([.ref t0] : List Value).toArray below meth c H locs 0 0 (vx_MQ below (wQ G (wqZ Q)) (wXC G wX0) ([.ref t0] : List Value).toArray s 0 0 (wA G)) (F0 m 19 ls [.int y0]) := by
    intro y0 M H locs ls hp hM hS hl
    obtain ⟨r, hr0, hp⟩ := hp
    exact x_zret X hr hlk hM hS ⟨Nat.le_refl _, Nat.le_refl _⟩ (by rw [hr0]; exact w_nz _) dJ36_hasNext_19 ⟨r, by rw [hr0], hp⟩
  refine lv_aload_n hx hb dJ36_hasNext_0 rfl (lv_at hl 0 rfl) ?_
  refine x_getI X hC.1 hM (ci := 19) (C := RJ36) (T := TJ36) (N := 5) rfl in_J36 2 (by decide) q1773 (fun _ h9 => h9) dJ36_hasNext_1 hp (fun v1 hp => ?_)
  refine lv_aload_n hx hb dJ36_hasNext_4 rfl (lv_at hl 0 rfl) ?_
  refine x_getA X hC.1 hM (ci := 19) (C := RJ36) (T := TJ36) (N := 5) rfl in_J36 4 (by decide) q1775 (fun _ h9 => h9) dJ36_hasNext_5 hp (fun a2 hp => ?_)
  refine x_getI X hC.1 hM (ci := 17) (C := RJ8) (T := TJ8) (N := 4) rfl in_J8 1 (by decide) q457 (fun _ h9 => h9) dJ36_hasNext_8 hp (fun v3 hp => ?_)
  refine lv_icmp_ge (tgt := 18) hx hb dJ36_hasNext_11 (by decide) (fun hc => ?_) (fun hc => ?_)
  · have hp := oIf.t hp hc
    refine lv_iconst (v := 0) hx hb dJ36_hasNext_18 (by decide) ?_
    exact hB19 _ _ _ _ _ hp hM hS (lv_sub hl [] rfl)
  · have hp := oIf.f hp hc
    refine lv_iconst (v := 1) hx hb dJ36_hasNext_14 (by decide) ?_
    refine lv_goto (tgt := 19) hx hb dJ36_hasNext_15 (by decide) ?_
    exact hB19 _ _ _ _ _ hp hM hS (lv_sub hl [] rfl)
def P_J2_toArray (G : wG) (t0 : Nat) (b : Nat) (M : wM) (Q : Option Nat → wM → Prop) : Prop :=
  oGetA M t0 16 1 (fun a1 => oGetI M t0 16 2 (fun v2 => ∃ c4, c4 ≤ b ∧ P_J5_copyOf G a1 v2 c4 M (fun r5 M3 => Q r5 M3)))
set_option maxHeartbeats 4000000 in
set_option maxRecDepth 100000 in
theorem P_J2_toArray_ok {l : Launch} (hl0 : l.stackTraces = false) {G : wG} {t0 : Nat} {b : Nat} {M : wM} {Q : Option Nat → wM → Prop} (hp : P_J2_toArray G t0 b M Q) : wMet l yJ2_toArray (ws_ yJ2_toArray cJ2_toArray 1 (Option.some (Jvm.ClassFile.FieldType.array (Jvm.ClassFile.FieldType.object "java/lang/Object")))) 14 444 G [.ref t0] M b (wqR Q) wX0 := by
  refine vx_ofW (cc := cJ2_toArray) (maxL := 1) (ret := Option.some (Jvm.ClassFile.FieldType.array (Jvm.ClassFile.FieldType.object "java/lang/Object"))) (by decide) rfl ?_
  intro p e s m args below meth c s₁ B hml hnt hv
  obtain ⟨rfl, hM, hK, hZ, hz⟩ := hv
  have hC : wC G s := ⟨hK, hZ, hz⟩
  have hx := B.exec
  have hb := B.bytes
  have hr := B.returns
  have hts := atoms_spec (ws := (ws_ yJ2_toArray cJ2_toArray 1 (Option.some (Jvm.ClassFile.FieldType.array (Jvm.ClassFile.FieldType.object "java/lang/Object"))))) B.pre
  have hts : ∀ w ∈ lw_all, w.before _ s = true := fun w h => hts w (List.mem_cons_of_mem _ h)
  have hown : s.vm.findClass RJ2 = some m.cls := findClass_of_methodNamed B.named
  have hlk := B.notSynchronized
  have X : CallFix p m c cJ2_toArray 1 s ([.ref t0] : List Value).toArray lw_all RJ2 := ⟨hx, hb, hml, hown, hts⟩
  have hS : va_S (wA G) s.heap s.heap [] := va_S.rf
  have hl := lv_entry ([.ref t0]) (n := 1) (Nat.le_of_ble_eq_true rfl)
  rw [lg_entry_eq]
  generalize (lg_sl ([.ref t0]) ++ List.replicate (1 - (lg_sl ([.ref t0])).length) Slot.unset).toArray = ls at hl ⊢
  have hl : lv_has ls 1 [(0, .ref t0)] := hl
  have hB : 0 + b ≤ ((headSpec (ws_ yJ2_toArray cJ2_toArray 1 (Option.some (Jvm.ClassFile.FieldType.array (Jvm.ClassFile.FieldType.object "java/lang/Object")))) ({ frames := 14, cells := b, slots := b, locals := 444 })).room).cells ∧ 0 + b ≤ ((headSpec (ws_ yJ2_toArray cJ2_toArray 1 (Option.some (Jvm.ClassFile.FieldType.array (Jvm.ClassFile.FieldType.object "java/lang/Object")))) ({ frames := 14, cells := b, slots := b, locals := 444 })).room).slots := ⟨Nat.le_of_eq (Nat.zero_add b), Nat.le_of_eq (Nat.zero_add b)⟩
  refine lv_aload_n hx hb dJ2_toArray_0 rfl (lv_at hl 0 rfl) ?_
  refine x_getA X hC.1 hM (ci := 16) (C := RJ2) (T := TJ2) (N := 3) rfl in_J2 1 (by decide) q242 (fun _ h9 => h9) dJ2_toArray_1 hp (fun a1 hp => ?_)
  refine lv_aload_n hx hb dJ2_toArray_4 rfl (lv_at hl 0 rfl) ?_
  refine x_getI X hC.1 hM (ci := 16) (C := RJ2) (T := TJ2) (N := 3) rfl in_J2 2 (by decide) q245 (fun _ h9 => h9) dJ2_toArray_5 hp (fun v2 hp => ?_)
  obtain ⟨c4, hc1, hp⟩ := hp
  refine x_callR (vx_runS (As := [.ref a1, .int v2]) (rest := []) X (P_J5_copyOf_ok (l := l) hl0 hp) (va_cwS 2 hts (lw_S q293 q294 q156 q295) rfl rfl rfl (by decide +kernel) ⟨Nat.le_of_ble_eq_true rfl, Nat.le_of_ble_eq_true rfl⟩) ⟨wPc.blind, w_pre hC hM hS _⟩ rfl rfl hl.1 rfl (lv_room (Nat.le_of_ble_eq_true rfl)) dJ2_toArray_8 (w_room hB hc1)) hS hB hc1 (fun _ _ _ _ _ _ h => False.elim h) (fun r5 M3 H locs hp hM hS hB => ?_)
  exact x_aret (v := r5) X hr (by first | exact Or.inl ⟨_, rfl⟩ | exact Or.inr ⟨_, rfl⟩) hlk hM hS (w_fin hB) dJ2_toArray_11 ⟨r5, rfl, hp⟩
def B_J2_addAll_56 (G : wG) (Q : Bool → wM → Prop) (x0 : Nat) (x2 : Nat) (x3 : Int32) (x4 : Option Nat) (x5 : Int32) (M : wM) (bq : Nat) : Prop :=
  oRef x4 (fun a1 => oCopyR G M x2 (0 : Int32) a1 x5 x3 (fun M2 => oPut G M2 x0 16 2 (.int (x5 + x3)) (fun M3 => Q true M3)))
def P_J2_addAll (G : wG) (t0 : Nat) (p1 : Nat) (b : Nat) (M : wM) (Q : Bool → wM → Prop) : Prop :=
  oIs M p1 16 (∃ c2, c2 ≤ b ∧ P_J2_toArray G p1 c2 M (fun r3 M1 => oGetI M1 t0 16 0 (fun v4 => oPut G M1 t0 16 0 (.int (v4 + (1 : Int32))) (fun M5 => oRef r3 (fun a6 => oAlen (.object "java/lang/Object") M5 a6 (fun v7 => oIf (v7 = 0) (Q false M5) (oGetA M5 t0 16 1 (fun a8 => oAlen (.object "java/lang/Object") M5 a8 (fun v9 => oGetI M5 t0 16 2 (fun v10 => oIf (v7 ≤ (v9 - v10)) (B_J2_addAll_56 G Q t0 a6 v7 (some a8) v10 M5 (b - c2)) (oIs M5 t0 16 (∃ c12, c12 ≤ (b - c2) ∧ P_J2_grow_2 G t0 (v10 + v7) c12 M5 (fun r13 M11 => B_J2_addAll_56 G Q t0 a6 v7 r13 v10 M11 ((b - c2) - c12))))))))))))))
set_option maxHeartbeats 4000000 in
set_option maxRecDepth 100000 in
theorem P_J2_addAll_ok {l : Launch} (hl0 : l.stackTraces = false) {G : wG} {t0 : Nat} {p1 : Nat} {b : Nat} {M : wM} {Q : Bool → wM → Prop} (hp : P_J2_addAll G t0 p1 b M Q) : wMet l yJ2_addAll (ws_ yJ2_addAll cJ2_addAll 6 (Option.some Jvm.ClassFile.FieldType.boolean)) 15 468 G [.ref t0, .ref p1] M b (wqZ Q) wX0 := by
  refine vx_ofW (cc := cJ2_addAll) (maxL := 6) (ret := Option.some Jvm.ClassFile.FieldType.boolean) (by decide) rfl ?_
  intro p e s m args below meth c s₁ B hml hnt hv
  obtain ⟨rfl, hM, hK, hZ, hz⟩ := hv
  have hC : wC G s := ⟨hK, hZ, hz⟩
  have hx := B.exec
  have hb := B.bytes
  have hr := B.returns
  have hts := atoms_spec (ws := (ws_ yJ2_addAll cJ2_addAll 6 (Option.some Jvm.ClassFile.FieldType.boolean))) B.pre
  have hts : ∀ w ∈ lw_all, w.before _ s = true := fun w h => hts w (List.mem_cons_of_mem _ h)
  have hown : s.vm.findClass RJ2 = some m.cls := findClass_of_methodNamed B.named
  have hlk := B.notSynchronized
  have X : CallFix p m c cJ2_addAll 6 s ([.ref t0, .ref p1] : List Value).toArray lw_all RJ2 := ⟨hx, hb, hml, hown, hts⟩
  have hS : va_S (wA G) s.heap s.heap [] := va_S.rf
  have hl := lv_entry ([.ref t0, .ref p1]) (n := 6) (Nat.le_of_ble_eq_true rfl)
  rw [lg_entry_eq]
  generalize (lg_sl ([.ref t0, .ref p1]) ++ List.replicate (6 - (lg_sl ([.ref t0, .ref p1])).length) Slot.unset).toArray = ls at hl ⊢
  have hl : lv_has ls 6 [(0, .ref t0), (1, .ref p1)] := hl
  have hB : 0 + b ≤ ((headSpec (ws_ yJ2_addAll cJ2_addAll 6 (Option.some Jvm.ClassFile.FieldType.boolean)) ({ frames := 15, cells := b, slots := b, locals := 468 })).room).cells ∧ 0 + b ≤ ((headSpec (ws_ yJ2_addAll cJ2_addAll 6 (Option.some Jvm.ClassFile.FieldType.boolean)) ({ frames := 15, cells := b, slots := b, locals := 468 })).room).slots := ⟨Nat.le_of_eq (Nat.zero_add b), Nat.le_of_eq (Nat.zero_add b)⟩
  have hB56 : ∀ (x0 : Nat) (x2 : Nat) (x3 : Int32) (x4 : Option Nat) (x5 : Int32) (M : wM) (bq : Nat) (H : Heap) (locs : List Loc) (ls : Array Slot) (cells slots : Nat), B_J2_addAll_56 G Q x0 x2 x3 x4 x5 M bq → wR G M H → va_S (wA G) s.heap H locs → (cells + bq ≤ ((headSpec (ws_ yJ2_addAll cJ2_addAll 6 (Option.some Jvm.ClassFile.FieldType.boolean)) ({ frames := 15, cells := b, slots := b, locals := 468 })).room).cells ∧ slots + bq ≤ ((headSpec (ws_ yJ2_addAll cJ2_addAll 6 (Option.some Jvm.ClassFile.FieldType.boolean)) ({ frames := 15, cells := b, slots := b, locals := 468 })).room).slots) → lv_has ls 6 [(0, .ref x0), (2, .ref x2), (3, .int x3), (4, va_rf x4), (5, .int x5)] → W p l e (headSpec (ws_ yJ2_addAll cJ2_addAll 6 (Option.some Jvm.ClassFile.FieldType.boolean)) ({ frames := 15, cells := b, slots := b, locals := 468 })).room s m ([.ref t0, .ref p1] : List Value).toArray below meth c H locs cells slots (vx_MQ below (wQ G (wqZ Q)) (wXC G wX0) ([.ref t0, .ref p1] : List Value).toArray s b b (wA G)) (F0 m 56 ls []) := by
    intro x0 x2 x3 x4 x5 M bq H locs ls cells slots hp hM hS hB hl
    refine lv_aload_n hx hb dJ2_addAll_56 rfl (lv_at hl 1 rfl) ?_
    refine lv_iconst (v := 0) hx hb dJ2_addAll_57 (by decide) ?_
    refine x_aload (r := x4) hx hb dJ2_addAll_58 (lv_at hl 3 rfl) ?_
    refine lv_iload hx hb dJ2_addAll_60 (lv_at hl 4 rfl) ?_
    refine lv_iload_n hx hb dJ2_addAll_62 rfl (lv_at hl 2 rfl) ?_
    obtain ⟨a1, ea, hqa1⟩ := hp
    subst ea
    have hp := hqa1
    have hl : lv_has ls 6 [(0, .ref x0), (2, .ref x2), (3, .int x3), (4, .ref a1), (5, .int x5)] := hl
    refine x_copyR X (hml.trans hl.1.symm) hC hM hS q1639 q351 q350 q157 (Nat.le_of_ble_eq_true rfl) (Nat.le_of_ble_eq_true rfl) dJ2_addAll_63 hp (fun M2 H locs hM hS hp => ?_)
    refine lv_aload_n hx hb dJ2_addAll_66 rfl (lv_at hl 0 rfl) ?_
    refine lv_iload hx hb dJ2_addAll_67 (lv_at hl 4 rfl) ?_
    refine lv_iload_n hx hb dJ2_addAll_69 rfl (lv_at hl 2 rfl) ?_
    refine lv_iadd hx hb dJ2_addAll_70 ?_
    refine x_put X hC.1 hM hS (ci := 16) (C := RJ2) (T := TJ2) (N := 3) rfl in_J2 tyJ2 tyJ2_ok nmJ2 2 (by decide) q245 (fun _ h9 => h9) rfl rfl rfl dJ2_addAll_71 hp (fun M3 H locs hM hS hp => ?_)
    refine lv_iconst (v := 1) hx hb dJ2_addAll_74 (by decide) ?_
    exact x_zret X hr hlk hM hS (w_fin hB) (by decide) dJ2_addAll_75 ⟨true, rfl, hp⟩
  refine lv_aload_n hx hb dJ2_addAll_0 rfl (lv_at hl 1 rfl) ?_
  obtain ⟨hrec, hp⟩ := hp
  obtain ⟨c2, hc1, hp⟩ := hp
  refine x_callR5 (vx_runF (hC.1.1.1 16 (RJ2, TJ2, 3) rfl).2 (C := "java/util/ArrayList") (As := []) (rest := []) X (P_J2_toArray_ok (l := l) hl0 hp) (va_cwF 0 hts (lw_app (w_mem4 q1570 q1589 q1591 q153) (lw_meth q1593)) rfl rfl rfl (wfw_4 hC.1) (by decide +kernel) ⟨Nat.le_of_ble_eq_true rfl, Nat.le_of_ble_eq_true rfl⟩) ⟨wPc.blind, w_recv hC.1 hM (ci := 16) (q := (RJ2, TJ2, 3)) rfl hrec, w_pre hC hM hS _⟩ rfl rfl hl.1 rfl (lv_room (Nat.le_of_ble_eq_true rfl)) dJ2_addAll_1 (w_room hB hc1)) hS hB hc1 (fun _ _ _ _ _ _ h => False.elim h) (fun r3 M1 H locs hp hM hS hB => ?_)
  refine x_astore_n (r := r3) (lv' := [(2, va_rf r3), (0, .ref t0), (1, .ref p1)]) hx hb dJ2_addAll_6 rfl hl (by decide) rfl (fun ls hl => ?_)
  refine lv_aload_n hx hb dJ2_addAll_7 rfl (lv_at hl 1 rfl) ?_
  refine lv_dup hx hb dJ2_addAll_8 rfl ?_
  refine x_getI X hC.1 hM (ci := 16) (C := RJ2) (T := TJ2) (N := 3) rfl in_J2 0 (by decide) q253 (fun x9 h9 => u_same (hts _ q250) x9 h9) dJ2_addAll_9 hp (fun v4 hp => ?_)
  refine lv_iconst (v := 1) hx hb dJ2_addAll_12 (by decide) ?_
  refine lv_iadd hx hb dJ2_addAll_13 ?_
  refine x_put X hC.1 hM hS (ci := 16) (C := RJ2) (T := TJ2) (N := 3) rfl in_J2 tyJ2 tyJ2_ok nmJ2 0 (by decide) q253 (fun x9 h9 => u_same (hts _ q250) x9 h9) rfl rfl rfl dJ2_addAll_14 hp (fun M5 H locs hM hS hp => ?_)
  refine x_aload_n (r := r3) hx hb dJ2_addAll_17 rfl (lv_at hl 0 rfl) ?_
  obtain ⟨a6, ea, hqa6⟩ := hp
  subst ea
  have hp := hqa6
  have hl : lv_has ls 6 [(2, .ref a6), (0, .ref t0), (1, .ref p1)] := hl
  refine x_alen X hC.1 hM (ty := (.object "java/lang/Object")) (by decide) dJ2_addAll_18 hp (fun v7 hp => ?_)
  refine lv_istore_n (lv' := [(3, .int v7), (2, .ref a6), (0, .ref t0), (1, .ref p1)]) hx hb dJ2_addAll_19 rfl hl (by decide) rfl (fun ls hl => ?_)
  refine lv_iload_n hx hb dJ2_addAll_20 rfl (lv_at hl 0 rfl) ?_
  refine lv_if_ne (tgt := 26) hx hb dJ2_addAll_21 (by decide) (fun hc => ?_) (fun hc => ?_)
  · have hp := oIf.f hp hc
    refine lv_iload_n hx hb dJ2_addAll_26 rfl (lv_at hl 0 rfl) ?_
    refine lv_aload_n hx hb dJ2_addAll_27 rfl (lv_at hl 2 rfl) ?_
    refine x_getA X hC.1 hM (ci := 16) (C := RJ2) (T := TJ2) (N := 3) rfl in_J2 1 (by decide) q242 (fun _ h9 => h9) dJ2_addAll_28 hp (fun a8 hp => ?_)
    refine lv_dup hx hb dJ2_addAll_31 rfl ?_
    refine lv_astore (lv' := [(4, .ref a8), (3, .int v7), (2, .ref a6), (0, .ref t0), (1, .ref p1)]) hx hb dJ2_addAll_32 hl (by decide) rfl (fun ls hl => ?_)
    refine x_alen X hC.1 hM (ty := (.object "java/lang/Object")) (by decide) dJ2_addAll_34 hp (fun v9 hp => ?_)
    refine lv_aload_n hx hb dJ2_addAll_35 rfl (lv_at hl 3 rfl) ?_
    refine x_getI X hC.1 hM (ci := 16) (C := RJ2) (T := TJ2) (N := 3) rfl in_J2 2 (by decide) q245 (fun _ h9 => h9) dJ2_addAll_36 hp (fun v10 hp => ?_)
    refine lv_dup hx hb dJ2_addAll_39 rfl ?_
    refine lv_istore (lv' := [(5, .int v10), (4, .ref a8), (3, .int v7), (2, .ref a6), (0, .ref t0), (1, .ref p1)]) hx hb dJ2_addAll_40 hl (by decide) rfl (fun ls hl => ?_)
    refine lv_isub hx hb dJ2_addAll_42 ?_
    refine lv_icmp_le (tgt := 56) hx hb dJ2_addAll_43 (by decide) (fun hc => ?_) (fun hc => ?_)
    · have hp := oIf.t hp hc
      exact hB56 _ _ _ _ _ _ _ _ _ _ _ _ hp hM hS hB (lv_sub hl [4, 3, 2, 1, 0] rfl)
    · have hp := oIf.f hp hc
      refine lv_aload_n hx hb dJ2_addAll_46 rfl (lv_at hl 4 rfl) ?_
      refine lv_iload hx hb dJ2_addAll_47 (lv_at hl 0 rfl) ?_
      refine lv_iload_n hx hb dJ2_addAll_49 rfl (lv_at hl 2 rfl) ?_
      refine lv_iadd hx hb dJ2_addAll_50 ?_
      obtain ⟨hrec, hp⟩ := hp
      obtain ⟨c12, hc1, hp⟩ := hp
      refine x_callR (vx_runV (As := [.int (v10 + v7)]) (rest := []) X (P_J2_grow_2_ok (l := l) hl0 hp) (cwV 1 hts (lw_V q279 q281 qs2 q153 q282) rfl rfl rfl (by decide +kernel) ⟨Nat.le_of_ble_eq_true rfl, Nat.le_of_ble_eq_true rfl⟩) ⟨wPc.blind, w_recv hC.1 hM (ci := 16) (q := (RJ2, TJ2, 3)) rfl hrec, w_pre hC hM hS _⟩ rfl rfl hl.1 rfl (lv_room (Nat.le_of_ble_eq_true rfl)) dJ2_addAll_51 (w_room hB hc1)) hS hB hc1 (fun _ _ _ _ _ _ h => False.elim h) (fun r13 M11 H locs hp hM hS hB => ?_)
      refine x_astore (r := r13) (lv' := [(4, va_rf r13), (5, .int v10), (3, .int v7), (2, .ref a6), (0, .ref t0), (1, .ref p1)]) hx hb dJ2_addAll_54 hl (by decide) rfl (fun ls hl => ?_)
      exact hB56 _ _ _ _ _ _ _ _ _ _ _ _ hp hM hS hB (lv_sub hl [4, 3, 2, 0, 1] rfl)
  · have hp := oIf.t hp hc
    refine lv_iconst (v := 0) hx hb dJ2_addAll_24 (by decide) ?_
    exact x_zret X hr hlk hM hS (w_fin hB) (by decide) dJ2_addAll_25 ⟨false, rfl, hp⟩
def B_J9_checkInvariants_110 (G : wG) (Q : wM → Prop) (M : wM) : Prop :=
  Q M
def B_J9_checkInvariants_70 (G : wG) (Q : wM → Prop) (x0 : Nat) (M : wM) : Prop :=
  oIf ((1 : Int32) = 0) (oGetI M x0 21 1 (fun v1 => oGetA M x0 21 0 (fun a2 => oAlen .long M a2 (fun v3 => oIf (v1 = v3) (B_J9_checkInvariants_110 G Q M) (oGetA M x0 21 0 (fun a4 => oGetI M x0 21 1 (fun v5 => oLald M a4 v5 (fun v6 => oIf ((lg_cmp v6 (0 : Int64)) = 0) (B_J9_checkInvariants_110 G Q M) (False))))))))) (B_J9_checkInvariants_110 G Q M)
def B_J9_checkInvariants_37 (G : wG) (Q : wM → Prop) (x0 : Nat) (M : wM) : Prop :=
  oIf ((1 : Int32) = 0) (oGetI M x0 21 1 (fun v1 => oIf (v1 < 0) (False) (oGetI M x0 21 1 (fun v2 => oGetA M x0 21 0 (fun a3 => oAlen .long M a3 (fun v4 => oIf (v2 ≤ v4) (B_J9_checkInvariants_70 G Q x0 M) (False))))))) (B_J9_checkInvariants_70 G Q x0 M)
def P_J9_checkInvariants (G : wG) (t0 : Nat) (M : wM) (Q : wM → Prop) : Prop :=
  oIf ((1 : Int32) = 0) (oGetI M t0 21 1 (fun v1 => oIf (v1 = 0) (B_J9_checkInvariants_37 G Q t0 M) (oGetA M t0 21 0 (fun a2 => oGetI M t0 21 1 (fun v3 => oLald M a2 (v3 - (1 : Int32)) (fun v4 => oIf ((lg_cmp v4 (0 : Int64)) = 0) (False) (B_J9_checkInvariants_37 G Q t0 M))))))) (B_J9_checkInvariants_37 G Q t0 M)
set_option maxHeartbeats 4000000 in
set_option maxRecDepth 100000 in
theorem P_J9_checkInvariants_ok {l : Launch} (hl0 : l.stackTraces = false) {G : wG} {t0 : Nat} {M : wM} {Q : wM → Prop} (hp : P_J9_checkInvariants G t0 M Q) : wMet l yJ9_checkInvariants (ws_ yJ9_checkInvariants cJ9_checkInvariants 1 (none)) 12 400 G [.ref t0] M 0 (wqV Q) wX0 := by
  refine vx_ofW (cc := cJ9_checkInvariants) (maxL := 1) (ret := none) (by decide) rfl ?_
  intro p e s m args below meth c s₁ B hml hnt hv
  obtain ⟨rfl, hM, hK, hZ, hz⟩ := hv
  have hC : wC G s := ⟨hK, hZ, hz⟩
  have hx := B.exec
  have hb := B.bytes
  have hr := B.returns
  have hts := atoms_spec (ws := (ws_ yJ9_checkInvariants cJ9_checkInvariants 1 (none))) B.pre
  have hts : ∀ w ∈ lw_all, w.before _ s = true := fun w h => hts w (List.mem_cons_of_mem _ h)
  have hown : s.vm.findClass RJ9 = some m.cls := findClass_of_methodNamed B.named
  have hlk := B.notSynchronized
  have X : CallFix p m c cJ9_checkInvariants 1 s ([.ref t0] : List Value).toArray lw_all RJ9 := ⟨hx, hb, hml, hown, hts⟩
  have hS : va_S (wA G) s.heap s.heap [] := va_S.rf
  have hl := lv_entry ([.ref t0]) (n := 1) (Nat.le_of_ble_eq_true rfl)
  rw [lg_entry_eq]
  generalize (lg_sl ([.ref t0]) ++ List.replicate (1 - (lg_sl ([.ref t0])).length) Slot.unset).toArray = ls at hl ⊢
  have hl : lv_has ls 1 [(0, .ref t0)] := hl
  have hB110 : ∀ (M : wM) (H : Heap) (locs : List Loc) (ls : Array Slot), B_J9_checkInvariants_110 G Q M → wR G M H → va_S (wA G) s.heap H locs → lv_has ls 1 [] → W p l e (headSpec (ws_ yJ9_checkInvariants cJ9_checkInvariants 1 (none)) ({ frames := 12, cells := 0, slots := 0, locals := 400 })).room s m ([.ref t0] : List Value).toArray below meth c H locs 0 0 (vx_MQ below (wQ G (wqV Q)) (wXC G wX0) ([.ref t0] : List Value).toArray s 0 0 (wA G)) (F0 m 110 ls []) := by
    intro M H locs ls hp hM hS hl
    exact x_vret X hr hlk hM hS ⟨Nat.le_refl _, Nat.le_refl _⟩ dJ9_checkInvariants_110 ⟨rfl, hp⟩
  have hB70 : ∀ (x0 : Nat) (M : wM) (H : Heap) (locs : List Loc) (ls : Array Slot), B_J9_checkInvariants_70 G Q x0 M → wR G M H → va_S (wA G) s.heap H locs → lv_has ls 1 [(0, .ref x0)] → W p l e (headSpec (ws_ yJ9_checkInvariants cJ9_checkInvariants 1 (none)) ({ frames := 12, cells := 0, slots := 0, locals := 400 })).room s m ([.ref t0] : List Value).toArray below meth c H locs 0 0 (vx_MQ below (wQ G (wqV Q)) (wXC G wX0) ([.ref t0] : List Value).toArray s 0 0 (wA G)) (F0 m 70 ls []) := by
    intro x0 M H locs ls hp hM hS hl
    refine x_gets X hC hS (C := "java/util/BitSet") (n := "$assertionsDisabled") (d := "Z") (v := .inl 1) (List.mem_of_getElem? (i := 5) rfl) q1501 (fun _ h9 => h9) dJ9_checkInvariants_70 ?_
    refine lv_if_ne (tgt := 110) hx hb dJ9_checkInvariants_73 (by decide) (fun hc => ?_) (fun hc => ?_)
    · have hp := oIf.f hp hc
      exact hB110 _ _ _ _ hp hM hS (lv_sub hl [] rfl)
    · have hp := oIf.t hp hc
      refine lv_aload_n hx hb dJ9_checkInvariants_76 rfl (lv_at hl 0 rfl) ?_
      refine x_getI X hC.1 hM (ci := 21) (C := RJ9) (T := TJ9) (N := 3) rfl in_J9 1 (by decide) q482 (fun _ h9 => h9) dJ9_checkInvariants_77 hp (fun v1 hp => ?_)
      refine lv_aload_n hx hb dJ9_checkInvariants_80 rfl (lv_at hl 0 rfl) ?_
      refine x_getA X hC.1 hM (ci := 21) (C := RJ9) (T := TJ9) (N := 3) rfl in_J9 0 (by decide) q481 (fun _ h9 => h9) dJ9_checkInvariants_81 hp (fun a2 hp => ?_)
      refine x_alen X hC.1 hM (ty := .long) (by decide) dJ9_checkInvariants_84 hp (fun v3 hp => ?_)
      refine lv_icmp_eq (tgt := 110) hx hb dJ9_checkInvariants_85 (by decide) (fun hc => ?_) (fun hc => ?_)
      · have hp := oIf.t hp hc
        exact hB110 _ _ _ _ hp hM hS (lv_sub hl [] rfl)
      · have hp := oIf.f hp hc
        refine lv_aload_n hx hb dJ9_checkInvariants_88 rfl (lv_at hl 0 rfl) ?_
        refine x_getA X hC.1 hM (ci := 21) (C := RJ9) (T := TJ9) (N := 3) rfl in_J9 0 (by decide) q481 (fun _ h9 => h9) dJ9_checkInvariants_89 hp (fun a4 hp => ?_)
        refine lv_aload_n hx hb dJ9_checkInvariants_92 rfl (lv_at hl 0 rfl) ?_
        refine x_getI X hC.1 hM (ci := 21) (C := RJ9) (T := TJ9) (N := 3) rfl in_J9 1 (by decide) q482 (fun _ h9 => h9) dJ9_checkInvariants_93 hp (fun v5 hp => ?_)
        refine x_lald X hC.1 hM dJ9_checkInvariants_96 hp (fun v6 hp => ?_)
        refine lv_lconst (v := 0) hx hb dJ9_checkInvariants_97 (by decide) ?_
        refine W.lcmp hx hb dJ9_checkInvariants_98 ?_
        refine lv_if_eq (tgt := 110) hx hb dJ9_checkInvariants_99 (by decide) (fun hc => ?_) (fun hc => ?_)
        · have hp := oIf.t hp hc
          exact hB110 _ _ _ _ hp hM hS (lv_sub hl [] rfl)
        · have hp := oIf.f hp hc
          exact hp.elim
  have hB37 : ∀ (x0 : Nat) (M : wM) (H : Heap) (locs : List Loc) (ls : Array Slot), B_J9_checkInvariants_37 G Q x0 M → wR G M H → va_S (wA G) s.heap H locs → lv_has ls 1 [(0, .ref x0)] → W p l e (headSpec (ws_ yJ9_checkInvariants cJ9_checkInvariants 1 (none)) ({ frames := 12, cells := 0, slots := 0, locals := 400 })).room s m ([.ref t0] : List Value).toArray below meth c H locs 0 0 (vx_MQ below (wQ G (wqV Q)) (wXC G wX0) ([.ref t0] : List Value).toArray s 0 0 (wA G)) (F0 m 37 ls []) := by
    intro x0 M H locs ls hp hM hS hl
    refine x_gets X hC hS (C := "java/util/BitSet") (n := "$assertionsDisabled") (d := "Z") (v := .inl 1) (List.mem_of_getElem? (i := 5) rfl) q1501 (fun _ h9 => h9) dJ9_checkInvariants_37 ?_
    refine lv_if_ne (tgt := 70) hx hb dJ9_checkInvariants_40 (by decide) (fun hc => ?_) (fun hc => ?_)
    · have hp := oIf.f hp hc
      exact hB70 _ _ _ _ _ hp hM hS (lv_sub hl [0] rfl)
    · have hp := oIf.t hp hc
      refine lv_aload_n hx hb dJ9_checkInvariants_43 rfl (lv_at hl 0 rfl) ?_
      refine x_getI X hC.1 hM (ci := 21) (C := RJ9) (T := TJ9) (N := 3) rfl in_J9 1 (by decide) q482 (fun _ h9 => h9) dJ9_checkInvariants_44 hp (fun v1 hp => ?_)
      refine lv_if_lt (tgt := 62) hx hb dJ9_checkInvariants_47 (by decide) (fun hc => ?_) (fun hc => ?_)
      · have hp := oIf.t hp hc
        exact hp.elim
      · have hp := oIf.f hp hc
        refine lv_aload_n hx hb dJ9_checkInvariants_50 rfl (lv_at hl 0 rfl) ?_
        refine x_getI X hC.1 hM (ci := 21) (C := RJ9) (T := TJ9) (N := 3) rfl in_J9 1 (by decide) q482 (fun _ h9 => h9) dJ9_checkInvariants_51 hp (fun v2 hp => ?_)
        refine lv_aload_n hx hb dJ9_checkInvariants_54 rfl (lv_at hl 0 rfl) ?_
        refine x_getA X hC.1 hM (ci := 21) (C := RJ9) (T := TJ9) (N := 3) rfl in_J9 0 (by decide) q481 (fun _ h9 => h9) dJ9_checkInvariants_55 hp (fun a3 hp => ?_)
        refine x_alen X hC.1 hM (ty := .long) (by decide) dJ9_checkInvariants_58 hp (fun v4 hp => ?_)
        refine lv_icmp_le (tgt := 70) hx hb dJ9_checkInvariants_59 (by decide) (fun hc => ?_) (fun hc => ?_)
        · have hp := oIf.t hp hc
          exact hB70 _ _ _ _ _ hp hM hS (lv_sub hl [0] rfl)
        · have hp := oIf.f hp hc
          exact hp.elim
  refine x_gets X hC hS (C := "java/util/BitSet") (n := "$assertionsDisabled") (d := "Z") (v := .inl 1) (List.mem_of_getElem? (i := 5) rfl) q1501 (fun _ h9 => h9) dJ9_checkInvariants_0 ?_
  refine lv_if_ne (tgt := 37) hx hb dJ9_checkInvariants_3 (by decide) (fun hc => ?_) (fun hc => ?_)
  · have hp := oIf.f hp hc
    exact hB37 _ _ _ _ _ hp hM hS (lv_sub hl [0] rfl)
  · have hp := oIf.t hp hc
    refine lv_aload_n hx hb dJ9_checkInvariants_6 rfl (lv_at hl 0 rfl) ?_
    refine x_getI X hC.1 hM (ci := 21) (C := RJ9) (T := TJ9) (N := 3) rfl in_J9 1 (by decide) q482 (fun _ h9 => h9) dJ9_checkInvariants_7 hp (fun v1 hp => ?_)
    refine lv_if_eq (tgt := 37) hx hb dJ9_checkInvariants_10 (by decide) (fun hc => ?_) (fun hc => ?_)
    · have hp := oIf.t hp hc
      exact hB37 _ _ _ _ _ hp hM hS (lv_sub hl [0] rfl)
    · have hp := oIf.f hp hc
      refine lv_aload_n hx hb dJ9_checkInvariants_13 rfl (lv_at hl 0 rfl) ?_
      refine x_getA X hC.1 hM (ci := 21) (C := RJ9) (T := TJ9) (N := 3) rfl in_J9 0 (by decide) q481 (fun _ h9 => h9) dJ9_checkInvariants_14 hp (fun a2 hp => ?_)
      refine lv_aload_n hx hb dJ9_checkInvariants_17 rfl (lv_at hl 0 rfl) ?_
      refine x_getI X hC.1 hM (ci := 21) (C := RJ9) (T := TJ9) (N := 3) rfl in_J9 1 (by decide) q482 (fun _ h9 => h9) dJ9_checkInvariants_18 hp (fun v3 hp => ?_)
      refine lv_iconst (v := 1) hx hb dJ9_checkInvariants_21 (by decide) ?_
      refine lv_isub hx hb dJ9_checkInvariants_22 ?_
      refine x_lald X hC.1 hM dJ9_checkInvariants_23 hp (fun v4 hp => ?_)
      refine lv_lconst (v := 0) hx hb dJ9_checkInvariants_24 (by decide) ?_
      refine W.lcmp hx hb dJ9_checkInvariants_25 ?_
      refine lv_if_ne (tgt := 37) hx hb dJ9_checkInvariants_26 (by decide) (fun hc => ?_) (fun hc => ?_)
      · have hp := oIf.f hp hc
        exact hB37 _ _ _ _ _ hp hM hS (lv_sub hl [0] rfl)
      · have hp := oIf.t hp hc
        exact hp.elim
def P_J5_copyOf_4 (G : wG) (p1 : Nat) (p2 : Int32) (b : Nat) (M : wM) (Q : Option Nat → wM → Prop) : Prop :=
  oAlen .long M p1 (fun v1 => oIf (p2 = v1) (False) (oNewa G M b .long (.inr (.inl (fun _ => 0))) p2 (fun a2 M3 b4 => oAlen .long M3 p1 (fun v5 => oCopyJ G M3 p1 (0 : Int32) a2 (0 : Int32) (if p2 < v5 then p2 else v5) (fun M6 => Q (some a2) M6)))))
set_option maxHeartbeats 4000000 in
set_option maxRecDepth 100000 in
theorem P_J5_copyOf_4_ok {l : Launch} (hl0 : l.stackTraces = false) {G : wG} {p1 : Nat} {p2 : Int32} {b : Nat} {M : wM} {Q : Option Nat → wM → Prop} (hp : P_J5_copyOf_4 G p1 p2 b M Q) : wMet l yJ5_copyOf_4 (ws_ yJ5_copyOf_4 cJ5_copyOf_4 3 (Option.some (Jvm.ClassFile.FieldType.array Jvm.ClassFile.FieldType.long))) 12 400 G [.ref p1, .int p2] M b (wqR Q) wX0 := by
  refine vx_ofW (cc := cJ5_copyOf_4) (maxL := 3) (ret := Option.some (Jvm.ClassFile.FieldType.array Jvm.ClassFile.FieldType.long)) (by decide) rfl ?_
  intro p e s m args below meth c s₁ B hml hnt hv
  obtain ⟨rfl, hM, hK, hZ, hz⟩ := hv
  have hC : wC G s := ⟨hK, hZ, hz⟩
  have hx := B.exec
  have hb := B.bytes
  have hr := B.returns
  have hts := atoms_spec (ws := (ws_ yJ5_copyOf_4 cJ5_copyOf_4 3 (Option.some (Jvm.ClassFile.FieldType.array Jvm.ClassFile.FieldType.long)))) B.pre
  have hts : ∀ w ∈ lw_all, w.before _ s = true := fun w h => hts w (List.mem_cons_of_mem _ h)
  have hown : s.vm.findClass RJ5 = some m.cls := findClass_of_methodNamed B.named
  have hlk := B.notSynchronized
  have X : CallFix p m c cJ5_copyOf_4 3 s ([.ref p1, .int p2] : List Value).toArray lw_all RJ5 := ⟨hx, hb, hml, hown, hts⟩
  have hS : va_S (wA G) s.heap s.heap [] := va_S.rf
  have hl := lv_entry ([.ref p1, .int p2]) (n := 3) (Nat.le_of_ble_eq_true rfl)
  rw [lg_entry_eq]
  generalize (lg_sl ([.ref p1, .int p2]) ++ List.replicate (3 - (lg_sl ([.ref p1, .int p2])).length) Slot.unset).toArray = ls at hl ⊢
  have hl : lv_has ls 3 [(0, .ref p1), (1, .int p2)] := hl
  have hB : 0 + b ≤ ((headSpec (ws_ yJ5_copyOf_4 cJ5_copyOf_4 3 (Option.some (Jvm.ClassFile.FieldType.array Jvm.ClassFile.FieldType.long))) ({ frames := 12, cells := b, slots := b, locals := 400 })).room).cells ∧ 0 + b ≤ ((headSpec (ws_ yJ5_copyOf_4 cJ5_copyOf_4 3 (Option.some (Jvm.ClassFile.FieldType.array Jvm.ClassFile.FieldType.long))) ({ frames := 12, cells := b, slots := b, locals := 400 })).room).slots := ⟨Nat.le_of_eq (Nat.zero_add b), Nat.le_of_eq (Nat.zero_add b)⟩
  refine lv_iload_n hx hb dJ5_copyOf_4_0 rfl (lv_at hl 1 rfl) ?_
  refine lv_aload_n hx hb dJ5_copyOf_4_1 rfl (lv_at hl 0 rfl) ?_
  refine x_alen X hC.1 hM (ty := .long) (by decide) dJ5_copyOf_4_2 hp (fun v1 hp => ?_)
  refine lv_icmp_ne (tgt := 14) hx hb dJ5_copyOf_4_3 (by decide) (fun hc => ?_) (fun hc => ?_)
  · have hp := oIf.f hp hc
    refine lv_iload_n hx hb dJ5_copyOf_4_14 rfl (lv_at hl 1 rfl) ?_
    refine x_newa X hC hM hS hB .long rfl q491 (by decide) (by decide) (fun _ h => h) (fun _ _ => rfl) dJ5_copyOf_4_15 hp (fun a2 M3 H b4 cells slots hM hS hB hp => ?_)
    refine lv_astore_n (lv' := [(2, .ref a2), (0, .ref p1), (1, .int p2)]) hx hb dJ5_copyOf_4_17 rfl hl (by decide) rfl (fun ls hl => ?_)
    refine lv_aload_n hx hb dJ5_copyOf_4_18 rfl (lv_at hl 1 rfl) ?_
    refine lv_iconst (v := 0) hx hb dJ5_copyOf_4_19 (by decide) ?_
    refine lv_aload_n hx hb dJ5_copyOf_4_20 rfl (lv_at hl 0 rfl) ?_
    refine lv_iconst (v := 0) hx hb dJ5_copyOf_4_21 (by decide) ?_
    refine lv_aload_n hx hb dJ5_copyOf_4_22 rfl (lv_at hl 1 rfl) ?_
    refine x_alen X hC.1 hM (ty := .long) (by decide) dJ5_copyOf_4_23 hp (fun v5 hp => ?_)
    refine lv_iload_n hx hb dJ5_copyOf_4_24 rfl (lv_at hl 2 rfl) ?_
    refine va_mmin hx hb (hml.trans hl.1.symm) hown (hts _ q346) (hts _ q347) (hts _ q155) (hts _ q348) (Nat.le_of_ble_eq_true rfl) (Nat.le_of_ble_eq_true rfl) (w_fin hB).1 (w_fin hB).2 dJ5_copyOf_4_25 ?_
    refine x_copyJ X (hml.trans hl.1.symm) hC hM hS q349 q351 q350 q157 (Nat.le_of_ble_eq_true rfl) (Nat.le_of_ble_eq_true rfl) dJ5_copyOf_4_28 hp (fun M6 H locs hM hS hp => ?_)
    refine lv_aload_n hx hb dJ5_copyOf_4_31 rfl (lv_at hl 0 rfl) ?_
    exact x_aret (v := (some a2)) X hr (by first | exact Or.inl ⟨_, rfl⟩ | exact Or.inr ⟨_, rfl⟩) hlk hM hS (w_fin hB) dJ5_copyOf_4_32 ⟨(some a2), rfl, hp⟩
  · have hp := oIf.t hp hc
    exact hp.elim
def B_J9_ensureCapacity_38 (G : wG) (Q : wM → Prop) (M : wM) (bq : Nat) : Prop :=
  Q M
def P_J9_ensureCapacity (G : wG) (t0 : Nat) (p1 : Int32) (b : Nat) (M : wM) (Q : wM → Prop) : Prop :=
  oGetA M t0 21 0 (fun a1 => oAlen .long M a1 (fun v2 => oIf (p1 ≤ v2) (B_J9_ensureCapacity_38 G Q M b) (oGetA M t0 21 0 (fun a3 => oAlen .long M a3 (fun v4 => oGetA M t0 21 0 (fun a5 => ∃ c7, c7 ≤ b ∧ P_J5_copyOf_4 G a5 (if ((2 : Int32) * v4) < p1 then p1 else ((2 : Int32) * v4)) c7 M (fun r8 M6 => oPut G M6 t0 21 0 (va_rf r8) (fun M9 => oPut G M9 t0 21 2 (.int (0 : Int32)) (fun M10 => B_J9_ensureCapacity_38 G Q M10 (b - c7))))))))))
set_option maxHeartbeats 4000000 in
set_option maxRecDepth 100000 in
theorem P_J9_ensureCapacity_ok {l : Launch} (hl0 : l.stackTraces = false) {G : wG} {t0 : Nat} {p1 : Int32} {b : Nat} {M : wM} {Q : wM → Prop} (hp : P_J9_ensureCapacity G t0 p1 b M Q) : wMet l yJ9_ensureCapacity (ws_ yJ9_ensureCapacity cJ9_ensureCapacity 3 (none)) 13 422 G [.ref t0, .int p1] M b (wqV Q) wX0 := by
  refine vx_ofW (cc := cJ9_ensureCapacity) (maxL := 3) (ret := none) (by decide) rfl ?_
  intro p e s m args below meth c s₁ B hml hnt hv
  obtain ⟨rfl, hM, hK, hZ, hz⟩ := hv
  have hC : wC G s := ⟨hK, hZ, hz⟩
  have hx := B.exec
  have hb := B.bytes
  have hr := B.returns
  have hts := atoms_spec (ws := (ws_ yJ9_ensureCapacity cJ9_ensureCapacity 3 (none))) B.pre
  have hts : ∀ w ∈ lw_all, w.before _ s = true := fun w h => hts w (List.mem_cons_of_mem _ h)
  have hown : s.vm.findClass RJ9 = some m.cls := findClass_of_methodNamed B.named
  have hlk := B.notSynchronized
  have X : CallFix p m c cJ9_ensureCapacity 3 s ([.ref t0, .int p1] : List Value).toArray lw_all RJ9 := ⟨hx, hb, hml, hown, hts⟩
  have hS : va_S (wA G) s.heap s.heap [] := va_S.rf
  have hl := lv_entry ([.ref t0, .int p1]) (n := 3) (Nat.le_of_ble_eq_true rfl)
  rw [lg_entry_eq]
  generalize (lg_sl ([.ref t0, .int p1]) ++ List.replicate (3 - (lg_sl ([.ref t0, .int p1])).length) Slot.unset).toArray = ls at hl ⊢
  have hl : lv_has ls 3 [(0, .ref t0), (1, .int p1)] := hl
  have hB : 0 + b ≤ ((headSpec (ws_ yJ9_ensureCapacity cJ9_ensureCapacity 3 (none)) ({ frames := 13, cells := b, slots := b, locals := 422 })).room).cells ∧ 0 + b ≤ ((headSpec (ws_ yJ9_ensureCapacity cJ9_ensureCapacity 3 (none)) ({ frames := 13, cells := b, slots := b, locals := 422 })).room).slots := ⟨Nat.le_of_eq (Nat.zero_add b), Nat.le_of_eq (Nat.zero_add b)⟩
  have hB38 : ∀ (M : wM) (bq : Nat) (H : Heap) (locs : List Loc) (ls : Array Slot) (cells slots : Nat), B_J9_ensureCapacity_38 G Q M bq → wR G M H → va_S (wA G) s.heap H locs → (cells + bq ≤ ((headSpec (ws_ yJ9_ensureCapacity cJ9_ensureCapacity 3 (none)) ({ frames := 13, cells := b, slots := b, locals := 422 })).room).cells ∧ slots + bq ≤ ((headSpec (ws_ yJ9_ensureCapacity cJ9_ensureCapacity 3 (none)) ({ frames := 13, cells := b, slots := b, locals := 422 })).room).slots) → lv_has ls 3 [] → W p l e (headSpec (ws_ yJ9_ensureCapacity cJ9_ensureCapacity 3 (none)) ({ frames := 13, cells := b, slots := b, locals := 422 })).room s m ([.ref t0, .int p1] : List Value).toArray below meth c H locs cells slots (vx_MQ below (wQ G (wqV Q)) (wXC G wX0) ([.ref t0, .int p1] : List Value).toArray s b b (wA G)) (F0 m 38 ls []) := by
    intro M bq H locs ls cells slots hp hM hS hB hl
    exact x_vret X hr hlk hM hS (w_fin hB) dJ9_ensureCapacity_38 ⟨rfl, hp⟩
  refine lv_aload_n hx hb dJ9_ensureCapacity_0 rfl (lv_at hl 0 rfl) ?_
  refine x_getA X hC.1 hM (ci := 21) (C := RJ9) (T := TJ9) (N := 3) rfl in_J9 0 (by decide) q481 (fun _ h9 => h9) dJ9_ensureCapacity_1 hp (fun a1 hp => ?_)
  refine x_alen X hC.1 hM (ty := .long) (by decide) dJ9_ensureCapacity_4 hp (fun v2 hp => ?_)
  refine lv_iload_n hx hb dJ9_ensureCapacity_5 rfl (lv_at hl 1 rfl) ?_
  refine lv_icmp_ge (tgt := 38) hx hb dJ9_ensureCapacity_6 (by decide) (fun hc => ?_) (fun hc => ?_)
  · have hp := oIf.t hp hc
    exact hB38 _ _ _ _ _ _ _ hp hM hS hB (lv_sub hl [] rfl)
  · have hp := oIf.f hp hc
    refine lv_iconst (v := 2) hx hb dJ9_ensureCapacity_9 (by decide) ?_
    refine lv_aload_n hx hb dJ9_ensureCapacity_10 rfl (lv_at hl 0 rfl) ?_
    refine x_getA X hC.1 hM (ci := 21) (C := RJ9) (T := TJ9) (N := 3) rfl in_J9 0 (by decide) q481 (fun _ h9 => h9) dJ9_ensureCapacity_11 hp (fun a3 hp => ?_)
    refine x_alen X hC.1 hM (ty := .long) (by decide) dJ9_ensureCapacity_14 hp (fun v4 hp => ?_)
    refine lv_imul hx hb dJ9_ensureCapacity_15 ?_
    refine lv_iload_n hx hb dJ9_ensureCapacity_16 rfl (lv_at hl 1 rfl) ?_
    refine va_mmax hx hb (hml.trans hl.1.symm) hown (hts _ q1515) (hts _ q287) (hts _ q155) (hts _ q288) (Nat.le_of_ble_eq_true rfl) (Nat.le_of_ble_eq_true rfl) (w_fin hB).1 (w_fin hB).2 dJ9_ensureCapacity_17 ?_
    refine lv_istore_n (lv' := [(2, .int (if ((2 : Int32) * v4) < p1 then p1 else ((2 : Int32) * v4))), (0, .ref t0), (1, .int p1)]) hx hb dJ9_ensureCapacity_20 rfl hl (by decide) rfl (fun ls hl => ?_)
    refine lv_aload_n hx hb dJ9_ensureCapacity_21 rfl (lv_at hl 1 rfl) ?_
    refine lv_aload_n hx hb dJ9_ensureCapacity_22 rfl (lv_at hl 1 rfl) ?_
    refine x_getA X hC.1 hM (ci := 21) (C := RJ9) (T := TJ9) (N := 3) rfl in_J9 0 (by decide) q481 (fun _ h9 => h9) dJ9_ensureCapacity_23 hp (fun a5 hp => ?_)
    refine lv_iload_n hx hb dJ9_ensureCapacity_26 rfl (lv_at hl 0 rfl) ?_
    obtain ⟨c7, hc1, hp⟩ := hp
    refine x_callR (vx_runS (As := [.ref a5, .int (if ((2 : Int32) * v4) < p1 then p1 else ((2 : Int32) * v4))]) (rest := [.ref t0]) X (P_J5_copyOf_4_ok (l := l) hl0 hp) (va_cwS 2 hts (lw_S q1516 q1517 q156 q1518) rfl rfl rfl (by decide +kernel) ⟨Nat.le_of_ble_eq_true rfl, Nat.le_of_ble_eq_true rfl⟩) ⟨wPc.blind, w_pre hC hM hS _⟩ rfl rfl hl.1 rfl (lv_room (Nat.le_of_ble_eq_true rfl)) dJ9_ensureCapacity_27 (w_room hB hc1)) hS hB hc1 (fun _ _ _ _ _ _ h => False.elim h) (fun r8 M6 H locs hp hM hS hB => ?_)
    refine x_put X hC.1 hM hS (ci := 21) (C := RJ9) (T := TJ9) (N := 3) rfl in_J9 tyJ9 tyJ9_ok nmJ9 0 (by decide) q481 (fun _ h9 => h9) rfl (w_narr _ r8) (w_farr _ r8) dJ9_ensureCapacity_30 hp (fun M9 H locs hM hS hp => ?_)
    refine lv_aload_n hx hb dJ9_ensureCapacity_33 rfl (lv_at hl 1 rfl) ?_
    refine lv_iconst (v := 0) hx hb dJ9_ensureCapacity_34 (by decide) ?_
    refine x_put X hC.1 hM hS (ci := 21) (C := RJ9) (T := TJ9) (N := 3) rfl in_J9 tyJ9 tyJ9_ok nmJ9 2 (by decide) q483 (fun _ h9 => h9) rfl (by decide) (by decide) dJ9_ensureCapacity_35 hp (fun M10 H locs hM hS hp => ?_)
    exact hB38 _ _ _ _ _ _ _ hp hM hS hB (lv_sub hl [] rfl)
def B_J9_or_100 (G : wG) (Q : wM → Prop) (x0 : Nat) (M : wM) (bq : Nat) : Prop :=
  oIs M x0 21 (P_J9_checkInvariants G x0 M (fun M1 => Q M1))
def B_J9_or_47 (G : wG) (rec47 : Nat → Nat → Int32 → Int32 → wM → Nat → Prop) (Q : wM → Prop) (x0 : Nat) (x1 : Nat) (x2 : Int32) (x3 : Int32) (M : wM) (bq : Nat) : Prop :=
  oIf (x2 ≤ x3) (oGetI M x1 21 1 (fun v1 => oIf (v1 ≤ x2) (B_J9_or_100 G Q x0 M bq) (oGetA M x1 21 0 (fun a2 => oGetA M x0 21 0 (fun a3 => oGetI M x0 21 1 (fun v4 => oCopyJ G M a2 x2 a3 x2 (v4 - x2) (fun M5 => B_J9_or_100 G Q x0 M5 bq))))))) (oGetA M x0 21 0 (fun a6 => oLald M a6 x3 (fun v7 => oGetA M x1 21 0 (fun a8 => oLald M a8 x3 (fun v9 => oLast G M a6 x3 (v7 ||| v9) (fun M10 => rec47 x0 x1 x2 (x3 + 1) M10 bq))))))
def L_J9_or_47 (G : wG) (Q : wM → Prop) : Nat → Nat → Nat → Int32 → Int32 → wM → Nat → Prop
  | 0 => fun _ _ _ _ _ _ => False
  | n + 1 => B_J9_or_47 G (L_J9_or_47 G Q n) Q
def B_J9_or_45 (G : wG) (Q : wM → Prop) (x0 : Nat) (x1 : Nat) (x2 : Int32) (M : wM) (bq : Nat) : Prop :=
  ∃ n, L_J9_or_47 G Q n x0 x1 x2 (0 : Int32) M bq
def P_J9_or (G : wG) (t0 : Nat) (p1 : Nat) (b : Nat) (M : wM) (Q : wM → Prop) : Prop :=
  oIf ((some t0) = (some p1)) (Q M) (oGetI M t0 21 1 (fun v1 => oGetI M p1 21 1 (fun v2 => oGetI M t0 21 1 (fun v3 => oGetI M p1 21 1 (fun v4 => oIf (v4 ≤ v3) (B_J9_or_45 G Q t0 p1 (if v2 < v1 then v2 else v1) M b) (oGetI M p1 21 1 (fun v5 => oIs M t0 21 (∃ c7, c7 ≤ b ∧ P_J9_ensureCapacity G t0 v5 c7 M (fun M6 => oGetI M6 p1 21 1 (fun v8 => oPut G M6 t0 21 1 (.int v8) (fun M9 => B_J9_or_45 G Q t0 p1 (if v2 < v1 then v2 else v1) M9 (b - c7))))))))))))
set_option maxHeartbeats 4000000 in
set_option maxRecDepth 100000 in
theorem P_J9_or_ok {l : Launch} (hl0 : l.stackTraces = false) {G : wG} {t0 : Nat} {p1 : Nat} {b : Nat} {M : wM} {Q : wM → Prop} (hp : P_J9_or G t0 p1 b M Q) : wMet l yJ9_or (ws_ yJ9_or cJ9_or 4 (none)) 14 444 G [.ref t0, .ref p1] M b (wqV Q) wX0 := by
  refine vx_ofW (cc := cJ9_or) (maxL := 4) (ret := none) (by decide) rfl ?_
  intro p e s m args below meth c s₁ B hml hnt hv
  obtain ⟨rfl, hM, hK, hZ, hz⟩ := hv
  have hC : wC G s := ⟨hK, hZ, hz⟩
  have hx := B.exec
  have hb := B.bytes
  have hr := B.returns
  have hts := atoms_spec (ws := (ws_ yJ9_or cJ9_or 4 (none))) B.pre
  have hts : ∀ w ∈ lw_all, w.before _ s = true := fun w h => hts w (List.mem_cons_of_mem _ h)
  have hown : s.vm.findClass RJ9 = some m.cls := findClass_of_methodNamed B.named
  have hlk := B.notSynchronized
  have X : CallFix p m c cJ9_or 4 s ([.ref t0, .ref p1] : List Value).toArray lw_all RJ9 := ⟨hx, hb, hml, hown, hts⟩
  have hS : va_S (wA G) s.heap s.heap [] := va_S.rf
  have hl := lv_entry ([.ref t0, .ref p1]) (n := 4) (Nat.le_of_ble_eq_true rfl)
  rw [lg_entry_eq]
  generalize (lg_sl ([.ref t0, .ref p1]) ++ List.replicate (4 - (lg_sl ([.ref t0, .ref p1])).length) Slot.unset).toArray = ls at hl ⊢
  have hl : lv_has ls 4 [(0, .ref t0), (1, .ref p1)] := hl
  have hB : 0 + b ≤ ((headSpec (ws_ yJ9_or cJ9_or 4 (none)) ({ frames := 14, cells := b, slots := b, locals := 444 })).room).cells ∧ 0 + b ≤ ((headSpec (ws_ yJ9_or cJ9_or 4 (none)) ({ frames := 14, cells := b, slots := b, locals := 444 })).room).slots := ⟨Nat.le_of_eq (Nat.zero_add b), Nat.le_of_eq (Nat.zero_add b)⟩
  have hB100 : ∀ (x0 : Nat) (M : wM) (bq : Nat) (H : Heap) (locs : List Loc) (ls : Array Slot) (cells slots : Nat), B_J9_or_100 G Q x0 M bq → wR G M H → va_S (wA G) s.heap H locs → (cells + bq ≤ ((headSpec (ws_ yJ9_or cJ9_or 4 (none)) ({ frames := 14, cells := b, slots := b, locals := 444 })).room).cells ∧ slots + bq ≤ ((headSpec (ws_ yJ9_or cJ9_or 4 (none)) ({ frames := 14, cells := b, slots := b, locals := 444 })).room).slots) → lv_has ls 4 [(0, .ref x0)] → W p l e (headSpec (ws_ yJ9_or cJ9_or 4 (none)) ({ frames := 14, cells := b, slots := b, locals := 444 })).room s m ([.ref t0, .ref p1] : List Value).toArray below meth c H locs cells slots (vx_MQ below (wQ G (wqV Q)) (wXC G wX0) ([.ref t0, .ref p1] : List Value).toArray s b b (wA G)) (F0 m 100 ls []) := by
    intro x0 M bq H locs ls cells slots hp hM hS hB hl
    refine lv_aload_n hx hb dJ9_or_100 rfl (lv_at hl 0 rfl) ?_
    obtain ⟨hrec, hp⟩ := hp
    refine x_call0V (vx_runV (As := []) (rest := []) X (P_J9_checkInvariants_ok (l := l) hl0 hp) (cwV 0 hts (lw_V q1497 q1499 qs25 q161 q1500) rfl rfl rfl (by decide +kernel) ⟨Nat.le_of_ble_eq_true rfl, Nat.le_of_ble_eq_true rfl⟩) ⟨wPc.blind, w_recv hC.1 hM (ci := 21) (q := (RJ9, TJ9, 3)) rfl hrec, w_pre hC hM hS _⟩ rfl rfl hl.1 rfl (lv_room (Nat.le_of_ble_eq_true rfl)) dJ9_or_101 (w_room0 hB)) hS (w_room0 hB) (fun _ _ _ _ _ _ h => False.elim h) (fun M1 H locs hp hM hS => ?_)
    exact x_vret X hr hlk hM hS (w_fin hB) dJ9_or_104 ⟨rfl, hp⟩
  have hB47 : ∀ (rec47 : Nat → Nat → Int32 → Int32 → wM → Nat → Prop) (hrec47 : ∀ (x0 : Nat) (x1 : Nat) (x2 : Int32) (x3 : Int32) (M : wM) (bq : Nat) (H : Heap) (locs : List Loc) (ls : Array Slot) (cells slots : Nat), rec47 x0 x1 x2 x3 M bq → wR G M H → va_S (wA G) s.heap H locs → (cells + bq ≤ ((headSpec (ws_ yJ9_or cJ9_or 4 (none)) ({ frames := 14, cells := b, slots := b, locals := 444 })).room).cells ∧ slots + bq ≤ ((headSpec (ws_ yJ9_or cJ9_or 4 (none)) ({ frames := 14, cells := b, slots := b, locals := 444 })).room).slots) → lv_has ls 4 [(0, .ref x0), (1, .ref x1), (2, .int x2), (3, .int x3)] → W p l e (headSpec (ws_ yJ9_or cJ9_or 4 (none)) ({ frames := 14, cells := b, slots := b, locals := 444 })).room s m ([.ref t0, .ref p1] : List Value).toArray below meth c H locs cells slots (vx_MQ below (wQ G (wqV Q)) (wXC G wX0) ([.ref t0, .ref p1] : List Value).toArray s b b (wA G)) (F0 m 47 ls [])), ∀ (x0 : Nat) (x1 : Nat) (x2 : Int32) (x3 : Int32) (M : wM) (bq : Nat) (H : Heap) (locs : List Loc) (ls : Array Slot) (cells slots : Nat), B_J9_or_47 G rec47 Q x0 x1 x2 x3 M bq → wR G M H → va_S (wA G) s.heap H locs → (cells + bq ≤ ((headSpec (ws_ yJ9_or cJ9_or 4 (none)) ({ frames := 14, cells := b, slots := b, locals := 444 })).room).cells ∧ slots + bq ≤ ((headSpec (ws_ yJ9_or cJ9_or 4 (none)) ({ frames := 14, cells := b, slots := b, locals := 444 })).room).slots) → lv_has ls 4 [(0, .ref x0), (1, .ref x1), (2, .int x2), (3, .int x3)] → W p l e (headSpec (ws_ yJ9_or cJ9_or 4 (none)) ({ frames := 14, cells := b, slots := b, locals := 444 })).room s m ([.ref t0, .ref p1] : List Value).toArray below meth c H locs cells slots (vx_MQ below (wQ G (wqV Q)) (wXC G wX0) ([.ref t0, .ref p1] : List Value).toArray s b b (wA G)) (F0 m 47 ls []) := by
    intro rec47 hrec47 x0 x1 x2 x3 M bq H locs ls cells slots hp hM hS hB hl
    refine lv_iload_n hx hb dJ9_or_47 rfl (lv_at hl 3 rfl) ?_
    refine lv_iload_n hx hb dJ9_or_48 rfl (lv_at hl 2 rfl) ?_
    refine lv_icmp_ge (tgt := 73) hx hb dJ9_or_49 (by decide) (fun hc => ?_) (fun hc => ?_)
    · have hp := oIf.t hp hc
      refine lv_iload_n hx hb dJ9_or_73 rfl (lv_at hl 2 rfl) ?_
      refine lv_aload_n hx hb dJ9_or_74 rfl (lv_at hl 1 rfl) ?_
      refine x_getI X hC.1 hM (ci := 21) (C := RJ9) (T := TJ9) (N := 3) rfl in_J9 1 (by decide) q482 (fun _ h9 => h9) dJ9_or_75 hp (fun v1 hp => ?_)
      refine lv_icmp_ge (tgt := 100) hx hb dJ9_or_78 (by decide) (fun hc => ?_) (fun hc => ?_)
      · have hp := oIf.t hp hc
        exact hB100 _ _ _ _ _ _ _ _ hp hM hS hB (lv_sub hl [0] rfl)
      · have hp := oIf.f hp hc
        refine lv_aload_n hx hb dJ9_or_81 rfl (lv_at hl 1 rfl) ?_
        refine x_getA X hC.1 hM (ci := 21) (C := RJ9) (T := TJ9) (N := 3) rfl in_J9 0 (by decide) q481 (fun _ h9 => h9) dJ9_or_82 hp (fun a2 hp => ?_)
        refine lv_iload_n hx hb dJ9_or_85 rfl (lv_at hl 2 rfl) ?_
        refine lv_aload_n hx hb dJ9_or_86 rfl (lv_at hl 0 rfl) ?_
        refine x_getA X hC.1 hM (ci := 21) (C := RJ9) (T := TJ9) (N := 3) rfl in_J9 0 (by decide) q481 (fun _ h9 => h9) dJ9_or_87 hp (fun a3 hp => ?_)
        refine lv_iload_n hx hb dJ9_or_90 rfl (lv_at hl 2 rfl) ?_
        refine lv_aload_n hx hb dJ9_or_91 rfl (lv_at hl 0 rfl) ?_
        refine x_getI X hC.1 hM (ci := 21) (C := RJ9) (T := TJ9) (N := 3) rfl in_J9 1 (by decide) q482 (fun _ h9 => h9) dJ9_or_92 hp (fun v4 hp => ?_)
        refine lv_iload_n hx hb dJ9_or_95 rfl (lv_at hl 2 rfl) ?_
        refine lv_isub hx hb dJ9_or_96 ?_
        refine x_copyJ X (hml.trans hl.1.symm) hC hM hS q2171 q351 q350 q157 (Nat.le_of_ble_eq_true rfl) (Nat.le_of_ble_eq_true rfl) dJ9_or_97 hp (fun M5 H locs hM hS hp => ?_)
        exact hB100 _ _ _ _ _ _ _ _ hp hM hS hB (lv_sub hl [0] rfl)
    · have hp := oIf.f hp hc
      refine lv_aload_n hx hb dJ9_or_52 rfl (lv_at hl 0 rfl) ?_
      refine x_getA X hC.1 hM (ci := 21) (C := RJ9) (T := TJ9) (N := 3) rfl in_J9 0 (by decide) q481 (fun _ h9 => h9) dJ9_or_53 hp (fun a6 hp => ?_)
      refine lv_iload_n hx hb dJ9_or_56 rfl (lv_at hl 3 rfl) ?_
      refine lv_dup2_11 hx hb dJ9_or_57 rfl rfl ?_
      refine x_lald X hC.1 hM dJ9_or_58 hp (fun v7 hp => ?_)
      refine lv_aload_n hx hb dJ9_or_59 rfl (lv_at hl 1 rfl) ?_
      refine x_getA X hC.1 hM (ci := 21) (C := RJ9) (T := TJ9) (N := 3) rfl in_J9 0 (by decide) q481 (fun _ h9 => h9) dJ9_or_60 hp (fun a8 hp => ?_)
      refine lv_iload_n hx hb dJ9_or_63 rfl (lv_at hl 3 rfl) ?_
      refine x_lald X hC.1 hM dJ9_or_64 hp (fun v9 hp => ?_)
      refine lv_lor hx hb dJ9_or_65 ?_
      refine x_last X hC.1 hM hS dJ9_or_66 hp (fun M10 H locs hM hS hp => ?_)
      refine lv_iinc (v := (x3 + 1)) (lv' := [(3, .int (x3 + 1)), (0, .ref x0), (1, .ref x1), (2, .int x2)]) hx hb dJ9_or_67 hl (k := 3) rfl rfl (by decide) rfl (fun ls hl => ?_)
      refine lv_goto (tgt := 47) hx hb dJ9_or_70 (by decide) ?_
      exact hrec47 _ _ _ _ _ _ _ _ _ _ _ hp hM hS hB (lv_sub hl [1, 2, 3, 0] rfl)
  have hL47 : ∀ (n : Nat), ∀ (x0 : Nat) (x1 : Nat) (x2 : Int32) (x3 : Int32) (M : wM) (bq : Nat) (H : Heap) (locs : List Loc) (ls : Array Slot) (cells slots : Nat), L_J9_or_47 G Q n x0 x1 x2 x3 M bq → wR G M H → va_S (wA G) s.heap H locs → (cells + bq ≤ ((headSpec (ws_ yJ9_or cJ9_or 4 (none)) ({ frames := 14, cells := b, slots := b, locals := 444 })).room).cells ∧ slots + bq ≤ ((headSpec (ws_ yJ9_or cJ9_or 4 (none)) ({ frames := 14, cells := b, slots := b, locals := 444 })).room).slots) → lv_has ls 4 [(0, .ref x0), (1, .ref x1), (2, .int x2), (3, .int x3)] → W p l e (headSpec (ws_ yJ9_or cJ9_or 4 (none)) ({ frames := 14, cells := b, slots := b, locals := 444 })).room s m ([.ref t0, .ref p1] : List Value).toArray below meth c H locs cells slots (vx_MQ below (wQ G (wqV Q)) (wXC G wX0) ([.ref t0, .ref p1] : List Value).toArray s b b (wA G)) (F0 m 47 ls []) := by
    intro n
    induction n with
    | zero => intro _ _ _ _ _ _ _ _ _ _ _ hp; exact False.elim hp
    | succ n ih => intro x0 x1 x2 x3 M bq H locs ls cells slots hp hM hS hB hl; exact hB47 (L_J9_or_47 G Q n) ih _ _ _ _ _ _ _ _ _ _ _ hp hM hS hB hl
  have hB45 : ∀ (x0 : Nat) (x1 : Nat) (x2 : Int32) (M : wM) (bq : Nat) (H : Heap) (locs : List Loc) (ls : Array Slot) (cells slots : Nat), B_J9_or_45 G Q x0 x1 x2 M bq → wR G M H → va_S (wA G) s.heap H locs → (cells + bq ≤ ((headSpec (ws_ yJ9_or cJ9_or 4 (none)) ({ frames := 14, cells := b, slots := b, locals := 444 })).room).cells ∧ slots + bq ≤ ((headSpec (ws_ yJ9_or cJ9_or 4 (none)) ({ frames := 14, cells := b, slots := b, locals := 444 })).room).slots) → lv_has ls 4 [(0, .ref x0), (1, .ref x1), (2, .int x2)] → W p l e (headSpec (ws_ yJ9_or cJ9_or 4 (none)) ({ frames := 14, cells := b, slots := b, locals := 444 })).room s m ([.ref t0, .ref p1] : List Value).toArray below meth c H locs cells slots (vx_MQ below (wQ G (wqV Q)) (wXC G wX0) ([.ref t0, .ref p1] : List Value).toArray s b b (wA G)) (F0 m 45 ls []) := by
    intro x0 x1 x2 M bq H locs ls cells slots hp hM hS hB hl
    refine lv_iconst (v := 0) hx hb dJ9_or_45 (by decide) ?_
    refine lv_istore_n (lv' := [(3, .int (0 : Int32)), (0, .ref x0), (1, .ref x1), (2, .int x2)]) hx hb dJ9_or_46 rfl hl (by decide) rfl (fun ls hl => ?_)
    obtain ⟨n, hp⟩ := hp
    exact hL47 n _ _ _ _ _ _ _ _ _ _ _ hp hM hS hB (lv_sub hl [1, 2, 3, 0] rfl)
  refine lv_aload_n hx hb dJ9_or_0 rfl (lv_at hl 0 rfl) ?_
  refine lv_aload_n hx hb dJ9_or_1 rfl (lv_at hl 1 rfl) ?_
  refine lv_acmp_ne (rx := (some t0)) (ry := (some p1)) (tgt := 6) hx hb dJ9_or_2 (by decide) (fun hc => ?_) (fun hc => ?_)
  · have hp := oIf.f hp hc
    refine lv_aload_n hx hb dJ9_or_6 rfl (lv_at hl 0 rfl) ?_
    refine x_getI X hC.1 hM (ci := 21) (C := RJ9) (T := TJ9) (N := 3) rfl in_J9 1 (by decide) q482 (fun _ h9 => h9) dJ9_or_7 hp (fun v1 hp => ?_)
    refine lv_aload_n hx hb dJ9_or_10 rfl (lv_at hl 1 rfl) ?_
    refine x_getI X hC.1 hM (ci := 21) (C := RJ9) (T := TJ9) (N := 3) rfl in_J9 1 (by decide) q482 (fun _ h9 => h9) dJ9_or_11 hp (fun v2 hp => ?_)
    refine va_mmin hx hb (hml.trans hl.1.symm) hown (hts _ q2170) (hts _ q347) (hts _ q155) (hts _ q348) (Nat.le_of_ble_eq_true rfl) (Nat.le_of_ble_eq_true rfl) (w_fin hB).1 (w_fin hB).2 dJ9_or_14 ?_
    refine lv_istore_n (lv' := [(2, .int (if v2 < v1 then v2 else v1)), (0, .ref t0), (1, .ref p1)]) hx hb dJ9_or_17 rfl hl (by decide) rfl (fun ls hl => ?_)
    refine lv_aload_n hx hb dJ9_or_18 rfl (lv_at hl 1 rfl) ?_
    refine x_getI X hC.1 hM (ci := 21) (C := RJ9) (T := TJ9) (N := 3) rfl in_J9 1 (by decide) q482 (fun _ h9 => h9) dJ9_or_19 hp (fun v3 hp => ?_)
    refine lv_aload_n hx hb dJ9_or_22 rfl (lv_at hl 2 rfl) ?_
    refine x_getI X hC.1 hM (ci := 21) (C := RJ9) (T := TJ9) (N := 3) rfl in_J9 1 (by decide) q482 (fun _ h9 => h9) dJ9_or_23 hp (fun v4 hp => ?_)
    refine lv_icmp_ge (tgt := 45) hx hb dJ9_or_26 (by decide) (fun hc => ?_) (fun hc => ?_)
    · have hp := oIf.t hp hc
      exact hB45 _ _ _ _ _ _ _ _ _ _ hp hM hS hB (lv_sub hl [1, 2, 0] rfl)
    · have hp := oIf.f hp hc
      refine lv_aload_n hx hb dJ9_or_29 rfl (lv_at hl 1 rfl) ?_
      refine lv_aload_n hx hb dJ9_or_30 rfl (lv_at hl 2 rfl) ?_
      refine x_getI X hC.1 hM (ci := 21) (C := RJ9) (T := TJ9) (N := 3) rfl in_J9 1 (by decide) q482 (fun _ h9 => h9) dJ9_or_31 hp (fun v5 hp => ?_)
      obtain ⟨hrec, hp⟩ := hp
      obtain ⟨c7, hc1, hp⟩ := hp
      refine x_callV (vx_runV (As := [.int v5]) (rest := []) X (P_J9_ensureCapacity_ok (l := l) hl0 hp) (cwV 1 hts (lw_V q1511 q1513 qs27 q161 q1514) rfl rfl rfl (by decide +kernel) ⟨Nat.le_of_ble_eq_true rfl, Nat.le_of_ble_eq_true rfl⟩) ⟨wPc.blind, w_recv hC.1 hM (ci := 21) (q := (RJ9, TJ9, 3)) rfl hrec, w_pre hC hM hS _⟩ rfl rfl hl.1 rfl (lv_room (Nat.le_of_ble_eq_true rfl)) dJ9_or_34 (w_room hB hc1)) hS hB hc1 (fun _ _ _ _ _ _ h => False.elim h) (fun M6 H locs hp hM hS hB => ?_)
      refine lv_aload_n hx hb dJ9_or_37 rfl (lv_at hl 1 rfl) ?_
      refine lv_aload_n hx hb dJ9_or_38 rfl (lv_at hl 2 rfl) ?_
      refine x_getI X hC.1 hM (ci := 21) (C := RJ9) (T := TJ9) (N := 3) rfl in_J9 1 (by decide) q482 (fun _ h9 => h9) dJ9_or_39 hp (fun v8 hp => ?_)
      refine x_put X hC.1 hM hS (ci := 21) (C := RJ9) (T := TJ9) (N := 3) rfl in_J9 tyJ9 tyJ9_ok nmJ9 1 (by decide) q482 (fun _ h9 => h9) rfl rfl rfl dJ9_or_42 hp (fun M9 H locs hM hS hp => ?_)
      exact hB45 _ _ _ _ _ _ _ _ _ _ hp hM hS hB (lv_sub hl [1, 2, 0] rfl)
  · have hp := oIf.t hp hc
    exact x_vret X hr hlk hM hS (w_fin hB) dJ9_or_5 ⟨rfl, hp⟩
def P_J36_checkForComodification (G : wG) (t0 : Nat) (M : wM) (Q : wM → Prop) : Prop :=
  oGetA M t0 19 4 (fun a1 => oGetI M a1 17 0 (fun v2 => oGetI M t0 19 3 (fun v3 => oIf (v2 = v3) (Q M) (False))))
set_option maxHeartbeats 4000000 in
set_option maxRecDepth 100000 in
theorem P_J36_checkForComodification_ok {l : Launch} (hl0 : l.stackTraces = false) {G : wG} {t0 : Nat} {M : wM} {Q : wM → Prop} (hp : P_J36_checkForComodification G t0 M Q) : wMet l yJ36_checkForComodification (ws_ yJ36_checkForComodification cJ36_checkForComodification 1 (none)) 12 400 G [.ref t0] M 0 (wqV Q) wX0 := by
  refine vx_ofW (cc := cJ36_checkForComodification) (maxL := 1) (ret := none) (by decide) rfl ?_
  intro p e s m args below meth c s₁ B hml hnt hv
  obtain ⟨rfl, hM, hK, hZ, hz⟩ := hv
  have hC : wC G s := ⟨hK, hZ, hz⟩
  have hx := B.exec
  have hb := B.bytes
  have hr := B.returns
  have hts := atoms_spec (ws := (ws_ yJ36_checkForComodification cJ36_checkForComodification 1 (none))) B.pre
  have hts : ∀ w ∈ lw_all, w.before _ s = true := fun w h => hts w (List.mem_cons_of_mem _ h)
  have hown : s.vm.findClass RJ36 = some m.cls := findClass_of_methodNamed B.named
  have hlk := B.notSynchronized
  have X : CallFix p m c cJ36_checkForComodification 1 s ([.ref t0] : List Value).toArray lw_all RJ36 := ⟨hx, hb, hml, hown, hts⟩
  have hS : va_S (wA G) s.heap s.heap [] := va_S.rf
  have hl := lv_entry ([.ref t0]) (n := 1) (Nat.le_of_ble_eq_true rfl)
  rw [lg_entry_eq]
  generalize (lg_sl ([.ref t0]) ++ List.replicate (1 - (lg_sl ([.ref t0])).length) Slot.unset).toArray = ls at hl ⊢
  have hl : lv_has ls 1 [(0, .ref t0)] := hl
  refine lv_aload_n hx hb dJ36_checkForComodification_0 rfl (lv_at hl 0 rfl) ?_
  refine x_getA X hC.1 hM (ci := 19) (C := RJ36) (T := TJ36) (N := 5) rfl in_J36 4 (by decide) q1775 (fun _ h9 => h9) dJ36_checkForComodification_1 hp (fun a1 hp => ?_)
  refine x_getI X hC.1 hM (ci := 17) (C := RJ8) (T := TJ8) (N := 4) rfl in_J8 0 (by decide) q247 (fun x9 h9 => u_same (hts _ q248) x9 h9) dJ36_checkForComodification_4 hp (fun v2 hp => ?_)
  refine lv_aload_n hx hb dJ36_checkForComodification_7 rfl (lv_at hl 0 rfl) ?_
  refine x_getI X hC.1 hM (ci := 19) (C := RJ36) (T := TJ36) (N := 5) rfl in_J36 3 (by decide) q1774 (fun _ h9 => h9) dJ36_checkForComodification_8 hp (fun v3 hp => ?_)
  refine lv_icmp_eq (tgt := 22) hx hb dJ36_checkForComodification_11 (by decide) (fun hc => ?_) (fun hc => ?_)
  · have hp := oIf.t hp hc
    exact x_vret X hr hlk hM hS ⟨Nat.le_refl _, Nat.le_refl _⟩ dJ36_checkForComodification_22 ⟨rfl, hp⟩
  · have hp := oIf.f hp hc
    exact hp.elim
def P_J36_next (G : wG) (t0 : Nat) (M : wM) (Q : Option Nat → wM → Prop) : Prop :=
  oIs M t0 19 (P_J36_checkForComodification G t0 M (fun M1 => oIs M1 t0 19 (P_J36_hasNext G t0 M1 (fun r5 M3 => oIf (r5 = true) (oGetR M3 t0 19 1 (fun r6 => oPut G M3 t0 19 0 (va_rf r6) (fun M7 => oGetR M7 t0 19 1 (fun r8 => oRef r8 (fun a9 => oGetR M7 a9 18 1 (fun r10 => oPut G M7 t0 19 1 (va_rf r10) (fun M11 => oGetI M11 t0 19 2 (fun v12 => oPut G M11 t0 19 2 (.int (v12 + (1 : Int32))) (fun M13 => oGetR M13 t0 19 0 (fun r14 => oRef r14 (fun a15 => oGetR M13 a15 18 0 (fun r16 => Q r16 M13)))))))))))) (False)))))
set_option maxHeartbeats 4000000 in
set_option maxRecDepth 100000 in
theorem P_J36_next_ok {l : Launch} (hl0 : l.stackTraces = false) {G : wG} {t0 : Nat} {M : wM} {Q : Option Nat → wM → Prop} (hp : P_J36_next G t0 M Q) : wMet l yJ36_next (ws_ yJ36_next cJ36_next 1 (Option.some (Jvm.ClassFile.FieldType.object "java/lang/Object"))) 13 420 G [.ref t0] M 0 (wqR Q) wX0 := by
  refine vx_ofW (cc := cJ36_next) (maxL := 1) (ret := Option.some (Jvm.ClassFile.FieldType.object "java/lang/Object")) (by decide) rfl ?_
  intro p e s m args below meth c s₁ B hml hnt hv
  obtain ⟨rfl, hM, hK, hZ, hz⟩ := hv
  have hC : wC G s := ⟨hK, hZ, hz⟩
  have hx := B.exec
  have hb := B.bytes
  have hr := B.returns
  have hts := atoms_spec (ws := (ws_ yJ36_next cJ36_next 1 (Option.some (Jvm.ClassFile.FieldType.object "java/lang/Object")))) B.pre
  have hts : ∀ w ∈ lw_all, w.before _ s = true := fun w h => hts w (List.mem_cons_of_mem _ h)
  have hown : s.vm.findClass RJ36 = some m.cls := findClass_of_methodNamed B.named
  have hlk := B.notSynchronized
  have X : CallFix p m c cJ36_next 1 s ([.ref t0] : List Value).toArray lw_all RJ36 := ⟨hx, hb, hml, hown, hts⟩
  have hS : va_S (wA G) s.heap s.heap [] := va_S.rf
  have hl := lv_entry ([.ref t0]) (n := 1) (Nat.le_of_ble_eq_true rfl)
  rw [lg_entry_eq]
  generalize (lg_sl ([.ref t0]) ++ List.replicate (1 - (lg_sl ([.ref t0])).length) Slot.unset).toArray = ls at hl ⊢
  have hl : lv_has ls 1 [(0, .ref t0)] := hl
  refine lv_aload_n hx hb dJ36_next_0 rfl (lv_at hl 0 rfl) ?_
  obtain ⟨hrec, hp⟩ := hp
  refine x_call0V (vx_runV (As := []) (rest := []) X (P_J36_checkForComodification_ok (l := l) hl0 hp) (cwV 0 hts (lw_V q1957 q1958 q1959 q195 q1960) rfl rfl rfl (by decide +kernel) ⟨Nat.le_of_ble_eq_true rfl, Nat.le_of_ble_eq_true rfl⟩) ⟨wPc.blind, w_recv hC.1 hM (ci := 19) (q := (RJ36, TJ36, 5)) rfl hrec, w_pre hC hM hS _⟩ rfl rfl hl.1 rfl (lv_room (Nat.le_of_ble_eq_true rfl)) dJ36_next_1 ⟨Nat.le_refl _, Nat.le_refl _⟩) hS ⟨Nat.le_refl _, Nat.le_refl _⟩ (fun _ _ _ _ _ _ h => False.elim h) (fun M1 H locs hp hM hS => ?_)
  refine lv_aload_n hx hb dJ36_next_4 rfl (lv_at hl 0 rfl) ?_
  obtain ⟨hrec, hp⟩ := hp
  refine x_call0Z (vx_runV (As := []) (rest := []) X (P_J36_hasNext_ok (l := l) hl0 hp) (cwV 0 hts (lw_V q1961 q1820 q3811 q195 q1822) rfl rfl rfl (by decide +kernel) ⟨Nat.le_of_ble_eq_true rfl, Nat.le_of_ble_eq_true rfl⟩) ⟨wPc.blind, w_recv hC.1 hM (ci := 19) (q := (RJ36, TJ36, 5)) rfl hrec, w_pre hC hM hS _⟩ rfl rfl hl.1 rfl (lv_room (Nat.le_of_ble_eq_true rfl)) dJ36_next_5 ⟨Nat.le_refl _, Nat.le_refl _⟩) hS ⟨Nat.le_refl _, Nat.le_refl _⟩ (fun _ _ _ _ _ _ h => False.elim h) (fun r5 M3 H locs hp hM hS => ?_)
  refine x_ifneB (tgt := 19) hx hb dJ36_next_8 (by decide) (fun hc => ?_) (fun hc => ?_)
  · have hp := oIf.bt hp hc
    refine lv_aload_n hx hb dJ36_next_19 rfl (lv_at hl 0 rfl) ?_
    refine lv_aload_n hx hb dJ36_next_20 rfl (lv_at hl 0 rfl) ?_
    refine x_getR X hC.1 hM (ci := 19) (C := RJ36) (T := TJ36) (N := 5) rfl in_J36 1 (by decide) q1772 (fun _ h9 => h9) dJ36_next_21 hp (fun r6 hp => ?_)
    refine x_put X hC.1 hM hS (ci := 19) (C := RJ36) (T := TJ36) (N := 5) rfl in_J36 tyJ36 tyJ36_ok nmJ36 0 (by decide) q1771 (fun _ h9 => h9) rfl (w_nobj _ r6) (w_fobj _ r6) dJ36_next_24 hp (fun M7 H locs hM hS hp => ?_)
    refine lv_aload_n hx hb dJ36_next_27 rfl (lv_at hl 0 rfl) ?_
    refine lv_aload_n hx hb dJ36_next_28 rfl (lv_at hl 0 rfl) ?_
    refine x_getR X hC.1 hM (ci := 19) (C := RJ36) (T := TJ36) (N := 5) rfl in_J36 1 (by decide) q1772 (fun _ h9 => h9) dJ36_next_29 hp (fun r8 hp => ?_)
    obtain ⟨a9, ea, hqa9⟩ := hp
    subst ea
    have hp := hqa9
    refine x_getR X hC.1 hM (ci := 18) (C := RJ6) (T := TJ6) (N := 3) rfl in_J6 1 (by decide) q383 (fun _ h9 => h9) dJ36_next_32 hp (fun r10 hp => ?_)
    refine x_put X hC.1 hM hS (ci := 19) (C := RJ36) (T := TJ36) (N := 5) rfl in_J36 tyJ36 tyJ36_ok nmJ36 1 (by decide) q1772 (fun _ h9 => h9) rfl (w_nobj _ r10) (w_fobj _ r10) dJ36_next_35 hp (fun M11 H locs hM hS hp => ?_)
    refine lv_aload_n hx hb dJ36_next_38 rfl (lv_at hl 0 rfl) ?_
    refine lv_dup hx hb dJ36_next_39 rfl ?_
    refine x_getI X hC.1 hM (ci := 19) (C := RJ36) (T := TJ36) (N := 5) rfl in_J36 2 (by decide) q1773 (fun _ h9 => h9) dJ36_next_40 hp (fun v12 hp => ?_)
    refine lv_iconst (v := 1) hx hb dJ36_next_43 (by decide) ?_
    refine lv_iadd hx hb dJ36_next_44 ?_
    refine x_put X hC.1 hM hS (ci := 19) (C := RJ36) (T := TJ36) (N := 5) rfl in_J36 tyJ36 tyJ36_ok nmJ36 2 (by decide) q1773 (fun _ h9 => h9) rfl rfl rfl dJ36_next_45 hp (fun M13 H locs hM hS hp => ?_)
    refine lv_aload_n hx hb dJ36_next_48 rfl (lv_at hl 0 rfl) ?_
    refine x_getR X hC.1 hM (ci := 19) (C := RJ36) (T := TJ36) (N := 5) rfl in_J36 0 (by decide) q1771 (fun _ h9 => h9) dJ36_next_49 hp (fun r14 hp => ?_)
    obtain ⟨a15, ea, hqa15⟩ := hp
    subst ea
    have hp := hqa15
    refine x_getR X hC.1 hM (ci := 18) (C := RJ6) (T := TJ6) (N := 3) rfl in_J6 0 (by decide) q380 (fun _ h9 => h9) dJ36_next_52 hp (fun r16 hp => ?_)
    exact x_aret (v := r16) X hr (by first | exact Or.inl ⟨_, rfl⟩ | exact Or.inr ⟨_, rfl⟩) hlk hM hS ⟨Nat.le_refl _, Nat.le_refl _⟩ dJ36_next_55 ⟨r16, rfl, hp⟩
  · have hp := oIf.bf hp hc
    exact hp.elim
def P_J6_init (G : wG) (t0 : Nat) (p1 : Option Nat) (p2 : Option Nat) (p3 : Option Nat) (M : wM) (Q : wM → Prop) : Prop :=
  oPut G M t0 18 0 (va_rf p2) (fun M1 => oPut G M1 t0 18 1 (va_rf p3) (fun M2 => oPut G M2 t0 18 2 (va_rf p1) (fun M3 => Q M3)))
set_option maxHeartbeats 4000000 in
set_option maxRecDepth 100000 in
theorem P_J6_init_ok {l : Launch} (hl0 : l.stackTraces = false) {G : wG} {t0 : Nat} {p1 : Option Nat} {p2 : Option Nat} {p3 : Option Nat} {M : wM} {Q : wM → Prop} (hp : P_J6_init G t0 p1 p2 p3 M Q) : wMet l yJ6_init (ws_ yJ6_init cJ6_init 4 (none)) 12 400 G [.ref t0, va_rf p1, va_rf p2, va_rf p3] M 0 (wqV Q) wX0 := by
  refine vx_ofW (cc := cJ6_init) (maxL := 4) (ret := none) (by decide) rfl ?_
  intro p e s m args below meth c s₁ B hml hnt hv
  obtain ⟨rfl, hM, hK, hZ, hz⟩ := hv
  have hC : wC G s := ⟨hK, hZ, hz⟩
  have hx := B.exec
  have hb := B.bytes
  have hr := B.returns
  have hts := atoms_spec (ws := (ws_ yJ6_init cJ6_init 4 (none))) B.pre
  have hts : ∀ w ∈ lw_all, w.before _ s = true := fun w h => hts w (List.mem_cons_of_mem _ h)
  have hown : s.vm.findClass RJ6 = some m.cls := findClass_of_methodNamed B.named
  have hlk := B.notSynchronized
  have hin0 : meth.name = "<init>" := (name_of_methodNamed B.named B.method).1
  have X : CallFix p m c cJ6_init 4 s ([.ref t0, va_rf p1, va_rf p2, va_rf p3] : List Value).toArray lw_all RJ6 := ⟨hx, hb, hml, hown, hts⟩
  have hS : va_S (wA G) s.heap s.heap [] := va_S.rf
  have hl := lv_entry ([.ref t0, va_rf p1, va_rf p2, va_rf p3]) (n := 4) (by cases p1 <;> cases p2 <;> cases p3 <;> exact Nat.le_of_ble_eq_true rfl)
  rw [lg_entry_eq]
  generalize (lg_sl ([.ref t0, va_rf p1, va_rf p2, va_rf p3]) ++ List.replicate (4 - (lg_sl ([.ref t0, va_rf p1, va_rf p2, va_rf p3])).length) Slot.unset).toArray = ls at hl ⊢
  have hl : lv_has ls 4 [(0, .ref t0), (1, va_rf p1), (2, va_rf p2), (3, va_rf p3)] := by cases p1 <;> cases p2 <;> cases p3 <;> exact hl
  refine lv_aload_n hx hb dJ6_init_0 rfl (lv_at hl 0 rfl) ?_
  refine W.objInit hx hb hown (hts _ q378) (hts _ q218) (hts _ q219) rfl (by rw [hml]; exact hl.1) rfl dJ6_init_1 (Nat.le_of_ble_eq_true rfl) (Nat.le_of_ble_eq_true rfl) ?_
  refine W.eq (g2 := F0 m 4 ls []) rfl ?_
  refine lv_aload_n hx hb dJ6_init_4 rfl (lv_at hl 0 rfl) ?_
  refine x_aload_n (r := p2) hx hb dJ6_init_5 rfl (lv_at hl 2 rfl) ?_
  refine x_put X hC.1 hM hS (ci := 18) (C := RJ6) (T := TJ6) (N := 3) rfl in_J6 tyJ6 tyJ6_ok nmJ6 0 (by decide) q379 (fun _ h9 => h9) rfl (w_nobj _ p2) (w_fobj _ p2) dJ6_init_6 hp (fun M1 H locs hM hS hp => ?_)
  refine lv_aload_n hx hb dJ6_init_9 rfl (lv_at hl 0 rfl) ?_
  refine x_aload_n (r := p3) hx hb dJ6_init_10 rfl (lv_at hl 3 rfl) ?_
  refine x_put X hC.1 hM hS (ci := 18) (C := RJ6) (T := TJ6) (N := 3) rfl in_J6 tyJ6 tyJ6_ok nmJ6 1 (by decide) q382 (fun _ h9 => h9) rfl (w_nobj _ p3) (w_fobj _ p3) dJ6_init_11 hp (fun M2 H locs hM hS hp => ?_)
  refine lv_aload_n hx hb dJ6_init_14 rfl (lv_at hl 0 rfl) ?_
  refine x_aload_n (r := p1) hx hb dJ6_init_15 rfl (lv_at hl 1 rfl) ?_
  refine x_put X hC.1 hM hS (ci := 18) (C := RJ6) (T := TJ6) (N := 3) rfl in_J6 tyJ6 tyJ6_ok nmJ6 2 (by decide) q385 (fun _ h9 => h9) rfl (w_nobj _ p1) (w_fobj _ p1) dJ6_init_16 hp (fun M3 H locs hM hS hp => ?_)
  exact x_vret X hr hlk hM hS ⟨Nat.le_refl _, Nat.le_refl _⟩ dJ6_init_19 ⟨rfl, hp⟩
def B_J8_linkLast_38 (G : wG) (Q : wM → Prop) (x0 : Nat) (M : wM) (bq : Nat) : Prop :=
  oGetI M x0 17 1 (fun v1 => oPut G M x0 17 1 (.int (v1 + (1 : Int32))) (fun M2 => oGetI M2 x0 17 0 (fun v3 => oPut G M2 x0 17 0 (.int (v3 + (1 : Int32))) (fun M4 => Q M4))))
def P_J8_linkLast (G : wG) (t0 : Nat) (p1 : Option Nat) (b : Nat) (M : wM) (Q : wM → Prop) : Prop :=
  oGetR M t0 17 3 (fun r1 => oNew G M b 18 [.null, .null, .null] (fun a2 M3 b4 => P_J6_init G a2 r1 p1 none M3 (fun M5 => oPut G M5 t0 17 3 (.ref a2) (fun M7 => oNull r1 (oPut G M7 t0 17 2 (.ref a2) (fun M9 => B_J8_linkLast_38 G Q t0 M9 b4)) (fun a8 => oPut G M7 a8 18 1 (.ref a2) (fun M10 => B_J8_linkLast_38 G Q t0 M10 b4))))))
set_option maxHeartbeats 4000000 in
set_option maxRecDepth 100000 in
theorem P_J8_linkLast_ok {l : Launch} (hl0 : l.stackTraces = false) {G : wG} {t0 : Nat} {p1 : Option Nat} {b : Nat} {M : wM} {Q : wM → Prop} (hp : P_J8_linkLast G t0 p1 b M Q) : wMet l yJ8_linkLast (ws_ yJ8_linkLast cJ8_linkLast 4 (none)) 13 423 G [.ref t0, va_rf p1] M b (wqV Q) wX0 := by
  refine vx_ofW (cc := cJ8_linkLast) (maxL := 4) (ret := none) (by decide) rfl ?_
  intro p e s m args below meth c s₁ B hml hnt hv
  obtain ⟨rfl, hM, hK, hZ, hz⟩ := hv
  have hC : wC G s := ⟨hK, hZ, hz⟩
  have hx := B.exec
  have hb := B.bytes
  have hr := B.returns
  have hts := atoms_spec (ws := (ws_ yJ8_linkLast cJ8_linkLast 4 (none))) B.pre
  have hts : ∀ w ∈ lw_all, w.before _ s = true := fun w h => hts w (List.mem_cons_of_mem _ h)
  have hown : s.vm.findClass RJ8 = some m.cls := findClass_of_methodNamed B.named
  have hlk := B.notSynchronized
  have X : CallFix p m c cJ8_linkLast 4 s ([.ref t0, va_rf p1] : List Value).toArray lw_all RJ8 := ⟨hx, hb, hml, hown, hts⟩
  have hS : va_S (wA G) s.heap s.heap [] := va_S.rf
  have hl := lv_entry ([.ref t0, va_rf p1]) (n := 4) (by cases p1 <;> exact Nat.le_of_ble_eq_true rfl)
  rw [lg_entry_eq]
  generalize (lg_sl ([.ref t0, va_rf p1]) ++ List.replicate (4 - (lg_sl ([.ref t0, va_rf p1])).length) Slot.unset).toArray = ls at hl ⊢
  have hl : lv_has ls 4 [(0, .ref t0), (1, va_rf p1)] := by cases p1 <;> exact hl
  have hB : 0 + b ≤ ((headSpec (ws_ yJ8_linkLast cJ8_linkLast 4 (none)) ({ frames := 13, cells := b, slots := b, locals := 423 })).room).cells ∧ 0 + b ≤ ((headSpec (ws_ yJ8_linkLast cJ8_linkLast 4 (none)) ({ frames := 13, cells := b, slots := b, locals := 423 })).room).slots := ⟨Nat.le_of_eq (Nat.zero_add b), Nat.le_of_eq (Nat.zero_add b)⟩
  have hB38 : ∀ (x0 : Nat) (M : wM) (bq : Nat) (H : Heap) (locs : List Loc) (ls : Array Slot) (cells slots : Nat), B_J8_linkLast_38 G Q x0 M bq → wR G M H → va_S (wA G) s.heap H locs → (cells + bq ≤ ((headSpec (ws_ yJ8_linkLast cJ8_linkLast 4 (none)) ({ frames := 13, cells := b, slots := b, locals := 423 })).room).cells ∧ slots + bq ≤ ((headSpec (ws_ yJ8_linkLast cJ8_linkLast 4 (none)) ({ frames := 13, cells := b, slots := b, locals := 423 })).room).slots) → lv_has ls 4 [(0, .ref x0)] → W p l e (headSpec (ws_ yJ8_linkLast cJ8_linkLast 4 (none)) ({ frames := 13, cells := b, slots := b, locals := 423 })).room s m ([.ref t0, va_rf p1] : List Value).toArray below meth c H locs cells slots (vx_MQ below (wQ G (wqV Q)) (wXC G wX0) ([.ref t0, va_rf p1] : List Value).toArray s b b (wA G)) (F0 m 38 ls []) := by
    intro x0 M bq H locs ls cells slots hp hM hS hB hl
    refine lv_aload_n hx hb dJ8_linkLast_38 rfl (lv_at hl 0 rfl) ?_
    refine lv_dup hx hb dJ8_linkLast_39 rfl ?_
    refine x_getI X hC.1 hM (ci := 17) (C := RJ8) (T := TJ8) (N := 4) rfl in_J8 1 (by decide) q456 (fun _ h9 => h9) dJ8_linkLast_40 hp (fun v1 hp => ?_)
    refine lv_iconst (v := 1) hx hb dJ8_linkLast_43 (by decide) ?_
    refine lv_iadd hx hb dJ8_linkLast_44 ?_
    refine x_put X hC.1 hM hS (ci := 17) (C := RJ8) (T := TJ8) (N := 4) rfl in_J8 tyJ8 tyJ8_ok nmJ8 1 (by decide) q456 (fun _ h9 => h9) rfl rfl rfl dJ8_linkLast_45 hp (fun M2 H locs hM hS hp => ?_)
    refine lv_aload_n hx hb dJ8_linkLast_48 rfl (lv_at hl 0 rfl) ?_
    refine lv_dup hx hb dJ8_linkLast_49 rfl ?_
    refine x_getI X hC.1 hM (ci := 17) (C := RJ8) (T := TJ8) (N := 4) rfl in_J8 0 (by decide) q252 (fun x9 h9 => u_same (hts _ q248) x9 h9) dJ8_linkLast_50 hp (fun v3 hp => ?_)
    refine lv_iconst (v := 1) hx hb dJ8_linkLast_53 (by decide) ?_
    refine lv_iadd hx hb dJ8_linkLast_54 ?_
    refine x_put X hC.1 hM hS (ci := 17) (C := RJ8) (T := TJ8) (N := 4) rfl in_J8 tyJ8 tyJ8_ok nmJ8 0 (by decide) q252 (fun x9 h9 => u_same (hts _ q248) x9 h9) rfl rfl rfl dJ8_linkLast_55 hp (fun M4 H locs hM hS hp => ?_)
    exact x_vret X hr hlk hM hS (w_fin hB) dJ8_linkLast_58 ⟨rfl, hp⟩
  refine lv_aload_n hx hb dJ8_linkLast_0 rfl (lv_at hl 0 rfl) ?_
  refine x_getR X hC.1 hM (ci := 17) (C := RJ8) (T := TJ8) (N := 4) rfl in_J8 3 (by decide) q459 (fun _ h9 => h9) dJ8_linkLast_1 hp (fun r1 hp => ?_)
  refine x_astore_n (r := r1) (lv' := [(2, va_rf r1), (0, .ref t0), (1, va_rf p1)]) hx hb dJ8_linkLast_4 rfl hl (by decide) (by cases p1 <;> rfl) (fun ls hl => ?_)
  refine x_new X hC hM hS hB (ci := 18) (C := RJ6) (T := TJ6) (N := 3) rfl in_J6 tyJ6 tyJ6_ok q373 q374 q158 rfl (by decide) dJ8_linkLast_5 hp (fun a2 M3 H b4 cells slots hM hS hB hp => ?_)
  refine lv_dup hx hb dJ8_linkLast_8 rfl ?_
  refine x_aload_n (r := r1) hx hb dJ8_linkLast_9 rfl (lv_at hl 0 rfl) ?_
  refine x_aload_n (r := p1) hx hb dJ8_linkLast_10 rfl (lv_at hl 2 rfl) ?_
  refine lv_null hx hb dJ8_linkLast_11 ?_
  refine x_call0V (vx_runI (As := [va_rf r1, va_rf p1, va_rf none]) (rest := [.ref a2]) X (P_J6_init_ok (l := l) hl0 hp) (cwI 3 hts (lw_meth q377) rfl rfl rfl (hts _ q158) (hts _ q375) (hts _ q376) rfl (by decide +kernel) ⟨Nat.le_of_ble_eq_true rfl, Nat.le_of_ble_eq_true rfl⟩) ⟨wPc.blind, w_pre hC hM hS _⟩ rfl rfl hl.1 rfl (lv_room (Nat.le_of_ble_eq_true rfl)) dJ8_linkLast_12 (w_room0 hB)) hS (w_room0 hB) (fun _ _ _ _ _ _ h => False.elim h) (fun M5 H locs hp hM hS => ?_)
  refine lv_astore_n (lv' := [(3, .ref a2), (2, va_rf r1), (0, .ref t0), (1, va_rf p1)]) hx hb dJ8_linkLast_15 rfl hl (by decide) (by cases r1 <;> rfl) (fun ls hl => ?_)
  refine lv_aload_n hx hb dJ8_linkLast_16 rfl (lv_at hl 2 rfl) ?_
  refine lv_aload_n hx hb dJ8_linkLast_17 rfl (lv_at hl 0 rfl) ?_
  refine x_put X hC.1 hM hS (ci := 17) (C := RJ8) (T := TJ8) (N := 4) rfl in_J8 tyJ8 tyJ8_ok nmJ8 3 (by decide) q459 (fun _ h9 => h9) rfl rfl rfl dJ8_linkLast_18 hp (fun M7 H locs hM hS hp => ?_)
  refine x_aload_n (r := r1) hx hb dJ8_linkLast_21 rfl (lv_at hl 1 rfl) ?_
  refine x_ifnonnull (r := r1) (tgt := 33) hx hb dJ8_linkLast_22 (by decide) (fun a8 hc => ?_) (fun hc => ?_)
  · have hqa8 := oNull.f hp hc
    subst hc
    have hp := hqa8
    have hl : lv_has ls 4 [(3, .ref a2), (2, .ref a8), (0, .ref t0), (1, va_rf p1)] := hl
    refine lv_aload_n hx hb dJ8_linkLast_33 rfl (lv_at hl 1 rfl) ?_
    refine lv_aload_n hx hb dJ8_linkLast_34 rfl (lv_at hl 0 rfl) ?_
    refine x_put X hC.1 hM hS (ci := 18) (C := RJ6) (T := TJ6) (N := 3) rfl in_J6 tyJ6 tyJ6_ok nmJ6 1 (by decide) q384 (fun _ h9 => h9) rfl rfl rfl dJ8_linkLast_35 hp (fun M10 H locs hM hS hp => ?_)
    exact hB38 _ _ _ _ _ _ _ _ hp hM hS hB (lv_sub hl [2] rfl)
  · have hqa8 := oNull.t hp hc
    subst hc
    have hp := hqa8
    have hl : lv_has ls 4 [(3, .ref a2), (2, va_rf none), (0, .ref t0), (1, va_rf p1)] := hl
    refine lv_aload_n hx hb dJ8_linkLast_25 rfl (lv_at hl 2 rfl) ?_
    refine lv_aload_n hx hb dJ8_linkLast_26 rfl (lv_at hl 0 rfl) ?_
    refine x_put X hC.1 hM hS (ci := 17) (C := RJ8) (T := TJ8) (N := 4) rfl in_J8 tyJ8 tyJ8_ok nmJ8 2 (by decide) q458 (fun _ h9 => h9) rfl rfl rfl dJ8_linkLast_27 hp (fun M9 H locs hM hS hp => ?_)
    refine lv_goto (tgt := 38) hx hb dJ8_linkLast_30 (by decide) ?_
    exact hB38 _ _ _ _ _ _ _ _ hp hM hS hB (lv_sub hl [2] rfl)
def P_J8_addLast (G : wG) (t0 : Nat) (p1 : Option Nat) (b : Nat) (M : wM) (Q : wM → Prop) : Prop :=
  oIs M t0 17 (∃ c2, c2 ≤ b ∧ P_J8_linkLast G t0 p1 c2 M (fun M1 => Q M1))
set_option maxHeartbeats 4000000 in
set_option maxRecDepth 100000 in
theorem P_J8_addLast_ok {l : Launch} (hl0 : l.stackTraces = false) {G : wG} {t0 : Nat} {p1 : Option Nat} {b : Nat} {M : wM} {Q : wM → Prop} (hp : P_J8_addLast G t0 p1 b M Q) : wMet l yJ8_addLast (ws_ yJ8_addLast cJ8_addLast 2 (none)) 14 446 G [.ref t0, va_rf p1] M b (wqV Q) wX0 := by
  refine vx_ofW (cc := cJ8_addLast) (maxL := 2) (ret := none) (by decide) rfl ?_
  intro p e s m args below meth c s₁ B hml hnt hv
  obtain ⟨rfl, hM, hK, hZ, hz⟩ := hv
  have hC : wC G s := ⟨hK, hZ, hz⟩
  have hx := B.exec
  have hb := B.bytes
  have hr := B.returns
  have hts := atoms_spec (ws := (ws_ yJ8_addLast cJ8_addLast 2 (none))) B.pre
  have hts : ∀ w ∈ lw_all, w.before _ s = true := fun w h => hts w (List.mem_cons_of_mem _ h)
  have hown : s.vm.findClass RJ8 = some m.cls := findClass_of_methodNamed B.named
  have hlk := B.notSynchronized
  have X : CallFix p m c cJ8_addLast 2 s ([.ref t0, va_rf p1] : List Value).toArray lw_all RJ8 := ⟨hx, hb, hml, hown, hts⟩
  have hS : va_S (wA G) s.heap s.heap [] := va_S.rf
  have hl := lv_entry ([.ref t0, va_rf p1]) (n := 2) (by cases p1 <;> exact Nat.le_of_ble_eq_true rfl)
  rw [lg_entry_eq]
  generalize (lg_sl ([.ref t0, va_rf p1]) ++ List.replicate (2 - (lg_sl ([.ref t0, va_rf p1])).length) Slot.unset).toArray = ls at hl ⊢
  have hl : lv_has ls 2 [(0, .ref t0), (1, va_rf p1)] := by cases p1 <;> exact hl
  have hB : 0 + b ≤ ((headSpec (ws_ yJ8_addLast cJ8_addLast 2 (none)) ({ frames := 14, cells := b, slots := b, locals := 446 })).room).cells ∧ 0 + b ≤ ((headSpec (ws_ yJ8_addLast cJ8_addLast 2 (none)) ({ frames := 14, cells := b, slots := b, locals := 446 })).room).slots := ⟨Nat.le_of_eq (Nat.zero_add b), Nat.le_of_eq (Nat.zero_add b)⟩
  refine lv_aload_n hx hb dJ8_addLast_0 rfl (lv_at hl 0 rfl) ?_
  refine x_aload_n (r := p1) hx hb dJ8_addLast_1 rfl (lv_at hl 1 rfl) ?_
  obtain ⟨hrec, hp⟩ := hp
  obtain ⟨c2, hc1, hp⟩ := hp
  refine x_callV (vx_runV (As := [va_rf p1]) (rest := []) X (P_J8_linkLast_ok (l := l) hl0 hp) (cwV 1 hts (lw_V q369 q370 q371 q160 q372) rfl rfl rfl (by decide +kernel) ⟨Nat.le_of_ble_eq_true rfl, Nat.le_of_ble_eq_true rfl⟩) ⟨wPc.blind, w_recv hC.1 hM (ci := 17) (q := (RJ8, TJ8, 4)) rfl hrec, w_pre hC hM hS _⟩ rfl rfl hl.1 rfl (lv_room (Nat.le_of_ble_eq_true rfl)) dJ8_addLast_2 (w_room hB hc1)) hS hB hc1 (fun _ _ _ _ _ _ h => False.elim h) (fun M1 H locs hp hM hS hB => ?_)
  exact x_vret X hr hlk hM hS (w_fin hB) dJ8_addLast_5 ⟨rfl, hp⟩
def B_J8_isPositionIndex_17 (G : wG) (Q : Bool → wM → Prop) (y0 : Int32) (M : wM) : Prop :=
  ∃ r : Bool, y0 = wb r ∧ Q r M
def B_J8_isPositionIndex_16 (G : wG) (Q : Bool → wM → Prop) (M : wM) : Prop :=
  B_J8_isPositionIndex_17 G Q (0 : Int32) M
def P_J8_isPositionIndex (G : wG) (t0 : Nat) (p1 : Int32) (M : wM) (Q : Bool → wM → Prop) : Prop :=
  oIf (p1 < 0) (B_J8_isPositionIndex_16 G Q M) (oGetI M t0 17 1 (fun v1 => oIf (v1 < p1) (B_J8_isPositionIndex_16 G Q M) (B_J8_isPositionIndex_17 G Q (1 : Int32) M)))
set_option maxHeartbeats 4000000 in
set_option maxRecDepth 100000 in
theorem P_J8_isPositionIndex_ok {l : Launch} (hl0 : l.stackTraces = false) {G : wG} {t0 : Nat} {p1 : Int32} {M : wM} {Q : Bool → wM → Prop} (hp : P_J8_isPositionIndex G t0 p1 M Q) : wMet l yJ8_isPositionIndex (ws_ yJ8_isPositionIndex cJ8_isPositionIndex 2 (Option.some Jvm.ClassFile.FieldType.boolean)) 12 400 G [.ref t0, .int p1] M 0 (wqZ Q) wX0 := by
  refine vx_ofW (cc := cJ8_isPositionIndex) (maxL := 2) (ret := Option.some Jvm.ClassFile.FieldType.boolean) (by decide) rfl ?_
  intro p e s m args below meth c s₁ B hml hnt hv
  obtain ⟨rfl, hM, hK, hZ, hz⟩ := hv
  have hC : wC G s := ⟨hK, hZ, hz⟩
  have hx := B.exec
  have hb := B.bytes
  have hr := B.returns
  have hts := atoms_spec (ws := (ws_ yJ8_isPositionIndex cJ8_isPositionIndex 2 (Option.some Jvm.ClassFile.FieldType.boolean))) B.pre
  have hts : ∀ w ∈ lw_all, w.before _ s = true := fun w h => hts w (List.mem_cons_of_mem _ h)
  have hown : s.vm.findClass RJ8 = some m.cls := findClass_of_methodNamed B.named
  have hlk := B.notSynchronized
  have X : CallFix p m c cJ8_isPositionIndex 2 s ([.ref t0, .int p1] : List Value).toArray lw_all RJ8 := ⟨hx, hb, hml, hown, hts⟩
  have hS : va_S (wA G) s.heap s.heap [] := va_S.rf
  have hl := lv_entry ([.ref t0, .int p1]) (n := 2) (Nat.le_of_ble_eq_true rfl)
  rw [lg_entry_eq]
  generalize (lg_sl ([.ref t0, .int p1]) ++ List.replicate (2 - (lg_sl ([.ref t0, .int p1])).length) Slot.unset).toArray = ls at hl ⊢
  have hl : lv_has ls 2 [(0, .ref t0), (1, .int p1)] := hl
  have hB17 : ∀ (y0 : Int32) (M : wM) (H : Heap) (locs : List Loc) (ls : Array Slot), B_J8_isPositionIndex_17 G Q y0 M → wR G M H → va_S (wA G) s.heap H locs → lv_has ls 2 [] → W p l e (headSpec (ws_ yJ8_isPositionIndex cJ8_isPositionIndex 2 (Option.some Jvm.ClassFile.FieldType.boolean)) ({ frames := 12, cells := 0, slots := 0, locals := 400 })).room s m ([.ref t0, .int p1] : List Value).toArray below meth c H locs 0 0 (vx_MQ below (wQ G (wqZ Q)) (wXC G wX0) ([.ref t0, .int p1] : List Value).toArray s 0 0 (wA G)) (F0 m 17 ls [.int y0]) := by
    intro y0 M H locs ls hp hM hS hl
    obtain ⟨r, hr0, hp⟩ := hp
    exact x_zret X hr hlk hM hS ⟨Nat.le_refl _, Nat.le_refl _⟩ (by rw [hr0]; exact w_nz _) dJ8_isPositionIndex_17 ⟨r, by rw [hr0], hp⟩
  have hB16 : ∀ (M : wM) (H : Heap) (locs : List Loc) (ls : Array Slot), B_J8_isPositionIndex_16 G Q M → wR G M H → va_S (wA G) s.heap H locs → lv_has ls 2 [] → W p l e (headSpec (ws_ yJ8_isPositionIndex cJ8_isPositionIndex 2 (Option.some Jvm.ClassFile.FieldType.boolean)) ({ frames := 12, cells := 0, slots := 0, locals := 400 })).room s m ([.ref t0, .int p1] : List Value).toArray below meth c H locs 0 0 (vx_MQ below (wQ G (wqZ Q)) (wXC G wX0) ([.ref t0, .int p1] : List Value).toArray s 0 0 (wA G)) (F0 m 16 ls []) := by
    intro M H locs ls hp hM hS hl
    refine lv_iconst (v := 0) hx hb dJ8_isPositionIndex_16 (by decide) ?_
    exact hB17 _ _ _ _ _ hp hM hS (lv_sub hl [] rfl)
  refine lv_iload_n hx hb dJ8_isPositionIndex_0 rfl (lv_at hl 1 rfl) ?_
  refine lv_if_lt (tgt := 16) hx hb dJ8_isPositionIndex_1 (by decide) (fun hc => ?_) (fun hc => ?_)
  · have hp := oIf.t hp hc
    exact hB16 _ _ _ _ hp hM hS (lv_sub hl [] rfl)
  · have hp := oIf.f hp hc
    refine lv_iload_n hx hb dJ8_isPositionIndex_4 rfl (lv_at hl 1 rfl) ?_
    refine lv_aload_n hx hb dJ8_isPositionIndex_5 rfl (lv_at hl 0 rfl) ?_
    refine x_getI X hC.1 hM (ci := 17) (C := RJ8) (T := TJ8) (N := 4) rfl in_J8 1 (by decide) q456 (fun _ h9 => h9) dJ8_isPositionIndex_6 hp (fun v1 hp => ?_)
    refine lv_icmp_gt (tgt := 16) hx hb dJ8_isPositionIndex_9 (by decide) (fun hc => ?_) (fun hc => ?_)
    · have hp := oIf.t hp hc
      exact hB16 _ _ _ _ hp hM hS (lv_sub hl [] rfl)
    · have hp := oIf.f hp hc
      refine lv_iconst (v := 1) hx hb dJ8_isPositionIndex_12 (by decide) ?_
      refine lv_goto (tgt := 17) hx hb dJ8_isPositionIndex_13 (by decide) ?_
      exact hB17 _ _ _ _ _ hp hM hS (lv_sub hl [] rfl)
def P_J8_checkPositionIndex (G : wG) (t0 : Nat) (p1 : Int32) (M : wM) (Q : wM → Prop) : Prop :=
  oIs M t0 17 (P_J8_isPositionIndex G t0 p1 M (fun r3 M1 => oIf (r3 = true) (Q M1) (False)))
set_option maxHeartbeats 4000000 in
set_option maxRecDepth 100000 in
theorem P_J8_checkPositionIndex_ok {l : Launch} (hl0 : l.stackTraces = false) {G : wG} {t0 : Nat} {p1 : Int32} {M : wM} {Q : wM → Prop} (hp : P_J8_checkPositionIndex G t0 p1 M Q) : wMet l yJ8_checkPositionIndex (ws_ yJ8_checkPositionIndex cJ8_checkPositionIndex 2 (none)) 13 421 G [.ref t0, .int p1] M 0 (wqV Q) wX0 := by
  refine vx_ofW (cc := cJ8_checkPositionIndex) (maxL := 2) (ret := none) (by decide) rfl ?_
  intro p e s m args below meth c s₁ B hml hnt hv
  obtain ⟨rfl, hM, hK, hZ, hz⟩ := hv
  have hC : wC G s := ⟨hK, hZ, hz⟩
  have hx := B.exec
  have hb := B.bytes
  have hr := B.returns
  have hts := atoms_spec (ws := (ws_ yJ8_checkPositionIndex cJ8_checkPositionIndex 2 (none))) B.pre
  have hts : ∀ w ∈ lw_all, w.before _ s = true := fun w h => hts w (List.mem_cons_of_mem _ h)
  have hown : s.vm.findClass RJ8 = some m.cls := findClass_of_methodNamed B.named
  have hlk := B.notSynchronized
  have X : CallFix p m c cJ8_checkPositionIndex 2 s ([.ref t0, .int p1] : List Value).toArray lw_all RJ8 := ⟨hx, hb, hml, hown, hts⟩
  have hS : va_S (wA G) s.heap s.heap [] := va_S.rf
  have hl := lv_entry ([.ref t0, .int p1]) (n := 2) (Nat.le_of_ble_eq_true rfl)
  rw [lg_entry_eq]
  generalize (lg_sl ([.ref t0, .int p1]) ++ List.replicate (2 - (lg_sl ([.ref t0, .int p1])).length) Slot.unset).toArray = ls at hl ⊢
  have hl : lv_has ls 2 [(0, .ref t0), (1, .int p1)] := hl
  refine lv_aload_n hx hb dJ8_checkPositionIndex_0 rfl (lv_at hl 0 rfl) ?_
  refine lv_iload_n hx hb dJ8_checkPositionIndex_1 rfl (lv_at hl 1 rfl) ?_
  obtain ⟨hrec, hp⟩ := hp
  refine x_call0Z (vx_runV (As := [.int p1]) (rest := []) X (P_J8_isPositionIndex_ok (l := l) hl0 hp) (cwV 1 hts (lw_V q1660 q1662 qs32 q160 q1663) rfl rfl rfl (by decide +kernel) ⟨Nat.le_of_ble_eq_true rfl, Nat.le_of_ble_eq_true rfl⟩) ⟨wPc.blind, w_recv hC.1 hM (ci := 17) (q := (RJ8, TJ8, 4)) rfl hrec, w_pre hC hM hS _⟩ rfl rfl hl.1 rfl (lv_room (Nat.le_of_ble_eq_true rfl)) dJ8_checkPositionIndex_2 ⟨Nat.le_refl _, Nat.le_refl _⟩) hS ⟨Nat.le_refl _, Nat.le_refl _⟩ (fun _ _ _ _ _ _ h => False.elim h) (fun r3 M1 H locs hp hM hS => ?_)
  refine x_ifneB (tgt := 21) hx hb dJ8_checkPositionIndex_5 (by decide) (fun hc => ?_) (fun hc => ?_)
  · have hp := oIf.bt hp hc
    exact x_vret X hr hlk hM hS ⟨Nat.le_refl _, Nat.le_refl _⟩ dJ8_checkPositionIndex_21 ⟨rfl, hp⟩
  · have hp := oIf.bf hp hc
    exact hp.elim
def B_J8_node_47 (G : wG) (rec47 : Int32 → Option Nat → Int32 → wM → Prop) (Q : Option Nat → wM → Prop) (x1 : Int32) (x2 : Option Nat) (x3 : Int32) (M : wM) : Prop :=
  oIf (x3 ≤ x1) (Q x2 M) (oRef x2 (fun a1 => oGetR M a1 18 2 (fun r2 => rec47 x1 r2 (x3 + (-1)) M)))
def L_J8_node_47 (G : wG) (Q : Option Nat → wM → Prop) : Nat → Int32 → Option Nat → Int32 → wM → Prop
  | 0 => fun _ _ _ _ => False
  | n + 1 => B_J8_node_47 G (L_J8_node_47 G Q n) Q
def B_J8_node_17 (G : wG) (rec17 : Int32 → Option Nat → Int32 → wM → Prop) (Q : Option Nat → wM → Prop) (x1 : Int32) (x2 : Option Nat) (x3 : Int32) (M : wM) : Prop :=
  oIf (x1 ≤ x3) (Q x2 M) (oRef x2 (fun a1 => oGetR M a1 18 1 (fun r2 => rec17 x1 r2 (x3 + 1) M)))
def L_J8_node_17 (G : wG) (Q : Option Nat → wM → Prop) : Nat → Int32 → Option Nat → Int32 → wM → Prop
  | 0 => fun _ _ _ _ => False
  | n + 1 => B_J8_node_17 G (L_J8_node_17 G Q n) Q
def P_J8_node (G : wG) (t0 : Nat) (p1 : Int32) (M : wM) (Q : Option Nat → wM → Prop) : Prop :=
  oGetI M t0 17 1 (fun v1 => oIf ((v1 >>> ((1 : Int32) &&& 31)) ≤ p1) (oGetR M t0 17 3 (fun r2 => oGetI M t0 17 1 (fun v3 => ∃ n, L_J8_node_47 G Q n p1 r2 (v3 - (1 : Int32)) M))) (oGetR M t0 17 2 (fun r4 => ∃ n, L_J8_node_17 G Q n p1 r4 (0 : Int32) M)))
set_option maxHeartbeats 4000000 in
set_option maxRecDepth 100000 in
theorem P_J8_node_ok {l : Launch} (hl0 : l.stackTraces = false) {G : wG} {t0 : Nat} {p1 : Int32} {M : wM} {Q : Option Nat → wM → Prop} (hp : P_J8_node G t0 p1 M Q) : wMet l yJ8_node (ws_ yJ8_node cJ8_node 4 (Option.some (Jvm.ClassFile.FieldType.object "java/util/LinkedList$Node"))) 12 400 G [.ref t0, .int p1] M 0 (wqR Q) wX0 := by
  refine vx_ofW (cc := cJ8_node) (maxL := 4) (ret := Option.some (Jvm.ClassFile.FieldType.object "java/util/LinkedList$Node")) (by decide) rfl ?_
  intro p e s m args below meth c s₁ B hml hnt hv
  obtain ⟨rfl, hM, hK, hZ, hz⟩ := hv
  have hC : wC G s := ⟨hK, hZ, hz⟩
  have hx := B.exec
  have hb := B.bytes
  have hr := B.returns
  have hts := atoms_spec (ws := (ws_ yJ8_node cJ8_node 4 (Option.some (Jvm.ClassFile.FieldType.object "java/util/LinkedList$Node")))) B.pre
  have hts : ∀ w ∈ lw_all, w.before _ s = true := fun w h => hts w (List.mem_cons_of_mem _ h)
  have hown : s.vm.findClass RJ8 = some m.cls := findClass_of_methodNamed B.named
  have hlk := B.notSynchronized
  have X : CallFix p m c cJ8_node 4 s ([.ref t0, .int p1] : List Value).toArray lw_all RJ8 := ⟨hx, hb, hml, hown, hts⟩
  have hS : va_S (wA G) s.heap s.heap [] := va_S.rf
  have hl := lv_entry ([.ref t0, .int p1]) (n := 4) (Nat.le_of_ble_eq_true rfl)
  rw [lg_entry_eq]
  generalize (lg_sl ([.ref t0, .int p1]) ++ List.replicate (4 - (lg_sl ([.ref t0, .int p1])).length) Slot.unset).toArray = ls at hl ⊢
  have hl : lv_has ls 4 [(0, .ref t0), (1, .int p1)] := hl
  have hB47 : ∀ (rec47 : Int32 → Option Nat → Int32 → wM → Prop) (hrec47 : ∀ (x1 : Int32) (x2 : Option Nat) (x3 : Int32) (M : wM) (H : Heap) (locs : List Loc) (ls : Array Slot), rec47 x1 x2 x3 M → wR G M H → va_S (wA G) s.heap H locs → lv_has ls 4 [(1, .int x1), (2, va_rf x2), (3, .int x3)] → W p l e (headSpec (ws_ yJ8_node cJ8_node 4 (Option.some (Jvm.ClassFile.FieldType.object "java/util/LinkedList$Node"))) ({ frames := 12, cells := 0, slots := 0, locals := 400 })).room s m ([.ref t0, .int p1] : List Value).toArray below meth c H locs 0 0 (vx_MQ below (wQ G (wqR Q)) (wXC G wX0) ([.ref t0, .int p1] : List Value).toArray s 0 0 (wA G)) (F0 m 47 ls [])), ∀ (x1 : Int32) (x2 : Option Nat) (x3 : Int32) (M : wM) (H : Heap) (locs : List Loc) (ls : Array Slot), B_J8_node_47 G rec47 Q x1 x2 x3 M → wR G M H → va_S (wA G) s.heap H locs → lv_has ls 4 [(1, .int x1), (2, va_rf x2), (3, .int x3)] → W p l e (headSpec (ws_ yJ8_node cJ8_node 4 (Option.some (Jvm.ClassFile.FieldType.object "java/util/LinkedList$Node"))) ({ frames := 12, cells := 0, slots := 0, locals := 400 })).room s m ([.ref t0, .int p1] : List Value).toArray below meth c H locs 0 0 (vx_MQ below (wQ G (wqR Q)) (wXC G wX0) ([.ref t0, .int p1] : List Value).toArray s 0 0 (wA G)) (F0 m 47 ls []) := by
    intro rec47 hrec47 x1 x2 x3 M H locs ls hp hM hS hl
    refine lv_iload_n hx hb dJ8_node_47 rfl (lv_at hl 2 rfl) ?_
    refine lv_iload_n hx hb dJ8_node_48 rfl (lv_at hl 0 rfl) ?_
    refine lv_icmp_le (tgt := 63) hx hb dJ8_node_49 (by decide) (fun hc => ?_) (fun hc => ?_)
    · have hp := oIf.t hp hc
      refine x_aload_n (r := x2) hx hb dJ8_node_63 rfl (lv_at hl 1 rfl) ?_
      exact x_aret (v := x2) X hr (by first | exact Or.inl ⟨_, rfl⟩ | exact Or.inr ⟨_, rfl⟩) hlk hM hS ⟨Nat.le_refl _, Nat.le_refl _⟩ dJ8_node_64 ⟨x2, rfl, hp⟩
    · have hp := oIf.f hp hc
      refine x_aload_n (r := x2) hx hb dJ8_node_52 rfl (lv_at hl 1 rfl) ?_
      obtain ⟨a1, ea, hqa1⟩ := hp
      subst ea
      have hp := hqa1
      have hl : lv_has ls 4 [(1, .int x1), (2, .ref a1), (3, .int x3)] := hl
      refine x_getR X hC.1 hM (ci := 18) (C := RJ6) (T := TJ6) (N := 3) rfl in_J6 2 (by decide) q386 (fun _ h9 => h9) dJ8_node_53 hp (fun r2 hp => ?_)
      refine x_astore_n (r := r2) (lv' := [(2, va_rf r2), (1, .int x1), (3, .int x3)]) hx hb dJ8_node_56 rfl hl (by decide) rfl (fun ls hl => ?_)
      refine lv_iinc (v := (x3 + (-1))) (lv' := [(3, .int (x3 + (-1))), (2, va_rf r2), (1, .int x1)]) hx hb dJ8_node_57 hl (k := 2) rfl rfl (by decide) (by cases r2 <;> rfl) (fun ls hl => ?_)
      refine lv_goto (tgt := 47) hx hb dJ8_node_60 (by decide) ?_
      exact hrec47 _ _ _ _ _ _ _ hp hM hS (lv_sub hl [2, 1, 0] rfl)
  have hL47 : ∀ (n : Nat), ∀ (x1 : Int32) (x2 : Option Nat) (x3 : Int32) (M : wM) (H : Heap) (locs : List Loc) (ls : Array Slot), L_J8_node_47 G Q n x1 x2 x3 M → wR G M H → va_S (wA G) s.heap H locs → lv_has ls 4 [(1, .int x1), (2, va_rf x2), (3, .int x3)] → W p l e (headSpec (ws_ yJ8_node cJ8_node 4 (Option.some (Jvm.ClassFile.FieldType.object "java/util/LinkedList$Node"))) ({ frames := 12, cells := 0, slots := 0, locals := 400 })).room s m ([.ref t0, .int p1] : List Value).toArray below meth c H locs 0 0 (vx_MQ below (wQ G (wqR Q)) (wXC G wX0) ([.ref t0, .int p1] : List Value).toArray s 0 0 (wA G)) (F0 m 47 ls []) := by
    intro n
    induction n with
    | zero => intro _ _ _ _ _ _ _ hp; exact False.elim hp
    | succ n ih => intro x1 x2 x3 M H locs ls hp hM hS hl; exact hB47 (L_J8_node_47 G Q n) ih _ _ _ _ _ _ _ hp hM hS hl
  have hB17 : ∀ (rec17 : Int32 → Option Nat → Int32 → wM → Prop) (hrec17 : ∀ (x1 : Int32) (x2 : Option Nat) (x3 : Int32) (M : wM) (H : Heap) (locs : List Loc) (ls : Array Slot), rec17 x1 x2 x3 M → wR G M H → va_S (wA G) s.heap H locs → lv_has ls 4 [(1, .int x1), (2, va_rf x2), (3, .int x3)] → W p l e (headSpec (ws_ yJ8_node cJ8_node 4 (Option.some (Jvm.ClassFile.FieldType.object "java/util/LinkedList$Node"))) ({ frames := 12, cells := 0, slots := 0, locals := 400 })).room s m ([.ref t0, .int p1] : List Value).toArray below meth c H locs 0 0 (vx_MQ below (wQ G (wqR Q)) (wXC G wX0) ([.ref t0, .int p1] : List Value).toArray s 0 0 (wA G)) (F0 m 17 ls [])), ∀ (x1 : Int32) (x2 : Option Nat) (x3 : Int32) (M : wM) (H : Heap) (locs : List Loc) (ls : Array Slot), B_J8_node_17 G rec17 Q x1 x2 x3 M → wR G M H → va_S (wA G) s.heap H locs → lv_has ls 4 [(1, .int x1), (2, va_rf x2), (3, .int x3)] → W p l e (headSpec (ws_ yJ8_node cJ8_node 4 (Option.some (Jvm.ClassFile.FieldType.object "java/util/LinkedList$Node"))) ({ frames := 12, cells := 0, slots := 0, locals := 400 })).room s m ([.ref t0, .int p1] : List Value).toArray below meth c H locs 0 0 (vx_MQ below (wQ G (wqR Q)) (wXC G wX0) ([.ref t0, .int p1] : List Value).toArray s 0 0 (wA G)) (F0 m 17 ls []) := by
    intro rec17 hrec17 x1 x2 x3 M H locs ls hp hM hS hl
    refine lv_iload_n hx hb dJ8_node_17 rfl (lv_at hl 2 rfl) ?_
    refine lv_iload_n hx hb dJ8_node_18 rfl (lv_at hl 0 rfl) ?_
    refine lv_icmp_ge (tgt := 33) hx hb dJ8_node_19 (by decide) (fun hc => ?_) (fun hc => ?_)
    · have hp := oIf.t hp hc
      refine x_aload_n (r := x2) hx hb dJ8_node_33 rfl (lv_at hl 1 rfl) ?_
      exact x_aret (v := x2) X hr (by first | exact Or.inl ⟨_, rfl⟩ | exact Or.inr ⟨_, rfl⟩) hlk hM hS ⟨Nat.le_refl _, Nat.le_refl _⟩ dJ8_node_34 ⟨x2, rfl, hp⟩
    · have hp := oIf.f hp hc
      refine x_aload_n (r := x2) hx hb dJ8_node_22 rfl (lv_at hl 1 rfl) ?_
      obtain ⟨a1, ea, hqa1⟩ := hp
      subst ea
      have hp := hqa1
      have hl : lv_has ls 4 [(1, .int x1), (2, .ref a1), (3, .int x3)] := hl
      refine x_getR X hC.1 hM (ci := 18) (C := RJ6) (T := TJ6) (N := 3) rfl in_J6 1 (by decide) q384 (fun _ h9 => h9) dJ8_node_23 hp (fun r2 hp => ?_)
      refine x_astore_n (r := r2) (lv' := [(2, va_rf r2), (1, .int x1), (3, .int x3)]) hx hb dJ8_node_26 rfl hl (by decide) rfl (fun ls hl => ?_)
      refine lv_iinc (v := (x3 + 1)) (lv' := [(3, .int (x3 + 1)), (2, va_rf r2), (1, .int x1)]) hx hb dJ8_node_27 hl (k := 2) rfl rfl (by decide) (by cases r2 <;> rfl) (fun ls hl => ?_)
      refine lv_goto (tgt := 17) hx hb dJ8_node_30 (by decide) ?_
      exact hrec17 _ _ _ _ _ _ _ hp hM hS (lv_sub hl [2, 1, 0] rfl)
  have hL17 : ∀ (n : Nat), ∀ (x1 : Int32) (x2 : Option Nat) (x3 : Int32) (M : wM) (H : Heap) (locs : List Loc) (ls : Array Slot), L_J8_node_17 G Q n x1 x2 x3 M → wR G M H → va_S (wA G) s.heap H locs → lv_has ls 4 [(1, .int x1), (2, va_rf x2), (3, .int x3)] → W p l e (headSpec (ws_ yJ8_node cJ8_node 4 (Option.some (Jvm.ClassFile.FieldType.object "java/util/LinkedList$Node"))) ({ frames := 12, cells := 0, slots := 0, locals := 400 })).room s m ([.ref t0, .int p1] : List Value).toArray below meth c H locs 0 0 (vx_MQ below (wQ G (wqR Q)) (wXC G wX0) ([.ref t0, .int p1] : List Value).toArray s 0 0 (wA G)) (F0 m 17 ls []) := by
    intro n
    induction n with
    | zero => intro _ _ _ _ _ _ _ hp; exact False.elim hp
    | succ n ih => intro x1 x2 x3 M H locs ls hp hM hS hl; exact hB17 (L_J8_node_17 G Q n) ih _ _ _ _ _ _ _ hp hM hS hl
  refine lv_iload_n hx hb dJ8_node_0 rfl (lv_at hl 1 rfl) ?_
  refine lv_aload_n hx hb dJ8_node_1 rfl (lv_at hl 0 rfl) ?_
  refine x_getI X hC.1 hM (ci := 17) (C := RJ8) (T := TJ8) (N := 4) rfl in_J8 1 (by decide) q456 (fun _ h9 => h9) dJ8_node_2 hp (fun v1 hp => ?_)
  refine lv_iconst (v := 1) hx hb dJ8_node_5 (by decide) ?_
  refine lv_ishr hx hb dJ8_node_6 ?_
  refine lv_icmp_ge (tgt := 35) hx hb dJ8_node_7 (by decide) (fun hc => ?_) (fun hc => ?_)
  · have hp := oIf.t hp hc
    refine lv_aload_n hx hb dJ8_node_35 rfl (lv_at hl 0 rfl) ?_
    refine x_getR X hC.1 hM (ci := 17) (C := RJ8) (T := TJ8) (N := 4) rfl in_J8 3 (by decide) q459 (fun _ h9 => h9) dJ8_node_36 hp (fun r2 hp => ?_)
    refine x_astore_n (r := r2) (lv' := [(2, va_rf r2), (0, .ref t0), (1, .int p1)]) hx hb dJ8_node_39 rfl hl (by decide) rfl (fun ls hl => ?_)
    refine lv_aload_n hx hb dJ8_node_40 rfl (lv_at hl 1 rfl) ?_
    refine x_getI X hC.1 hM (ci := 17) (C := RJ8) (T := TJ8) (N := 4) rfl in_J8 1 (by decide) q456 (fun _ h9 => h9) dJ8_node_41 hp (fun v3 hp => ?_)
    refine lv_iconst (v := 1) hx hb dJ8_node_44 (by decide) ?_
    refine lv_isub hx hb dJ8_node_45 ?_
    refine lv_istore_n (lv' := [(3, .int (v3 - (1 : Int32))), (2, va_rf r2), (0, .ref t0), (1, .int p1)]) hx hb dJ8_node_46 rfl hl (by decide) (by cases r2 <;> rfl) (fun ls hl => ?_)
    obtain ⟨n, hp⟩ := hp
    exact hL47 n _ _ _ _ _ _ _ hp hM hS (lv_sub hl [3, 1, 0] rfl)
  · have hp := oIf.f hp hc
    refine lv_aload_n hx hb dJ8_node_10 rfl (lv_at hl 0 rfl) ?_
    refine x_getR X hC.1 hM (ci := 17) (C := RJ8) (T := TJ8) (N := 4) rfl in_J8 2 (by decide) q458 (fun _ h9 => h9) dJ8_node_11 hp (fun r4 hp => ?_)
    refine x_astore_n (r := r4) (lv' := [(2, va_rf r4), (0, .ref t0), (1, .int p1)]) hx hb dJ8_node_14 rfl hl (by decide) rfl (fun ls hl => ?_)
    refine lv_iconst (v := 0) hx hb dJ8_node_15 (by decide) ?_
    refine lv_istore_n (lv' := [(3, .int (0 : Int32)), (2, va_rf r4), (0, .ref t0), (1, .int p1)]) hx hb dJ8_node_16 rfl hl (by decide) (by cases r4 <;> rfl) (fun ls hl => ?_)
    obtain ⟨n, hp⟩ := hp
    exact hL17 n _ _ _ _ _ _ _ hp hM hS (lv_sub hl [3, 1, 0] rfl)
def B_J36_init_38 (G : wG) (Q : wM → Prop) (x0 : Nat) (x2 : Int32) (y0 : Option Nat) (y1 : Nat) (M : wM) : Prop :=
  oPut G M y1 19 1 (va_rf y0) (fun M1 => oPut G M1 x0 19 2 (.int x2) (fun M2 => Q M2))
def P_J36_init (G : wG) (t0 : Nat) (p1 : Nat) (p2 : Int32) (M : wM) (Q : wM → Prop) : Prop :=
  oPut G M t0 19 4 (.ref p1) (fun M1 => oGetA M1 t0 19 4 (fun a2 => oGetI M1 a2 17 0 (fun v3 => oPut G M1 t0 19 3 (.int v3) (fun M4 => oGetI M4 p1 17 1 (fun v5 => oIf (p2 = v5) (B_J36_init_38 G Q t0 p2 none t0 M4) (oIs M4 p1 17 (P_J8_node G p1 p2 M4 (fun r8 M6 => B_J36_init_38 G Q t0 p2 r8 t0 M6))))))))
set_option maxHeartbeats 4000000 in
set_option maxRecDepth 100000 in
theorem P_J36_init_ok {l : Launch} (hl0 : l.stackTraces = false) {G : wG} {t0 : Nat} {p1 : Nat} {p2 : Int32} {M : wM} {Q : wM → Prop} (hp : P_J36_init G t0 p1 p2 M Q) : wMet l yJ36_init (ws_ yJ36_init cJ36_init 3 (none)) 13 423 G [.ref t0, .ref p1, .int p2] M 0 (wqV Q) wX0 := by
  refine vx_ofW (cc := cJ36_init) (maxL := 3) (ret := none) (by decide) rfl ?_
  intro p e s m args below meth c s₁ B hml hnt hv
  obtain ⟨rfl, hM, hK, hZ, hz⟩ := hv
  have hC : wC G s := ⟨hK, hZ, hz⟩
  have hx := B.exec
  have hb := B.bytes
  have hr := B.returns
  have hts := atoms_spec (ws := (ws_ yJ36_init cJ36_init 3 (none))) B.pre
  have hts : ∀ w ∈ lw_all, w.before _ s = true := fun w h => hts w (List.mem_cons_of_mem _ h)
  have hown : s.vm.findClass RJ36 = some m.cls := findClass_of_methodNamed B.named
  have hlk := B.notSynchronized
  have hin0 : meth.name = "<init>" := (name_of_methodNamed B.named B.method).1
  have X : CallFix p m c cJ36_init 3 s ([.ref t0, .ref p1, .int p2] : List Value).toArray lw_all RJ36 := ⟨hx, hb, hml, hown, hts⟩
  have hS : va_S (wA G) s.heap s.heap [] := va_S.rf
  have hl := lv_entry ([.ref t0, .ref p1, .int p2]) (n := 3) (Nat.le_of_ble_eq_true rfl)
  rw [lg_entry_eq]
  generalize (lg_sl ([.ref t0, .ref p1, .int p2]) ++ List.replicate (3 - (lg_sl ([.ref t0, .ref p1, .int p2])).length) Slot.unset).toArray = ls at hl ⊢
  have hl : lv_has ls 3 [(0, .ref t0), (1, .ref p1), (2, .int p2)] := hl
  have hB38 : ∀ (x0 : Nat) (x2 : Int32) (y0 : Option Nat) (y1 : Nat) (M : wM) (H : Heap) (locs : List Loc) (ls : Array Slot), B_J36_init_38 G Q x0 x2 y0 y1 M → wR G M H → va_S (wA G) s.heap H locs → lv_has ls 3 [(0, .ref x0), (2, .int x2)] → W p l e (headSpec (ws_ yJ36_init cJ36_init 3 (none)) ({ frames := 13, cells := 0, slots := 0, locals := 423 })).room s m ([.ref t0, .ref p1, .int p2] : List Value).toArray below meth c H locs 0 0 (vx_MQ below (wQ G (wqV Q)) (wXC G wX0) ([.ref t0, .ref p1, .int p2] : List Value).toArray s 0 0 (wA G)) (F0 m 38 ls [va_rf y0, .ref y1]) := by
    intro x0 x2 y0 y1 M H locs ls hp hM hS hl
    refine x_put X hC.1 hM hS (ci := 19) (C := RJ36) (T := TJ36) (N := 5) rfl in_J36 tyJ36 tyJ36_ok nmJ36 1 (by decide) q1772 (fun _ h9 => h9) rfl (w_nobj _ y0) (w_fobj _ y0) dJ36_init_38 hp (fun M1 H locs hM hS hp => ?_)
    refine lv_aload_n hx hb dJ36_init_41 rfl (lv_at hl 0 rfl) ?_
    refine lv_iload_n hx hb dJ36_init_42 rfl (lv_at hl 1 rfl) ?_
    refine x_put X hC.1 hM hS (ci := 19) (C := RJ36) (T := TJ36) (N := 5) rfl in_J36 tyJ36 tyJ36_ok nmJ36 2 (by decide) q1773 (fun _ h9 => h9) rfl rfl rfl dJ36_init_43 hp (fun M2 H locs hM hS hp => ?_)
    exact x_vret X hr hlk hM hS ⟨Nat.le_refl _, Nat.le_refl _⟩ dJ36_init_46 ⟨rfl, hp⟩
  refine lv_aload_n hx hb dJ36_init_0 rfl (lv_at hl 0 rfl) ?_
  refine lv_aload_n hx hb dJ36_init_1 rfl (lv_at hl 1 rfl) ?_
  refine x_putF X hC.1 hM hS (ci := 19) (C := RJ36) (T := TJ36) (N := 5) rfl in_J36 tyJ36 tyJ36_ok nmJ36 4 (by decide) q1775 (fun _ h9 => h9) rfl hin0 rfl rfl rfl dJ36_init_2 hp (fun M1 H locs hM hS hp => ?_)
  refine lv_aload_n hx hb dJ36_init_5 rfl (lv_at hl 0 rfl) ?_
  refine W.objInit hx hb hown (hts _ q1769) (hts _ q218) (hts _ q219) rfl (by rw [hml]; exact hl.1) rfl dJ36_init_6 (Nat.le_of_ble_eq_true rfl) (Nat.le_of_ble_eq_true rfl) ?_
  refine W.eq (g2 := F0 m 9 ls []) rfl ?_
  refine lv_aload_n hx hb dJ36_init_9 rfl (lv_at hl 0 rfl) ?_
  refine lv_aload_n hx hb dJ36_init_10 rfl (lv_at hl 0 rfl) ?_
  refine x_getA X hC.1 hM (ci := 19) (C := RJ36) (T := TJ36) (N := 5) rfl in_J36 4 (by decide) q1775 (fun _ h9 => h9) dJ36_init_11 hp (fun a2 hp => ?_)
  refine x_getI X hC.1 hM (ci := 17) (C := RJ8) (T := TJ8) (N := 4) rfl in_J8 0 (by decide) q247 (fun x9 h9 => u_same (hts _ q248) x9 h9) dJ36_init_14 hp (fun v3 hp => ?_)
  refine x_put X hC.1 hM hS (ci := 19) (C := RJ36) (T := TJ36) (N := 5) rfl in_J36 tyJ36 tyJ36_ok nmJ36 3 (by decide) q1774 (fun _ h9 => h9) rfl rfl rfl dJ36_init_17 hp (fun M4 H locs hM hS hp => ?_)
  refine lv_aload_n hx hb dJ36_init_20 rfl (lv_at hl 0 rfl) ?_
  refine lv_iload_n hx hb dJ36_init_21 rfl (lv_at hl 2 rfl) ?_
  refine lv_aload_n hx hb dJ36_init_22 rfl (lv_at hl 1 rfl) ?_
  refine x_getI X hC.1 hM (ci := 17) (C := RJ8) (T := TJ8) (N := 4) rfl in_J8 1 (by decide) q457 (fun _ h9 => h9) dJ36_init_23 hp (fun v5 hp => ?_)
  refine lv_icmp_ne (tgt := 33) hx hb dJ36_init_26 (by decide) (fun hc => ?_) (fun hc => ?_)
  · have hp := oIf.f hp hc
    refine lv_aload_n hx hb dJ36_init_33 rfl (lv_at hl 1 rfl) ?_
    refine lv_iload_n hx hb dJ36_init_34 rfl (lv_at hl 2 rfl) ?_
    obtain ⟨hrec, hp⟩ := hp
    refine x_call0R (vx_runV (As := [.int p2]) (rest := [.ref t0]) X (P_J8_node_ok (l := l) hl0 hp) (cwV 1 hts (lw_V q1770 q908 q909 q160 q910) rfl rfl rfl (by decide +kernel) ⟨Nat.le_of_ble_eq_true rfl, Nat.le_of_ble_eq_true rfl⟩) ⟨wPc.blind, w_recv hC.1 hM (ci := 17) (q := (RJ8, TJ8, 4)) rfl hrec, w_pre hC hM hS _⟩ rfl rfl hl.1 rfl (lv_room (Nat.le_of_ble_eq_true rfl)) dJ36_init_35 ⟨Nat.le_refl _, Nat.le_refl _⟩) hS ⟨Nat.le_refl _, Nat.le_refl _⟩ (fun _ _ _ _ _ _ h => False.elim h) (fun r8 M6 H locs hp hM hS => ?_)
    exact hB38 _ _ _ _ _ _ _ _ hp hM hS (lv_sub hl [0, 2] rfl)
  · have hp := oIf.t hp hc
    refine lv_null hx hb dJ36_init_29 ?_
    refine lv_goto (tgt := 38) hx hb dJ36_init_30 (by decide) ?_
    exact hB38 _ _ _ _ _ _ _ _ hp hM hS (lv_sub hl [0, 2] rfl)
def P_J8_listIterator (G : wG) (t0 : Nat) (p1 : Int32) (b : Nat) (M : wM) (Q : Option Nat → wM → Prop) : Prop :=
  oIs M t0 17 (P_J8_checkPositionIndex G t0 p1 M (fun M1 => oNew G M1 b 19 [.null, .null, .int 0, .int 0, .null] (fun a3 M4 b5 => P_J36_init G a3 t0 p1 M4 (fun M6 => Q (some a3) M6))))
set_option maxHeartbeats 4000000 in
set_option maxRecDepth 100000 in
theorem P_J8_listIterator_ok {l : Launch} (hl0 : l.stackTraces = false) {G : wG} {t0 : Nat} {p1 : Int32} {b : Nat} {M : wM} {Q : Option Nat → wM → Prop} (hp : P_J8_listIterator G t0 p1 b M Q) : wMet l yJ8_listIterator (ws_ yJ8_listIterator cJ8_listIterator 2 (Option.some (Jvm.ClassFile.FieldType.object "java/util/ListIterator"))) 14 445 G [.ref t0, .int p1] M b (wqR Q) wX0 := by
  refine vx_ofW (cc := cJ8_listIterator) (maxL := 2) (ret := Option.some (Jvm.ClassFile.FieldType.object "java/util/ListIterator")) (by decide) rfl ?_
  intro p e s m args below meth c s₁ B hml hnt hv
  obtain ⟨rfl, hM, hK, hZ, hz⟩ := hv
  have hC : wC G s := ⟨hK, hZ, hz⟩
  have hx := B.exec
  have hb := B.bytes
  have hr := B.returns
  have hts := atoms_spec (ws := (ws_ yJ8_listIterator cJ8_listIterator 2 (Option.some (Jvm.ClassFile.FieldType.object "java/util/ListIterator")))) B.pre
  have hts : ∀ w ∈ lw_all, w.before _ s = true := fun w h => hts w (List.mem_cons_of_mem _ h)
  have hown : s.vm.findClass RJ8 = some m.cls := findClass_of_methodNamed B.named
  have hlk := B.notSynchronized
  have X : CallFix p m c cJ8_listIterator 2 s ([.ref t0, .int p1] : List Value).toArray lw_all RJ8 := ⟨hx, hb, hml, hown, hts⟩
  have hS : va_S (wA G) s.heap s.heap [] := va_S.rf
  have hl := lv_entry ([.ref t0, .int p1]) (n := 2) (Nat.le_of_ble_eq_true rfl)
  rw [lg_entry_eq]
  generalize (lg_sl ([.ref t0, .int p1]) ++ List.replicate (2 - (lg_sl ([.ref t0, .int p1])).length) Slot.unset).toArray = ls at hl ⊢
  have hl : lv_has ls 2 [(0, .ref t0), (1, .int p1)] := hl
  have hB : 0 + b ≤ ((headSpec (ws_ yJ8_listIterator cJ8_listIterator 2 (Option.some (Jvm.ClassFile.FieldType.object "java/util/ListIterator"))) ({ frames := 14, cells := b, slots := b, locals := 445 })).room).cells ∧ 0 + b ≤ ((headSpec (ws_ yJ8_listIterator cJ8_listIterator 2 (Option.some (Jvm.ClassFile.FieldType.object "java/util/ListIterator"))) ({ frames := 14, cells := b, slots := b, locals := 445 })).room).slots := ⟨Nat.le_of_eq (Nat.zero_add b), Nat.le_of_eq (Nat.zero_add b)⟩
  refine lv_aload_n hx hb dJ8_listIterator_0 rfl (lv_at hl 0 rfl) ?_
  refine lv_iload_n hx hb dJ8_listIterator_1 rfl (lv_at hl 1 rfl) ?_
  obtain ⟨hrec, hp⟩ := hp
  refine x_call0V (vx_runV (As := [.int p1]) (rest := []) X (P_J8_checkPositionIndex_ok (l := l) hl0 hp) (cwV 1 hts (lw_V q1656 q1658 qs31 q160 q1659) rfl rfl rfl (by decide +kernel) ⟨Nat.le_of_ble_eq_true rfl, Nat.le_of_ble_eq_true rfl⟩) ⟨wPc.blind, w_recv hC.1 hM (ci := 17) (q := (RJ8, TJ8, 4)) rfl hrec, w_pre hC hM hS _⟩ rfl rfl hl.1 rfl (lv_room (Nat.le_of_ble_eq_true rfl)) dJ8_listIterator_2 (w_room0 hB)) hS (w_room0 hB) (fun _ _ _ _ _ _ h => False.elim h) (fun M1 H locs hp hM hS => ?_)
  refine x_new X hC hM hS hB (ci := 19) (C := RJ36) (T := TJ36) (N := 5) rfl in_J36 tyJ36 tyJ36_ok q1764 q1765 q195 rfl (by decide) dJ8_listIterator_5 hp (fun a3 M4 H b5 cells slots hM hS hB hp => ?_)
  refine lv_dup hx hb dJ8_listIterator_8 rfl ?_
  refine lv_aload_n hx hb dJ8_listIterator_9 rfl (lv_at hl 0 rfl) ?_
  refine lv_iload_n hx hb dJ8_listIterator_10 rfl (lv_at hl 1 rfl) ?_
  refine x_call0V (vx_runI (As := [.ref t0, .int p1]) (rest := [.ref a3]) X (P_J36_init_ok (l := l) hl0 hp) (cwI 2 hts (lw_meth q1768) rfl rfl rfl (hts _ q195) (hts _ q1766) (hts _ q1767) rfl (by decide +kernel) ⟨Nat.le_of_ble_eq_true rfl, Nat.le_of_ble_eq_true rfl⟩) ⟨wPc.blind, w_pre hC hM hS _⟩ rfl rfl hl.1 rfl (lv_room (Nat.le_of_ble_eq_true rfl)) dJ8_listIterator_11 (w_room0 hB)) hS (w_room0 hB) (fun _ _ _ _ _ _ h => False.elim h) (fun M6 H locs hp hM hS => ?_)
  exact x_aret (v := (some a3)) X hr (by first | exact Or.inl ⟨_, rfl⟩ | exact Or.inr ⟨_, rfl⟩) hlk hM hS (w_fin hB) dJ8_listIterator_14 ⟨(some a3), rfl, hp⟩
def P_J1_listIterator_J8 (G : wG) (t0 : Nat) (b : Nat) (M : wM) (Q : Option Nat → wM → Prop) : Prop :=
  oIs M t0 17 (∃ c2, c2 ≤ b ∧ P_J8_listIterator G t0 (0 : Int32) c2 M (fun r3 M1 => Q r3 M1))
set_option maxHeartbeats 4000000 in
set_option maxRecDepth 100000 in
theorem P_J1_listIterator_J8_ok {l : Launch} (hl0 : l.stackTraces = false) {G : wG} {t0 : Nat} {b : Nat} {M : wM} {Q : Option Nat → wM → Prop} (hp : P_J1_listIterator_J8 G t0 b M Q) : wMet l yJ1_listIterator (ws_ yJ1_listIterator cJ1_listIterator 1 (Option.some (Jvm.ClassFile.FieldType.object "java/util/ListIterator"))) 15 466 G [.ref t0] M b (wqR Q) wX0 := by
  refine vx_ofW (cc := cJ1_listIterator) (maxL := 1) (ret := Option.some (Jvm.ClassFile.FieldType.object "java/util/ListIterator")) (by decide) rfl ?_
  intro p e s m args below meth c s₁ B hml hnt hv
  obtain ⟨rfl, hM, hK, hZ, hz⟩ := hv
  have hC : wC G s := ⟨hK, hZ, hz⟩
  have hx := B.exec
  have hb := B.bytes
  have hr := B.returns
  have hts := atoms_spec (ws := (ws_ yJ1_listIterator cJ1_listIterator 1 (Option.some (Jvm.ClassFile.FieldType.object "java/util/ListIterator")))) B.pre
  have hts : ∀ w ∈ lw_all, w.before _ s = true := fun w h => hts w (List.mem_cons_of_mem _ h)
  have hown : s.vm.findClass RJ1 = some m.cls := findClass_of_methodNamed B.named
  have hlk := B.notSynchronized
  have X : CallFix p m c cJ1_listIterator 1 s ([.ref t0] : List Value).toArray lw_all RJ1 := ⟨hx, hb, hml, hown, hts⟩
  have hS : va_S (wA G) s.heap s.heap [] := va_S.rf
  have hl := lv_entry ([.ref t0]) (n := 1) (Nat.le_of_ble_eq_true rfl)
  rw [lg_entry_eq]
  generalize (lg_sl ([.ref t0]) ++ List.replicate (1 - (lg_sl ([.ref t0])).length) Slot.unset).toArray = ls at hl ⊢
  have hl : lv_has ls 1 [(0, .ref t0)] := hl
  have hB : 0 + b ≤ ((headSpec (ws_ yJ1_listIterator cJ1_listIterator 1 (Option.some (Jvm.ClassFile.FieldType.object "java/util/ListIterator"))) ({ frames := 15, cells := b, slots := b, locals := 466 })).room).cells ∧ 0 + b ≤ ((headSpec (ws_ yJ1_listIterator cJ1_listIterator 1 (Option.some (Jvm.ClassFile.FieldType.object "java/util/ListIterator"))) ({ frames := 15, cells := b, slots := b, locals := 466 })).room).slots := ⟨Nat.le_of_eq (Nat.zero_add b), Nat.le_of_eq (Nat.zero_add b)⟩
  refine lv_aload_n hx hb dJ1_listIterator_0 rfl (lv_at hl 0 rfl) ?_
  refine lv_iconst (v := 0) hx hb dJ1_listIterator_1 (by decide) ?_
  obtain ⟨hrec, hp⟩ := hp
  obtain ⟨c2, hc1, hp⟩ := hp
  refine x_callR (vx_runU (As := [.int (0 : Int32)]) (rest := []) X (P_J8_listIterator_ok (l := l) hl0 hp) (va_cwA (owner := "java/util/AbstractList") 1 hts (lw_app (w_mem5 q1711 q1713 q1761 q1762 q160) (lw_meth q1763)) rfl rfl rfl (hC.1.2.2.1 _ q1787 rfl) (by decide +kernel) ⟨Nat.le_of_ble_eq_true rfl, Nat.le_of_ble_eq_true rfl⟩) ⟨wPc.blind, w_recv hC.1 hM (ci := 17) (q := (RJ8, TJ8, 4)) rfl hrec, w_pre hC hM hS _⟩ rfl rfl hl.1 rfl (lv_room (Nat.le_of_ble_eq_true rfl)) dJ1_listIterator_2 (w_room hB hc1)) hS hB hc1 (fun _ _ _ _ _ _ h => False.elim h) (fun r3 M1 H locs hp hM hS hB => ?_)
  exact x_aret (v := r3) X hr (by first | exact Or.inl ⟨_, rfl⟩ | exact Or.inr ⟨_, rfl⟩) hlk hM hS (w_fin hB) dJ1_listIterator_5 ⟨r3, rfl, hp⟩
def P_J7_iterator_J8 (G : wG) (t0 : Nat) (b : Nat) (M : wM) (Q : Option Nat → wM → Prop) : Prop :=
  oIs M t0 17 (∃ c2, c2 ≤ b ∧ P_J1_listIterator_J8 G t0 c2 M (fun r3 M1 => Q r3 M1))
set_option maxHeartbeats 4000000 in
set_option maxRecDepth 100000 in
theorem P_J7_iterator_J8_ok {l : Launch} (hl0 : l.stackTraces = false) {G : wG} {t0 : Nat} {b : Nat} {M : wM} {Q : Option Nat → wM → Prop} (hp : P_J7_iterator_J8 G t0 b M Q) : wMet l yJ7_iterator (ws_ yJ7_iterator cJ7_iterator 1 (Option.some (Jvm.ClassFile.FieldType.object "java/util/Iterator"))) 16 486 G [.ref t0] M b (wqR Q) wX0 := by
  refine vx_ofW (cc := cJ7_iterator) (maxL := 1) (ret := Option.some (Jvm.ClassFile.FieldType.object "java/util/Iterator")) (by decide) rfl ?_
  intro p e s m args below meth c s₁ B hml hnt hv
  obtain ⟨rfl, hM, hK, hZ, hz⟩ := hv
  have hC : wC G s := ⟨hK, hZ, hz⟩
  have hx := B.exec
  have hb := B.bytes
  have hr := B.returns
  have hts := atoms_spec (ws := (ws_ yJ7_iterator cJ7_iterator 1 (Option.some (Jvm.ClassFile.FieldType.object "java/util/Iterator")))) B.pre
  have hts : ∀ w ∈ lw_all, w.before _ s = true := fun w h => hts w (List.mem_cons_of_mem _ h)
  have hown : s.vm.findClass RJ7 = some m.cls := findClass_of_methodNamed B.named
  have hlk := B.notSynchronized
  have X : CallFix p m c cJ7_iterator 1 s ([.ref t0] : List Value).toArray lw_all RJ7 := ⟨hx, hb, hml, hown, hts⟩
  have hS : va_S (wA G) s.heap s.heap [] := va_S.rf
  have hl := lv_entry ([.ref t0]) (n := 1) (Nat.le_of_ble_eq_true rfl)
  rw [lg_entry_eq]
  generalize (lg_sl ([.ref t0]) ++ List.replicate (1 - (lg_sl ([.ref t0])).length) Slot.unset).toArray = ls at hl ⊢
  have hl : lv_has ls 1 [(0, .ref t0)] := hl
  have hB : 0 + b ≤ ((headSpec (ws_ yJ7_iterator cJ7_iterator 1 (Option.some (Jvm.ClassFile.FieldType.object "java/util/Iterator"))) ({ frames := 16, cells := b, slots := b, locals := 486 })).room).cells ∧ 0 + b ≤ ((headSpec (ws_ yJ7_iterator cJ7_iterator 1 (Option.some (Jvm.ClassFile.FieldType.object "java/util/Iterator"))) ({ frames := 16, cells := b, slots := b, locals := 486 })).room).slots := ⟨Nat.le_of_eq (Nat.zero_add b), Nat.le_of_eq (Nat.zero_add b)⟩
  refine lv_aload_n hx hb dJ7_iterator_0 rfl (lv_at hl 0 rfl) ?_
  obtain ⟨hrec, hp⟩ := hp
  obtain ⟨c2, hc1, hp⟩ := hp
  refine x_callR (vx_runU (As := []) (rest := []) X (P_J1_listIterator_J8_ok (l := l) hl0 hp) (va_cwU 0 hts (lw_app (w_mem5 q1705 q1706 q1708 q1709 q152) (lw_meth q1710)) rfl rfl rfl rfl (by decide +kernel) ⟨Nat.le_of_ble_eq_true rfl, Nat.le_of_ble_eq_true rfl⟩) ⟨wPc.blind, w_recv hC.1 hM (ci := 17) (q := (RJ8, TJ8, 4)) rfl hrec, w_pre hC hM hS _⟩ rfl rfl hl.1 rfl (lv_room (Nat.le_of_ble_eq_true rfl)) dJ7_iterator_1 (w_room hB hc1)) hS hB hc1 (fun _ _ _ _ _ _ h => False.elim h) (fun r3 M1 H locs hp hM hS hB => ?_)
  exact x_aret (v := r3) X hr (by first | exact Or.inl ⟨_, rfl⟩ | exact Or.inr ⟨_, rfl⟩) hlk hM hS (w_fin hB) dJ7_iterator_4 ⟨r3, rfl, hp⟩
def P_X11_init_X13 (G : wG) (t0 : Nat) (p1 : Int32) (p2 : Int32) (M : wM) (Q : wM → Prop) : Prop :=
  oPut G M t0 10 0 (.int p1) (fun M1 => oPut G M1 t0 10 1 (.int p2) (fun M2 => Q M2))
set_option maxHeartbeats 4000000 in
set_option maxRecDepth 100000 in
theorem P_X11_init_X13_ok {l : Launch} (hl0 : l.stackTraces = false) {G : wG} {t0 : Nat} {p1 : Int32} {p2 : Int32} {M : wM} {Q : wM → Prop} (hp : P_X11_init_X13 G t0 p1 p2 M Q) : wMet l yX11_init (ws_ yX11_init cX11_init 3 (none)) 12 400 G [.ref t0, .int p1, .int p2] M 0 (wqV Q) wX0 := by
  refine vx_ofW (cc := cX11_init) (maxL := 3) (ret := none) (by decide) rfl ?_
  intro p e s m args below meth c s₁ B hml hnt hv
  obtain ⟨rfl, hM, hK, hZ, hz⟩ := hv
  have hC : wC G s := ⟨hK, hZ, hz⟩
  have hx := B.exec
  have hb := B.bytes
  have hr := B.returns
  have hts := atoms_spec (ws := (ws_ yX11_init cX11_init 3 (none))) B.pre
  have hts : ∀ w ∈ lw_all, w.before _ s = true := fun w h => hts w (List.mem_cons_of_mem _ h)
  have hown : s.vm.findClass RX11 = some m.cls := findClass_of_methodNamed B.named
  have hlk := B.notSynchronized
  have hin0 : meth.name = "<init>" := (name_of_methodNamed B.named B.method).1
  have X : CallFix p m c cX11_init 3 s ([.ref t0, .int p1, .int p2] : List Value).toArray lw_all RX11 := ⟨hx, hb, hml, hown, hts⟩
  have hS : va_S (wA G) s.heap s.heap [] := va_S.rf
  have hl := lv_entry ([.ref t0, .int p1, .int p2]) (n := 3) (Nat.le_of_ble_eq_true rfl)
  rw [lg_entry_eq]
  generalize (lg_sl ([.ref t0, .int p1, .int p2]) ++ List.replicate (3 - (lg_sl ([.ref t0, .int p1, .int p2])).length) Slot.unset).toArray = ls at hl ⊢
  have hl : lv_has ls 3 [(0, .ref t0), (1, .int p1), (2, .int p2)] := hl
  refine lv_aload_n hx hb dX11_init_0 rfl (lv_at hl 0 rfl) ?_
  refine W.objInit hx hb hown (hts _ q2083) (hts _ q218) (hts _ q219) rfl (by rw [hml]; exact hl.1) rfl dX11_init_1 (Nat.le_of_ble_eq_true rfl) (Nat.le_of_ble_eq_true rfl) ?_
  refine W.eq (g2 := F0 m 4 ls []) rfl ?_
  refine lv_aload_n hx hb dX11_init_4 rfl (lv_at hl 0 rfl) ?_
  refine lv_iload_n hx hb dX11_init_5 rfl (lv_at hl 1 rfl) ?_
  refine x_putF X hC.1 hM hS (ci := 10) (C := RX13) (T := TX13) (N := 4) rfl in_X13 tyX13 tyX13_ok nmX13 0 (by decide) q2100 (fun _ h9 => h9) rfl hin0 rfl rfl rfl dX11_init_6 hp (fun M1 H locs hM hS hp => ?_)
  refine lv_aload_n hx hb dX11_init_9 rfl (lv_at hl 0 rfl) ?_
  refine lv_iload_n hx hb dX11_init_10 rfl (lv_at hl 2 rfl) ?_
  refine x_putF X hC.1 hM hS (ci := 10) (C := RX13) (T := TX13) (N := 4) rfl in_X13 tyX13 tyX13_ok nmX13 1 (by decide) q2109 (fun _ h9 => h9) rfl hin0 rfl rfl rfl dX11_init_11 hp (fun M2 H locs hM hS hp => ?_)
  exact x_vret X hr hlk hM hS ⟨Nat.le_refl _, Nat.le_refl _⟩ dX11_init_14 ⟨rfl, hp⟩
def P_X13_init (G : wG) (t0 : Nat) (p1 : Int32) (p2 : Int32) (p3 : Int32) (p4 : Int32) (M : wM) (Q : wM → Prop) : Prop :=
  P_X11_init_X13 G t0 p1 p2 M (fun M1 => oPut G M1 t0 10 2 (.int p3) (fun M3 => oPut G M3 t0 10 3 (.int p4) (fun M4 => Q M4)))
set_option maxHeartbeats 4000000 in
set_option maxRecDepth 100000 in
theorem P_X13_init_ok {l : Launch} (hl0 : l.stackTraces = false) {G : wG} {t0 : Nat} {p1 : Int32} {p2 : Int32} {p3 : Int32} {p4 : Int32} {M : wM} {Q : wM → Prop} (hp : P_X13_init G t0 p1 p2 p3 p4 M Q) : wMet l yX13_init (ws_ yX13_init cX13_init 5 (none)) 13 422 G [.ref t0, .int p1, .int p2, .int p3, .int p4] M 0 (wqV Q) wX0 := by
  refine vx_ofW (cc := cX13_init) (maxL := 5) (ret := none) (by decide) rfl ?_
  intro p e s m args below meth c s₁ B hml hnt hv
  obtain ⟨rfl, hM, hK, hZ, hz⟩ := hv
  have hC : wC G s := ⟨hK, hZ, hz⟩
  have hx := B.exec
  have hb := B.bytes
  have hr := B.returns
  have hts := atoms_spec (ws := (ws_ yX13_init cX13_init 5 (none))) B.pre
  have hts : ∀ w ∈ lw_all, w.before _ s = true := fun w h => hts w (List.mem_cons_of_mem _ h)
  have hown : s.vm.findClass RX13 = some m.cls := findClass_of_methodNamed B.named
  have hlk := B.notSynchronized
  have hin0 : meth.name = "<init>" := (name_of_methodNamed B.named B.method).1
  have X : CallFix p m c cX13_init 5 s ([.ref t0, .int p1, .int p2, .int p3, .int p4] : List Value).toArray lw_all RX13 := ⟨hx, hb, hml, hown, hts⟩
  have hS : va_S (wA G) s.heap s.heap [] := va_S.rf
  have hl := lv_entry ([.ref t0, .int p1, .int p2, .int p3, .int p4]) (n := 5) (Nat.le_of_ble_eq_true rfl)
  rw [lg_entry_eq]
  generalize (lg_sl ([.ref t0, .int p1, .int p2, .int p3, .int p4]) ++ List.replicate (5 - (lg_sl ([.ref t0, .int p1, .int p2, .int p3, .int p4])).length) Slot.unset).toArray = ls at hl ⊢
  have hl : lv_has ls 5 [(0, .ref t0), (1, .int p1), (2, .int p2), (3, .int p3), (4, .int p4)] := hl
  refine lv_aload_n hx hb dX13_init_0 rfl (lv_at hl 0 rfl) ?_
  refine lv_iload_n hx hb dX13_init_1 rfl (lv_at hl 1 rfl) ?_
  refine lv_iload_n hx hb dX13_init_2 rfl (lv_at hl 2 rfl) ?_
  refine x_call0V (vx_runI (As := [.int p1, .int p2]) (rest := []) X (P_X11_init_X13_ok (l := l) hl0 hp) (cwI 2 hts (lw_meth q2082) rfl rfl rfl (hts _ q201) (hts _ q2148) (hts _ q2081) rfl (by decide +kernel) ⟨Nat.le_of_ble_eq_true rfl, Nat.le_of_ble_eq_true rfl⟩) ⟨wPc.blind, w_pre hC hM hS _⟩ rfl rfl hl.1 rfl (lv_room (Nat.le_of_ble_eq_true rfl)) dX13_init_3 ⟨Nat.le_refl _, Nat.le_refl _⟩) hS ⟨Nat.le_refl _, Nat.le_refl _⟩ (fun _ _ _ _ _ _ h => False.elim h) (fun M1 H locs hp hM hS => ?_)
  refine lv_aload_n hx hb dX13_init_6 rfl (lv_at hl 0 rfl) ?_
  refine lv_iload_n hx hb dX13_init_7 rfl (lv_at hl 3 rfl) ?_
  refine x_putF X hC.1 hM hS (ci := 10) (C := RX13) (T := TX13) (N := 4) rfl in_X13 tyX13 tyX13_ok nmX13 2 (by decide) q2149 (fun _ h9 => h9) rfl hin0 rfl rfl rfl dX13_init_8 hp (fun M3 H locs hM hS hp => ?_)
  refine lv_aload_n hx hb dX13_init_11 rfl (lv_at hl 0 rfl) ?_
  refine lv_iload hx hb dX13_init_12 (lv_at hl 4 rfl) ?_
  refine x_put X hC.1 hM hS (ci := 10) (C := RX13) (T := TX13) (N := 4) rfl in_X13 tyX13 tyX13_ok nmX13 3 (by decide) q2151 (fun _ h9 => h9) rfl rfl rfl dX13_init_14 hp (fun M4 H locs hM hS hp => ?_)
  exact x_vret X hr hlk hM hS ⟨Nat.le_refl _, Nat.le_refl _⟩ dX13_init_17 ⟨rfl, hp⟩
def P_X13_copy (G : wG) (t0 : Nat) (b : Nat) (M : wM) (Q : Option Nat → wM → Prop) : Prop :=
  oNew G M b 10 [.int 0, .int 0, .int 0, .int 0] (fun a1 M2 b3 => oGetI M2 t0 10 0 (fun v4 => oGetI M2 t0 10 1 (fun v5 => oGetI M2 t0 10 2 (fun v6 => oGetI M2 t0 10 3 (fun v7 => P_X13_init G a1 v4 v5 v6 v7 M2 (fun M8 => Q (some a1) M8))))))
set_option maxHeartbeats 4000000 in
set_option maxRecDepth 100000 in
theorem P_X13_copy_ok {l : Launch} (hl0 : l.stackTraces = false) {G : wG} {t0 : Nat} {b : Nat} {M : wM} {Q : Option Nat → wM → Prop} (hp : P_X13_copy G t0 b M Q) : wMet l yX13_copy (ws_ yX13_copy cX13_copy 1 (Option.some (Jvm.ClassFile.FieldType.object "ParkingOffice$Visit"))) 14 446 G [.ref t0] M b (wqR Q) wX0 := by
  refine vx_ofW (cc := cX13_copy) (maxL := 1) (ret := Option.some (Jvm.ClassFile.FieldType.object "ParkingOffice$Visit")) (by decide) rfl ?_
  intro p e s m args below meth c s₁ B hml hnt hv
  obtain ⟨rfl, hM, hK, hZ, hz⟩ := hv
  have hC : wC G s := ⟨hK, hZ, hz⟩
  have hx := B.exec
  have hb := B.bytes
  have hr := B.returns
  have hts := atoms_spec (ws := (ws_ yX13_copy cX13_copy 1 (Option.some (Jvm.ClassFile.FieldType.object "ParkingOffice$Visit")))) B.pre
  have hts : ∀ w ∈ lw_all, w.before _ s = true := fun w h => hts w (List.mem_cons_of_mem _ h)
  have hown : s.vm.findClass RX13 = some m.cls := findClass_of_methodNamed B.named
  have hlk := B.notSynchronized
  have X : CallFix p m c cX13_copy 1 s ([.ref t0] : List Value).toArray lw_all RX13 := ⟨hx, hb, hml, hown, hts⟩
  have hS : va_S (wA G) s.heap s.heap [] := va_S.rf
  have hl := lv_entry ([.ref t0]) (n := 1) (Nat.le_of_ble_eq_true rfl)
  rw [lg_entry_eq]
  generalize (lg_sl ([.ref t0]) ++ List.replicate (1 - (lg_sl ([.ref t0])).length) Slot.unset).toArray = ls at hl ⊢
  have hl : lv_has ls 1 [(0, .ref t0)] := hl
  have hB : 0 + b ≤ ((headSpec (ws_ yX13_copy cX13_copy 1 (Option.some (Jvm.ClassFile.FieldType.object "ParkingOffice$Visit"))) ({ frames := 14, cells := b, slots := b, locals := 446 })).room).cells ∧ 0 + b ≤ ((headSpec (ws_ yX13_copy cX13_copy 1 (Option.some (Jvm.ClassFile.FieldType.object "ParkingOffice$Visit"))) ({ frames := 14, cells := b, slots := b, locals := 446 })).room).slots := ⟨Nat.le_of_eq (Nat.zero_add b), Nat.le_of_eq (Nat.zero_add b)⟩
  refine x_new X hC hM hS hB (ci := 10) (C := RX13) (T := TX13) (N := 4) rfl in_X13 tyX13 tyX13_ok q2143 q2144 q203 rfl (by decide) dX13_copy_0 hp (fun a1 M2 H b3 cells slots hM hS hB hp => ?_)
  refine lv_dup hx hb dX13_copy_3 rfl ?_
  refine lv_aload_n hx hb dX13_copy_4 rfl (lv_at hl 0 rfl) ?_
  refine x_getI X hC.1 hM (ci := 10) (C := RX13) (T := TX13) (N := 4) rfl in_X13 0 (by decide) q2103 (fun x9 h9 => u_same (hts _ q2104) x9 h9) dX13_copy_5 hp (fun v4 hp => ?_)
  refine lv_aload_n hx hb dX13_copy_8 rfl (lv_at hl 0 rfl) ?_
  refine x_getI X hC.1 hM (ci := 10) (C := RX13) (T := TX13) (N := 4) rfl in_X13 1 (by decide) q2112 (fun x9 h9 => u_same (hts _ q2113) x9 h9) dX13_copy_9 hp (fun v5 hp => ?_)
  refine lv_aload_n hx hb dX13_copy_12 rfl (lv_at hl 0 rfl) ?_
  refine x_getI X hC.1 hM (ci := 10) (C := RX13) (T := TX13) (N := 4) rfl in_X13 2 (by decide) q2149 (fun _ h9 => h9) dX13_copy_13 hp (fun v6 hp => ?_)
  refine lv_aload_n hx hb dX13_copy_16 rfl (lv_at hl 0 rfl) ?_
  refine x_getI X hC.1 hM (ci := 10) (C := RX13) (T := TX13) (N := 4) rfl in_X13 3 (by decide) q2151 (fun _ h9 => h9) dX13_copy_17 hp (fun v7 hp => ?_)
  refine x_call0V (vx_runI (As := [.int v4, .int v5, .int v6, .int v7]) (rest := [.ref a1]) X (P_X13_init_ok (l := l) hl0 hp) (cwI 4 hts (lw_meth q2147) rfl rfl rfl (hts _ q203) (hts _ q2145) (hts _ q2146) rfl (by decide +kernel) ⟨Nat.le_of_ble_eq_true rfl, Nat.le_of_ble_eq_true rfl⟩) ⟨wPc.blind, w_pre hC hM hS _⟩ rfl rfl hl.1 rfl (lv_room (Nat.le_of_ble_eq_true rfl)) dX13_copy_20 (w_room0 hB)) hS (w_room0 hB) (fun _ _ _ _ _ _ h => False.elim h) (fun M8 H locs hp hM hS => ?_)
  exact x_aret (v := (some a1)) X hr (by first | exact Or.inl ⟨_, rfl⟩ | exact Or.inr ⟨_, rfl⟩) hlk hM hS (w_fin hB) dX13_copy_23 ⟨(some a1), rfl, hp⟩
def P_X11_init_X12 (G : wG) (t0 : Nat) (p1 : Int32) (p2 : Int32) (M : wM) (Q : wM → Prop) : Prop :=
  oPut G M t0 9 0 (.int p1) (fun M1 => oPut G M1 t0 9 1 (.int p2) (fun M2 => Q M2))
set_option maxHeartbeats 4000000 in
set_option maxRecDepth 100000 in
theorem P_X11_init_X12_ok {l : Launch} (hl0 : l.stackTraces = false) {G : wG} {t0 : Nat} {p1 : Int32} {p2 : Int32} {M : wM} {Q : wM → Prop} (hp : P_X11_init_X12 G t0 p1 p2 M Q) : wMet l yX11_init (ws_ yX11_init cX11_init 3 (none)) 12 400 G [.ref t0, .int p1, .int p2] M 0 (wqV Q) wX0 := by
  refine vx_ofW (cc := cX11_init) (maxL := 3) (ret := none) (by decide) rfl ?_
  intro p e s m args below meth c s₁ B hml hnt hv
  obtain ⟨rfl, hM, hK, hZ, hz⟩ := hv
  have hC : wC G s := ⟨hK, hZ, hz⟩
  have hx := B.exec
  have hb := B.bytes
  have hr := B.returns
  have hts := atoms_spec (ws := (ws_ yX11_init cX11_init 3 (none))) B.pre
  have hts : ∀ w ∈ lw_all, w.before _ s = true := fun w h => hts w (List.mem_cons_of_mem _ h)
  have hown : s.vm.findClass RX11 = some m.cls := findClass_of_methodNamed B.named
  have hlk := B.notSynchronized
  have hin0 : meth.name = "<init>" := (name_of_methodNamed B.named B.method).1
  have X : CallFix p m c cX11_init 3 s ([.ref t0, .int p1, .int p2] : List Value).toArray lw_all RX11 := ⟨hx, hb, hml, hown, hts⟩
  have hS : va_S (wA G) s.heap s.heap [] := va_S.rf
  have hl := lv_entry ([.ref t0, .int p1, .int p2]) (n := 3) (Nat.le_of_ble_eq_true rfl)
  rw [lg_entry_eq]
  generalize (lg_sl ([.ref t0, .int p1, .int p2]) ++ List.replicate (3 - (lg_sl ([.ref t0, .int p1, .int p2])).length) Slot.unset).toArray = ls at hl ⊢
  have hl : lv_has ls 3 [(0, .ref t0), (1, .int p1), (2, .int p2)] := hl
  refine lv_aload_n hx hb dX11_init_0 rfl (lv_at hl 0 rfl) ?_
  refine W.objInit hx hb hown (hts _ q2083) (hts _ q218) (hts _ q219) rfl (by rw [hml]; exact hl.1) rfl dX11_init_1 (Nat.le_of_ble_eq_true rfl) (Nat.le_of_ble_eq_true rfl) ?_
  refine W.eq (g2 := F0 m 4 ls []) rfl ?_
  refine lv_aload_n hx hb dX11_init_4 rfl (lv_at hl 0 rfl) ?_
  refine lv_iload_n hx hb dX11_init_5 rfl (lv_at hl 1 rfl) ?_
  refine x_putF X hC.1 hM hS (ci := 9) (C := RX12) (T := TX12) (N := 8) rfl in_X12 tyX12 tyX12_ok nmX12 0 (by decide) q2100 (fun _ h9 => h9) rfl hin0 rfl rfl rfl dX11_init_6 hp (fun M1 H locs hM hS hp => ?_)
  refine lv_aload_n hx hb dX11_init_9 rfl (lv_at hl 0 rfl) ?_
  refine lv_iload_n hx hb dX11_init_10 rfl (lv_at hl 2 rfl) ?_
  refine x_putF X hC.1 hM hS (ci := 9) (C := RX12) (T := TX12) (N := 8) rfl in_X12 tyX12 tyX12_ok nmX12 1 (by decide) q2109 (fun _ h9 => h9) rfl hin0 rfl rfl rfl dX11_init_11 hp (fun M2 H locs hM hS hp => ?_)
  exact x_vret X hr hlk hM hS ⟨Nat.le_refl _, Nat.le_refl _⟩ dX11_init_14 ⟨rfl, hp⟩
def P_X12_init (G : wG) (t0 : Nat) (p1 : Int32) (p2 : Int32) (p3 : Int32) (p4 : Int32) (M : wM) (Q : wM → Prop) : Prop :=
  P_X11_init_X12 G t0 p1 p2 M (fun M1 => oPut G M1 t0 9 5 (.int (-1 : Int32)) (fun M3 => oPut G M3 t0 9 6 (.int (-1 : Int32)) (fun M4 => oPut G M4 t0 9 2 (.int p3) (fun M5 => oPut G M5 t0 9 3 (.int p4) (fun M6 => Q M6)))))
set_option maxHeartbeats 4000000 in
set_option maxRecDepth 100000 in
theorem P_X12_init_ok {l : Launch} (hl0 : l.stackTraces = false) {G : wG} {t0 : Nat} {p1 : Int32} {p2 : Int32} {p3 : Int32} {p4 : Int32} {M : wM} {Q : wM → Prop} (hp : P_X12_init G t0 p1 p2 p3 p4 M Q) : wMet l yX12_init (ws_ yX12_init cX12_init 5 (none)) 13 422 G [.ref t0, .int p1, .int p2, .int p3, .int p4] M 0 (wqV Q) wX0 := by
  refine vx_ofW (cc := cX12_init) (maxL := 5) (ret := none) (by decide) rfl ?_
  intro p e s m args below meth c s₁ B hml hnt hv
  obtain ⟨rfl, hM, hK, hZ, hz⟩ := hv
  have hC : wC G s := ⟨hK, hZ, hz⟩
  have hx := B.exec
  have hb := B.bytes
  have hr := B.returns
  have hts := atoms_spec (ws := (ws_ yX12_init cX12_init 5 (none))) B.pre
  have hts : ∀ w ∈ lw_all, w.before _ s = true := fun w h => hts w (List.mem_cons_of_mem _ h)
  have hown : s.vm.findClass RX12 = some m.cls := findClass_of_methodNamed B.named
  have hlk := B.notSynchronized
  have hin0 : meth.name = "<init>" := (name_of_methodNamed B.named B.method).1
  have X : CallFix p m c cX12_init 5 s ([.ref t0, .int p1, .int p2, .int p3, .int p4] : List Value).toArray lw_all RX12 := ⟨hx, hb, hml, hown, hts⟩
  have hS : va_S (wA G) s.heap s.heap [] := va_S.rf
  have hl := lv_entry ([.ref t0, .int p1, .int p2, .int p3, .int p4]) (n := 5) (Nat.le_of_ble_eq_true rfl)
  rw [lg_entry_eq]
  generalize (lg_sl ([.ref t0, .int p1, .int p2, .int p3, .int p4]) ++ List.replicate (5 - (lg_sl ([.ref t0, .int p1, .int p2, .int p3, .int p4])).length) Slot.unset).toArray = ls at hl ⊢
  have hl : lv_has ls 5 [(0, .ref t0), (1, .int p1), (2, .int p2), (3, .int p3), (4, .int p4)] := hl
  refine lv_aload_n hx hb dX12_init_0 rfl (lv_at hl 0 rfl) ?_
  refine lv_iload_n hx hb dX12_init_1 rfl (lv_at hl 1 rfl) ?_
  refine lv_iload_n hx hb dX12_init_2 rfl (lv_at hl 2 rfl) ?_
  refine x_call0V (vx_runI (As := [.int p1, .int p2]) (rest := []) X (P_X11_init_X12_ok (l := l) hl0 hp) (cwI 2 hts (lw_meth q2082) rfl rfl rfl (hts _ q201) (hts _ q2080) (hts _ q2081) rfl (by decide +kernel) ⟨Nat.le_of_ble_eq_true rfl, Nat.le_of_ble_eq_true rfl⟩) ⟨wPc.blind, w_pre hC hM hS _⟩ rfl rfl hl.1 rfl (lv_room (Nat.le_of_ble_eq_true rfl)) dX12_init_3 ⟨Nat.le_refl _, Nat.le_refl _⟩) hS ⟨Nat.le_refl _, Nat.le_refl _⟩ (fun _ _ _ _ _ _ h => False.elim h) (fun M1 H locs hp hM hS => ?_)
  refine lv_aload_n hx hb dX12_init_6 rfl (lv_at hl 0 rfl) ?_
  refine lv_iconst (v := (-1)) hx hb dX12_init_7 (by decide) ?_
  refine x_put X hC.1 hM hS (ci := 9) (C := RX12) (T := TX12) (N := 8) rfl in_X12 tyX12 tyX12_ok nmX12 5 (by decide) q2092 (fun _ h9 => h9) rfl rfl rfl dX12_init_8 hp (fun M3 H locs hM hS hp => ?_)
  refine lv_aload_n hx hb dX12_init_11 rfl (lv_at hl 0 rfl) ?_
  refine lv_iconst (v := (-1)) hx hb dX12_init_12 (by decide) ?_
  refine x_put X hC.1 hM hS (ci := 9) (C := RX12) (T := TX12) (N := 8) rfl in_X12 tyX12 tyX12_ok nmX12 6 (by decide) q2095 (fun _ h9 => h9) rfl rfl rfl dX12_init_13 hp (fun M4 H locs hM hS hp => ?_)
  refine lv_aload_n hx hb dX12_init_16 rfl (lv_at hl 0 rfl) ?_
  refine lv_iload_n hx hb dX12_init_17 rfl (lv_at hl 3 rfl) ?_
  refine x_putF X hC.1 hM hS (ci := 9) (C := RX12) (T := TX12) (N := 8) rfl in_X12 tyX12 tyX12_ok nmX12 2 (by decide) q2084 (fun _ h9 => h9) rfl hin0 rfl rfl rfl dX12_init_18 hp (fun M5 H locs hM hS hp => ?_)
  refine lv_aload_n hx hb dX12_init_21 rfl (lv_at hl 0 rfl) ?_
  refine lv_iload hx hb dX12_init_22 (lv_at hl 4 rfl) ?_
  refine x_putF X hC.1 hM hS (ci := 9) (C := RX12) (T := TX12) (N := 8) rfl in_X12 tyX12 tyX12_ok nmX12 3 (by decide) q2087 (fun _ h9 => h9) rfl hin0 rfl rfl rfl dX12_init_24 hp (fun M6 H locs hM hS hp => ?_)
  exact x_vret X hr hlk hM hS ⟨Nat.le_refl _, Nat.le_refl _⟩ dX12_init_27 ⟨rfl, hp⟩
def P_X12_copy (G : wG) (t0 : Nat) (b : Nat) (M : wM) (Q : Option Nat → wM → Prop) : Prop :=
  oNew G M b 9 [.int 0, .int 0, .int 0, .int 0, .int 0, .int 0, .int 0, .int 0] (fun a1 M2 b3 => oGetI M2 t0 9 0 (fun v4 => oGetI M2 t0 9 1 (fun v5 => oGetI M2 t0 9 2 (fun v6 => oGetI M2 t0 9 3 (fun v7 => P_X12_init G a1 v4 v5 v6 v7 M2 (fun M8 => oGetI M8 t0 9 4 (fun v10 => oPut G M8 a1 9 4 (.int v10) (fun M11 => oGetI M11 t0 9 5 (fun v12 => oPut G M11 a1 9 5 (.int v12) (fun M13 => oGetI M13 t0 9 6 (fun v14 => oPut G M13 a1 9 6 (.int v14) (fun M15 => oGetI M15 t0 9 7 (fun v16 => oPut G M15 a1 9 7 (.int v16) (fun M17 => Q (some a1) M17))))))))))))))
set_option maxHeartbeats 4000000 in
set_option maxRecDepth 100000 in
theorem P_X12_copy_ok {l : Launch} (hl0 : l.stackTraces = false) {G : wG} {t0 : Nat} {b : Nat} {M : wM} {Q : Option Nat → wM → Prop} (hp : P_X12_copy G t0 b M Q) : wMet l yX12_copy (ws_ yX12_copy cX12_copy 2 (Option.some (Jvm.ClassFile.FieldType.object "ParkingOffice$Permit"))) 14 446 G [.ref t0] M b (wqR Q) wX0 := by
  refine vx_ofW (cc := cX12_copy) (maxL := 2) (ret := Option.some (Jvm.ClassFile.FieldType.object "ParkingOffice$Permit")) (by decide) rfl ?_
  intro p e s m args below meth c s₁ B hml hnt hv
  obtain ⟨rfl, hM, hK, hZ, hz⟩ := hv
  have hC : wC G s := ⟨hK, hZ, hz⟩
  have hx := B.exec
  have hb := B.bytes
  have hr := B.returns
  have hts := atoms_spec (ws := (ws_ yX12_copy cX12_copy 2 (Option.some (Jvm.ClassFile.FieldType.object "ParkingOffice$Permit")))) B.pre
  have hts : ∀ w ∈ lw_all, w.before _ s = true := fun w h => hts w (List.mem_cons_of_mem _ h)
  have hown : s.vm.findClass RX12 = some m.cls := findClass_of_methodNamed B.named
  have hlk := B.notSynchronized
  have X : CallFix p m c cX12_copy 2 s ([.ref t0] : List Value).toArray lw_all RX12 := ⟨hx, hb, hml, hown, hts⟩
  have hS : va_S (wA G) s.heap s.heap [] := va_S.rf
  have hl := lv_entry ([.ref t0]) (n := 2) (Nat.le_of_ble_eq_true rfl)
  rw [lg_entry_eq]
  generalize (lg_sl ([.ref t0]) ++ List.replicate (2 - (lg_sl ([.ref t0])).length) Slot.unset).toArray = ls at hl ⊢
  have hl : lv_has ls 2 [(0, .ref t0)] := hl
  have hB : 0 + b ≤ ((headSpec (ws_ yX12_copy cX12_copy 2 (Option.some (Jvm.ClassFile.FieldType.object "ParkingOffice$Permit"))) ({ frames := 14, cells := b, slots := b, locals := 446 })).room).cells ∧ 0 + b ≤ ((headSpec (ws_ yX12_copy cX12_copy 2 (Option.some (Jvm.ClassFile.FieldType.object "ParkingOffice$Permit"))) ({ frames := 14, cells := b, slots := b, locals := 446 })).room).slots := ⟨Nat.le_of_eq (Nat.zero_add b), Nat.le_of_eq (Nat.zero_add b)⟩
  refine x_new X hC hM hS hB (ci := 9) (C := RX12) (T := TX12) (N := 8) rfl in_X12 tyX12 tyX12_ok q2075 q2076 q202 rfl (by decide) dX12_copy_0 hp (fun a1 M2 H b3 cells slots hM hS hB hp => ?_)
  refine lv_dup hx hb dX12_copy_3 rfl ?_
  refine lv_aload_n hx hb dX12_copy_4 rfl (lv_at hl 0 rfl) ?_
  refine x_getI X hC.1 hM (ci := 9) (C := RX12) (T := TX12) (N := 8) rfl in_X12 0 (by decide) q2101 (fun x9 h9 => u_same (hts _ q2102) x9 h9) dX12_copy_5 hp (fun v4 hp => ?_)
  refine lv_aload_n hx hb dX12_copy_8 rfl (lv_at hl 0 rfl) ?_
  refine x_getI X hC.1 hM (ci := 9) (C := RX12) (T := TX12) (N := 8) rfl in_X12 1 (by decide) q2110 (fun x9 h9 => u_same (hts _ q2111) x9 h9) dX12_copy_9 hp (fun v5 hp => ?_)
  refine lv_aload_n hx hb dX12_copy_12 rfl (lv_at hl 0 rfl) ?_
  refine x_getI X hC.1 hM (ci := 9) (C := RX12) (T := TX12) (N := 8) rfl in_X12 2 (by decide) q2084 (fun _ h9 => h9) dX12_copy_13 hp (fun v6 hp => ?_)
  refine lv_aload_n hx hb dX12_copy_16 rfl (lv_at hl 0 rfl) ?_
  refine x_getI X hC.1 hM (ci := 9) (C := RX12) (T := TX12) (N := 8) rfl in_X12 3 (by decide) q2087 (fun _ h9 => h9) dX12_copy_17 hp (fun v7 hp => ?_)
  refine x_call0V (vx_runI (As := [.int v4, .int v5, .int v6, .int v7]) (rest := [.ref a1]) X (P_X12_init_ok (l := l) hl0 hp) (cwI 4 hts (lw_meth q2079) rfl rfl rfl (hts _ q202) (hts _ q2077) (hts _ q2078) rfl (by decide +kernel) ⟨Nat.le_of_ble_eq_true rfl, Nat.le_of_ble_eq_true rfl⟩) ⟨wPc.blind, w_pre hC hM hS _⟩ rfl rfl hl.1 rfl (lv_room (Nat.le_of_ble_eq_true rfl)) dX12_copy_20 (w_room0 hB)) hS (w_room0 hB) (fun _ _ _ _ _ _ h => False.elim h) (fun M8 H locs hp hM hS => ?_)
  refine lv_astore_n (lv' := [(1, .ref a1), (0, .ref t0)]) hx hb dX12_copy_23 rfl hl (by decide) rfl (fun ls hl => ?_)
  refine lv_aload_n hx hb dX12_copy_24 rfl (lv_at hl 0 rfl) ?_
  refine lv_aload_n hx hb dX12_copy_25 rfl (lv_at hl 1 rfl) ?_
  refine x_getI X hC.1 hM (ci := 9) (C := RX12) (T := TX12) (N := 8) rfl in_X12 4 (by decide) q2089 (fun _ h9 => h9) dX12_copy_26 hp (fun v10 hp => ?_)
  refine x_put X hC.1 hM hS (ci := 9) (C := RX12) (T := TX12) (N := 8) rfl in_X12 tyX12 tyX12_ok nmX12 4 (by decide) q2089 (fun _ h9 => h9) rfl rfl rfl dX12_copy_29 hp (fun M11 H locs hM hS hp => ?_)
  refine lv_aload_n hx hb dX12_copy_32 rfl (lv_at hl 0 rfl) ?_
  refine lv_aload_n hx hb dX12_copy_33 rfl (lv_at hl 1 rfl) ?_
  refine x_getI X hC.1 hM (ci := 9) (C := RX12) (T := TX12) (N := 8) rfl in_X12 5 (by decide) q2092 (fun _ h9 => h9) dX12_copy_34 hp (fun v12 hp => ?_)
  refine x_put X hC.1 hM hS (ci := 9) (C := RX12) (T := TX12) (N := 8) rfl in_X12 tyX12 tyX12_ok nmX12 5 (by decide) q2092 (fun _ h9 => h9) rfl rfl rfl dX12_copy_37 hp (fun M13 H locs hM hS hp => ?_)
  refine lv_aload_n hx hb dX12_copy_40 rfl (lv_at hl 0 rfl) ?_
  refine lv_aload_n hx hb dX12_copy_41 rfl (lv_at hl 1 rfl) ?_
  refine x_getI X hC.1 hM (ci := 9) (C := RX12) (T := TX12) (N := 8) rfl in_X12 6 (by decide) q2095 (fun _ h9 => h9) dX12_copy_42 hp (fun v14 hp => ?_)
  refine x_put X hC.1 hM hS (ci := 9) (C := RX12) (T := TX12) (N := 8) rfl in_X12 tyX12 tyX12_ok nmX12 6 (by decide) q2095 (fun _ h9 => h9) rfl rfl rfl dX12_copy_45 hp (fun M15 H locs hM hS hp => ?_)
  refine lv_aload_n hx hb dX12_copy_48 rfl (lv_at hl 0 rfl) ?_
  refine lv_aload_n hx hb dX12_copy_49 rfl (lv_at hl 1 rfl) ?_
  refine x_getI X hC.1 hM (ci := 9) (C := RX12) (T := TX12) (N := 8) rfl in_X12 7 (by decide) q2098 (fun _ h9 => h9) dX12_copy_50 hp (fun v16 hp => ?_)
  refine x_put X hC.1 hM hS (ci := 9) (C := RX12) (T := TX12) (N := 8) rfl in_X12 tyX12 tyX12_ok nmX12 7 (by decide) q2098 (fun _ h9 => h9) rfl rfl rfl dX12_copy_53 hp (fun M17 H locs hM hS hp => ?_)
  refine lv_aload_n hx hb dX12_copy_56 rfl (lv_at hl 0 rfl) ?_
  exact x_aret (v := (some a1)) X hr (by first | exact Or.inl ⟨_, rfl⟩ | exact Or.inr ⟨_, rfl⟩) hlk hM hS (w_fin hB) dX12_copy_57 ⟨(some a1), rfl, hp⟩

set_option maxRecDepth 100000
def P_J0_init_J2 (G : wG) (t0 : Nat) (M : wM) (Q : wM → Prop) : Prop :=
  Q M
set_option maxHeartbeats 4000000 in
set_option maxRecDepth 100000 in
theorem P_J0_init_J2_ok {l : Launch} (hl0 : l.stackTraces = false) {G : wG} {t0 : Nat} {M : wM} {Q : wM → Prop} (hp : P_J0_init_J2 G t0 M Q) : wMet l yJ0_init (ws_ yJ0_init cJ0_init 1 (none)) 12 400 G [.ref t0] M 0 (wqV Q) wX0 := by
  refine vx_ofW (cc := cJ0_init) (maxL := 1) (ret := none) (by decide) rfl ?_
  intro p e s m args below meth c s₁ B hml hnt hv
  obtain ⟨rfl, hM, hK, hZ, hz⟩ := hv
  have hC : wC G s := ⟨hK, hZ, hz⟩
  have hx := B.exec
  have hb := B.bytes
  have hr := B.returns
  have hts := atoms_spec (ws := (ws_ yJ0_init cJ0_init 1 (none))) B.pre
  have hts : ∀ w ∈ lw_all, w.before _ s = true := fun w h => hts w (List.mem_cons_of_mem _ h)
  have hown : s.vm.findClass RJ0 = some m.cls := findClass_of_methodNamed B.named
  have hlk := B.notSynchronized
  have hin0 : meth.name = "<init>" := (name_of_methodNamed B.named B.method).1
  have X : CallFix p m c cJ0_init 1 s ([.ref t0] : List Value).toArray lw_all RJ0 := ⟨hx, hb, hml, hown, hts⟩
  have hS : va_S (wA G) s.heap s.heap [] := va_S.rf
  have hl := lv_entry ([.ref t0]) (n := 1) (Nat.le_of_ble_eq_true rfl)
  rw [lg_entry_eq]
  generalize (lg_sl ([.ref t0]) ++ List.replicate (1 - (lg_sl ([.ref t0])).length) Slot.unset).toArray = ls at hl ⊢
  have hl : lv_has ls 1 [(0, .ref t0)] := hl
  refine lv_aload_n hx hb dJ0_init_0 rfl (lv_at hl 0 rfl) ?_
  refine W.objInit hx hb hown (hts _ q239) (hts _ q218) (hts _ q219) rfl (by rw [hml]; exact hl.1) rfl dJ0_init_1 (Nat.le_of_ble_eq_true rfl) (Nat.le_of_ble_eq_true rfl) ?_
  refine W.eq (g2 := F0 m 4 ls []) rfl ?_
  exact x_vret X hr hlk hM hS ⟨Nat.le_refl _, Nat.le_refl _⟩ dJ0_init_4 ⟨rfl, hp⟩
def P_J1_init_J2 (G : wG) (t0 : Nat) (M : wM) (Q : wM → Prop) : Prop :=
  P_J0_init_J2 G t0 M (fun M1 => oPut G M1 t0 16 0 (.int (0 : Int32)) (fun M3 => Q M3))
set_option maxHeartbeats 4000000 in
set_option maxRecDepth 100000 in
theorem P_J1_init_J2_ok {l : Launch} (hl0 : l.stackTraces = false) {G : wG} {t0 : Nat} {M : wM} {Q : wM → Prop} (hp : P_J1_init_J2 G t0 M Q) : wMet l yJ1_init (ws_ yJ1_init cJ1_init 1 (none)) 13 420 G [.ref t0] M 0 (wqV Q) wX0 := by
  refine vx_ofW (cc := cJ1_init) (maxL := 1) (ret := none) (by decide) rfl ?_
  intro p e s m args below meth c s₁ B hml hnt hv
  obtain ⟨rfl, hM, hK, hZ, hz⟩ := hv
  have hC : wC G s := ⟨hK, hZ, hz⟩
  have hx := B.exec
  have hb := B.bytes
  have hr := B.returns
  have hts := atoms_spec (ws := (ws_ yJ1_init cJ1_init 1 (none))) B.pre
  have hts : ∀ w ∈ lw_all, w.before _ s = true := fun w h => hts w (List.mem_cons_of_mem _ h)
  have hown : s.vm.findClass RJ1 = some m.cls := findClass_of_methodNamed B.named
  have hlk := B.notSynchronized
  have hin0 : meth.name = "<init>" := (name_of_methodNamed B.named B.method).1
  have X : CallFix p m c cJ1_init 1 s ([.ref t0] : List Value).toArray lw_all RJ1 := ⟨hx, hb, hml, hown, hts⟩
  have hS : va_S (wA G) s.heap s.heap [] := va_S.rf
  have hl := lv_entry ([.ref t0]) (n := 1) (Nat.le_of_ble_eq_true rfl)
  rw [lg_entry_eq]
  generalize (lg_sl ([.ref t0]) ++ List.replicate (1 - (lg_sl ([.ref t0])).length) Slot.unset).toArray = ls at hl ⊢
  have hl : lv_has ls 1 [(0, .ref t0)] := hl
  refine lv_aload_n hx hb dJ1_init_0 rfl (lv_at hl 0 rfl) ?_
  refine x_call0V (vx_runI (As := []) (rest := []) X (P_J0_init_J2_ok (l := l) hl0 hp) (cwI 0 hts (lw_meth q238) rfl rfl rfl (hts _ q151) (hts _ q236) (hts _ q237) rfl (by decide +kernel) ⟨Nat.le_of_ble_eq_true rfl, Nat.le_of_ble_eq_true rfl⟩) ⟨wPc.blind, w_pre hC hM hS _⟩ rfl rfl hl.1 rfl (lv_room (Nat.le_of_ble_eq_true rfl)) dJ1_init_1 ⟨Nat.le_refl _, Nat.le_refl _⟩) hS ⟨Nat.le_refl _, Nat.le_refl _⟩ (fun _ _ _ _ _ _ h => False.elim h) (fun M1 H locs hp hM hS => ?_)
  refine lv_aload_n hx hb dJ1_init_4 rfl (lv_at hl 0 rfl) ?_
  refine lv_iconst (v := 0) hx hb dJ1_init_5 (by decide) ?_
  refine x_put X hC.1 hM hS (ci := 16) (C := RJ2) (T := TJ2) (N := 3) rfl in_J2 tyJ2 tyJ2_ok nmJ2 0 (by decide) q246 (fun _ h9 => h9) rfl rfl rfl dJ1_init_6 hp (fun M3 H locs hM hS hp => ?_)
  exact x_vret X hr hlk hM hS ⟨Nat.le_refl _, Nat.le_refl _⟩ dJ1_init_9 ⟨rfl, hp⟩
def P_J2_init (G : wG) (t0 : Nat) (M : wM) (Q : wM → Prop) : Prop :=
  P_J1_init_J2 G t0 M (fun M1 => oPut G M1 t0 16 1 (.ref (G.2.2.2 1)) (fun M3 => Q M3))
set_option maxHeartbeats 4000000 in
set_option maxRecDepth 100000 in
theorem P_J2_init_ok {l : Launch} (hl0 : l.stackTraces = false) {G : wG} {t0 : Nat} {M : wM} {Q : wM → Prop} (hp : P_J2_init G t0 M Q) : wMet l yJ2_init (ws_ yJ2_init cJ2_init 1 (none)) 14 440 G [.ref t0] M 0 (wqV Q) wX0 := by
  refine vx_ofW (cc := cJ2_init) (maxL := 1) (ret := none) (by decide) rfl ?_
  intro p e s m args below meth c s₁ B hml hnt hv
  obtain ⟨rfl, hM, hK, hZ, hz⟩ := hv
  have hC : wC G s := ⟨hK, hZ, hz⟩
  have hx := B.exec
  have hb := B.bytes
  have hr := B.returns
  have hts := atoms_spec (ws := (ws_ yJ2_init cJ2_init 1 (none))) B.pre
  have hts : ∀ w ∈ lw_all, w.before _ s = true := fun w h => hts w (List.mem_cons_of_mem _ h)
  have hown : s.vm.findClass RJ2 = some m.cls := findClass_of_methodNamed B.named
  have hlk := B.notSynchronized
  have hin0 : meth.name = "<init>" := (name_of_methodNamed B.named B.method).1
  have X : CallFix p m c cJ2_init 1 s ([.ref t0] : List Value).toArray lw_all RJ2 := ⟨hx, hb, hml, hown, hts⟩
  have hS : va_S (wA G) s.heap s.heap [] := va_S.rf
  have hl := lv_entry ([.ref t0]) (n := 1) (Nat.le_of_ble_eq_true rfl)
  rw [lg_entry_eq]
  generalize (lg_sl ([.ref t0]) ++ List.replicate (1 - (lg_sl ([.ref t0])).length) Slot.unset).toArray = ls at hl ⊢
  have hl : lv_has ls 1 [(0, .ref t0)] := hl
  refine lv_aload_n hx hb dJ2_init_0 rfl (lv_at hl 0 rfl) ?_
  refine x_call0V (vx_runI (As := []) (rest := []) X (P_J1_init_J2_ok (l := l) hl0 hp) (cwI 0 hts (lw_meth q235) rfl rfl rfl (hts _ q152) (hts _ q233) (hts _ q234) rfl (by decide +kernel) ⟨Nat.le_of_ble_eq_true rfl, Nat.le_of_ble_eq_true rfl⟩) ⟨wPc.blind, w_pre hC hM hS _⟩ rfl rfl hl.1 rfl (lv_room (Nat.le_of_ble_eq_true rfl)) dJ2_init_1 ⟨Nat.le_refl _, Nat.le_refl _⟩) hS ⟨Nat.le_refl _, Nat.le_refl _⟩ (fun _ _ _ _ _ _ h => False.elim h) (fun M1 H locs hp hM hS => ?_)
  refine lv_aload_n hx hb dJ2_init_4 rfl (lv_at hl 0 rfl) ?_
  refine x_gets X hC hS (C := "java/util/ArrayList") (n := "DEFAULTCAPACITY_EMPTY_ELEMENTDATA") (d := "[Ljava/lang/Object;") (v := .inr 1) (List.mem_of_getElem? (i := 2) rfl) q240 (fun _ h9 => h9) dJ2_init_5 ?_
  refine x_put X hC.1 hM hS (ci := 16) (C := RJ2) (T := TJ2) (N := 3) rfl in_J2 tyJ2 tyJ2_ok nmJ2 1 (by decide) q242 (fun _ h9 => h9) rfl rfl rfl dJ2_init_8 hp (fun M3 H locs hM hS hp => ?_)
  exact x_vret X hr hlk hM hS ⟨Nat.le_refl _, Nat.le_refl _⟩ dJ2_init_11 ⟨rfl, hp⟩
def P_J3_hugeLength (G : wG) (p1 : Int32) (p2 : Int32) (M : wM) (Q : Int32 → wM → Prop) : Prop :=
  oIf (0 ≤ (p1 + p2)) (oIf ((2147483639 : Int32) < (p1 + p2)) (Q (p1 + p2) M) (Q (2147483639 : Int32) M)) (False)
set_option maxHeartbeats 4000000 in
set_option maxRecDepth 100000 in
theorem P_J3_hugeLength_ok {l : Launch} (hl0 : l.stackTraces = false) {G : wG} {p1 : Int32} {p2 : Int32} {M : wM} {Q : Int32 → wM → Prop} (hp : P_J3_hugeLength G p1 p2 M Q) : wMet l yJ3_hugeLength (ws_ yJ3_hugeLength cJ3_hugeLength 3 (Option.some Jvm.ClassFile.FieldType.int)) 12 400 G [.int p1, .int p2] M 0 (wqI Q) wX0 := by
  refine vx_ofW (cc := cJ3_hugeLength) (maxL := 3) (ret := Option.some Jvm.ClassFile.FieldType.int) (by decide) rfl ?_
  intro p e s m args below meth c s₁ B hml hnt hv
  obtain ⟨rfl, hM, hK, hZ, hz⟩ := hv
  have hC : wC G s := ⟨hK, hZ, hz⟩
  have hx := B.exec
  have hb := B.bytes
  have hr := B.returns
  have hts := atoms_spec (ws := (ws_ yJ3_hugeLength cJ3_hugeLength 3 (Option.some Jvm.ClassFile.FieldType.int))) B.pre
  have hts : ∀ w ∈ lw_all, w.before _ s = true := fun w h => hts w (List.mem_cons_of_mem _ h)
  have hown : s.vm.findClass RJ3 = some m.cls := findClass_of_methodNamed B.named
  have hlk := B.notSynchronized
  have X : CallFix p m c cJ3_hugeLength 3 s ([.int p1, .int p2] : List Value).toArray lw_all RJ3 := ⟨hx, hb, hml, hown, hts⟩
  have hS : va_S (wA G) s.heap s.heap [] := va_S.rf
  have hl := lv_entry ([.int p1, .int p2]) (n := 3) (Nat.le_of_ble_eq_true rfl)
  rw [lg_entry_eq]
  generalize (lg_sl ([.int p1, .int p2]) ++ List.replicate (3 - (lg_sl ([.int p1, .int p2])).length) Slot.unset).toArray = ls at hl ⊢
  have hl : lv_has ls 3 [(0, .int p1), (1, .int p2)] := hl
  refine lv_iload_n hx hb dJ3_hugeLength_0 rfl (lv_at hl 0 rfl) ?_
  refine lv_iload_n hx hb dJ3_hugeLength_1 rfl (lv_at hl 1 rfl) ?_
  refine lv_iadd hx hb dJ3_hugeLength_2 ?_
  refine lv_istore_n (lv' := [(2, .int (p1 + p2)), (0, .int p1), (1, .int p2)]) hx hb dJ3_hugeLength_3 rfl hl (by decide) rfl (fun ls hl => ?_)
  refine lv_iload_n hx hb dJ3_hugeLength_4 rfl (lv_at hl 0 rfl) ?_
  refine lv_if_ge (tgt := 49) hx hb dJ3_hugeLength_5 (by decide) (fun hc => ?_) (fun hc => ?_)
  · have hp := oIf.t hp hc
    refine lv_iload_n hx hb dJ3_hugeLength_49 rfl (lv_at hl 0 rfl) ?_
    refine lv_ldc (v := 2147483639) hx hb hown (hts _ q289) dJ3_hugeLength_50 ?_
    refine lv_icmp_gt (tgt := 58) hx hb dJ3_hugeLength_52 (by decide) (fun hc => ?_) (fun hc => ?_)
    · have hp := oIf.t hp hc
      refine lv_iload_n hx hb dJ3_hugeLength_58 rfl (lv_at hl 0 rfl) ?_
      exact x_iret X hr hlk hM hS ⟨Nat.le_refl _, Nat.le_refl _⟩ dJ3_hugeLength_59 ⟨_, rfl, hp⟩
    · have hp := oIf.f hp hc
      refine lv_ldc (v := 2147483639) hx hb hown (hts _ q289) dJ3_hugeLength_55 ?_
      exact x_iret X hr hlk hM hS ⟨Nat.le_refl _, Nat.le_refl _⟩ dJ3_hugeLength_57 ⟨_, rfl, hp⟩
  · have hp := oIf.f hp hc
    exact hp.elim
def B_J3_newLength_21 (G : wG) (Q : Int32 → wM → Prop) (x0 : Int32) (x1 : Int32) (M : wM) : Prop :=
  P_J3_hugeLength G x0 x1 M (fun v3 M1 => Q v3 M1)
def P_J3_newLength (G : wG) (p1 : Int32) (p2 : Int32) (p3 : Int32) (M : wM) (Q : Int32 → wM → Prop) : Prop :=
  oIf ((p1 + (if p2 < p3 then p3 else p2)) ≤ (0 : Int32)) (B_J3_newLength_21 G Q p1 p2 M) (oIf ((2147483639 : Int32) < (p1 + (if p2 < p3 then p3 else p2))) (B_J3_newLength_21 G Q p1 p2 M) (Q (p1 + (if p2 < p3 then p3 else p2)) M))
set_option maxHeartbeats 4000000 in
set_option maxRecDepth 100000 in
theorem P_J3_newLength_ok {l : Launch} (hl0 : l.stackTraces = false) {G : wG} {p1 : Int32} {p2 : Int32} {p3 : Int32} {M : wM} {Q : Int32 → wM → Prop} (hp : P_J3_newLength G p1 p2 p3 M Q) : wMet l yJ3_newLength (ws_ yJ3_newLength cJ3_newLength 4 (Option.some Jvm.ClassFile.FieldType.int)) 13 422 G [.int p1, .int p2, .int p3] M 0 (wqI Q) wX0 := by
  refine vx_ofW (cc := cJ3_newLength) (maxL := 4) (ret := Option.some Jvm.ClassFile.FieldType.int) (by decide) rfl ?_
  intro p e s m args below meth c s₁ B hml hnt hv
  obtain ⟨rfl, hM, hK, hZ, hz⟩ := hv
  have hC : wC G s := ⟨hK, hZ, hz⟩
  have hx := B.exec
  have hb := B.bytes
  have hr := B.returns
  have hts := atoms_spec (ws := (ws_ yJ3_newLength cJ3_newLength 4 (Option.some Jvm.ClassFile.FieldType.int))) B.pre
  have hts : ∀ w ∈ lw_all, w.before _ s = true := fun w h => hts w (List.mem_cons_of_mem _ h)
  have hown : s.vm.findClass RJ3 = some m.cls := findClass_of_methodNamed B.named
  have hlk := B.notSynchronized
  have X : CallFix p m c cJ3_newLength 4 s ([.int p1, .int p2, .int p3] : List Value).toArray lw_all RJ3 := ⟨hx, hb, hml, hown, hts⟩
  have hS : va_S (wA G) s.heap s.heap [] := va_S.rf
  have hl := lv_entry ([.int p1, .int p2, .int p3]) (n := 4) (Nat.le_of_ble_eq_true rfl)
  rw [lg_entry_eq]
  generalize (lg_sl ([.int p1, .int p2, .int p3]) ++ List.replicate (4 - (lg_sl ([.int p1, .int p2, .int p3])).length) Slot.unset).toArray = ls at hl ⊢
  have hl : lv_has ls 4 [(0, .int p1), (1, .int p2), (2, .int p3)] := hl
  have hB21 : ∀ (x0 : Int32) (x1 : Int32) (M : wM) (H : Heap) (locs : List Loc) (ls : Array Slot), B_J3_newLength_21 G Q x0 x1 M → wR G M H → va_S (wA G) s.heap H locs → lv_has ls 4 [(0, .int x0), (1, .int x1)] → W p l e (headSpec (ws_ yJ3_newLength cJ3_newLength 4 (Option.some Jvm.ClassFile.FieldType.int)) ({ frames := 13, cells := 0, slots := 0, locals := 422 })).room s m ([.int p1, .int p2, .int p3] : List Value).toArray below meth c H locs 0 0 (vx_MQ below (wQ G (wqI Q)) (wXC G wX0) ([.int p1, .int p2, .int p3] : List Value).toArray s 0 0 (wA G)) (F0 m 21 ls []) := by
    intro x0 x1 M H locs ls hp hM hS hl
    refine lv_iload_n hx hb dJ3_newLength_21 rfl (lv_at hl 0 rfl) ?_
    refine lv_iload_n hx hb dJ3_newLength_22 rfl (lv_at hl 1 rfl) ?_
    refine x_call0I (vx_runS (As := [.int x0, .int x1]) (rest := []) X (P_J3_hugeLength_ok (l := l) hl0 hp) (va_cwS 2 hts (lw_S q290 q291 q154 q292) rfl rfl rfl (by decide +kernel) ⟨Nat.le_of_ble_eq_true rfl, Nat.le_of_ble_eq_true rfl⟩) ⟨wPc.blind, w_pre hC hM hS _⟩ rfl rfl hl.1 rfl (lv_room (Nat.le_of_ble_eq_true rfl)) dJ3_newLength_23 ⟨Nat.le_refl _, Nat.le_refl _⟩) hS ⟨Nat.le_refl _, Nat.le_refl _⟩ (fun _ _ _ _ _ _ h => False.elim h) (fun v3 M1 H locs hp hM hS => ?_)
    exact x_iret X hr hlk hM hS ⟨Nat.le_refl _, Nat.le_refl _⟩ dJ3_newLength_26 ⟨_, rfl, hp⟩
  refine lv_iload_n hx hb dJ3_newLength_0 rfl (lv_at hl 0 rfl) ?_
  refine lv_iload_n hx hb dJ3_newLength_1 rfl (lv_at hl 1 rfl) ?_
  refine lv_iload_n hx hb dJ3_newLength_2 rfl (lv_at hl 2 rfl) ?_
  refine va_mmax hx hb (hml.trans hl.1.symm) hown (hts _ q286) (hts _ q287) (hts _ q155) (hts _ q288) (Nat.le_of_ble_eq_true rfl) (Nat.le_of_ble_eq_true rfl) (Nat.le_refl _) (Nat.le_refl _) dJ3_newLength_3 ?_
  refine lv_iadd hx hb dJ3_newLength_6 ?_
  refine lv_istore_n (lv' := [(3, .int (p1 + (if p2 < p3 then p3 else p2))), (0, .int p1), (1, .int p2), (2, .int p3)]) hx hb dJ3_newLength_7 rfl hl (by decide) rfl (fun ls hl => ?_)
  refine lv_iconst (v := 0) hx hb dJ3_newLength_8 (by decide) ?_
  refine lv_iload_n hx hb dJ3_newLength_9 rfl (lv_at hl 0 rfl) ?_
  refine lv_icmp_ge (tgt := 21) hx hb dJ3_newLength_10 (by decide) (fun hc => ?_) (fun hc => ?_)
  · have hp := oIf.t hp hc
    exact hB21 _ _ _ _ _ _ hp hM hS (lv_sub hl [1, 2] rfl)
  · have hp := oIf.f hp hc
    refine lv_iload_n hx hb dJ3_newLength_13 rfl (lv_at hl 0 rfl) ?_
    refine lv_ldc (v := 2147483639) hx hb hown (hts _ q289) dJ3_newLength_14 ?_
    refine lv_icmp_gt (tgt := 21) hx hb dJ3_newLength_16 (by decide) (fun hc => ?_) (fun hc => ?_)
    · have hp := oIf.t hp hc
      exact hB21 _ _ _ _ _ _ hp hM hS (lv_sub hl [1, 2] rfl)
    · have hp := oIf.f hp hc
      refine lv_iload_n hx hb dJ3_newLength_19 rfl (lv_at hl 0 rfl) ?_
      exact x_iret X hr hlk hM hS ⟨Nat.le_refl _, Nat.le_refl _⟩ dJ3_newLength_20 ⟨_, rfl, hp⟩
def B_J5_copyOf_2_24 (G : wG) (Q : Option Nat → wM → Prop) (x0 : Nat) (x1 : Int32) (y0 : Nat) (M : wM) (bq : Nat) : Prop :=
  oAlen (.object "java/lang/Object") M x0 (fun v1 => oCopyR G M x0 (0 : Int32) y0 (0 : Int32) (if x1 < v1 then x1 else v1) (fun M2 => Q (some y0) M2))
def P_J5_copyOf_2 (G : wG) (p1 : Nat) (p2 : Int32) (p3 : Nat) (b : Nat) (M : wM) (Q : Option Nat → wM → Prop) : Prop :=
  oIf ((some p3) = (some (G.2.2.2 60))) (oNewa G M b (.object "java/lang/Object") (.inr (.inr (.inr (.inr (fun _ => none))))) p2 (fun a1 M2 b3 => B_J5_copyOf_2_24 G Q p1 p2 a1 M2 b3)) (False)
set_option maxHeartbeats 4000000 in
set_option maxRecDepth 100000 in
theorem P_J5_copyOf_2_ok {l : Launch} (hl0 : l.stackTraces = false) {G : wG} {p1 : Nat} {p2 : Int32} {p3 : Nat} {b : Nat} {M : wM} {Q : Option Nat → wM → Prop} (hp : P_J5_copyOf_2 G p1 p2 p3 b M Q) : wMet l yJ5_copyOf_2 (ws_ yJ5_copyOf_2 cJ5_copyOf_2 4 (Option.some (Jvm.ClassFile.FieldType.array (Jvm.ClassFile.FieldType.object "java/lang/Object")))) 12 400 G [.ref p1, .int p2, .ref p3] M b (wqR Q) wX0 := by
  refine vx_ofW (cc := cJ5_copyOf_2) (maxL := 4) (ret := Option.some (Jvm.ClassFile.FieldType.array (Jvm.ClassFile.FieldType.object "java/lang/Object"))) (by decide) rfl ?_
  intro p e s m args below meth c s₁ B hml hnt hv
  obtain ⟨rfl, hM, hK, hZ, hz⟩ := hv
  have hC : wC G s := ⟨hK, hZ, hz⟩
  have hx := B.exec
  have hb := B.bytes
  have hr := B.returns
  have hts := atoms_spec (ws := (ws_ yJ5_copyOf_2 cJ5_copyOf_2 4 (Option.some (Jvm.ClassFile.FieldType.array (Jvm.ClassFile.FieldType.object "java/lang/Object"))))) B.pre
  have hts : ∀ w ∈ lw_all, w.before _ s = true := fun w h => hts w (List.mem_cons_of_mem _ h)
  have hown : s.vm.findClass RJ5 = some m.cls := findClass_of_methodNamed B.named
  have hlk := B.notSynchronized
  have X : CallFix p m c cJ5_copyOf_2 4 s ([.ref p1, .int p2, .ref p3] : List Value).toArray lw_all RJ5 := ⟨hx, hb, hml, hown, hts⟩
  have hS : va_S (wA G) s.heap s.heap [] := va_S.rf
  have hl := lv_entry ([.ref p1, .int p2, .ref p3]) (n := 4) (Nat.le_of_ble_eq_true rfl)
  rw [lg_entry_eq]
  generalize (lg_sl ([.ref p1, .int p2, .ref p3]) ++ List.replicate (4 - (lg_sl ([.ref p1, .int p2, .ref p3])).length) Slot.unset).toArray = ls at hl ⊢
  have hl : lv_has ls 4 [(0, .ref p1), (1, .int p2), (2, .ref p3)] := hl
  have hB : 0 + b ≤ ((headSpec (ws_ yJ5_copyOf_2 cJ5_copyOf_2 4 (Option.some (Jvm.ClassFile.FieldType.array (Jvm.ClassFile.FieldType.object "java/lang/Object")))) ({ frames := 12, cells := b, slots := b, locals := 400 })).room).cells ∧ 0 + b ≤ ((headSpec (ws_ yJ5_copyOf_2 cJ5_copyOf_2 4 (Option.some (Jvm.ClassFile.FieldType.array (Jvm.ClassFile.FieldType.object "java/lang/Object")))) ({ frames := 12, cells := b, slots := b, locals := 400 })).room).slots := ⟨Nat.le_of_eq (Nat.zero_add b), Nat.le_of_eq (Nat.zero_add b)⟩
  have hB24 : ∀ (x0 : Nat) (x1 : Int32) (y0 : Nat) (M : wM) (bq : Nat) (H : Heap) (locs : List Loc) (ls : Array Slot) (cells slots : Nat), B_J5_copyOf_2_24 G Q x0 x1 y0 M bq → wR G M H → va_S (wA G) s.heap H locs → (cells + bq ≤ ((headSpec (ws_ yJ5_copyOf_2 cJ5_copyOf_2 4 (Option.some (Jvm.ClassFile.FieldType.array (Jvm.ClassFile.FieldType.object "java/lang/Object")))) ({ frames := 12, cells := b, slots := b, locals := 400 })).room).cells ∧ slots + bq ≤ ((headSpec (ws_ yJ5_copyOf_2 cJ5_copyOf_2 4 (Option.some (Jvm.ClassFile.FieldType.array (Jvm.ClassFile.FieldType.object "java/lang/Object")))) ({ frames := 12, cells := b, slots := b, locals := 400 })).room).slots) → lv_has ls 4 [(0, .ref x0), (1, .int x1)] → W p l e (headSpec (ws_ yJ5_copyOf_2 cJ5_copyOf_2 4 (Option.some (Jvm.ClassFile.FieldType.array (Jvm.ClassFile.FieldType.object "java/lang/Object")))) ({ frames := 12, cells := b, slots := b, locals := 400 })).room s m ([.ref p1, .int p2, .ref p3] : List Value).toArray below meth c H locs cells slots (vx_MQ below (wQ G (wqR Q)) (wXC G wX0) ([.ref p1, .int p2, .ref p3] : List Value).toArray s b b (wA G)) (F0 m 24 ls [.ref y0]) := by
    intro x0 x1 y0 M bq H locs ls cells slots hp hM hS hB hl
    refine lv_astore_n (lv' := [(3, .ref y0), (0, .ref x0), (1, .int x1)]) hx hb dJ5_copyOf_2_24 rfl hl (by decide) rfl (fun ls hl => ?_)
    refine lv_aload_n hx hb dJ5_copyOf_2_25 rfl (lv_at hl 1 rfl) ?_
    refine lv_iconst (v := 0) hx hb dJ5_copyOf_2_26 (by decide) ?_
    refine lv_aload_n hx hb dJ5_copyOf_2_27 rfl (lv_at hl 0 rfl) ?_
    refine lv_iconst (v := 0) hx hb dJ5_copyOf_2_28 (by decide) ?_
    refine lv_aload_n hx hb dJ5_copyOf_2_29 rfl (lv_at hl 1 rfl) ?_
    refine x_alen X hC.1 hM (ty := (.object "java/lang/Object")) (by decide) dJ5_copyOf_2_30 hp (fun v1 hp => ?_)
    refine lv_iload_n hx hb dJ5_copyOf_2_31 rfl (lv_at hl 2 rfl) ?_
    refine va_mmin hx hb (hml.trans hl.1.symm) hown (hts _ q346) (hts _ q347) (hts _ q155) (hts _ q348) (Nat.le_of_ble_eq_true rfl) (Nat.le_of_ble_eq_true rfl) (w_fin hB).1 (w_fin hB).2 dJ5_copyOf_2_32 ?_
    refine x_copyR X (hml.trans hl.1.symm) hC hM hS q349 q351 q350 q157 (Nat.le_of_ble_eq_true rfl) (Nat.le_of_ble_eq_true rfl) dJ5_copyOf_2_35 hp (fun M2 H locs hM hS hp => ?_)
    refine lv_aload_n hx hb dJ5_copyOf_2_38 rfl (lv_at hl 0 rfl) ?_
    exact x_aret (v := (some y0)) X hr (by first | exact Or.inl ⟨_, rfl⟩ | exact Or.inr ⟨_, rfl⟩) hlk hM hS (w_fin hB) dJ5_copyOf_2_39 ⟨(some y0), rfl, hp⟩
  refine lv_aload_n hx hb dJ5_copyOf_2_0 rfl (lv_at hl 2 rfl) ?_
  refine x_ldcM X hC.1 (C := "[Ljava/lang/Object;") (k := 60) (List.mem_of_getElem? (i := 0) rfl) q343 dJ5_copyOf_2_1 ?_
  refine lv_acmp_ne (rx := (some p3)) (ry := (some (G.2.2.2 60))) (tgt := 13) hx hb dJ5_copyOf_2_3 (by decide) (fun hc => ?_) (fun hc => ?_)
  · have hp := oIf.f hp hc
    exact hp.elim
  · have hp := oIf.t hp hc
    refine lv_iload_n hx hb dJ5_copyOf_2_6 rfl (lv_at hl 1 rfl) ?_
    refine x_newq X hC hM hS hB q345 hC.1.2.2.2.2.1.1 (by decide) dJ5_copyOf_2_7 hp (fun a1 M2 H b3 cells slots hM hS hB hp => ?_)
    refine lv_goto (tgt := 24) hx hb dJ5_copyOf_2_10 (by decide) ?_
    exact hB24 _ _ _ _ _ _ _ _ _ _ hp hM hS hB (lv_sub hl [0, 1] rfl)
def P_J5_copyOf (G : wG) (p1 : Nat) (p2 : Int32) (b : Nat) (M : wM) (Q : Option Nat → wM → Prop) : Prop :=
  oIsA M p1 (∃ c2, c2 ≤ b ∧ P_J5_copyOf_2 G p1 p2 (G.2.2.2 60) c2 M (fun r3 M1 => Q r3 M1))
set_option maxHeartbeats 4000000 in
set_option maxRecDepth 100000 in
theorem P_J5_copyOf_ok {l : Launch} (hl0 : l.stackTraces = false) {G : wG} {p1 : Nat} {p2 : Int32} {b : Nat} {M : wM} {Q : Option Nat → wM → Prop} (hp : P_J5_copyOf G p1 p2 b M Q) : wMet l yJ5_copyOf (ws_ yJ5_copyOf cJ5_copyOf 2 (Option.some (Jvm.ClassFile.FieldType.array (Jvm.ClassFile.FieldType.object "java/lang/Object")))) 13 423 G [.ref p1, .int p2] M b (wqR Q) wX0 := by
  refine vx_ofW (cc := cJ5_copyOf) (maxL := 2) (ret := Option.some (Jvm.ClassFile.FieldType.array (Jvm.ClassFile.FieldType.object "java/lang/Object"))) (by decide) rfl ?_
  intro p e s m args below meth c s₁ B hml hnt hv
  obtain ⟨rfl, hM, hK, hZ, hz⟩ := hv
  have hC : wC G s := ⟨hK, hZ, hz⟩
  have hx := B.exec
  have hb := B.bytes
  have hr := B.returns
  have hts := atoms_spec (ws := (ws_ yJ5_copyOf cJ5_copyOf 2 (Option.some (Jvm.ClassFile.FieldType.array (Jvm.ClassFile.FieldType.object "java/lang/Object"))))) B.pre
  have hts : ∀ w ∈ lw_all, w.before _ s = true := fun w h => hts w (List.mem_cons_of_mem _ h)
  have hown : s.vm.findClass RJ5 = some m.cls := findClass_of_methodNamed B.named
  have hlk := B.notSynchronized
  have X : CallFix p m c cJ5_copyOf 2 s ([.ref p1, .int p2] : List Value).toArray lw_all RJ5 := ⟨hx, hb, hml, hown, hts⟩
  have hS : va_S (wA G) s.heap s.heap [] := va_S.rf
  have hl := lv_entry ([.ref p1, .int p2]) (n := 2) (Nat.le_of_ble_eq_true rfl)
  rw [lg_entry_eq]
  generalize (lg_sl ([.ref p1, .int p2]) ++ List.replicate (2 - (lg_sl ([.ref p1, .int p2])).length) Slot.unset).toArray = ls at hl ⊢
  have hl : lv_has ls 2 [(0, .ref p1), (1, .int p2)] := hl
  have hB : 0 + b ≤ ((headSpec (ws_ yJ5_copyOf cJ5_copyOf 2 (Option.some (Jvm.ClassFile.FieldType.array (Jvm.ClassFile.FieldType.object "java/lang/Object")))) ({ frames := 13, cells := b, slots := b, locals := 423 })).room).cells ∧ 0 + b ≤ ((headSpec (ws_ yJ5_copyOf cJ5_copyOf 2 (Option.some (Jvm.ClassFile.FieldType.array (Jvm.ClassFile.FieldType.object "java/lang/Object")))) ({ frames := 13, cells := b, slots := b, locals := 423 })).room).slots := ⟨Nat.le_of_eq (Nat.zero_add b), Nat.le_of_eq (Nat.zero_add b)⟩
  refine lv_aload_n hx hb dJ5_copyOf_0 rfl (lv_at hl 0 rfl) ?_
  refine lv_iload_n hx hb dJ5_copyOf_1 rfl (lv_at hl 1 rfl) ?_
  refine lv_aload_n hx hb dJ5_copyOf_2 rfl (lv_at hl 0 rfl) ?_
  refine x_getCA X (hml.trans hl.1.symm) hC.1 hM q296 q1618 q3871 q297 q339 (Nat.le_of_ble_eq_true rfl) (Nat.le_of_ble_eq_true rfl) dJ5_copyOf_3 hp (fun hp => ?_)
  obtain ⟨c2, hc1, hp⟩ := hp
  refine x_callR (vx_runS (As := [.ref p1, .int p2, .ref (G.2.2.2 60)]) (rest := []) X (P_J5_copyOf_2_ok (l := l) hl0 hp) (va_cwS 3 hts (lw_S q340 q341 q156 q342) rfl rfl rfl (by decide +kernel) ⟨Nat.le_of_ble_eq_true rfl, Nat.le_of_ble_eq_true rfl⟩) ⟨wPc.blind, w_pre hC hM hS _⟩ rfl rfl hl.1 rfl (lv_room (Nat.le_of_ble_eq_true rfl)) dJ5_copyOf_6 (w_room hB hc1)) hS hB hc1 (fun _ _ _ _ _ _ h => False.elim h) (fun r3 M1 H locs hp hM hS hB => ?_)
  exact x_aret (v := r3) X hr (by first | exact Or.inl ⟨_, rfl⟩ | exact Or.inr ⟨_, rfl⟩) hlk hM hS (w_fin hB) dJ5_copyOf_9 ⟨r3, rfl, hp⟩
def B_J2_grow_2_20 (G : wG) (Q : Option Nat → wM → Prop) (x0 : Nat) (x1 : Int32) (x2 : Int32) (M : wM) (bq : Nat) : Prop :=
  P_J3_newLength G x2 (x1 - x2) (x2 >>> ((1 : Int32) &&& 31)) M (fun v3 M1 => oGetA M1 x0 16 1 (fun a4 => ∃ c6, c6 ≤ bq ∧ P_J5_copyOf G a4 v3 c6 M1 (fun r7 M5 => oPut G M5 x0 16 1 (va_rf r7) (fun M8 => Q r7 M8))))
def P_J2_grow_2 (G : wG) (t0 : Nat) (p1 : Int32) (b : Nat) (M : wM) (Q : Option Nat → wM → Prop) : Prop :=
  oGetA M t0 16 1 (fun a1 => oAlen (.object "java/lang/Object") M a1 (fun v2 => oIf (0 < v2) (B_J2_grow_2_20 G Q t0 p1 v2 M b) (oGetA M t0 16 1 (fun a3 => oIf ((some a3) = (some (G.2.2.2 1))) (oNewa G M b (.object "java/lang/Object") (.inr (.inr (.inr (.inr (fun _ => none))))) (if (10 : Int32) < p1 then p1 else (10 : Int32)) (fun a4 M5 b6 => oPut G M5 t0 16 1 (.ref a4) (fun M7 => Q (some a4) M7))) (B_J2_grow_2_20 G Q t0 p1 v2 M b)))))
set_option maxHeartbeats 4000000 in
set_option maxRecDepth 100000 in
theorem P_J2_grow_2_ok {l : Launch} (hl0 : l.stackTraces = false) {G : wG} {t0 : Nat} {p1 : Int32} {b : Nat} {M : wM} {Q : Option Nat → wM → Prop} (hp : P_J2_grow_2 G t0 p1 b M Q) : wMet l yJ2_grow_2 (ws_ yJ2_grow_2 cJ2_grow_2 4 (Option.some (Jvm.ClassFile.FieldType.array (Jvm.ClassFile.FieldType.object "java/lang/Object")))) 14 445 G [.ref t0, .int p1] M b (wqR Q) wX0 := by
  refine vx_ofW (cc := cJ2_grow_2) (maxL := 4) (ret := Option.some (Jvm.ClassFile.FieldType.array (Jvm.ClassFile.FieldType.object "java/lang/Object"))) (by decide) rfl ?_
  intro p e s m args below meth c s₁ B hml hnt hv
  obtain ⟨rfl, hM, hK, hZ, hz⟩ := hv
  have hC : wC G s := ⟨hK, hZ, hz⟩
  have hx := B.exec
  have hb := B.bytes
  have hr := B.returns
  have hts := atoms_spec (ws := (ws_ yJ2_grow_2 cJ2_grow_2 4 (Option.some (Jvm.ClassFile.FieldType.array (Jvm.ClassFile.FieldType.object "java/lang/Object"))))) B.pre
  have hts : ∀ w ∈ lw_all, w.before _ s = true := fun w h => hts w (List.mem_cons_of_mem _ h)
  have hown : s.vm.findClass RJ2 = some m.cls := findClass_of_methodNamed B.named
  have hlk := B.notSynchronized
  have X : CallFix p m c cJ2_grow_2 4 s ([.ref t0, .int p1] : List Value).toArray lw_all RJ2 := ⟨hx, hb, hml, hown, hts⟩
  have hS : va_S (wA G) s.heap s.heap [] := va_S.rf
  have hl := lv_entry ([.ref t0, .int p1]) (n := 4) (Nat.le_of_ble_eq_true rfl)
  rw [lg_entry_eq]
  generalize (lg_sl ([.ref t0, .int p1]) ++ List.replicate (4 - (lg_sl ([.ref t0, .int p1])).length) Slot.unset).toArray = ls at hl ⊢
  have hl : lv_has ls 4 [(0, .ref t0), (1, .int p1)] := hl
  have hB : 0 + b ≤ ((headSpec (ws_ yJ2_grow_2 cJ2_grow_2 4 (Option.some (Jvm.ClassFile.FieldType.array (Jvm.ClassFile.FieldType.object "java/lang/Object")))) ({ frames := 14, cells := b, slots := b, locals := 445 })).room).cells ∧ 0 + b ≤ ((headSpec (ws_ yJ2_grow_2 cJ2_grow_2 4 (Option.some (Jvm.ClassFile.FieldType.array (Jvm.ClassFile.FieldType.object "java/lang/Object")))) ({ frames := 14, cells := b, slots := b, locals := 445 })).room).slots := ⟨Nat.le_of_eq (Nat.zero_add b), Nat.le_of_eq (Nat.zero_add b)⟩
  have hB20 : ∀ (x0 : Nat) (x1 : Int32) (x2 : Int32) (M : wM) (bq : Nat) (H : Heap) (locs : List Loc) (ls : Array Slot) (cells slots : Nat), B_J2_grow_2_20 G Q x0 x1 x2 M bq → wR G M H → va_S (wA G) s.heap H locs → (cells + bq ≤ ((headSpec (ws_ yJ2_grow_2 cJ2_grow_2 4 (Option.some (Jvm.ClassFile.FieldType.array (Jvm.ClassFile.FieldType.object "java/lang/Object")))) ({ frames := 14, cells := b, slots := b, locals := 445 })).room).cells ∧ slots + bq ≤ ((headSpec (ws_ yJ2_grow_2 cJ2_grow_2 4 (Option.some (Jvm.ClassFile.FieldType.array (Jvm.ClassFile.FieldType.object "java/lang/Object")))) ({ frames := 14, cells := b, slots := b, locals := 445 })).room).slots) → lv_has ls 4 [(0, .ref x0), (1, .int x1), (2, .int x2)] → W p l e (headSpec (ws_ yJ2_grow_2 cJ2_grow_2 4 (Option.some (Jvm.ClassFile.FieldType.array (Jvm.ClassFile.FieldType.object "java/lang/Object")))) ({ frames := 14, cells := b, slots := b, locals := 445 })).room s m ([.ref t0, .int p1] : List Value).toArray below meth c H locs cells slots (vx_MQ below (wQ G (wqR Q)) (wXC G wX0) ([.ref t0, .int p1] : List Value).toArray s b b (wA G)) (F0 m 20 ls []) := by
    intro x0 x1 x2 M bq H locs ls cells slots hp hM hS hB hl
    refine lv_iload_n hx hb dJ2_grow_2_20 rfl (lv_at hl 2 rfl) ?_
    refine lv_iload_n hx hb dJ2_grow_2_21 rfl (lv_at hl 1 rfl) ?_
    refine lv_iload_n hx hb dJ2_grow_2_22 rfl (lv_at hl 2 rfl) ?_
    refine lv_isub hx hb dJ2_grow_2_23 ?_
    refine lv_iload_n hx hb dJ2_grow_2_24 rfl (lv_at hl 2 rfl) ?_
    refine lv_iconst (v := 1) hx hb dJ2_grow_2_25 (by decide) ?_
    refine lv_ishr hx hb dJ2_grow_2_26 ?_
    refine x_call0I (vx_runS (As := [.int x2, .int (x1 - x2), .int (x2 >>> ((1 : Int32) &&& 31))]) (rest := []) X (P_J3_newLength_ok (l := l) hl0 hp) (va_cwS 3 hts (lw_S q283 q284 q154 q285) rfl rfl rfl (by decide +kernel) ⟨Nat.le_of_ble_eq_true rfl, Nat.le_of_ble_eq_true rfl⟩) ⟨wPc.blind, w_pre hC hM hS _⟩ rfl rfl hl.1 rfl (lv_room (Nat.le_of_ble_eq_true rfl)) dJ2_grow_2_27 (w_room0 hB)) hS (w_room0 hB) (fun _ _ _ _ _ _ h => False.elim h) (fun v3 M1 H locs hp hM hS => ?_)
    refine lv_istore_n (lv' := [(3, .int v3), (0, .ref x0), (1, .int x1), (2, .int x2)]) hx hb dJ2_grow_2_30 rfl hl (by decide) rfl (fun ls hl => ?_)
    refine lv_aload_n hx hb dJ2_grow_2_31 rfl (lv_at hl 1 rfl) ?_
    refine lv_aload_n hx hb dJ2_grow_2_32 rfl (lv_at hl 1 rfl) ?_
    refine x_getA X hC.1 hM (ci := 16) (C := RJ2) (T := TJ2) (N := 3) rfl in_J2 1 (by decide) q242 (fun _ h9 => h9) dJ2_grow_2_33 hp (fun a4 hp => ?_)
    refine lv_iload_n hx hb dJ2_grow_2_36 rfl (lv_at hl 0 rfl) ?_
    obtain ⟨c6, hc1, hp⟩ := hp
    refine x_callR (vx_runS (As := [.ref a4, .int v3]) (rest := [.ref x0]) X (P_J5_copyOf_ok (l := l) hl0 hp) (va_cwS 2 hts (lw_S q293 q294 q156 q295) rfl rfl rfl (by decide +kernel) ⟨Nat.le_of_ble_eq_true rfl, Nat.le_of_ble_eq_true rfl⟩) ⟨wPc.blind, w_pre hC hM hS _⟩ rfl rfl hl.1 rfl (lv_room (Nat.le_of_ble_eq_true rfl)) dJ2_grow_2_37 (w_room hB hc1)) hS hB hc1 (fun _ _ _ _ _ _ h => False.elim h) (fun r7 M5 H locs hp hM hS hB => ?_)
    refine lv_dup_x1 hx hb dJ2_grow_2_40 (w_cat _) rfl ?_
    refine x_put X hC.1 hM hS (ci := 16) (C := RJ2) (T := TJ2) (N := 3) rfl in_J2 tyJ2 tyJ2_ok nmJ2 1 (by decide) q242 (fun _ h9 => h9) rfl (w_narr _ r7) (w_farr _ r7) dJ2_grow_2_41 hp (fun M8 H locs hM hS hp => ?_)
    exact x_aret (v := r7) X hr (by first | exact Or.inl ⟨_, rfl⟩ | exact Or.inr ⟨_, rfl⟩) hlk hM hS (w_fin hB) dJ2_grow_2_44 ⟨r7, rfl, hp⟩
  refine lv_aload_n hx hb dJ2_grow_2_0 rfl (lv_at hl 0 rfl) ?_
  refine x_getA X hC.1 hM (ci := 16) (C := RJ2) (T := TJ2) (N := 3) rfl in_J2 1 (by decide) q242 (fun _ h9 => h9) dJ2_grow_2_1 hp (fun a1 hp => ?_)
  refine x_alen X hC.1 hM (ty := (.object "java/lang/Object")) (by decide) dJ2_grow_2_4 hp (fun v2 hp => ?_)
  refine lv_istore_n (lv' := [(2, .int v2), (0, .ref t0), (1, .int p1)]) hx hb dJ2_grow_2_5 rfl hl (by decide) rfl (fun ls hl => ?_)
  refine lv_iload_n hx hb dJ2_grow_2_6 rfl (lv_at hl 0 rfl) ?_
  refine lv_if_gt (tgt := 20) hx hb dJ2_grow_2_7 (by decide) (fun hc => ?_) (fun hc => ?_)
  · have hp := oIf.t hp hc
    exact hB20 _ _ _ _ _ _ _ _ _ _ hp hM hS hB (lv_sub hl [1, 2, 0] rfl)
  · have hp := oIf.f hp hc
    refine lv_aload_n hx hb dJ2_grow_2_10 rfl (lv_at hl 1 rfl) ?_
    refine x_getA X hC.1 hM (ci := 16) (C := RJ2) (T := TJ2) (N := 3) rfl in_J2 1 (by decide) q242 (fun _ h9 => h9) dJ2_grow_2_11 hp (fun a3 hp => ?_)
    refine x_gets X hC hS (C := "java/util/ArrayList") (n := "DEFAULTCAPACITY_EMPTY_ELEMENTDATA") (d := "[Ljava/lang/Object;") (v := .inr 1) (List.mem_of_getElem? (i := 2) rfl) q240 (fun _ h9 => h9) dJ2_grow_2_14 ?_
    refine lv_acmp_eq (rx := (some a3)) (ry := (some (G.2.2.2 1))) (tgt := 45) hx hb dJ2_grow_2_17 (by decide) (fun hc => ?_) (fun hc => ?_)
    · have hp := oIf.t hp hc
      refine lv_aload_n hx hb dJ2_grow_2_45 rfl (lv_at hl 1 rfl) ?_
      refine lv_bipush (v := 10) hx hb dJ2_grow_2_46 (by decide) ?_
      refine lv_iload_n hx hb dJ2_grow_2_48 rfl (lv_at hl 2 rfl) ?_
      refine va_mmax hx hb (hml.trans hl.1.symm) hown (hts _ q352) (hts _ q287) (hts _ q155) (hts _ q288) (Nat.le_of_ble_eq_true rfl) (Nat.le_of_ble_eq_true rfl) (w_fin hB).1 (w_fin hB).2 dJ2_grow_2_49 ?_
      refine x_newq X hC hM hS hB q353 hC.1.2.2.2.2.1.1 (by decide) dJ2_grow_2_52 hp (fun a4 M5 H b6 cells slots hM hS hB hp => ?_)
      refine lv_dup_x1 hx hb dJ2_grow_2_55 rfl rfl ?_
      refine x_put X hC.1 hM hS (ci := 16) (C := RJ2) (T := TJ2) (N := 3) rfl in_J2 tyJ2 tyJ2_ok nmJ2 1 (by decide) q242 (fun _ h9 => h9) rfl rfl rfl dJ2_grow_2_56 hp (fun M7 H locs hM hS hp => ?_)
      exact x_aret (v := (some a4)) X hr (by first | exact Or.inl ⟨_, rfl⟩ | exact Or.inr ⟨_, rfl⟩) hlk hM hS (w_fin hB) dJ2_grow_2_59 ⟨(some a4), rfl, hp⟩
    · have hp := oIf.f hp hc
      exact hB20 _ _ _ _ _ _ _ _ _ _ hp hM hS hB (lv_sub hl [1, 2, 0] rfl)
def P_J2_grow (G : wG) (t0 : Nat) (b : Nat) (M : wM) (Q : Option Nat → wM → Prop) : Prop :=
  oGetI M t0 16 2 (fun v1 => oIs M t0 16 (∃ c3, c3 ≤ b ∧ P_J2_grow_2 G t0 (v1 + (1 : Int32)) c3 M (fun r4 M2 => Q r4 M2)))
set_option maxHeartbeats 4000000 in
set_option maxRecDepth 100000 in
theorem P_J2_grow_ok {l : Launch} (hl0 : l.stackTraces = false) {G : wG} {t0 : Nat} {b : Nat} {M : wM} {Q : Option Nat → wM → Prop} (hp : P_J2_grow G t0 b M Q) : wMet l yJ2_grow (ws_ yJ2_grow cJ2_grow 1 (Option.some (Jvm.ClassFile.FieldType.array (Jvm.ClassFile.FieldType.object "java/lang/Object")))) 15 468 G [.ref t0] M b (wqR Q) wX0 := by
  refine vx_ofW (cc := cJ2_grow) (maxL := 1) (ret := Option.some (Jvm.ClassFile.FieldType.array (Jvm.ClassFile.FieldType.object "java/lang/Object"))) (by decide) rfl ?_
  intro p e s m args below meth c s₁ B hml hnt hv
  obtain ⟨rfl, hM, hK, hZ, hz⟩ := hv
  have hC : wC G s := ⟨hK, hZ, hz⟩
  have hx := B.exec
  have hb := B.bytes
  have hr := B.returns
  have hts := atoms_spec (ws := (ws_ yJ2_grow cJ2_grow 1 (Option.some (Jvm.ClassFile.FieldType.array (Jvm.ClassFile.FieldType.object "java/lang/Object"))))) B.pre
  have hts : ∀ w ∈ lw_all, w.before _ s = true := fun w h => hts w (List.mem_cons_of_mem _ h)
  have hown : s.vm.findClass RJ2 = some m.cls := findClass_of_methodNamed B.named
  have hlk := B.notSynchronized
  have X : CallFix p m c cJ2_grow 1 s ([.ref t0] : List Value).toArray lw_all RJ2 := ⟨hx, hb, hml, hown, hts⟩
  have hS : va_S (wA G) s.heap s.heap [] := va_S.rf
  have hl := lv_entry ([.ref t0]) (n := 1) (Nat.le_of_ble_eq_true rfl)
  rw [lg_entry_eq]
  generalize (lg_sl ([.ref t0]) ++ List.replicate (1 - (lg_sl ([.ref t0])).length) Slot.unset).toArray = ls at hl ⊢
  have hl : lv_has ls 1 [(0, .ref t0)] := hl
  have hB : 0 + b ≤ ((headSpec (ws_ yJ2_grow cJ2_grow 1 (Option.some (Jvm.ClassFile.FieldType.array (Jvm.ClassFile.FieldType.object "java/lang/Object")))) ({ frames := 15, cells := b, slots := b, locals := 468 })).room).cells ∧ 0 + b ≤ ((headSpec (ws_ yJ2_grow cJ2_grow 1 (Option.some (Jvm.ClassFile.FieldType.array (Jvm.ClassFile.FieldType.object "java/lang/Object")))) ({ frames := 15, cells := b, slots := b, locals := 468 })).room).slots := ⟨Nat.le_of_eq (Nat.zero_add b), Nat.le_of_eq (Nat.zero_add b)⟩
  refine lv_aload_n hx hb dJ2_grow_0 rfl (lv_at hl 0 rfl) ?_
  refine lv_aload_n hx hb dJ2_grow_1 rfl (lv_at hl 0 rfl) ?_
  refine x_getI X hC.1 hM (ci := 16) (C := RJ2) (T := TJ2) (N := 3) rfl in_J2 2 (by decide) q245 (fun _ h9 => h9) dJ2_grow_2 hp (fun v1 hp => ?_)
  refine lv_iconst (v := 1) hx hb dJ2_grow_5 (by decide) ?_
  refine lv_iadd hx hb dJ2_grow_6 ?_
  obtain ⟨hrec, hp⟩ := hp
  obtain ⟨c3, hc1, hp⟩ := hp
  refine x_callR (vx_runV (As := [.int (v1 + (1 : Int32))]) (rest := []) X (P_J2_grow_2_ok (l := l) hl0 hp) (cwV 1 hts (lw_V q279 q281 qs2 q153 q282) rfl rfl rfl (by decide +kernel) ⟨Nat.le_of_ble_eq_true rfl, Nat.le_of_ble_eq_true rfl⟩) ⟨wPc.blind, w_recv hC.1 hM (ci := 16) (q := (RJ2, TJ2, 3)) rfl hrec, w_pre hC hM hS _⟩ rfl rfl hl.1 rfl (lv_room (Nat.le_of_ble_eq_true rfl)) dJ2_grow_7 (w_room hB hc1)) hS hB hc1 (fun _ _ _ _ _ _ h => False.elim h) (fun r4 M2 H locs hp hM hS hB => ?_)
  exact x_aret (v := r4) X hr (by first | exact Or.inl ⟨_, rfl⟩ | exact Or.inr ⟨_, rfl⟩) hlk hM hS (w_fin hB) dJ2_grow_10 ⟨r4, rfl, hp⟩
def B_J2_add_2_11 (G : wG) (Q : wM → Prop) (x0 : Nat) (x1 : Option Nat) (x2 : Option Nat) (x3 : Int32) (M : wM) (bq : Nat) : Prop :=
  oRef x2 (fun a1 => oAast G (.object "java/lang/Object") M a1 x3 x1 (fun M2 => oPut G M2 x0 16 2 (.int (x3 + (1 : Int32))) (fun M3 => Q M3)))
def P_J2_add_2 (G : wG) (t0 : Nat) (p1 : Option Nat) (p2 : Nat) (p3 : Int32) (b : Nat) (M : wM) (Q : wM → Prop) : Prop :=
  oAlen (.object "java/lang/Object") M p2 (fun v1 => oIf (p3 = v1) (oIs M t0 16 (∃ c3, c3 ≤ b ∧ P_J2_grow G t0 c3 M (fun r4 M2 => B_J2_add_2_11 G Q t0 p1 r4 p3 M2 (b - c3)))) (B_J2_add_2_11 G Q t0 p1 (some p2) p3 M b))
set_option maxHeartbeats 4000000 in
set_option maxRecDepth 100000 in
theorem P_J2_add_2_ok {l : Launch} (hl0 : l.stackTraces = false) {G : wG} {t0 : Nat} {p1 : Option Nat} {p2 : Nat} {p3 : Int32} {b : Nat} {M : wM} {Q : wM → Prop} (hp : P_J2_add_2 G t0 p1 p2 p3 b M Q) : wMet l yJ2_add_2 (ws_ yJ2_add_2 cJ2_add_2 4 (none)) 16 488 G [.ref t0, va_rf p1, .ref p2, .int p3] M b (wqV Q) wX0 := by
  refine vx_ofW (cc := cJ2_add_2) (maxL := 4) (ret := none) (by decide) rfl ?_
  intro p e s m args below meth c s₁ B hml hnt hv
  obtain ⟨rfl, hM, hK, hZ, hz⟩ := hv
  have hC : wC G s := ⟨hK, hZ, hz⟩
  have hx := B.exec
  have hb := B.bytes
  have hr := B.returns
  have hts := atoms_spec (ws := (ws_ yJ2_add_2 cJ2_add_2 4 (none))) B.pre
  have hts : ∀ w ∈ lw_all, w.before _ s = true := fun w h => hts w (List.mem_cons_of_mem _ h)
  have hown : s.vm.findClass RJ2 = some m.cls := findClass_of_methodNamed B.named
  have hlk := B.notSynchronized
  have X : CallFix p m c cJ2_add_2 4 s ([.ref t0, va_rf p1, .ref p2, .int p3] : List Value).toArray lw_all RJ2 := ⟨hx, hb, hml, hown, hts⟩
  have hS : va_S (wA G) s.heap s.heap [] := va_S.rf
  have hl := lv_entry ([.ref t0, va_rf p1, .ref p2, .int p3]) (n := 4) (by cases p1 <;> exact Nat.le_of_ble_eq_true rfl)
  rw [lg_entry_eq]
  generalize (lg_sl ([.ref t0, va_rf p1, .ref p2, .int p3]) ++ List.replicate (4 - (lg_sl ([.ref t0, va_rf p1, .ref p2, .int p3])).length) Slot.unset).toArray = ls at hl ⊢
  have hl : lv_has ls 4 [(0, .ref t0), (1, va_rf p1), (2, .ref p2), (3, .int p3)] := by cases p1 <;> exact hl
  have hB : 0 + b ≤ ((headSpec (ws_ yJ2_add_2 cJ2_add_2 4 (none)) ({ frames := 16, cells := b, slots := b, locals := 488 })).room).cells ∧ 0 + b ≤ ((headSpec (ws_ yJ2_add_2 cJ2_add_2 4 (none)) ({ frames := 16, cells := b, slots := b, locals := 488 })).room).slots := ⟨Nat.le_of_eq (Nat.zero_add b), Nat.le_of_eq (Nat.zero_add b)⟩
  have hB11 : ∀ (x0 : Nat) (x1 : Option Nat) (x2 : Option Nat) (x3 : Int32) (M : wM) (bq : Nat) (H : Heap) (locs : List Loc) (ls : Array Slot) (cells slots : Nat), B_J2_add_2_11 G Q x0 x1 x2 x3 M bq → wR G M H → va_S (wA G) s.heap H locs → (cells + bq ≤ ((headSpec (ws_ yJ2_add_2 cJ2_add_2 4 (none)) ({ frames := 16, cells := b, slots := b, locals := 488 })).room).cells ∧ slots + bq ≤ ((headSpec (ws_ yJ2_add_2 cJ2_add_2 4 (none)) ({ frames := 16, cells := b, slots := b, locals := 488 })).room).slots) → lv_has ls 4 [(0, .ref x0), (1, va_rf x1), (2, va_rf x2), (3, .int x3)] → W p l e (headSpec (ws_ yJ2_add_2 cJ2_add_2 4 (none)) ({ frames := 16, cells := b, slots := b, locals := 488 })).room s m ([.ref t0, va_rf p1, .ref p2, .int p3] : List Value).toArray below meth c H locs cells slots (vx_MQ below (wQ G (wqV Q)) (wXC G wX0) ([.ref t0, va_rf p1, .ref p2, .int p3] : List Value).toArray s b b (wA G)) (F0 m 11 ls []) := by
    intro x0 x1 x2 x3 M bq H locs ls cells slots hp hM hS hB hl
    refine x_aload_n (r := x2) hx hb dJ2_add_2_11 rfl (lv_at hl 2 rfl) ?_
    refine lv_iload_n hx hb dJ2_add_2_12 rfl (lv_at hl 3 rfl) ?_
    refine x_aload_n (r := x1) hx hb dJ2_add_2_13 rfl (lv_at hl 1 rfl) ?_
    obtain ⟨a1, ea, hqa1⟩ := hp
    subst ea
    have hp := hqa1
    have hl : lv_has ls 4 [(0, .ref x0), (1, va_rf x1), (2, .ref a1), (3, .int x3)] := hl
    refine x_aast (r := x1) X hC hM hS w_obj (C := "java/lang/Object") (by decide) dJ2_add_2_14 hp (fun M2 H locs hM hS hp => ?_)
    refine lv_aload_n hx hb dJ2_add_2_15 rfl (lv_at hl 0 rfl) ?_
    refine lv_iload_n hx hb dJ2_add_2_16 rfl (lv_at hl 3 rfl) ?_
    refine lv_iconst (v := 1) hx hb dJ2_add_2_17 (by decide) ?_
    refine lv_iadd hx hb dJ2_add_2_18 ?_
    refine x_put X hC.1 hM hS (ci := 16) (C := RJ2) (T := TJ2) (N := 3) rfl in_J2 tyJ2 tyJ2_ok nmJ2 2 (by decide) q245 (fun _ h9 => h9) rfl rfl rfl dJ2_add_2_19 hp (fun M3 H locs hM hS hp => ?_)
    exact x_vret X hr hlk hM hS (w_fin hB) dJ2_add_2_22 ⟨rfl, hp⟩
  refine lv_iload_n hx hb dJ2_add_2_0 rfl (lv_at hl 3 rfl) ?_
  refine lv_aload_n hx hb dJ2_add_2_1 rfl (lv_at hl 2 rfl) ?_
  refine x_alen X hC.1 hM (ty := (.object "java/lang/Object")) (by decide) dJ2_add_2_2 hp (fun v1 hp => ?_)
  refine lv_icmp_ne (tgt := 11) hx hb dJ2_add_2_3 (by decide) (fun hc => ?_) (fun hc => ?_)
  · have hp := oIf.f hp hc
    exact hB11 _ _ _ _ _ _ _ _ _ _ _ hp hM hS hB (lv_sub hl [0, 1, 2, 3] rfl)
  · have hp := oIf.t hp hc
    refine lv_aload_n hx hb dJ2_add_2_6 rfl (lv_at hl 0 rfl) ?_
    obtain ⟨hrec, hp⟩ := hp
    obtain ⟨c3, hc1, hp⟩ := hp
    refine x_callR (vx_runV (As := []) (rest := []) X (P_J2_grow_ok (l := l) hl0 hp) (cwV 0 hts (lw_V q275 q277 qs1 q153 q278) rfl rfl rfl (by decide +kernel) ⟨Nat.le_of_ble_eq_true rfl, Nat.le_of_ble_eq_true rfl⟩) ⟨wPc.blind, w_recv hC.1 hM (ci := 16) (q := (RJ2, TJ2, 3)) rfl hrec, w_pre hC hM hS _⟩ rfl rfl hl.1 rfl (lv_room (Nat.le_of_ble_eq_true rfl)) dJ2_add_2_7 (w_room hB hc1)) hS hB hc1 (fun _ _ _ _ _ _ h => False.elim h) (fun r4 M2 H locs hp hM hS hB => ?_)
    refine x_astore_n (r := r4) (lv' := [(2, va_rf r4), (0, .ref t0), (1, va_rf p1), (3, .int p3)]) hx hb dJ2_add_2_10 rfl hl (by decide) (by cases p1 <;> rfl) (fun ls hl => ?_)
    exact hB11 _ _ _ _ _ _ _ _ _ _ _ hp hM hS hB (lv_sub hl [1, 2, 0, 3] rfl)
def P_J2_add (G : wG) (t0 : Nat) (p1 : Option Nat) (b : Nat) (M : wM) (Q : Bool → wM → Prop) : Prop :=
  oGetI M t0 16 0 (fun v1 => oPut G M t0 16 0 (.int (v1 + (1 : Int32))) (fun M2 => oGetA M2 t0 16 1 (fun a3 => oGetI M2 t0 16 2 (fun v4 => oIs M2 t0 16 (∃ c6, c6 ≤ b ∧ P_J2_add_2 G t0 p1 a3 v4 c6 M2 (fun M5 => Q true M5))))))
set_option maxHeartbeats 4000000 in
set_option maxRecDepth 100000 in
theorem P_J2_add_ok {l : Launch} (hl0 : l.stackTraces = false) {G : wG} {t0 : Nat} {p1 : Option Nat} {b : Nat} {M : wM} {Q : Bool → wM → Prop} (hp : P_J2_add G t0 p1 b M Q) : wMet l yJ2_add (ws_ yJ2_add cJ2_add 2 (Option.some Jvm.ClassFile.FieldType.boolean)) 17 511 G [.ref t0, va_rf p1] M b (wqZ Q) wX0 := by
  refine vx_ofW (cc := cJ2_add) (maxL := 2) (ret := Option.some Jvm.ClassFile.FieldType.boolean) (by decide) rfl ?_
  intro p e s m args below meth c s₁ B hml hnt hv
  obtain ⟨rfl, hM, hK, hZ, hz⟩ := hv
  have hC : wC G s := ⟨hK, hZ, hz⟩
  have hx := B.exec
  have hb := B.bytes
  have hr := B.returns
  have hts := atoms_spec (ws := (ws_ yJ2_add cJ2_add 2 (Option.some Jvm.ClassFile.FieldType.boolean))) B.pre
  have hts : ∀ w ∈ lw_all, w.before _ s = true := fun w h => hts w (List.mem_cons_of_mem _ h)
  have hown : s.vm.findClass RJ2 = some m.cls := findClass_of_methodNamed B.named
  have hlk := B.notSynchronized
  have X : CallFix p m c cJ2_add 2 s ([.ref t0, va_rf p1] : List Value).toArray lw_all RJ2 := ⟨hx, hb, hml, hown, hts⟩
  have hS : va_S (wA G) s.heap s.heap [] := va_S.rf
  have hl := lv_entry ([.ref t0, va_rf p1]) (n := 2) (by cases p1 <;> exact Nat.le_of_ble_eq_true rfl)
  rw [lg_entry_eq]
  generalize (lg_sl ([.ref t0, va_rf p1]) ++ List.replicate (2 - (lg_sl ([.ref t0, va_rf p1])).length) Slot.unset).toArray = ls at hl ⊢
  have hl : lv_has ls 2 [(0, .ref t0), (1, va_rf p1)] := by cases p1 <;> exact hl
  have hB : 0 + b ≤ ((headSpec (ws_ yJ2_add cJ2_add 2 (Option.some Jvm.ClassFile.FieldType.boolean)) ({ frames := 17, cells := b, slots := b, locals := 511 })).room).cells ∧ 0 + b ≤ ((headSpec (ws_ yJ2_add cJ2_add 2 (Option.some Jvm.ClassFile.FieldType.boolean)) ({ frames := 17, cells := b, slots := b, locals := 511 })).room).slots := ⟨Nat.le_of_eq (Nat.zero_add b), Nat.le_of_eq (Nat.zero_add b)⟩
  refine lv_aload_n hx hb dJ2_add_0 rfl (lv_at hl 0 rfl) ?_
  refine lv_dup hx hb dJ2_add_1 rfl ?_
  refine x_getI X hC.1 hM (ci := 16) (C := RJ2) (T := TJ2) (N := 3) rfl in_J2 0 (by decide) q253 (fun x9 h9 => u_same (hts _ q250) x9 h9) dJ2_add_2 hp (fun v1 hp => ?_)
  refine lv_iconst (v := 1) hx hb dJ2_add_5 (by decide) ?_
  refine lv_iadd hx hb dJ2_add_6 ?_
  refine x_put X hC.1 hM hS (ci := 16) (C := RJ2) (T := TJ2) (N := 3) rfl in_J2 tyJ2 tyJ2_ok nmJ2 0 (by decide) q253 (fun x9 h9 => u_same (hts _ q250) x9 h9) rfl rfl rfl dJ2_add_7 hp (fun M2 H locs hM hS hp => ?_)
  refine lv_aload_n hx hb dJ2_add_10 rfl (lv_at hl 0 rfl) ?_
  refine x_aload_n (r := p1) hx hb dJ2_add_11 rfl (lv_at hl 1 rfl) ?_
  refine lv_aload_n hx hb dJ2_add_12 rfl (lv_at hl 0 rfl) ?_
  refine x_getA X hC.1 hM (ci := 16) (C := RJ2) (T := TJ2) (N := 3) rfl in_J2 1 (by decide) q242 (fun _ h9 => h9) dJ2_add_13 hp (fun a3 hp => ?_)
  refine lv_aload_n hx hb dJ2_add_16 rfl (lv_at hl 0 rfl) ?_
  refine x_getI X hC.1 hM (ci := 16) (C := RJ2) (T := TJ2) (N := 3) rfl in_J2 2 (by decide) q245 (fun _ h9 => h9) dJ2_add_17 hp (fun v4 hp => ?_)
  obtain ⟨hrec, hp⟩ := hp
  obtain ⟨c6, hc1, hp⟩ := hp
  refine x_callV (vx_runV (As := [va_rf p1, .ref a3, .int v4]) (rest := []) X (P_J2_add_2_ok (l := l) hl0 hp) (cwV 3 hts (lw_V q271 q273 qs0 q153 q274) rfl rfl rfl (by decide +kernel) ⟨Nat.le_of_ble_eq_true rfl, Nat.le_of_ble_eq_true rfl⟩) ⟨wPc.blind, w_recv hC.1 hM (ci := 16) (q := (RJ2, TJ2, 3)) rfl hrec, w_pre hC hM hS _⟩ rfl rfl hl.1 rfl (lv_room (Nat.le_of_ble_eq_true rfl)) dJ2_add_20 (w_room hB hc1)) hS hB hc1 (fun _ _ _ _ _ _ h => False.elim h) (fun M5 H locs hp hM hS hB => ?_)
  refine lv_iconst (v := 1) hx hb dJ2_add_23 (by decide) ?_
  exact x_zret X hr hlk hM hS (w_fin hB) (by decide) dJ2_add_24 ⟨true, rfl, hp⟩
def B_X3_init_110 (G : wG) (rec110 : Nat → Int32 → wM → Nat → Prop) (Q : wM → Prop) (x0 : Nat) (x1 : Int32) (M : wM) (bq : Nat) : Prop :=
  oIf ((3 : Int32) ≤ x1) (Q M) (oGetA M x0 2 3 (fun a1 => oNew G M bq 16 [.int 0, .null, .int 0] (fun a2 M3 b4 => P_J2_init G a2 M3 (fun M5 => oIs M5 a1 16 (∃ c8, c8 ≤ b4 ∧ P_J2_add G a1 (some a2) c8 M5 (fun r9 M7 => rec110 x0 (x1 + 1) M7 (b4 - c8)))))))
def L_X3_init_110 (G : wG) (Q : wM → Prop) : Nat → Nat → Int32 → wM → Nat → Prop
  | 0 => fun _ _ _ _ => False
  | n + 1 => B_X3_init_110 G (L_X3_init_110 G Q n) Q
def P_X3_init (G : wG) (t0 : Nat) (b : Nat) (M : wM) (Q : wM → Prop) : Prop :=
  oNew G M b 16 [.int 0, .null, .int 0] (fun a1 M2 b3 => P_J2_init G a1 M2 (fun M4 => oPut G M4 t0 2 0 (.ref a1) (fun M6 => oNew G M6 b3 16 [.int 0, .null, .int 0] (fun a7 M8 b9 => P_J2_init G a7 M8 (fun M10 => oPut G M10 t0 2 1 (.ref a7) (fun M12 => oNew G M12 b9 16 [.int 0, .null, .int 0] (fun a13 M14 b15 => P_J2_init G a13 M14 (fun M16 => oPut G M16 t0 2 2 (.ref a13) (fun M18 => oNew G M18 b15 16 [.int 0, .null, .int 0] (fun a19 M20 b21 => P_J2_init G a19 M20 (fun M22 => oPut G M22 t0 2 3 (.ref a19) (fun M24 => oNewa G M24 b21 .int (.inl (fun _ => 0)) (7 : Int32) (fun a25 M26 b27 => oIast G M26 a25 (0 : Int32) (0 : Int32) (fun M28 => oIast G M28 a25 (1 : Int32) (10 : Int32) (fun M29 => oIast G M29 a25 (2 : Int32) (20 : Int32) (fun M30 => oIast G M30 a25 (3 : Int32) (30 : Int32) (fun M31 => oIast G M31 a25 (4 : Int32) (40 : Int32) (fun M32 => oIast G M32 a25 (5 : Int32) (50 : Int32) (fun M33 => oIast G M33 a25 (6 : Int32) (60 : Int32) (fun M34 => oPut G M34 t0 2 4 (.ref a25) (fun M35 => oPut G M35 t0 2 5 (.int (30 : Int32)) (fun M36 => oPut G M36 t0 2 6 (.int (24 : Int32)) (fun M37 => oPut G M37 t0 2 7 (.int (5 : Int32)) (fun M38 => ∃ n, L_X3_init_110 G Q n t0 (0 : Int32) M38 b27))))))))))))))))))))))))
set_option maxHeartbeats 4000000 in
set_option maxRecDepth 100000 in
theorem P_X3_init_ok {l : Launch} (hl0 : l.stackTraces = false) {G : wG} {t0 : Nat} {b : Nat} {M : wM} {Q : wM → Prop} (hp : P_X3_init G t0 b M Q) : wMet l yX3_init (ws_ yX3_init cX3_init 2 (none)) 18 532 G [.ref t0] M b (wqV Q) wX0 := by
  refine vx_ofW (cc := cX3_init) (maxL := 2) (ret := none) (by decide) rfl ?_
  intro p e s m args below meth c s₁ B hml hnt hv
  obtain ⟨rfl, hM, hK, hZ, hz⟩ := hv
  have hC : wC G s := ⟨hK, hZ, hz⟩
  have hx := B.exec
  have hb := B.bytes
  have hr := B.returns
  have hts := atoms_spec (ws := (ws_ yX3_init cX3_init 2 (none))) B.pre
  have hts : ∀ w ∈ lw_all, w.before _ s = true := fun w h => hts w (List.mem_cons_of_mem _ h)
  have hown : s.vm.findClass RX3 = some m.cls := findClass_of_methodNamed B.named
  have hlk := B.notSynchronized
  have hin0 : meth.name = "<init>" := (name_of_methodNamed B.named B.method).1
  have X : CallFix p m c cX3_init 2 s ([.ref t0] : List Value).toArray lw_all RX3 := ⟨hx, hb, hml, hown, hts⟩
  have hS : va_S (wA G) s.heap s.heap [] := va_S.rf
  have hl := lv_entry ([.ref t0]) (n := 2) (Nat.le_of_ble_eq_true rfl)
  rw [lg_entry_eq]
  generalize (lg_sl ([.ref t0]) ++ List.replicate (2 - (lg_sl ([.ref t0])).length) Slot.unset).toArray = ls at hl ⊢
  have hl : lv_has ls 2 [(0, .ref t0)] := hl
  have hB : 0 + b ≤ ((headSpec (ws_ yX3_init cX3_init 2 (none)) ({ frames := 18, cells := b, slots := b, locals := 532 })).room).cells ∧ 0 + b ≤ ((headSpec (ws_ yX3_init cX3_init 2 (none)) ({ frames := 18, cells := b, slots := b, locals := 532 })).room).slots := ⟨Nat.le_of_eq (Nat.zero_add b), Nat.le_of_eq (Nat.zero_add b)⟩
  have hB110 : ∀ (rec110 : Nat → Int32 → wM → Nat → Prop) (hrec110 : ∀ (x0 : Nat) (x1 : Int32) (M : wM) (bq : Nat) (H : Heap) (locs : List Loc) (ls : Array Slot) (cells slots : Nat), rec110 x0 x1 M bq → wR G M H → va_S (wA G) s.heap H locs → (cells + bq ≤ ((headSpec (ws_ yX3_init cX3_init 2 (none)) ({ frames := 18, cells := b, slots := b, locals := 532 })).room).cells ∧ slots + bq ≤ ((headSpec (ws_ yX3_init cX3_init 2 (none)) ({ frames := 18, cells := b, slots := b, locals := 532 })).room).slots) → lv_has ls 2 [(0, .ref x0), (1, .int x1)] → W p l e (headSpec (ws_ yX3_init cX3_init 2 (none)) ({ frames := 18, cells := b, slots := b, locals := 532 })).room s m ([.ref t0] : List Value).toArray below meth c H locs cells slots (vx_MQ below (wQ G (wqV Q)) (wXC G wX0) ([.ref t0] : List Value).toArray s b b (wA G)) (F0 m 110 ls [])), ∀ (x0 : Nat) (x1 : Int32) (M : wM) (bq : Nat) (H : Heap) (locs : List Loc) (ls : Array Slot) (cells slots : Nat), B_X3_init_110 G rec110 Q x0 x1 M bq → wR G M H → va_S (wA G) s.heap H locs → (cells + bq ≤ ((headSpec (ws_ yX3_init cX3_init 2 (none)) ({ frames := 18, cells := b, slots := b, locals := 532 })).room).cells ∧ slots + bq ≤ ((headSpec (ws_ yX3_init cX3_init 2 (none)) ({ frames := 18, cells := b, slots := b, locals := 532 })).room).slots) → lv_has ls 2 [(0, .ref x0), (1, .int x1)] → W p l e (headSpec (ws_ yX3_init cX3_init 2 (none)) ({ frames := 18, cells := b, slots := b, locals := 532 })).room s m ([.ref t0] : List Value).toArray below meth c H locs cells slots (vx_MQ below (wQ G (wqV Q)) (wXC G wX0) ([.ref t0] : List Value).toArray s b b (wA G)) (F0 m 110 ls []) := by
    intro rec110 hrec110 x0 x1 M bq H locs ls cells slots hp hM hS hB hl
    refine lv_iload_n hx hb dX3_init_110 rfl (lv_at hl 1 rfl) ?_
    refine lv_iconst (v := 3) hx hb dX3_init_111 (by decide) ?_
    refine lv_icmp_ge (tgt := 138) hx hb dX3_init_112 (by decide) (fun hc => ?_) (fun hc => ?_)
    · have hp := oIf.t hp hc
      exact x_vret X hr hlk hM hS (w_fin hB) dX3_init_138 ⟨rfl, hp⟩
    · have hp := oIf.f hp hc
      refine lv_aload_n hx hb dX3_init_115 rfl (lv_at hl 0 rfl) ?_
      refine x_getA X hC.1 hM (ci := 2) (C := RX3) (T := TX3) (N := 8) rfl in_X3 3 (by decide) q407 (fun _ h9 => h9) dX3_init_116 hp (fun a1 hp => ?_)
      refine x_new X hC hM hS hB (ci := 16) (C := RJ2) (T := TJ2) (N := 3) rfl in_J2 tyJ2 tyJ2_ok q228 q229 q153 rfl (by decide) dX3_init_119 hp (fun a2 M3 H b4 cells slots hM hS hB hp => ?_)
      refine lv_dup hx hb dX3_init_122 rfl ?_
      refine x_call0V (vx_runI (As := []) (rest := [.ref a2, .ref a1]) X (P_J2_init_ok (l := l) hl0 hp) (cwI 0 hts (lw_meth q232) rfl rfl rfl (hts _ q153) (hts _ q230) (hts _ q231) rfl (by decide +kernel) ⟨Nat.le_of_ble_eq_true rfl, Nat.le_of_ble_eq_true rfl⟩) ⟨wPc.blind, w_pre hC hM hS _⟩ rfl rfl hl.1 rfl (lv_room (Nat.le_of_ble_eq_true rfl)) dX3_init_123 (w_room0 hB)) hS (w_room0 hB) (fun _ _ _ _ _ _ h => False.elim h) (fun M5 H locs hp hM hS => ?_)
      obtain ⟨hrec, hp⟩ := hp
      obtain ⟨c8, hc1, hp⟩ := hp
      refine x_callZ5 (vx_runF (hC.1.1.1 16 (RJ2, TJ2, 3) rfl).2 (C := "java/util/ArrayList") (As := [va_rf (some a2)]) (rest := []) X (P_J2_add_ok (l := l) hl0 hp) (va_cwF 1 hts (lw_app (w_mem4 q262 q266 q268 q153) (lw_meth q270)) rfl rfl rfl (wfw_5 hC.1) (by decide +kernel) ⟨Nat.le_of_ble_eq_true rfl, Nat.le_of_ble_eq_true rfl⟩) ⟨wPc.blind, w_recv hC.1 hM (ci := 16) (q := (RJ2, TJ2, 3)) rfl hrec, w_pre hC hM hS _⟩ rfl rfl hl.1 rfl (lv_room (Nat.le_of_ble_eq_true rfl)) dX3_init_126 (w_room hB hc1)) hS hB hc1 (fun _ _ _ _ _ _ h => False.elim h) (fun r9 M7 H locs hp hM hS hB => ?_)
      refine lv_pop hx hb dX3_init_131 rfl ?_
      refine lv_iinc (v := (x1 + 1)) (lv' := [(1, .int (x1 + 1)), (0, .ref x0)]) hx hb dX3_init_132 hl (k := 1) rfl rfl (by decide) rfl (fun ls hl => ?_)
      refine lv_goto (tgt := 110) hx hb dX3_init_135 (by decide) ?_
      exact hrec110 _ _ _ _ _ _ _ _ _ hp hM hS hB (lv_sub hl [1, 0] rfl)
  have hL110 : ∀ (n : Nat), ∀ (x0 : Nat) (x1 : Int32) (M : wM) (bq : Nat) (H : Heap) (locs : List Loc) (ls : Array Slot) (cells slots : Nat), L_X3_init_110 G Q n x0 x1 M bq → wR G M H → va_S (wA G) s.heap H locs → (cells + bq ≤ ((headSpec (ws_ yX3_init cX3_init 2 (none)) ({ frames := 18, cells := b, slots := b, locals := 532 })).room).cells ∧ slots + bq ≤ ((headSpec (ws_ yX3_init cX3_init 2 (none)) ({ frames := 18, cells := b, slots := b, locals := 532 })).room).slots) → lv_has ls 2 [(0, .ref x0), (1, .int x1)] → W p l e (headSpec (ws_ yX3_init cX3_init 2 (none)) ({ frames := 18, cells := b, slots := b, locals := 532 })).room s m ([.ref t0] : List Value).toArray below meth c H locs cells slots (vx_MQ below (wQ G (wqV Q)) (wXC G wX0) ([.ref t0] : List Value).toArray s b b (wA G)) (F0 m 110 ls []) := by
    intro n
    induction n with
    | zero => intro _ _ _ _ _ _ _ _ _ hp; exact False.elim hp
    | succ n ih => intro x0 x1 M bq H locs ls cells slots hp hM hS hB hl; exact hB110 (L_X3_init_110 G Q n) ih _ _ _ _ _ _ _ _ _ hp hM hS hB hl
  refine lv_aload_n hx hb dX3_init_0 rfl (lv_at hl 0 rfl) ?_
  refine W.objInit hx hb hown (hts _ q227) (hts _ q218) (hts _ q219) rfl (by rw [hml]; exact hl.1) rfl dX3_init_1 (Nat.le_of_ble_eq_true rfl) (Nat.le_of_ble_eq_true rfl) ?_
  refine W.eq (g2 := F0 m 4 ls []) rfl ?_
  refine lv_aload_n hx hb dX3_init_4 rfl (lv_at hl 0 rfl) ?_
  refine x_new X hC hM hS hB (ci := 16) (C := RJ2) (T := TJ2) (N := 3) rfl in_J2 tyJ2 tyJ2_ok q228 q229 q153 rfl (by decide) dX3_init_5 hp (fun a1 M2 H b3 cells slots hM hS hB hp => ?_)
  refine lv_dup hx hb dX3_init_8 rfl ?_
  refine x_call0V (vx_runI (As := []) (rest := [.ref a1, .ref t0]) X (P_J2_init_ok (l := l) hl0 hp) (cwI 0 hts (lw_meth q232) rfl rfl rfl (hts _ q153) (hts _ q230) (hts _ q231) rfl (by decide +kernel) ⟨Nat.le_of_ble_eq_true rfl, Nat.le_of_ble_eq_true rfl⟩) ⟨wPc.blind, w_pre hC hM hS _⟩ rfl rfl hl.1 rfl (lv_room (Nat.le_of_ble_eq_true rfl)) dX3_init_9 (w_room0 hB)) hS (w_room0 hB) (fun _ _ _ _ _ _ h => False.elim h) (fun M4 H locs hp hM hS => ?_)
  refine x_putF X hC.1 hM hS (ci := 2) (C := RX3) (T := TX3) (N := 8) rfl in_X3 tyX3 tyX3_ok nmX3 0 (by decide) q395 (fun _ h9 => h9) rfl hin0 rfl rfl rfl dX3_init_12 hp (fun M6 H locs hM hS hp => ?_)
  refine lv_aload_n hx hb dX3_init_15 rfl (lv_at hl 0 rfl) ?_
  refine x_new X hC hM hS hB (ci := 16) (C := RJ2) (T := TJ2) (N := 3) rfl in_J2 tyJ2 tyJ2_ok q228 q229 q153 rfl (by decide) dX3_init_16 hp (fun a7 M8 H b9 cells slots hM hS hB hp => ?_)
  refine lv_dup hx hb dX3_init_19 rfl ?_
  refine x_call0V (vx_runI (As := []) (rest := [.ref a7, .ref t0]) X (P_J2_init_ok (l := l) hl0 hp) (cwI 0 hts (lw_meth q232) rfl rfl rfl (hts _ q153) (hts _ q230) (hts _ q231) rfl (by decide +kernel) ⟨Nat.le_of_ble_eq_true rfl, Nat.le_of_ble_eq_true rfl⟩) ⟨wPc.blind, w_pre hC hM hS _⟩ rfl rfl hl.1 rfl (lv_room (Nat.le_of_ble_eq_true rfl)) dX3_init_20 (w_room0 hB)) hS (w_room0 hB) (fun _ _ _ _ _ _ h => False.elim h) (fun M10 H locs hp hM hS => ?_)
  refine x_putF X hC.1 hM hS (ci := 2) (C := RX3) (T := TX3) (N := 8) rfl in_X3 tyX3 tyX3_ok nmX3 1 (by decide) q399 (fun _ h9 => h9) rfl hin0 rfl rfl rfl dX3_init_23 hp (fun M12 H locs hM hS hp => ?_)
  refine lv_aload_n hx hb dX3_init_26 rfl (lv_at hl 0 rfl) ?_
  refine x_new X hC hM hS hB (ci := 16) (C := RJ2) (T := TJ2) (N := 3) rfl in_J2 tyJ2 tyJ2_ok q228 q229 q153 rfl (by decide) dX3_init_27 hp (fun a13 M14 H b15 cells slots hM hS hB hp => ?_)
  refine lv_dup hx hb dX3_init_30 rfl ?_
  refine x_call0V (vx_runI (As := []) (rest := [.ref a13, .ref t0]) X (P_J2_init_ok (l := l) hl0 hp) (cwI 0 hts (lw_meth q232) rfl rfl rfl (hts _ q153) (hts _ q230) (hts _ q231) rfl (by decide +kernel) ⟨Nat.le_of_ble_eq_true rfl, Nat.le_of_ble_eq_true rfl⟩) ⟨wPc.blind, w_pre hC hM hS _⟩ rfl rfl hl.1 rfl (lv_room (Nat.le_of_ble_eq_true rfl)) dX3_init_31 (w_room0 hB)) hS (w_room0 hB) (fun _ _ _ _ _ _ h => False.elim h) (fun M16 H locs hp hM hS => ?_)
  refine x_putF X hC.1 hM hS (ci := 2) (C := RX3) (T := TX3) (N := 8) rfl in_X3 tyX3 tyX3_ok nmX3 2 (by decide) q403 (fun _ h9 => h9) rfl hin0 rfl rfl rfl dX3_init_34 hp (fun M18 H locs hM hS hp => ?_)
  refine lv_aload_n hx hb dX3_init_37 rfl (lv_at hl 0 rfl) ?_
  refine x_new X hC hM hS hB (ci := 16) (C := RJ2) (T := TJ2) (N := 3) rfl in_J2 tyJ2 tyJ2_ok q228 q229 q153 rfl (by decide) dX3_init_38 hp (fun a19 M20 H b21 cells slots hM hS hB hp => ?_)
  refine lv_dup hx hb dX3_init_41 rfl ?_
  refine x_call0V (vx_runI (As := []) (rest := [.ref a19, .ref t0]) X (P_J2_init_ok (l := l) hl0 hp) (cwI 0 hts (lw_meth q232) rfl rfl rfl (hts _ q153) (hts _ q230) (hts _ q231) rfl (by decide +kernel) ⟨Nat.le_of_ble_eq_true rfl, Nat.le_of_ble_eq_true rfl⟩) ⟨wPc.blind, w_pre hC hM hS _⟩ rfl rfl hl.1 rfl (lv_room (Nat.le_of_ble_eq_true rfl)) dX3_init_42 (w_room0 hB)) hS (w_room0 hB) (fun _ _ _ _ _ _ h => False.elim h) (fun M22 H locs hp hM hS => ?_)
  refine x_putF X hC.1 hM hS (ci := 2) (C := RX3) (T := TX3) (N := 8) rfl in_X3 tyX3 tyX3_ok nmX3 3 (by decide) q407 (fun _ h9 => h9) rfl hin0 rfl rfl rfl dX3_init_45 hp (fun M24 H locs hM hS hp => ?_)
  refine lv_aload_n hx hb dX3_init_48 rfl (lv_at hl 0 rfl) ?_
  refine lv_bipush (v := 7) hx hb dX3_init_49 (by decide) ?_
  refine x_newa X hC hM hS hB .int rfl q394 (by decide) (by decide) (fun _ h => h) (fun _ _ => rfl) dX3_init_51 hp (fun a25 M26 H b27 cells slots hM hS hB hp => ?_)
  refine lv_dup hx hb dX3_init_53 rfl ?_
  refine lv_iconst (v := 0) hx hb dX3_init_54 (by decide) ?_
  refine lv_iconst (v := 0) hx hb dX3_init_55 (by decide) ?_
  refine x_iast X hC.1 hM hS dX3_init_56 hp (fun M28 H locs hM hS hp => ?_)
  refine lv_dup hx hb dX3_init_57 rfl ?_
  refine lv_iconst (v := 1) hx hb dX3_init_58 (by decide) ?_
  refine lv_bipush (v := 10) hx hb dX3_init_59 (by decide) ?_
  refine x_iast X hC.1 hM hS dX3_init_61 hp (fun M29 H locs hM hS hp => ?_)
  refine lv_dup hx hb dX3_init_62 rfl ?_
  refine lv_iconst (v := 2) hx hb dX3_init_63 (by decide) ?_
  refine lv_bipush (v := 20) hx hb dX3_init_64 (by decide) ?_
  refine x_iast X hC.1 hM hS dX3_init_66 hp (fun M30 H locs hM hS hp => ?_)
  refine lv_dup hx hb dX3_init_67 rfl ?_
  refine lv_iconst (v := 3) hx hb dX3_init_68 (by decide) ?_
  refine lv_bipush (v := 30) hx hb dX3_init_69 (by decide) ?_
  refine x_iast X hC.1 hM hS dX3_init_71 hp (fun M31 H locs hM hS hp => ?_)
  refine lv_dup hx hb dX3_init_72 rfl ?_
  refine lv_iconst (v := 4) hx hb dX3_init_73 (by decide) ?_
  refine lv_bipush (v := 40) hx hb dX3_init_74 (by decide) ?_
  refine x_iast X hC.1 hM hS dX3_init_76 hp (fun M32 H locs hM hS hp => ?_)
  refine lv_dup hx hb dX3_init_77 rfl ?_
  refine lv_iconst (v := 5) hx hb dX3_init_78 (by decide) ?_
  refine lv_bipush (v := 50) hx hb dX3_init_79 (by decide) ?_
  refine x_iast X hC.1 hM hS dX3_init_81 hp (fun M33 H locs hM hS hp => ?_)
  refine lv_dup hx hb dX3_init_82 rfl ?_
  refine lv_bipush (v := 6) hx hb dX3_init_83 (by decide) ?_
  refine lv_bipush (v := 60) hx hb dX3_init_85 (by decide) ?_
  refine x_iast X hC.1 hM hS dX3_init_87 hp (fun M34 H locs hM hS hp => ?_)
  refine x_putF X hC.1 hM hS (ci := 2) (C := RX3) (T := TX3) (N := 8) rfl in_X3 tyX3 tyX3_ok nmX3 4 (by decide) q410 (fun _ h9 => h9) rfl hin0 rfl rfl rfl dX3_init_88 hp (fun M35 H locs hM hS hp => ?_)
  refine lv_aload_n hx hb dX3_init_91 rfl (lv_at hl 0 rfl) ?_
  refine lv_bipush (v := 30) hx hb dX3_init_92 (by decide) ?_
  refine x_put X hC.1 hM hS (ci := 2) (C := RX3) (T := TX3) (N := 8) rfl in_X3 tyX3 tyX3_ok nmX3 5 (by decide) q414 (fun _ h9 => h9) rfl rfl rfl dX3_init_94 hp (fun M36 H locs hM hS hp => ?_)
  refine lv_aload_n hx hb dX3_init_97 rfl (lv_at hl 0 rfl) ?_
  refine lv_bipush (v := 24) hx hb dX3_init_98 (by decide) ?_
  refine x_put X hC.1 hM hS (ci := 2) (C := RX3) (T := TX3) (N := 8) rfl in_X3 tyX3 tyX3_ok nmX3 6 (by decide) q417 (fun _ h9 => h9) rfl rfl rfl dX3_init_100 hp (fun M37 H locs hM hS hp => ?_)
  refine lv_aload_n hx hb dX3_init_103 rfl (lv_at hl 0 rfl) ?_
  refine lv_iconst (v := 5) hx hb dX3_init_104 (by decide) ?_
  refine x_put X hC.1 hM hS (ci := 2) (C := RX3) (T := TX3) (N := 8) rfl in_X3 tyX3 tyX3_ok nmX3 7 (by decide) q421 (fun _ h9 => h9) rfl rfl rfl dX3_init_105 hp (fun M38 H locs hM hS hp => ?_)
  refine lv_iconst (v := 0) hx hb dX3_init_108 (by decide) ?_
  refine lv_istore_n (lv' := [(1, .int (0 : Int32)), (0, .ref t0)]) hx hb dX3_init_109 rfl hl (by decide) rfl (fun ls hl => ?_)
  obtain ⟨n, hp⟩ := hp
  exact hL110 n _ _ _ _ _ _ _ _ _ hp hM hS hB (lv_sub hl [1, 0] rfl)
def P_J2_size (G : wG) (t0 : Nat) (M : wM) (Q : Int32 → wM → Prop) : Prop :=
  oGetI M t0 16 2 (fun v1 => Q v1 M)
set_option maxHeartbeats 4000000 in
set_option maxRecDepth 100000 in
theorem P_J2_size_ok {l : Launch} (hl0 : l.stackTraces = false) {G : wG} {t0 : Nat} {M : wM} {Q : Int32 → wM → Prop} (hp : P_J2_size G t0 M Q) : wMet l yJ2_size (ws_ yJ2_size cJ2_size 1 (Option.some Jvm.ClassFile.FieldType.int)) 12 400 G [.ref t0] M 0 (wqI Q) wX0 := by
  refine vx_ofW (cc := cJ2_size) (maxL := 1) (ret := Option.some Jvm.ClassFile.FieldType.int) (by decide) rfl ?_
  intro p e s m args below meth c s₁ B hml hnt hv
  obtain ⟨rfl, hM, hK, hZ, hz⟩ := hv
  have hC : wC G s := ⟨hK, hZ, hz⟩
  have hx := B.exec
  have hb := B.bytes
  have hr := B.returns
  have hts := atoms_spec (ws := (ws_ yJ2_size cJ2_size 1 (Option.some Jvm.ClassFile.FieldType.int))) B.pre
  have hts : ∀ w ∈ lw_all, w.before _ s = true := fun w h => hts w (List.mem_cons_of_mem _ h)
  have hown : s.vm.findClass RJ2 = some m.cls := findClass_of_methodNamed B.named
  have hlk := B.notSynchronized
  have X : CallFix p m c cJ2_size 1 s ([.ref t0] : List Value).toArray lw_all RJ2 := ⟨hx, hb, hml, hown, hts⟩
  have hS : va_S (wA G) s.heap s.heap [] := va_S.rf
  have hl := lv_entry ([.ref t0]) (n := 1) (Nat.le_of_ble_eq_true rfl)
  rw [lg_entry_eq]
  generalize (lg_sl ([.ref t0]) ++ List.replicate (1 - (lg_sl ([.ref t0])).length) Slot.unset).toArray = ls at hl ⊢
  have hl : lv_has ls 1 [(0, .ref t0)] := hl
  refine lv_aload_n hx hb dJ2_size_0 rfl (lv_at hl 0 rfl) ?_
  refine x_getI X hC.1 hM (ci := 16) (C := RJ2) (T := TJ2) (N := 3) rfl in_J2 2 (by decide) q245 (fun _ h9 => h9) dJ2_size_1 hp (fun v1 hp => ?_)
  exact x_iret X hr hlk hM hS ⟨Nat.le_refl _, Nat.le_refl _⟩ dJ2_size_4 ⟨_, rfl, hp⟩
def P_J11_checkIndex (G : wG) (p1 : Int32) (p2 : Int32) (M : wM) (Q : Int32 → wM → Prop) : Prop :=
  P_J12_checkIndex G p1 p2 none M (fun v3 M1 => Q v3 M1)
set_option maxHeartbeats 4000000 in
set_option maxRecDepth 100000 in
theorem P_J11_checkIndex_ok {l : Launch} (hl0 : l.stackTraces = false) {G : wG} {p1 : Int32} {p2 : Int32} {M : wM} {Q : Int32 → wM → Prop} (hp : P_J11_checkIndex G p1 p2 M Q) : wMet l yJ11_checkIndex (ws_ yJ11_checkIndex cJ11_checkIndex 2 (Option.some Jvm.ClassFile.FieldType.int)) 13 422 G [.int p1, .int p2] M 0 (wqI Q) wX0 := by
  refine vx_ofW (cc := cJ11_checkIndex) (maxL := 2) (ret := Option.some Jvm.ClassFile.FieldType.int) (by decide) rfl ?_
  intro p e s m args below meth c s₁ B hml hnt hv
  obtain ⟨rfl, hM, hK, hZ, hz⟩ := hv
  have hC : wC G s := ⟨hK, hZ, hz⟩
  have hx := B.exec
  have hb := B.bytes
  have hr := B.returns
  have hts := atoms_spec (ws := (ws_ yJ11_checkIndex cJ11_checkIndex 2 (Option.some Jvm.ClassFile.FieldType.int))) B.pre
  have hts : ∀ w ∈ lw_all, w.before _ s = true := fun w h => hts w (List.mem_cons_of_mem _ h)
  have hown : s.vm.findClass RJ11 = some m.cls := findClass_of_methodNamed B.named
  have hlk := B.notSynchronized
  have X : CallFix p m c cJ11_checkIndex 2 s ([.int p1, .int p2] : List Value).toArray lw_all RJ11 := ⟨hx, hb, hml, hown, hts⟩
  have hS : va_S (wA G) s.heap s.heap [] := va_S.rf
  have hl := lv_entry ([.int p1, .int p2]) (n := 2) (Nat.le_of_ble_eq_true rfl)
  rw [lg_entry_eq]
  generalize (lg_sl ([.int p1, .int p2]) ++ List.replicate (2 - (lg_sl ([.int p1, .int p2])).length) Slot.unset).toArray = ls at hl ⊢
  have hl : lv_has ls 2 [(0, .int p1), (1, .int p2)] := hl
  refine lv_iload_n hx hb dJ11_checkIndex_0 rfl (lv_at hl 0 rfl) ?_
  refine lv_iload_n hx hb dJ11_checkIndex_1 rfl (lv_at hl 1 rfl) ?_
  refine lv_null hx hb dJ11_checkIndex_2 ?_
  refine x_call0I (vx_runS (As := [.int p1, .int p2, va_rf none]) (rest := []) X (P_J12_checkIndex_ok (l := l) hl0 hp) (va_cwS 3 hts (lw_S q530 q531 q164 q532) rfl rfl rfl (by decide +kernel) ⟨Nat.le_of_ble_eq_true rfl, Nat.le_of_ble_eq_true rfl⟩) ⟨wPc.blind, w_pre hC hM hS _⟩ rfl rfl hl.1 rfl (lv_room (Nat.le_of_ble_eq_true rfl)) dJ11_checkIndex_3 ⟨Nat.le_refl _, Nat.le_refl _⟩) hS ⟨Nat.le_refl _, Nat.le_refl _⟩ (fun _ _ _ _ _ _ h => False.elim h) (fun v3 M1 H locs hp hM hS => ?_)
  exact x_iret X hr hlk hM hS ⟨Nat.le_refl _, Nat.le_refl _⟩ dJ11_checkIndex_6 ⟨_, rfl, hp⟩
def P_J2_elementData (G : wG) (t0 : Nat) (p1 : Int32) (M : wM) (Q : Option Nat → wM → Prop) : Prop :=
  oGetA M t0 16 1 (fun a1 => oAald (.object "java/lang/Object") M a1 p1 (fun r2 => Q r2 M))
set_option maxHeartbeats 4000000 in
set_option maxRecDepth 100000 in
theorem P_J2_elementData_ok {l : Launch} (hl0 : l.stackTraces = false) {G : wG} {t0 : Nat} {p1 : Int32} {M : wM} {Q : Option Nat → wM → Prop} (hp : P_J2_elementData G t0 p1 M Q) : wMet l yJ2_elementData (ws_ yJ2_elementData cJ2_elementData 2 (Option.some (Jvm.ClassFile.FieldType.object "java/lang/Object"))) 12 400 G [.ref t0, .int p1] M 0 (wqR Q) wX0 := by
  refine vx_ofW (cc := cJ2_elementData) (maxL := 2) (ret := Option.some (Jvm.ClassFile.FieldType.object "java/lang/Object")) (by decide) rfl ?_
  intro p e s m args below meth c s₁ B hml hnt hv
  obtain ⟨rfl, hM, hK, hZ, hz⟩ := hv
  have hC : wC G s := ⟨hK, hZ, hz⟩
  have hx := B.exec
  have hb := B.bytes
  have hr := B.returns
  have hts := atoms_spec (ws := (ws_ yJ2_elementData cJ2_elementData 2 (Option.some (Jvm.ClassFile.FieldType.object "java/lang/Object")))) B.pre
  have hts : ∀ w ∈ lw_all, w.before _ s = true := fun w h => hts w (List.mem_cons_of_mem _ h)
  have hown : s.vm.findClass RJ2 = some m.cls := findClass_of_methodNamed B.named
  have hlk := B.notSynchronized
  have X : CallFix p m c cJ2_elementData 2 s ([.ref t0, .int p1] : List Value).toArray lw_all RJ2 := ⟨hx, hb, hml, hown, hts⟩
  have hS : va_S (wA G) s.heap s.heap [] := va_S.rf
  have hl := lv_entry ([.ref t0, .int p1]) (n := 2) (Nat.le_of_ble_eq_true rfl)
  rw [lg_entry_eq]
  generalize (lg_sl ([.ref t0, .int p1]) ++ List.replicate (2 - (lg_sl ([.ref t0, .int p1])).length) Slot.unset).toArray = ls at hl ⊢
  have hl : lv_has ls 2 [(0, .ref t0), (1, .int p1)] := hl
  refine lv_aload_n hx hb dJ2_elementData_0 rfl (lv_at hl 0 rfl) ?_
  refine x_getA X hC.1 hM (ci := 16) (C := RJ2) (T := TJ2) (N := 3) rfl in_J2 1 (by decide) q242 (fun _ h9 => h9) dJ2_elementData_1 hp (fun a1 hp => ?_)
  refine lv_iload_n hx hb dJ2_elementData_4 rfl (lv_at hl 1 rfl) ?_
  refine x_aald X hC.1 hM (ty := (.object "java/lang/Object")) (by decide) rfl dJ2_elementData_5 hp (fun r2 hp => ?_)
  exact x_aret (v := r2) X hr (by first | exact Or.inl ⟨_, rfl⟩ | exact Or.inr ⟨_, rfl⟩) hlk hM hS ⟨Nat.le_refl _, Nat.le_refl _⟩ dJ2_elementData_6 ⟨r2, rfl, hp⟩
def P_J2_get (G : wG) (t0 : Nat) (p1 : Int32) (M : wM) (Q : Option Nat → wM → Prop) : Prop :=
  oGetI M t0 16 2 (fun v1 => P_J11_checkIndex G p1 v1 M (fun v4 M2 => oIs M2 t0 16 (P_J2_elementData G t0 p1 M2 (fun r7 M5 => Q r7 M5))))
set_option maxHeartbeats 4000000 in
set_option maxRecDepth 100000 in
theorem P_J2_get_ok {l : Launch} (hl0 : l.stackTraces = false) {G : wG} {t0 : Nat} {p1 : Int32} {M : wM} {Q : Option Nat → wM → Prop} (hp : P_J2_get G t0 p1 M Q) : wMet l yJ2_get (ws_ yJ2_get cJ2_get 2 (Option.some (Jvm.ClassFile.FieldType.object "java/lang/Object"))) 14 443 G [.ref t0, .int p1] M 0 (wqR Q) wX0 := by
  refine vx_ofW (cc := cJ2_get) (maxL := 2) (ret := Option.some (Jvm.ClassFile.FieldType.object "java/lang/Object")) (by decide) rfl ?_
  intro p e s m args below meth c s₁ B hml hnt hv
  obtain ⟨rfl, hM, hK, hZ, hz⟩ := hv
  have hC : wC G s := ⟨hK, hZ, hz⟩
  have hx := B.exec
  have hb := B.bytes
  have hr := B.returns
  have hts := atoms_spec (ws := (ws_ yJ2_get cJ2_get 2 (Option.some (Jvm.ClassFile.FieldType.object "java/lang/Object")))) B.pre
  have hts : ∀ w ∈ lw_all, w.before _ s = true := fun w h => hts w (List.mem_cons_of_mem _ h)
  have hown : s.vm.findClass RJ2 = some m.cls := findClass_of_methodNamed B.named
  have hlk := B.notSynchronized
  have X : CallFix p m c cJ2_get 2 s ([.ref t0, .int p1] : List Value).toArray lw_all RJ2 := ⟨hx, hb, hml, hown, hts⟩
  have hS : va_S (wA G) s.heap s.heap [] := va_S.rf
  have hl := lv_entry ([.ref t0, .int p1]) (n := 2) (Nat.le_of_ble_eq_true rfl)
  rw [lg_entry_eq]
  generalize (lg_sl ([.ref t0, .int p1]) ++ List.replicate (2 - (lg_sl ([.ref t0, .int p1])).length) Slot.unset).toArray = ls at hl ⊢
  have hl : lv_has ls 2 [(0, .ref t0), (1, .int p1)] := hl
  refine lv_iload_n hx hb dJ2_get_0 rfl (lv_at hl 1 rfl) ?_
  refine lv_aload_n hx hb dJ2_get_1 rfl (lv_at hl 0 rfl) ?_
  refine x_getI X hC.1 hM (ci := 16) (C := RJ2) (T := TJ2) (N := 3) rfl in_J2 2 (by decide) q245 (fun _ h9 => h9) dJ2_get_2 hp (fun v1 hp => ?_)
  refine x_call0I (vx_runS (As := [.int p1, .int v1]) (rest := []) X (P_J11_checkIndex_ok (l := l) hl0 hp) (va_cwS 2 hts (lw_S q527 q528 q163 q529) rfl rfl rfl (by decide +kernel) ⟨Nat.le_of_ble_eq_true rfl, Nat.le_of_ble_eq_true rfl⟩) ⟨wPc.blind, w_pre hC hM hS _⟩ rfl rfl hl.1 rfl (lv_room (Nat.le_of_ble_eq_true rfl)) dJ2_get_5 ⟨Nat.le_refl _, Nat.le_refl _⟩) hS ⟨Nat.le_refl _, Nat.le_refl _⟩ (fun _ _ _ _ _ _ h => False.elim h) (fun v4 M2 H locs hp hM hS => ?_)
  refine lv_pop hx hb dJ2_get_8 rfl ?_
  refine lv_aload_n hx hb dJ2_get_9 rfl (lv_at hl 0 rfl) ?_
  refine lv_iload_n hx hb dJ2_get_10 rfl (lv_at hl 1 rfl) ?_
  obtain ⟨hrec, hp⟩ := hp
  refine x_call0R (vx_runV (As := [.int p1]) (rest := []) X (P_J2_elementData_ok (l := l) hl0 hp) (cwV 1 hts (lw_V q533 q534 q535 q153 q536) rfl rfl rfl (by decide +kernel) ⟨Nat.le_of_ble_eq_true rfl, Nat.le_of_ble_eq_true rfl⟩) ⟨wPc.blind, w_recv hC.1 hM (ci := 16) (q := (RJ2, TJ2, 3)) rfl hrec, w_pre hC hM hS _⟩ rfl rfl hl.1 rfl (lv_room (Nat.le_of_ble_eq_true rfl)) dJ2_get_11 ⟨Nat.le_refl _, Nat.le_refl _⟩) hS ⟨Nat.le_refl _, Nat.le_refl _⟩ (fun _ _ _ _ _ _ h => False.elim h) (fun r7 M5 H locs hp hM hS => ?_)
  exact x_aret (v := r7) X hr (by first | exact Or.inl ⟨_, rfl⟩ | exact Or.inr ⟨_, rfl⟩) hlk hM hS ⟨Nat.le_refl _, Nat.le_refl _⟩ dJ2_get_14 ⟨r7, rfl, hp⟩
def B_X2_refill_2 (G : wG) (rec2 : Nat → Int32 → wM → Prop) (Q : wM → Prop) (x0 : Nat) (x1 : Int32) (M : wM) : Prop :=
  oGetA M x0 1 0 (fun a1 => oGetA M a1 2 2 (fun a2 => oIs M a2 16 (P_J2_size G a2 M (fun v5 M3 => oIf (v5 ≤ x1) (Q M3) (oGetA M3 x0 1 7 (fun a6 => oGetA M3 x0 1 0 (fun a7 => oGetA M3 a7 2 2 (fun a8 => oIs M3 a8 16 (P_J2_get G a8 x1 M3 (fun r11 M9 => oCast M9 r11 8 (oRef r11 (fun a12 => oGetI M9 a12 8 2 (fun v13 => oIast G M9 a6 x1 v13 (fun M14 => rec2 x0 (x1 + 1) M14))))))))))))))
def L_X2_refill_2 (G : wG) (Q : wM → Prop) : Nat → Nat → Int32 → wM → Prop
  | 0 => fun _ _ _ => False
  | n + 1 => B_X2_refill_2 G (L_X2_refill_2 G Q n) Q
def P_X2_refill (G : wG) (t0 : Nat) (M : wM) (Q : wM → Prop) : Prop :=
  ∃ n, L_X2_refill_2 G Q n t0 (0 : Int32) M
set_option maxHeartbeats 4000000 in
set_option maxRecDepth 100000 in
theorem P_X2_refill_ok {l : Launch} (hl0 : l.stackTraces = false) {G : wG} {t0 : Nat} {M : wM} {Q : wM → Prop} (hp : P_X2_refill G t0 M Q) : wMet l yX2_refill (ws_ yX2_refill cX2_refill 2 (none)) 15 464 G [.ref t0] M 0 (wqV Q) wX0 := by
  refine vx_ofW (cc := cX2_refill) (maxL := 2) (ret := none) (by decide) rfl ?_
  intro p e s m args below meth c s₁ B hml hnt hv
  obtain ⟨rfl, hM, hK, hZ, hz⟩ := hv
  have hC : wC G s := ⟨hK, hZ, hz⟩
  have hx := B.exec
  have hb := B.bytes
  have hr := B.returns
  have hts := atoms_spec (ws := (ws_ yX2_refill cX2_refill 2 (none))) B.pre
  have hts : ∀ w ∈ lw_all, w.before _ s = true := fun w h => hts w (List.mem_cons_of_mem _ h)
  have hown : s.vm.findClass RX2 = some m.cls := findClass_of_methodNamed B.named
  have hlk := B.notSynchronized
  have X : CallFix p m c cX2_refill 2 s ([.ref t0] : List Value).toArray lw_all RX2 := ⟨hx, hb, hml, hown, hts⟩
  have hS : va_S (wA G) s.heap s.heap [] := va_S.rf
  have hl := lv_entry ([.ref t0]) (n := 2) (Nat.le_of_ble_eq_true rfl)
  rw [lg_entry_eq]
  generalize (lg_sl ([.ref t0]) ++ List.replicate (2 - (lg_sl ([.ref t0])).length) Slot.unset).toArray = ls at hl ⊢
  have hl : lv_has ls 2 [(0, .ref t0)] := hl
  have hB2 : ∀ (rec2 : Nat → Int32 → wM → Prop) (hrec2 : ∀ (x0 : Nat) (x1 : Int32) (M : wM) (H : Heap) (locs : List Loc) (ls : Array Slot), rec2 x0 x1 M → wR G M H → va_S (wA G) s.heap H locs → lv_has ls 2 [(0, .ref x0), (1, .int x1)] → W p l e (headSpec (ws_ yX2_refill cX2_refill 2 (none)) ({ frames := 15, cells := 0, slots := 0, locals := 464 })).room s m ([.ref t0] : List Value).toArray below meth c H locs 0 0 (vx_MQ below (wQ G (wqV Q)) (wXC G wX0) ([.ref t0] : List Value).toArray s 0 0 (wA G)) (F0 m 2 ls [])), ∀ (x0 : Nat) (x1 : Int32) (M : wM) (H : Heap) (locs : List Loc) (ls : Array Slot), B_X2_refill_2 G rec2 Q x0 x1 M → wR G M H → va_S (wA G) s.heap H locs → lv_has ls 2 [(0, .ref x0), (1, .int x1)] → W p l e (headSpec (ws_ yX2_refill cX2_refill 2 (none)) ({ frames := 15, cells := 0, slots := 0, locals := 464 })).room s m ([.ref t0] : List Value).toArray below meth c H locs 0 0 (vx_MQ below (wQ G (wqV Q)) (wXC G wX0) ([.ref t0] : List Value).toArray s 0 0 (wA G)) (F0 m 2 ls []) := by
    intro rec2 hrec2 x0 x1 M H locs ls hp hM hS hl
    refine lv_iload_n hx hb dX2_refill_2 rfl (lv_at hl 1 rfl) ?_
    refine lv_aload_n hx hb dX2_refill_3 rfl (lv_at hl 0 rfl) ?_
    refine x_getA X hC.1 hM (ci := 1) (C := RX2) (T := TX2) (N := 9) rfl in_X2 0 (by decide) q917 (fun _ h9 => h9) dX2_refill_4 hp (fun a1 hp => ?_)
    refine x_getAN X hC.1 hM (ci := 2) (C := RX3) (T := TX3) (N := 8) rfl in_X3 2 (by decide) q404 (fun _ h9 => h9) dX2_refill_7 hp (fun a2 hp => ?_)
    obtain ⟨hrec, hp⟩ := hp
    refine x_call0I5 (vx_runF (hC.1.1.1 16 (RJ2, TJ2, 3) rfl).2 (C := "java/util/ArrayList") (As := []) (rest := [.int x1]) X (P_J2_size_ok (l := l) hl0 hp) (va_cwF 0 hts (lw_app (w_mem4 q493 q496 q498 q153) (lw_meth q500)) rfl rfl rfl (wfw_13 hC.1) (by decide +kernel) ⟨Nat.le_of_ble_eq_true rfl, Nat.le_of_ble_eq_true rfl⟩) ⟨wPc.blind, w_recv hC.1 hM (ci := 16) (q := (RJ2, TJ2, 3)) rfl hrec, w_pre hC hM hS _⟩ rfl rfl hl.1 rfl (lv_room (Nat.le_of_ble_eq_true rfl)) dX2_refill_10 ⟨Nat.le_refl _, Nat.le_refl _⟩) hS ⟨Nat.le_refl _, Nat.le_refl _⟩ (fun _ _ _ _ _ _ h => False.elim h) (fun v5 M3 H locs hp hM hS => ?_)
    refine lv_icmp_ge (tgt := 49) hx hb dX2_refill_15 (by decide) (fun hc => ?_) (fun hc => ?_)
    · have hp := oIf.t hp hc
      exact x_vret X hr hlk hM hS ⟨Nat.le_refl _, Nat.le_refl _⟩ dX2_refill_49 ⟨rfl, hp⟩
    · have hp := oIf.f hp hc
      refine lv_aload_n hx hb dX2_refill_18 rfl (lv_at hl 0 rfl) ?_
      refine x_getA X hC.1 hM (ci := 1) (C := RX2) (T := TX2) (N := 9) rfl in_X2 7 (by decide) q931 (fun _ h9 => h9) dX2_refill_19 hp (fun a6 hp => ?_)
      refine lv_iload_n hx hb dX2_refill_22 rfl (lv_at hl 1 rfl) ?_
      refine lv_aload_n hx hb dX2_refill_23 rfl (lv_at hl 0 rfl) ?_
      refine x_getA X hC.1 hM (ci := 1) (C := RX2) (T := TX2) (N := 9) rfl in_X2 0 (by decide) q917 (fun _ h9 => h9) dX2_refill_24 hp (fun a7 hp => ?_)
      refine x_getAN X hC.1 hM (ci := 2) (C := RX3) (T := TX3) (N := 8) rfl in_X3 2 (by decide) q404 (fun _ h9 => h9) dX2_refill_27 hp (fun a8 hp => ?_)
      refine lv_iload_n hx hb dX2_refill_30 rfl (lv_at hl 1 rfl) ?_
      obtain ⟨hrec, hp⟩ := hp
      refine x_call0R5 (vx_runF (hC.1.1.1 16 (RJ2, TJ2, 3) rfl).2 (C := "java/util/ArrayList") (As := [.int x1]) (rest := [.int x1, .ref a6]) X (P_J2_get_ok (l := l) hl0 hp) (va_cwF 1 hts (lw_app (w_mem4 q519 q522 q524 q153) (lw_meth q526)) rfl rfl rfl (wfw_8 hC.1) (by decide +kernel) ⟨Nat.le_of_ble_eq_true rfl, Nat.le_of_ble_eq_true rfl⟩) ⟨wPc.blind, w_recv hC.1 hM (ci := 16) (q := (RJ2, TJ2, 3)) rfl hrec, w_pre hC hM hS _⟩ rfl rfl hl.1 rfl (lv_room (Nat.le_of_ble_eq_true rfl)) dX2_refill_31 ⟨Nat.le_refl _, Nat.le_refl _⟩) hS ⟨Nat.le_refl _, Nat.le_refl _⟩ (fun _ _ _ _ _ _ h => False.elim h) (fun r11 M9 H locs hp hM hS => ?_)
      refine x_cast (r := r11) X hC.1 hM q916 (ci := 8) rfl (Or.inl rfl) dX2_refill_36 hp (fun hp => ?_)
      obtain ⟨a12, ea, hqa12⟩ := hp
      subst ea
      have hp := hqa12
      refine x_getIN X hC.1 hM (ci := 8) (C := RX9) (T := TX9) (N := 3) rfl in_X9 2 (by decide) q1472 (fun _ h9 => h9) dX2_refill_39 hp (fun v13 hp => ?_)
      refine x_iast X hC.1 hM hS dX2_refill_42 hp (fun M14 H locs hM hS hp => ?_)
      refine lv_iinc (v := (x1 + 1)) (lv' := [(1, .int (x1 + 1)), (0, .ref x0)]) hx hb dX2_refill_43 hl (k := 1) rfl rfl (by decide) rfl (fun ls hl => ?_)
      refine lv_goto (tgt := 2) hx hb dX2_refill_46 (by decide) ?_
      exact hrec2 _ _ _ _ _ _ hp hM hS (lv_sub hl [1, 0] rfl)
  have hL2 : ∀ (n : Nat), ∀ (x0 : Nat) (x1 : Int32) (M : wM) (H : Heap) (locs : List Loc) (ls : Array Slot), L_X2_refill_2 G Q n x0 x1 M → wR G M H → va_S (wA G) s.heap H locs → lv_has ls 2 [(0, .ref x0), (1, .int x1)] → W p l e (headSpec (ws_ yX2_refill cX2_refill 2 (none)) ({ frames := 15, cells := 0, slots := 0, locals := 464 })).room s m ([.ref t0] : List Value).toArray below meth c H locs 0 0 (vx_MQ below (wQ G (wqV Q)) (wXC G wX0) ([.ref t0] : List Value).toArray s 0 0 (wA G)) (F0 m 2 ls []) := by
    intro n
    induction n with
    | zero => intro _ _ _ _ _ _ hp; exact False.elim hp
    | succ n ih => intro x0 x1 M H locs ls hp hM hS hl; exact hB2 (L_X2_refill_2 G Q n) ih _ _ _ _ _ _ hp hM hS hl
  refine lv_iconst (v := 0) hx hb dX2_refill_0 (by decide) ?_
  refine lv_istore_n (lv' := [(1, .int (0 : Int32)), (0, .ref t0)]) hx hb dX2_refill_1 rfl hl (by decide) rfl (fun ls hl => ?_)
  obtain ⟨n, hp⟩ := hp
  exact hL2 n _ _ _ _ _ _ hp hM hS (lv_sub hl [1, 0] rfl)
def P_J0_init_J8 (G : wG) (t0 : Nat) (M : wM) (Q : wM → Prop) : Prop :=
  Q M
set_option maxHeartbeats 4000000 in
set_option maxRecDepth 100000 in
theorem P_J0_init_J8_ok {l : Launch} (hl0 : l.stackTraces = false) {G : wG} {t0 : Nat} {M : wM} {Q : wM → Prop} (hp : P_J0_init_J8 G t0 M Q) : wMet l yJ0_init (ws_ yJ0_init cJ0_init 1 (none)) 12 400 G [.ref t0] M 0 (wqV Q) wX0 := by
  refine vx_ofW (cc := cJ0_init) (maxL := 1) (ret := none) (by decide) rfl ?_
  intro p e s m args below meth c s₁ B hml hnt hv
  obtain ⟨rfl, hM, hK, hZ, hz⟩ := hv
  have hC : wC G s := ⟨hK, hZ, hz⟩
  have hx := B.exec
  have hb := B.bytes
  have hr := B.returns
  have hts := atoms_spec (ws := (ws_ yJ0_init cJ0_init 1 (none))) B.pre
  have hts : ∀ w ∈ lw_all, w.before _ s = true := fun w h => hts w (List.mem_cons_of_mem _ h)
  have hown : s.vm.findClass RJ0 = some m.cls := findClass_of_methodNamed B.named
  have hlk := B.notSynchronized
  have hin0 : meth.name = "<init>" := (name_of_methodNamed B.named B.method).1
  have X : CallFix p m c cJ0_init 1 s ([.ref t0] : List Value).toArray lw_all RJ0 := ⟨hx, hb, hml, hown, hts⟩
  have hS : va_S (wA G) s.heap s.heap [] := va_S.rf
  have hl := lv_entry ([.ref t0]) (n := 1) (Nat.le_of_ble_eq_true rfl)
  rw [lg_entry_eq]
  generalize (lg_sl ([.ref t0]) ++ List.replicate (1 - (lg_sl ([.ref t0])).length) Slot.unset).toArray = ls at hl ⊢
  have hl : lv_has ls 1 [(0, .ref t0)] := hl
  refine lv_aload_n hx hb dJ0_init_0 rfl (lv_at hl 0 rfl) ?_
  refine W.objInit hx hb hown (hts _ q239) (hts _ q218) (hts _ q219) rfl (by rw [hml]; exact hl.1) rfl dJ0_init_1 (Nat.le_of_ble_eq_true rfl) (Nat.le_of_ble_eq_true rfl) ?_
  refine W.eq (g2 := F0 m 4 ls []) rfl ?_
  exact x_vret X hr hlk hM hS ⟨Nat.le_refl _, Nat.le_refl _⟩ dJ0_init_4 ⟨rfl, hp⟩
def P_J1_init_J8 (G : wG) (t0 : Nat) (M : wM) (Q : wM → Prop) : Prop :=
  P_J0_init_J8 G t0 M (fun M1 => oPut G M1 t0 17 0 (.int (0 : Int32)) (fun M3 => Q M3))
set_option maxHeartbeats 4000000 in
set_option maxRecDepth 100000 in
theorem P_J1_init_J8_ok {l : Launch} (hl0 : l.stackTraces = false) {G : wG} {t0 : Nat} {M : wM} {Q : wM → Prop} (hp : P_J1_init_J8 G t0 M Q) : wMet l yJ1_init (ws_ yJ1_init cJ1_init 1 (none)) 13 420 G [.ref t0] M 0 (wqV Q) wX0 := by
  refine vx_ofW (cc := cJ1_init) (maxL := 1) (ret := none) (by decide) rfl ?_
  intro p e s m args below meth c s₁ B hml hnt hv
  obtain ⟨rfl, hM, hK, hZ, hz⟩ := hv
  have hC : wC G s := ⟨hK, hZ, hz⟩
  have hx := B.exec
  have hb := B.bytes
  have hr := B.returns
  have hts := atoms_spec (ws := (ws_ yJ1_init cJ1_init 1 (none))) B.pre
  have hts : ∀ w ∈ lw_all, w.before _ s = true := fun w h => hts w (List.mem_cons_of_mem _ h)
  have hown : s.vm.findClass RJ1 = some m.cls := findClass_of_methodNamed B.named
  have hlk := B.notSynchronized
  have hin0 : meth.name = "<init>" := (name_of_methodNamed B.named B.method).1
  have X : CallFix p m c cJ1_init 1 s ([.ref t0] : List Value).toArray lw_all RJ1 := ⟨hx, hb, hml, hown, hts⟩
  have hS : va_S (wA G) s.heap s.heap [] := va_S.rf
  have hl := lv_entry ([.ref t0]) (n := 1) (Nat.le_of_ble_eq_true rfl)
  rw [lg_entry_eq]
  generalize (lg_sl ([.ref t0]) ++ List.replicate (1 - (lg_sl ([.ref t0])).length) Slot.unset).toArray = ls at hl ⊢
  have hl : lv_has ls 1 [(0, .ref t0)] := hl
  refine lv_aload_n hx hb dJ1_init_0 rfl (lv_at hl 0 rfl) ?_
  refine x_call0V (vx_runI (As := []) (rest := []) X (P_J0_init_J8_ok (l := l) hl0 hp) (cwI 0 hts (lw_meth q238) rfl rfl rfl (hts _ q151) (hts _ q236) (hts _ q237) rfl (by decide +kernel) ⟨Nat.le_of_ble_eq_true rfl, Nat.le_of_ble_eq_true rfl⟩) ⟨wPc.blind, w_pre hC hM hS _⟩ rfl rfl hl.1 rfl (lv_room (Nat.le_of_ble_eq_true rfl)) dJ1_init_1 ⟨Nat.le_refl _, Nat.le_refl _⟩) hS ⟨Nat.le_refl _, Nat.le_refl _⟩ (fun _ _ _ _ _ _ h => False.elim h) (fun M1 H locs hp hM hS => ?_)
  refine lv_aload_n hx hb dJ1_init_4 rfl (lv_at hl 0 rfl) ?_
  refine lv_iconst (v := 0) hx hb dJ1_init_5 (by decide) ?_
  refine x_put X hC.1 hM hS (ci := 17) (C := RJ8) (T := TJ8) (N := 4) rfl in_J8 tyJ8 tyJ8_ok nmJ8 0 (by decide) q246 (fun _ h9 => h9) rfl rfl rfl dJ1_init_6 hp (fun M3 H locs hM hS hp => ?_)
  exact x_vret X hr hlk hM hS ⟨Nat.le_refl _, Nat.le_refl _⟩ dJ1_init_9 ⟨rfl, hp⟩
def P_J7_init_J8 (G : wG) (t0 : Nat) (M : wM) (Q : wM → Prop) : Prop :=
  P_J1_init_J8 G t0 M (fun M1 => Q M1)
set_option maxHeartbeats 4000000 in
set_option maxRecDepth 100000 in
theorem P_J7_init_J8_ok {l : Launch} (hl0 : l.stackTraces = false) {G : wG} {t0 : Nat} {M : wM} {Q : wM → Prop} (hp : P_J7_init_J8 G t0 M Q) : wMet l yJ7_init (ws_ yJ7_init cJ7_init 1 (none)) 14 440 G [.ref t0] M 0 (wqV Q) wX0 := by
  refine vx_ofW (cc := cJ7_init) (maxL := 1) (ret := none) (by decide) rfl ?_
  intro p e s m args below meth c s₁ B hml hnt hv
  obtain ⟨rfl, hM, hK, hZ, hz⟩ := hv
  have hC : wC G s := ⟨hK, hZ, hz⟩
  have hx := B.exec
  have hb := B.bytes
  have hr := B.returns
  have hts := atoms_spec (ws := (ws_ yJ7_init cJ7_init 1 (none))) B.pre
  have hts : ∀ w ∈ lw_all, w.before _ s = true := fun w h => hts w (List.mem_cons_of_mem _ h)
  have hown : s.vm.findClass RJ7 = some m.cls := findClass_of_methodNamed B.named
  have hlk := B.notSynchronized
  have hin0 : meth.name = "<init>" := (name_of_methodNamed B.named B.method).1
  have X : CallFix p m c cJ7_init 1 s ([.ref t0] : List Value).toArray lw_all RJ7 := ⟨hx, hb, hml, hown, hts⟩
  have hS : va_S (wA G) s.heap s.heap [] := va_S.rf
  have hl := lv_entry ([.ref t0]) (n := 1) (Nat.le_of_ble_eq_true rfl)
  rw [lg_entry_eq]
  generalize (lg_sl ([.ref t0]) ++ List.replicate (1 - (lg_sl ([.ref t0])).length) Slot.unset).toArray = ls at hl ⊢
  have hl : lv_has ls 1 [(0, .ref t0)] := hl
  refine lv_aload_n hx hb dJ7_init_0 rfl (lv_at hl 0 rfl) ?_
  refine x_call0V (vx_runI (As := []) (rest := []) X (P_J1_init_J8_ok (l := l) hl0 hp) (cwI 0 hts (lw_meth q235) rfl rfl rfl (hts _ q152) (hts _ q455) (hts _ q234) rfl (by decide +kernel) ⟨Nat.le_of_ble_eq_true rfl, Nat.le_of_ble_eq_true rfl⟩) ⟨wPc.blind, w_pre hC hM hS _⟩ rfl rfl hl.1 rfl (lv_room (Nat.le_of_ble_eq_true rfl)) dJ7_init_1 ⟨Nat.le_refl _, Nat.le_refl _⟩) hS ⟨Nat.le_refl _, Nat.le_refl _⟩ (fun _ _ _ _ _ _ h => False.elim h) (fun M1 H locs hp hM hS => ?_)
  exact x_vret X hr hlk hM hS ⟨Nat.le_refl _, Nat.le_refl _⟩ dJ7_init_4 ⟨rfl, hp⟩
def P_J8_init (G : wG) (t0 : Nat) (M : wM) (Q : wM → Prop) : Prop :=
  P_J7_init_J8 G t0 M (fun M1 => oPut G M1 t0 17 1 (.int (0 : Int32)) (fun M3 => Q M3))
set_option maxHeartbeats 4000000 in
set_option maxRecDepth 100000 in
theorem P_J8_init_ok {l : Launch} (hl0 : l.stackTraces = false) {G : wG} {t0 : Nat} {M : wM} {Q : wM → Prop} (hp : P_J8_init G t0 M Q) : wMet l yJ8_init (ws_ yJ8_init cJ8_init 1 (none)) 15 460 G [.ref t0] M 0 (wqV Q) wX0 := by
  refine vx_ofW (cc := cJ8_init) (maxL := 1) (ret := none) (by decide) rfl ?_
  intro p e s m args below meth c s₁ B hml hnt hv
  obtain ⟨rfl, hM, hK, hZ, hz⟩ := hv
  have hC : wC G s := ⟨hK, hZ, hz⟩
  have hx := B.exec
  have hb := B.bytes
  have hr := B.returns
  have hts := atoms_spec (ws := (ws_ yJ8_init cJ8_init 1 (none))) B.pre
  have hts : ∀ w ∈ lw_all, w.before _ s = true := fun w h => hts w (List.mem_cons_of_mem _ h)
  have hown : s.vm.findClass RJ8 = some m.cls := findClass_of_methodNamed B.named
  have hlk := B.notSynchronized
  have hin0 : meth.name = "<init>" := (name_of_methodNamed B.named B.method).1
  have X : CallFix p m c cJ8_init 1 s ([.ref t0] : List Value).toArray lw_all RJ8 := ⟨hx, hb, hml, hown, hts⟩
  have hS : va_S (wA G) s.heap s.heap [] := va_S.rf
  have hl := lv_entry ([.ref t0]) (n := 1) (Nat.le_of_ble_eq_true rfl)
  rw [lg_entry_eq]
  generalize (lg_sl ([.ref t0]) ++ List.replicate (1 - (lg_sl ([.ref t0])).length) Slot.unset).toArray = ls at hl ⊢
  have hl : lv_has ls 1 [(0, .ref t0)] := hl
  refine lv_aload_n hx hb dJ8_init_0 rfl (lv_at hl 0 rfl) ?_
  refine x_call0V (vx_runI (As := []) (rest := []) X (P_J7_init_J8_ok (l := l) hl0 hp) (cwI 0 hts (lw_meth q454) rfl rfl rfl (hts _ q159) (hts _ q452) (hts _ q453) rfl (by decide +kernel) ⟨Nat.le_of_ble_eq_true rfl, Nat.le_of_ble_eq_true rfl⟩) ⟨wPc.blind, w_pre hC hM hS _⟩ rfl rfl hl.1 rfl (lv_room (Nat.le_of_ble_eq_true rfl)) dJ8_init_1 ⟨Nat.le_refl _, Nat.le_refl _⟩) hS ⟨Nat.le_refl _, Nat.le_refl _⟩ (fun _ _ _ _ _ _ h => False.elim h) (fun M1 H locs hp hM hS => ?_)
  refine lv_aload_n hx hb dJ8_init_4 rfl (lv_at hl 0 rfl) ?_
  refine lv_iconst (v := 0) hx hb dJ8_init_5 (by decide) ?_
  refine x_put X hC.1 hM hS (ci := 17) (C := RJ8) (T := TJ8) (N := 4) rfl in_J8 tyJ8 tyJ8_ok nmJ8 1 (by decide) q456 (fun _ h9 => h9) rfl rfl rfl dJ8_init_6 hp (fun M3 H locs hM hS hp => ?_)
  exact x_vret X hr hlk hM hS ⟨Nat.le_refl _, Nat.le_refl _⟩ dJ8_init_9 ⟨rfl, hp⟩
def P_J9_wordIndex (G : wG) (p1 : Int32) (M : wM) (Q : Int32 → wM → Prop) : Prop :=
  Q (p1 >>> ((6 : Int32) &&& 31)) M
set_option maxHeartbeats 4000000 in
set_option maxRecDepth 100000 in
theorem P_J9_wordIndex_ok {l : Launch} (hl0 : l.stackTraces = false) {G : wG} {p1 : Int32} {M : wM} {Q : Int32 → wM → Prop} (hp : P_J9_wordIndex G p1 M Q) : wMet l yJ9_wordIndex (ws_ yJ9_wordIndex cJ9_wordIndex 1 (Option.some Jvm.ClassFile.FieldType.int)) 12 400 G [.int p1] M 0 (wqI Q) wX0 := by
  refine vx_ofW (cc := cJ9_wordIndex) (maxL := 1) (ret := Option.some Jvm.ClassFile.FieldType.int) (by decide) rfl ?_
  intro p e s m args below meth c s₁ B hml hnt hv
  obtain ⟨rfl, hM, hK, hZ, hz⟩ := hv
  have hC : wC G s := ⟨hK, hZ, hz⟩
  have hx := B.exec
  have hb := B.bytes
  have hr := B.returns
  have hts := atoms_spec (ws := (ws_ yJ9_wordIndex cJ9_wordIndex 1 (Option.some Jvm.ClassFile.FieldType.int))) B.pre
  have hts : ∀ w ∈ lw_all, w.before _ s = true := fun w h => hts w (List.mem_cons_of_mem _ h)
  have hown : s.vm.findClass RJ9 = some m.cls := findClass_of_methodNamed B.named
  have hlk := B.notSynchronized
  have X : CallFix p m c cJ9_wordIndex 1 s ([.int p1] : List Value).toArray lw_all RJ9 := ⟨hx, hb, hml, hown, hts⟩
  have hS : va_S (wA G) s.heap s.heap [] := va_S.rf
  have hl := lv_entry ([.int p1]) (n := 1) (Nat.le_of_ble_eq_true rfl)
  rw [lg_entry_eq]
  generalize (lg_sl ([.int p1]) ++ List.replicate (1 - (lg_sl ([.int p1])).length) Slot.unset).toArray = ls at hl ⊢
  have hl : lv_has ls 1 [(0, .int p1)] := hl
  refine lv_iload_n hx hb dJ9_wordIndex_0 rfl (lv_at hl 0 rfl) ?_
  refine lv_bipush (v := 6) hx hb dJ9_wordIndex_1 (by decide) ?_
  refine lv_ishr hx hb dJ9_wordIndex_3 ?_
  exact x_iret X hr hlk hM hS ⟨Nat.le_refl _, Nat.le_refl _⟩ dJ9_wordIndex_4 ⟨_, rfl, hp⟩
def P_J9_initWords (G : wG) (t0 : Nat) (p1 : Int32) (b : Nat) (M : wM) (Q : wM → Prop) : Prop :=
  P_J9_wordIndex G (p1 - (1 : Int32)) M (fun v3 M1 => oNewa G M1 b .long (.inr (.inl (fun _ => 0))) (v3 + (1 : Int32)) (fun a4 M5 b6 => oPut G M5 t0 21 0 (.ref a4) (fun M7 => Q M7)))
set_option maxHeartbeats 4000000 in
set_option maxRecDepth 100000 in
theorem P_J9_initWords_ok {l : Launch} (hl0 : l.stackTraces = false) {G : wG} {t0 : Nat} {p1 : Int32} {b : Nat} {M : wM} {Q : wM → Prop} (hp : P_J9_initWords G t0 p1 b M Q) : wMet l yJ9_initWords (ws_ yJ9_initWords cJ9_initWords 2 (none)) 13 420 G [.ref t0, .int p1] M b (wqV Q) wX0 := by
  refine vx_ofW (cc := cJ9_initWords) (maxL := 2) (ret := none) (by decide) rfl ?_
  intro p e s m args below meth c s₁ B hml hnt hv
  obtain ⟨rfl, hM, hK, hZ, hz⟩ := hv
  have hC : wC G s := ⟨hK, hZ, hz⟩
  have hx := B.exec
  have hb := B.bytes
  have hr := B.returns
  have hts := atoms_spec (ws := (ws_ yJ9_initWords cJ9_initWords 2 (none))) B.pre
  have hts : ∀ w ∈ lw_all, w.before _ s = true := fun w h => hts w (List.mem_cons_of_mem _ h)
  have hown : s.vm.findClass RJ9 = some m.cls := findClass_of_methodNamed B.named
  have hlk := B.notSynchronized
  have X : CallFix p m c cJ9_initWords 2 s ([.ref t0, .int p1] : List Value).toArray lw_all RJ9 := ⟨hx, hb, hml, hown, hts⟩
  have hS : va_S (wA G) s.heap s.heap [] := va_S.rf
  have hl := lv_entry ([.ref t0, .int p1]) (n := 2) (Nat.le_of_ble_eq_true rfl)
  rw [lg_entry_eq]
  generalize (lg_sl ([.ref t0, .int p1]) ++ List.replicate (2 - (lg_sl ([.ref t0, .int p1])).length) Slot.unset).toArray = ls at hl ⊢
  have hl : lv_has ls 2 [(0, .ref t0), (1, .int p1)] := hl
  have hB : 0 + b ≤ ((headSpec (ws_ yJ9_initWords cJ9_initWords 2 (none)) ({ frames := 13, cells := b, slots := b, locals := 420 })).room).cells ∧ 0 + b ≤ ((headSpec (ws_ yJ9_initWords cJ9_initWords 2 (none)) ({ frames := 13, cells := b, slots := b, locals := 420 })).room).slots := ⟨Nat.le_of_eq (Nat.zero_add b), Nat.le_of_eq (Nat.zero_add b)⟩
  refine lv_aload_n hx hb dJ9_initWords_0 rfl (lv_at hl 0 rfl) ?_
  refine lv_iload_n hx hb dJ9_initWords_1 rfl (lv_at hl 1 rfl) ?_
  refine lv_iconst (v := 1) hx hb dJ9_initWords_2 (by decide) ?_
  refine lv_isub hx hb dJ9_initWords_3 ?_
  refine x_call0I (vx_runS (As := [.int (p1 - (1 : Int32))]) (rest := [.ref t0]) X (P_J9_wordIndex_ok (l := l) hl0 hp) (va_cwS 1 hts (lw_S q478 q479 q161 q480) rfl rfl rfl (by decide +kernel) ⟨Nat.le_of_ble_eq_true rfl, Nat.le_of_ble_eq_true rfl⟩) ⟨wPc.blind, w_pre hC hM hS _⟩ rfl rfl hl.1 rfl (lv_room (Nat.le_of_ble_eq_true rfl)) dJ9_initWords_4 (w_room0 hB)) hS (w_room0 hB) (fun _ _ _ _ _ _ h => False.elim h) (fun v3 M1 H locs hp hM hS => ?_)
  refine lv_iconst (v := 1) hx hb dJ9_initWords_7 (by decide) ?_
  refine lv_iadd hx hb dJ9_initWords_8 ?_
  refine x_newa X hC hM hS hB .long rfl q491 (by decide) (by decide) (fun _ h => h) (fun _ _ => rfl) dJ9_initWords_9 hp (fun a4 M5 H b6 cells slots hM hS hB hp => ?_)
  refine x_put X hC.1 hM hS (ci := 21) (C := RJ9) (T := TJ9) (N := 3) rfl in_J9 tyJ9 tyJ9_ok nmJ9 0 (by decide) q481 (fun _ h9 => h9) rfl rfl rfl dJ9_initWords_11 hp (fun M7 H locs hM hS hp => ?_)
  exact x_vret X hr hlk hM hS (w_fin hB) dJ9_initWords_14 ⟨rfl, hp⟩
def P_J9_init (G : wG) (t0 : Nat) (b : Nat) (M : wM) (Q : wM → Prop) : Prop :=
  oPut G M t0 21 1 (.int (0 : Int32)) (fun M1 => oPut G M1 t0 21 2 (.int (0 : Int32)) (fun M2 => oIs M2 t0 21 (∃ c4, c4 ≤ b ∧ P_J9_initWords G t0 (64 : Int32) c4 M2 (fun M3 => oPut G M3 t0 21 2 (.int (0 : Int32)) (fun M5 => Q M5)))))
set_option maxHeartbeats 4000000 in
set_option maxRecDepth 100000 in
theorem P_J9_init_ok {l : Launch} (hl0 : l.stackTraces = false) {G : wG} {t0 : Nat} {b : Nat} {M : wM} {Q : wM → Prop} (hp : P_J9_init G t0 b M Q) : wMet l yJ9_init (ws_ yJ9_init cJ9_init 1 (none)) 14 441 G [.ref t0] M b (wqV Q) wX0 := by
  refine vx_ofW (cc := cJ9_init) (maxL := 1) (ret := none) (by decide) rfl ?_
  intro p e s m args below meth c s₁ B hml hnt hv
  obtain ⟨rfl, hM, hK, hZ, hz⟩ := hv
  have hC : wC G s := ⟨hK, hZ, hz⟩
  have hx := B.exec
  have hb := B.bytes
  have hr := B.returns
  have hts := atoms_spec (ws := (ws_ yJ9_init cJ9_init 1 (none))) B.pre
  have hts : ∀ w ∈ lw_all, w.before _ s = true := fun w h => hts w (List.mem_cons_of_mem _ h)
  have hown : s.vm.findClass RJ9 = some m.cls := findClass_of_methodNamed B.named
  have hlk := B.notSynchronized
  have hin0 : meth.name = "<init>" := (name_of_methodNamed B.named B.method).1
  have X : CallFix p m c cJ9_init 1 s ([.ref t0] : List Value).toArray lw_all RJ9 := ⟨hx, hb, hml, hown, hts⟩
  have hS : va_S (wA G) s.heap s.heap [] := va_S.rf
  have hl := lv_entry ([.ref t0]) (n := 1) (Nat.le_of_ble_eq_true rfl)
  rw [lg_entry_eq]
  generalize (lg_sl ([.ref t0]) ++ List.replicate (1 - (lg_sl ([.ref t0])).length) Slot.unset).toArray = ls at hl ⊢
  have hl : lv_has ls 1 [(0, .ref t0)] := hl
  have hB : 0 + b ≤ ((headSpec (ws_ yJ9_init cJ9_init 1 (none)) ({ frames := 14, cells := b, slots := b, locals := 441 })).room).cells ∧ 0 + b ≤ ((headSpec (ws_ yJ9_init cJ9_init 1 (none)) ({ frames := 14, cells := b, slots := b, locals := 441 })).room).slots := ⟨Nat.le_of_eq (Nat.zero_add b), Nat.le_of_eq (Nat.zero_add b)⟩
  refine lv_aload_n hx hb dJ9_init_0 rfl (lv_at hl 0 rfl) ?_
  refine W.objInit hx hb hown (hts _ q473) (hts _ q218) (hts _ q219) rfl (by rw [hml]; exact hl.1) rfl dJ9_init_1 (Nat.le_of_ble_eq_true rfl) (Nat.le_of_ble_eq_true rfl) ?_
  refine W.eq (g2 := F0 m 4 ls []) rfl ?_
  refine lv_aload_n hx hb dJ9_init_4 rfl (lv_at hl 0 rfl) ?_
  refine lv_iconst (v := 0) hx hb dJ9_init_5 (by decide) ?_
  refine x_put X hC.1 hM hS (ci := 21) (C := RJ9) (T := TJ9) (N := 3) rfl in_J9 tyJ9 tyJ9_ok nmJ9 1 (by decide) q482 (fun _ h9 => h9) rfl rfl rfl dJ9_init_6 hp (fun M1 H locs hM hS hp => ?_)
  refine lv_aload_n hx hb dJ9_init_9 rfl (lv_at hl 0 rfl) ?_
  refine lv_iconst (v := 0) hx hb dJ9_init_10 (by decide) ?_
  refine x_put X hC.1 hM hS (ci := 21) (C := RJ9) (T := TJ9) (N := 3) rfl in_J9 tyJ9 tyJ9_ok nmJ9 2 (by decide) q483 (fun _ h9 => h9) rfl (by decide) (by decide) dJ9_init_11 hp (fun M2 H locs hM hS hp => ?_)
  refine lv_aload_n hx hb dJ9_init_14 rfl (lv_at hl 0 rfl) ?_
  refine lv_bipush (v := 64) hx hb dJ9_init_15 (by decide) ?_
  obtain ⟨hrec, hp⟩ := hp
  obtain ⟨c4, hc1, hp⟩ := hp
  refine x_callV (vx_runV (As := [.int (64 : Int32)]) (rest := []) X (P_J9_initWords_ok (l := l) hl0 hp) (cwV 1 hts (lw_V q474 q476 qs3 q161 q477) rfl rfl rfl (by decide +kernel) ⟨Nat.le_of_ble_eq_true rfl, Nat.le_of_ble_eq_true rfl⟩) ⟨wPc.blind, w_recv hC.1 hM (ci := 21) (q := (RJ9, TJ9, 3)) rfl hrec, w_pre hC hM hS _⟩ rfl rfl hl.1 rfl (lv_room (Nat.le_of_ble_eq_true rfl)) dJ9_init_17 (w_room hB hc1)) hS hB hc1 (fun _ _ _ _ _ _ h => False.elim h) (fun M3 H locs hp hM hS hB => ?_)
  refine lv_aload_n hx hb dJ9_init_20 rfl (lv_at hl 0 rfl) ?_
  refine lv_iconst (v := 0) hx hb dJ9_init_21 (by decide) ?_
  refine x_put X hC.1 hM hS (ci := 21) (C := RJ9) (T := TJ9) (N := 3) rfl in_J9 tyJ9 tyJ9_ok nmJ9 2 (by decide) q483 (fun _ h9 => h9) rfl (by decide) (by decide) dJ9_init_22 hp (fun M5 H locs hM hS hp => ?_)
  exact x_vret X hr hlk hM hS (w_fin hB) dJ9_init_25 ⟨rfl, hp⟩
def B_X2_init_82 (G : wG) (rec82 : Nat → Nat → Int32 → wM → Nat → Prop) (Q : wM → Prop) (x0 : Nat) (x1 : Nat) (x2 : Int32) (M : wM) (bq : Nat) : Prop :=
  oGetA M x1 2 0 (fun a1 => oIs M a1 16 (P_J2_size G a1 M (fun v4 M2 => oIf (v4 ≤ x2) (oIs M2 x0 1 (P_X2_refill G x0 M2 (fun M5 => Q M5))) (oGetA M2 x0 1 6 (fun a7 => oGetA M2 x1 2 0 (fun a8 => oIs M2 a8 16 (P_J2_get G a8 x2 M2 (fun r11 M9 => oCast M9 r11 6 (oRef r11 (fun a12 => oGetI M9 a12 6 0 (fun v13 => oIast G M9 a7 x2 v13 (fun M14 => rec82 x0 x1 (x2 + 1) M14 bq))))))))))))
def L_X2_init_82 (G : wG) (Q : wM → Prop) : Nat → Nat → Nat → Int32 → wM → Nat → Prop
  | 0 => fun _ _ _ _ _ => False
  | n + 1 => B_X2_init_82 G (L_X2_init_82 G Q n) Q
def P_X2_init (G : wG) (t0 : Nat) (p1 : Nat) (b : Nat) (M : wM) (Q : wM → Prop) : Prop :=
  oNew G M b 16 [.int 0, .null, .int 0] (fun a1 M2 b3 => P_J2_init G a1 M2 (fun M4 => oPut G M4 t0 1 1 (.ref a1) (fun M6 => oNew G M6 b3 16 [.int 0, .null, .int 0] (fun a7 M8 b9 => P_J2_init G a7 M8 (fun M10 => oPut G M10 t0 1 2 (.ref a7) (fun M12 => oNew G M12 b9 17 [.int 0, .int 0, .null, .null] (fun a13 M14 b15 => P_J8_init G a13 M14 (fun M16 => oPut G M16 t0 1 3 (.ref a13) (fun M18 => oNew G M18 b15 16 [.int 0, .null, .int 0] (fun a19 M20 b21 => P_J2_init G a19 M20 (fun M22 => oPut G M22 t0 1 4 (.ref a19) (fun M24 => oNew G M24 b21 21 [.null, .int 0, .int 0] (fun a25 M26 b27 => ∃ c29, c29 ≤ b27 ∧ P_J9_init G a25 c29 M26 (fun M28 => oPut G M28 t0 1 5 (.ref a25) (fun M30 => oNewa G M30 (b27 - c29) .int (.inl (fun _ => 0)) (6 : Int32) (fun a31 M32 b33 => oPut G M32 t0 1 6 (.ref a31) (fun M34 => oNewa G M34 b33 .int (.inl (fun _ => 0)) (16 : Int32) (fun a35 M36 b37 => oPut G M36 t0 1 7 (.ref a35) (fun M38 => oPut G M38 t0 1 0 (.ref p1) (fun M39 => ∃ n, L_X2_init_82 G Q n t0 p1 (0 : Int32) M39 b37))))))))))))))))))))
set_option maxHeartbeats 4000000 in
set_option maxRecDepth 100000 in
theorem P_X2_init_ok {l : Launch} (hl0 : l.stackTraces = false) {G : wG} {t0 : Nat} {p1 : Nat} {b : Nat} {M : wM} {Q : wM → Prop} (hp : P_X2_init G t0 p1 b M Q) : wMet l yX2_init (ws_ yX2_init cX2_init 3 (none)) 16 485 G [.ref t0, .ref p1] M b (wqV Q) wX0 := by
  refine vx_ofW (cc := cX2_init) (maxL := 3) (ret := none) (by decide) rfl ?_
  intro p e s m args below meth c s₁ B hml hnt hv
  obtain ⟨rfl, hM, hK, hZ, hz⟩ := hv
  have hC : wC G s := ⟨hK, hZ, hz⟩
  have hx := B.exec
  have hb := B.bytes
  have hr := B.returns
  have hts := atoms_spec (ws := (ws_ yX2_init cX2_init 3 (none))) B.pre
  have hts : ∀ w ∈ lw_all, w.before _ s = true := fun w h => hts w (List.mem_cons_of_mem _ h)
  have hown : s.vm.findClass RX2 = some m.cls := findClass_of_methodNamed B.named
  have hlk := B.notSynchronized
  have hin0 : meth.name = "<init>" := (name_of_methodNamed B.named B.method).1
  have X : CallFix p m c cX2_init 3 s ([.ref t0, .ref p1] : List Value).toArray lw_all RX2 := ⟨hx, hb, hml, hown, hts⟩
  have hS : va_S (wA G) s.heap s.heap [] := va_S.rf
  have hl := lv_entry ([.ref t0, .ref p1]) (n := 3) (Nat.le_of_ble_eq_true rfl)
  rw [lg_entry_eq]
  generalize (lg_sl ([.ref t0, .ref p1]) ++ List.replicate (3 - (lg_sl ([.ref t0, .ref p1])).length) Slot.unset).toArray = ls at hl ⊢
  have hl : lv_has ls 3 [(0, .ref t0), (1, .ref p1)] := hl
  have hB : 0 + b ≤ ((headSpec (ws_ yX2_init cX2_init 3 (none)) ({ frames := 16, cells := b, slots := b, locals := 485 })).room).cells ∧ 0 + b ≤ ((headSpec (ws_ yX2_init cX2_init 3 (none)) ({ frames := 16, cells := b, slots := b, locals := 485 })).room).slots := ⟨Nat.le_of_eq (Nat.zero_add b), Nat.le_of_eq (Nat.zero_add b)⟩
  have hB82 : ∀ (rec82 : Nat → Nat → Int32 → wM → Nat → Prop) (hrec82 : ∀ (x0 : Nat) (x1 : Nat) (x2 : Int32) (M : wM) (bq : Nat) (H : Heap) (locs : List Loc) (ls : Array Slot) (cells slots : Nat), rec82 x0 x1 x2 M bq → wR G M H → va_S (wA G) s.heap H locs → (cells + bq ≤ ((headSpec (ws_ yX2_init cX2_init 3 (none)) ({ frames := 16, cells := b, slots := b, locals := 485 })).room).cells ∧ slots + bq ≤ ((headSpec (ws_ yX2_init cX2_init 3 (none)) ({ frames := 16, cells := b, slots := b, locals := 485 })).room).slots) → lv_has ls 3 [(0, .ref x0), (1, .ref x1), (2, .int x2)] → W p l e (headSpec (ws_ yX2_init cX2_init 3 (none)) ({ frames := 16, cells := b, slots := b, locals := 485 })).room s m ([.ref t0, .ref p1] : List Value).toArray below meth c H locs cells slots (vx_MQ below (wQ G (wqV Q)) (wXC G wX0) ([.ref t0, .ref p1] : List Value).toArray s b b (wA G)) (F0 m 82 ls [])), ∀ (x0 : Nat) (x1 : Nat) (x2 : Int32) (M : wM) (bq : Nat) (H : Heap) (locs : List Loc) (ls : Array Slot) (cells slots : Nat), B_X2_init_82 G rec82 Q x0 x1 x2 M bq → wR G M H → va_S (wA G) s.heap H locs → (cells + bq ≤ ((headSpec (ws_ yX2_init cX2_init 3 (none)) ({ frames := 16, cells := b, slots := b, locals := 485 })).room).cells ∧ slots + bq ≤ ((headSpec (ws_ yX2_init cX2_init 3 (none)) ({ frames := 16, cells := b, slots := b, locals := 485 })).room).slots) → lv_has ls 3 [(0, .ref x0), (1, .ref x1), (2, .int x2)] → W p l e (headSpec (ws_ yX2_init cX2_init 3 (none)) ({ frames := 16, cells := b, slots := b, locals := 485 })).room s m ([.ref t0, .ref p1] : List Value).toArray below meth c H locs cells slots (vx_MQ below (wQ G (wqV Q)) (wXC G wX0) ([.ref t0, .ref p1] : List Value).toArray s b b (wA G)) (F0 m 82 ls []) := by
    intro rec82 hrec82 x0 x1 x2 M bq H locs ls cells slots hp hM hS hB hl
    refine lv_iload_n hx hb dX2_init_82 rfl (lv_at hl 2 rfl) ?_
    refine lv_aload_n hx hb dX2_init_83 rfl (lv_at hl 1 rfl) ?_
    refine x_getAN X hC.1 hM (ci := 2) (C := RX3) (T := TX3) (N := 8) rfl in_X3 0 (by decide) q396 (fun _ h9 => h9) dX2_init_84 hp (fun a1 hp => ?_)
    obtain ⟨hrec, hp⟩ := hp
    refine x_call0I5 (vx_runF (hC.1.1.1 16 (RJ2, TJ2, 3) rfl).2 (C := "java/util/ArrayList") (As := []) (rest := [.int x2]) X (P_J2_size_ok (l := l) hl0 hp) (va_cwF 0 hts (lw_app (w_mem4 q493 q496 q498 q153) (lw_meth q500)) rfl rfl rfl (wfw_13 hC.1) (by decide +kernel) ⟨Nat.le_of_ble_eq_true rfl, Nat.le_of_ble_eq_true rfl⟩) ⟨wPc.blind, w_recv hC.1 hM (ci := 16) (q := (RJ2, TJ2, 3)) rfl hrec, w_pre hC hM hS _⟩ rfl rfl hl.1 rfl (lv_room (Nat.le_of_ble_eq_true rfl)) dX2_init_87 (w_room0 hB)) hS (w_room0 hB) (fun _ _ _ _ _ _ h => False.elim h) (fun v4 M2 H locs hp hM hS => ?_)
    refine lv_icmp_ge (tgt := 123) hx hb dX2_init_92 (by decide) (fun hc => ?_) (fun hc => ?_)
    · have hp := oIf.t hp hc
      refine lv_aload_n hx hb dX2_init_123 rfl (lv_at hl 0 rfl) ?_
      obtain ⟨hrec, hp⟩ := hp
      refine x_call0V (vx_runV (As := []) (rest := []) X (P_X2_refill_ok (l := l) hl0 hp) (cwV 0 hts (lw_V q912 q914 qs8 q149 q915) rfl rfl rfl (by decide +kernel) ⟨Nat.le_of_ble_eq_true rfl, Nat.le_of_ble_eq_true rfl⟩) ⟨wPc.blind, w_recv hC.1 hM (ci := 1) (q := (RX2, TX2, 9)) rfl hrec, w_pre hC hM hS _⟩ rfl rfl hl.1 rfl (lv_room (Nat.le_of_ble_eq_true rfl)) dX2_init_124 (w_room0 hB)) hS (w_room0 hB) (fun _ _ _ _ _ _ h => False.elim h) (fun M5 H locs hp hM hS => ?_)
      exact x_vret X hr hlk hM hS (w_fin hB) dX2_init_127 ⟨rfl, hp⟩
    · have hp := oIf.f hp hc
      refine lv_aload_n hx hb dX2_init_95 rfl (lv_at hl 0 rfl) ?_
      refine x_getA X hC.1 hM (ci := 1) (C := RX2) (T := TX2) (N := 9) rfl in_X2 6 (by decide) q929 (fun _ h9 => h9) dX2_init_96 hp (fun a7 hp => ?_)
      refine lv_iload_n hx hb dX2_init_99 rfl (lv_at hl 2 rfl) ?_
      refine lv_aload_n hx hb dX2_init_100 rfl (lv_at hl 1 rfl) ?_
      refine x_getAN X hC.1 hM (ci := 2) (C := RX3) (T := TX3) (N := 8) rfl in_X3 0 (by decide) q396 (fun _ h9 => h9) dX2_init_101 hp (fun a8 hp => ?_)
      refine lv_iload_n hx hb dX2_init_104 rfl (lv_at hl 2 rfl) ?_
      obtain ⟨hrec, hp⟩ := hp
      refine x_call0R5 (vx_runF (hC.1.1.1 16 (RJ2, TJ2, 3) rfl).2 (C := "java/util/ArrayList") (As := [.int x2]) (rest := [.int x2, .ref a7]) X (P_J2_get_ok (l := l) hl0 hp) (va_cwF 1 hts (lw_app (w_mem4 q519 q522 q524 q153) (lw_meth q526)) rfl rfl rfl (wfw_8 hC.1) (by decide +kernel) ⟨Nat.le_of_ble_eq_true rfl, Nat.le_of_ble_eq_true rfl⟩) ⟨wPc.blind, w_recv hC.1 hM (ci := 16) (q := (RJ2, TJ2, 3)) rfl hrec, w_pre hC hM hS _⟩ rfl rfl hl.1 rfl (lv_room (Nat.le_of_ble_eq_true rfl)) dX2_init_105 (w_room0 hB)) hS (w_room0 hB) (fun _ _ _ _ _ _ h => False.elim h) (fun r11 M9 H locs hp hM hS => ?_)
      refine x_cast (r := r11) X hC.1 hM q911 (ci := 6) rfl (Or.inl rfl) dX2_init_110 hp (fun hp => ?_)
      obtain ⟨a12, ea, hqa12⟩ := hp
      subst ea
      have hp := hqa12
      refine x_getIN X hC.1 hM (ci := 6) (C := RX7) (T := TX7) (N := 4) rfl in_X7 0 (by decide) q1407 (fun _ h9 => h9) dX2_init_113 hp (fun v13 hp => ?_)
      refine x_iast X hC.1 hM hS dX2_init_116 hp (fun M14 H locs hM hS hp => ?_)
      refine lv_iinc (v := (x2 + 1)) (lv' := [(2, .int (x2 + 1)), (0, .ref x0), (1, .ref x1)]) hx hb dX2_init_117 hl (k := 2) rfl rfl (by decide) rfl (fun ls hl => ?_)
      refine lv_goto (tgt := 82) hx hb dX2_init_120 (by decide) ?_
      exact hrec82 _ _ _ _ _ _ _ _ _ _ hp hM hS hB (lv_sub hl [1, 2, 0] rfl)
  have hL82 : ∀ (n : Nat), ∀ (x0 : Nat) (x1 : Nat) (x2 : Int32) (M : wM) (bq : Nat) (H : Heap) (locs : List Loc) (ls : Array Slot) (cells slots : Nat), L_X2_init_82 G Q n x0 x1 x2 M bq → wR G M H → va_S (wA G) s.heap H locs → (cells + bq ≤ ((headSpec (ws_ yX2_init cX2_init 3 (none)) ({ frames := 16, cells := b, slots := b, locals := 485 })).room).cells ∧ slots + bq ≤ ((headSpec (ws_ yX2_init cX2_init 3 (none)) ({ frames := 16, cells := b, slots := b, locals := 485 })).room).slots) → lv_has ls 3 [(0, .ref x0), (1, .ref x1), (2, .int x2)] → W p l e (headSpec (ws_ yX2_init cX2_init 3 (none)) ({ frames := 16, cells := b, slots := b, locals := 485 })).room s m ([.ref t0, .ref p1] : List Value).toArray below meth c H locs cells slots (vx_MQ below (wQ G (wqV Q)) (wXC G wX0) ([.ref t0, .ref p1] : List Value).toArray s b b (wA G)) (F0 m 82 ls []) := by
    intro n
    induction n with
    | zero => intro _ _ _ _ _ _ _ _ _ _ hp; exact False.elim hp
    | succ n ih => intro x0 x1 x2 M bq H locs ls cells slots hp hM hS hB hl; exact hB82 (L_X2_init_82 G Q n) ih _ _ _ _ _ _ _ _ _ _ hp hM hS hB hl
  refine lv_aload_n hx hb dX2_init_0 rfl (lv_at hl 0 rfl) ?_
  refine W.objInit hx hb hown (hts _ q444) (hts _ q218) (hts _ q219) rfl (by rw [hml]; exact hl.1) rfl dX2_init_1 (Nat.le_of_ble_eq_true rfl) (Nat.le_of_ble_eq_true rfl) ?_
  refine W.eq (g2 := F0 m 4 ls []) rfl ?_
  refine lv_aload_n hx hb dX2_init_4 rfl (lv_at hl 0 rfl) ?_
  refine x_new X hC hM hS hB (ci := 16) (C := RJ2) (T := TJ2) (N := 3) rfl in_J2 tyJ2 tyJ2_ok q445 q229 q153 rfl (by decide) dX2_init_5 hp (fun a1 M2 H b3 cells slots hM hS hB hp => ?_)
  refine lv_dup hx hb dX2_init_8 rfl ?_
  refine x_call0V (vx_runI (As := []) (rest := [.ref a1, .ref t0]) X (P_J2_init_ok (l := l) hl0 hp) (cwI 0 hts (lw_meth q232) rfl rfl rfl (hts _ q153) (hts _ q446) (hts _ q231) rfl (by decide +kernel) ⟨Nat.le_of_ble_eq_true rfl, Nat.le_of_ble_eq_true rfl⟩) ⟨wPc.blind, w_pre hC hM hS _⟩ rfl rfl hl.1 rfl (lv_room (Nat.le_of_ble_eq_true rfl)) dX2_init_9 (w_room0 hB)) hS (w_room0 hB) (fun _ _ _ _ _ _ h => False.elim h) (fun M4 H locs hp hM hS => ?_)
  refine x_putF X hC.1 hM hS (ci := 1) (C := RX2) (T := TX2) (N := 9) rfl in_X2 tyX2 tyX2_ok nmX2 1 (by decide) q919 (fun _ h9 => h9) rfl hin0 rfl rfl rfl dX2_init_12 hp (fun M6 H locs hM hS hp => ?_)
  refine lv_aload_n hx hb dX2_init_15 rfl (lv_at hl 0 rfl) ?_
  refine x_new X hC hM hS hB (ci := 16) (C := RJ2) (T := TJ2) (N := 3) rfl in_J2 tyJ2 tyJ2_ok q445 q229 q153 rfl (by decide) dX2_init_16 hp (fun a7 M8 H b9 cells slots hM hS hB hp => ?_)
  refine lv_dup hx hb dX2_init_19 rfl ?_
  refine x_call0V (vx_runI (As := []) (rest := [.ref a7, .ref t0]) X (P_J2_init_ok (l := l) hl0 hp) (cwI 0 hts (lw_meth q232) rfl rfl rfl (hts _ q153) (hts _ q446) (hts _ q231) rfl (by decide +kernel) ⟨Nat.le_of_ble_eq_true rfl, Nat.le_of_ble_eq_true rfl⟩) ⟨wPc.blind, w_pre hC hM hS _⟩ rfl rfl hl.1 rfl (lv_room (Nat.le_of_ble_eq_true rfl)) dX2_init_20 (w_room0 hB)) hS (w_room0 hB) (fun _ _ _ _ _ _ h => False.elim h) (fun M10 H locs hp hM hS => ?_)
  refine x_putF X hC.1 hM hS (ci := 1) (C := RX2) (T := TX2) (N := 9) rfl in_X2 tyX2 tyX2_ok nmX2 2 (by decide) q921 (fun _ h9 => h9) rfl hin0 rfl rfl rfl dX2_init_23 hp (fun M12 H locs hM hS hp => ?_)
  refine lv_aload_n hx hb dX2_init_26 rfl (lv_at hl 0 rfl) ?_
  refine x_new X hC hM hS hB (ci := 17) (C := RJ8) (T := TJ8) (N := 4) rfl in_J8 tyJ8 tyJ8_ok q447 q448 q160 rfl (by decide) dX2_init_27 hp (fun a13 M14 H b15 cells slots hM hS hB hp => ?_)
  refine lv_dup hx hb dX2_init_30 rfl ?_
  refine x_call0V (vx_runI (As := []) (rest := [.ref a13, .ref t0]) X (P_J8_init_ok (l := l) hl0 hp) (cwI 0 hts (lw_meth q451) rfl rfl rfl (hts _ q160) (hts _ q449) (hts _ q450) rfl (by decide +kernel) ⟨Nat.le_of_ble_eq_true rfl, Nat.le_of_ble_eq_true rfl⟩) ⟨wPc.blind, w_pre hC hM hS _⟩ rfl rfl hl.1 rfl (lv_room (Nat.le_of_ble_eq_true rfl)) dX2_init_31 (w_room0 hB)) hS (w_room0 hB) (fun _ _ _ _ _ _ h => False.elim h) (fun M16 H locs hp hM hS => ?_)
  refine x_putF X hC.1 hM hS (ci := 1) (C := RX2) (T := TX2) (N := 9) rfl in_X2 tyX2 tyX2_ok nmX2 3 (by decide) q923 (fun _ h9 => h9) rfl hin0 rfl rfl rfl dX2_init_34 hp (fun M18 H locs hM hS hp => ?_)
  refine lv_aload_n hx hb dX2_init_37 rfl (lv_at hl 0 rfl) ?_
  refine x_new X hC hM hS hB (ci := 16) (C := RJ2) (T := TJ2) (N := 3) rfl in_J2 tyJ2 tyJ2_ok q445 q229 q153 rfl (by decide) dX2_init_38 hp (fun a19 M20 H b21 cells slots hM hS hB hp => ?_)
  refine lv_dup hx hb dX2_init_41 rfl ?_
  refine x_call0V (vx_runI (As := []) (rest := [.ref a19, .ref t0]) X (P_J2_init_ok (l := l) hl0 hp) (cwI 0 hts (lw_meth q232) rfl rfl rfl (hts _ q153) (hts _ q446) (hts _ q231) rfl (by decide +kernel) ⟨Nat.le_of_ble_eq_true rfl, Nat.le_of_ble_eq_true rfl⟩) ⟨wPc.blind, w_pre hC hM hS _⟩ rfl rfl hl.1 rfl (lv_room (Nat.le_of_ble_eq_true rfl)) dX2_init_42 (w_room0 hB)) hS (w_room0 hB) (fun _ _ _ _ _ _ h => False.elim h) (fun M22 H locs hp hM hS => ?_)
  refine x_putF X hC.1 hM hS (ci := 1) (C := RX2) (T := TX2) (N := 9) rfl in_X2 tyX2 tyX2_ok nmX2 4 (by decide) q925 (fun _ h9 => h9) rfl hin0 rfl rfl rfl dX2_init_45 hp (fun M24 H locs hM hS hp => ?_)
  refine lv_aload_n hx hb dX2_init_48 rfl (lv_at hl 0 rfl) ?_
  refine x_new X hC hM hS hB (ci := 21) (C := RJ9) (T := TJ9) (N := 3) rfl in_J9 tyJ9 tyJ9_ok q468 q469 q161 rfl (by decide) dX2_init_49 hp (fun a25 M26 H b27 cells slots hM hS hB hp => ?_)
  refine lv_dup hx hb dX2_init_52 rfl ?_
  obtain ⟨c29, hc1, hp⟩ := hp
  refine x_callV (vx_runI (As := []) (rest := [.ref a25, .ref t0]) X (P_J9_init_ok (l := l) hl0 hp) (cwI 0 hts (lw_meth q472) rfl rfl rfl (hts _ q161) (hts _ q470) (hts _ q471) rfl (by decide +kernel) ⟨Nat.le_of_ble_eq_true rfl, Nat.le_of_ble_eq_true rfl⟩) ⟨wPc.blind, w_pre hC hM hS _⟩ rfl rfl hl.1 rfl (lv_room (Nat.le_of_ble_eq_true rfl)) dX2_init_53 (w_room hB hc1)) hS hB hc1 (fun _ _ _ _ _ _ h => False.elim h) (fun M28 H locs hp hM hS hB => ?_)
  refine x_putF X hC.1 hM hS (ci := 1) (C := RX2) (T := TX2) (N := 9) rfl in_X2 tyX2 tyX2_ok nmX2 5 (by decide) q927 (fun _ h9 => h9) rfl hin0 rfl rfl rfl dX2_init_56 hp (fun M30 H locs hM hS hp => ?_)
  refine lv_aload_n hx hb dX2_init_59 rfl (lv_at hl 0 rfl) ?_
  refine lv_bipush (v := 6) hx hb dX2_init_60 (by decide) ?_
  refine x_newa X hC hM hS hB .int rfl q394 (by decide) (by decide) (fun _ h => h) (fun _ _ => rfl) dX2_init_62 hp (fun a31 M32 H b33 cells slots hM hS hB hp => ?_)
  refine x_putF X hC.1 hM hS (ci := 1) (C := RX2) (T := TX2) (N := 9) rfl in_X2 tyX2 tyX2_ok nmX2 6 (by decide) q929 (fun _ h9 => h9) rfl hin0 rfl rfl rfl dX2_init_64 hp (fun M34 H locs hM hS hp => ?_)
  refine lv_aload_n hx hb dX2_init_67 rfl (lv_at hl 0 rfl) ?_
  refine lv_bipush (v := 16) hx hb dX2_init_68 (by decide) ?_
  refine x_newa X hC hM hS hB .int rfl q394 (by decide) (by decide) (fun _ h => h) (fun _ _ => rfl) dX2_init_70 hp (fun a35 M36 H b37 cells slots hM hS hB hp => ?_)
  refine x_putF X hC.1 hM hS (ci := 1) (C := RX2) (T := TX2) (N := 9) rfl in_X2 tyX2 tyX2_ok nmX2 7 (by decide) q931 (fun _ h9 => h9) rfl hin0 rfl rfl rfl dX2_init_72 hp (fun M38 H locs hM hS hp => ?_)
  refine lv_aload_n hx hb dX2_init_75 rfl (lv_at hl 0 rfl) ?_
  refine lv_aload_n hx hb dX2_init_76 rfl (lv_at hl 1 rfl) ?_
  refine x_putF X hC.1 hM hS (ci := 1) (C := RX2) (T := TX2) (N := 9) rfl in_X2 tyX2 tyX2_ok nmX2 0 (by decide) q917 (fun _ h9 => h9) rfl hin0 rfl rfl rfl dX2_init_77 hp (fun M39 H locs hM hS hp => ?_)
  refine lv_iconst (v := 0) hx hb dX2_init_80 (by decide) ?_
  refine lv_istore_n (lv' := [(2, .int (0 : Int32)), (0, .ref t0), (1, .ref p1)]) hx hb dX2_init_81 rfl hl (by decide) rfl (fun ls hl => ?_)
  obtain ⟨n, hp⟩ := hp
  exact hL82 n _ _ _ _ _ _ _ _ _ _ hp hM hS hB (lv_sub hl [1, 2, 0] rfl)
def P_J0_init_J25 (G : wG) (t0 : Nat) (M : wM) (Q : wM → Prop) : Prop :=
  Q M
set_option maxHeartbeats 4000000 in
set_option maxRecDepth 100000 in
theorem P_J0_init_J25_ok {l : Launch} (hl0 : l.stackTraces = false) {G : wG} {t0 : Nat} {M : wM} {Q : wM → Prop} (hp : P_J0_init_J25 G t0 M Q) : wMet l yJ0_init (ws_ yJ0_init cJ0_init 1 (none)) 12 400 G [.ref t0] M 0 (wqV Q) wX0 := by
  refine vx_ofW (cc := cJ0_init) (maxL := 1) (ret := none) (by decide) rfl ?_
  intro p e s m args below meth c s₁ B hml hnt hv
  obtain ⟨rfl, hM, hK, hZ, hz⟩ := hv
  have hC : wC G s := ⟨hK, hZ, hz⟩
  have hx := B.exec
  have hb := B.bytes
  have hr := B.returns
  have hts := atoms_spec (ws := (ws_ yJ0_init cJ0_init 1 (none))) B.pre
  have hts : ∀ w ∈ lw_all, w.before _ s = true := fun w h => hts w (List.mem_cons_of_mem _ h)
  have hown : s.vm.findClass RJ0 = some m.cls := findClass_of_methodNamed B.named
  have hlk := B.notSynchronized
  have hin0 : meth.name = "<init>" := (name_of_methodNamed B.named B.method).1
  have X : CallFix p m c cJ0_init 1 s ([.ref t0] : List Value).toArray lw_all RJ0 := ⟨hx, hb, hml, hown, hts⟩
  have hS : va_S (wA G) s.heap s.heap [] := va_S.rf
  have hl := lv_entry ([.ref t0]) (n := 1) (Nat.le_of_ble_eq_true rfl)
  rw [lg_entry_eq]
  generalize (lg_sl ([.ref t0]) ++ List.replicate (1 - (lg_sl ([.ref t0])).length) Slot.unset).toArray = ls at hl ⊢
  have hl : lv_has ls 1 [(0, .ref t0)] := hl
  refine lv_aload_n hx hb dJ0_init_0 rfl (lv_at hl 0 rfl) ?_
  refine W.objInit hx hb hown (hts _ q239) (hts _ q218) (hts _ q219) rfl (by rw [hml]; exact hl.1) rfl dJ0_init_1 (Nat.le_of_ble_eq_true rfl) (Nat.le_of_ble_eq_true rfl) ?_
  refine W.eq (g2 := F0 m 4 ls []) rfl ?_
  exact x_vret X hr hlk hM hS ⟨Nat.le_refl _, Nat.le_refl _⟩ dJ0_init_4 ⟨rfl, hp⟩
def P_J25_init (G : wG) (t0 : Nat) (b : Nat) (M : wM) (Q : wM → Prop) : Prop :=
  P_J0_init_J25 G t0 M (fun M1 => oNewa G M1 b (.object "java/lang/Object") (.inr (.inr (.inr (.inr (fun _ => none))))) (17 : Int32) (fun a3 M4 b5 => oPut G M4 t0 22 0 (.ref a3) (fun M6 => Q M6)))
set_option maxHeartbeats 4000000 in
set_option maxRecDepth 100000 in
theorem P_J25_init_ok {l : Launch} (hl0 : l.stackTraces = false) {G : wG} {t0 : Nat} {b : Nat} {M : wM} {Q : wM → Prop} (hp : P_J25_init G t0 b M Q) : wMet l yJ25_init (ws_ yJ25_init cJ25_init 1 (none)) 13 420 G [.ref t0] M b (wqV Q) wX0 := by
  refine vx_ofW (cc := cJ25_init) (maxL := 1) (ret := none) (by decide) rfl ?_
  intro p e s m args below meth c s₁ B hml hnt hv
  obtain ⟨rfl, hM, hK, hZ, hz⟩ := hv
  have hC : wC G s := ⟨hK, hZ, hz⟩
  have hx := B.exec
  have hb := B.bytes
  have hr := B.returns
  have hts := atoms_spec (ws := (ws_ yJ25_init cJ25_init 1 (none))) B.pre
  have hts : ∀ w ∈ lw_all, w.before _ s = true := fun w h => hts w (List.mem_cons_of_mem _ h)
  have hown : s.vm.findClass RJ25 = some m.cls := findClass_of_methodNamed B.named
  have hlk := B.notSynchronized
  have hin0 : meth.name = "<init>" := (name_of_methodNamed B.named B.method).1
  have X : CallFix p m c cJ25_init 1 s ([.ref t0] : List Value).toArray lw_all RJ25 := ⟨hx, hb, hml, hown, hts⟩
  have hS : va_S (wA G) s.heap s.heap [] := va_S.rf
  have hl := lv_entry ([.ref t0]) (n := 1) (Nat.le_of_ble_eq_true rfl)
  rw [lg_entry_eq]
  generalize (lg_sl ([.ref t0]) ++ List.replicate (1 - (lg_sl ([.ref t0])).length) Slot.unset).toArray = ls at hl ⊢
  have hl : lv_has ls 1 [(0, .ref t0)] := hl
  have hB : 0 + b ≤ ((headSpec (ws_ yJ25_init cJ25_init 1 (none)) ({ frames := 13, cells := b, slots := b, locals := 420 })).room).cells ∧ 0 + b ≤ ((headSpec (ws_ yJ25_init cJ25_init 1 (none)) ({ frames := 13, cells := b, slots := b, locals := 420 })).room).slots := ⟨Nat.le_of_eq (Nat.zero_add b), Nat.le_of_eq (Nat.zero_add b)⟩
  refine lv_aload_n hx hb dJ25_init_0 rfl (lv_at hl 0 rfl) ?_
  refine x_call0V (vx_runI (As := []) (rest := []) X (P_J0_init_J25_ok (l := l) hl0 hp) (cwI 0 hts (lw_meth q238) rfl rfl rfl (hts _ q151) (hts _ q959) (hts _ q237) rfl (by decide +kernel) ⟨Nat.le_of_ble_eq_true rfl, Nat.le_of_ble_eq_true rfl⟩) ⟨wPc.blind, w_pre hC hM hS _⟩ rfl rfl hl.1 rfl (lv_room (Nat.le_of_ble_eq_true rfl)) dJ25_init_1 (w_room0 hB)) hS (w_room0 hB) (fun _ _ _ _ _ _ h => False.elim h) (fun M1 H locs hp hM hS => ?_)
  refine lv_aload_n hx hb dJ25_init_4 rfl (lv_at hl 0 rfl) ?_
  refine lv_bipush (v := 17) hx hb dJ25_init_5 (by decide) ?_
  refine x_newq X hC hM hS hB q960 hC.1.2.2.2.2.1.1 (by decide) dJ25_init_7 hp (fun a3 M4 H b5 cells slots hM hS hB hp => ?_)
  refine x_put X hC.1 hM hS (ci := 22) (C := RJ25) (T := TJ25) (N := 3) rfl in_J25 tyJ25 tyJ25_ok nmJ25 0 (by decide) q961 (fun _ h9 => h9) rfl rfl rfl dJ25_init_10 hp (fun M6 H locs hM hS hp => ?_)
  exact x_vret X hr hlk hM hS (w_fin hB) dJ25_init_13 ⟨rfl, hp⟩
def B_J17_init_J18_38 (G : wG) (Q : wM → Prop) (M : wM) (bq : Nat) : Prop :=
  Q M
def P_J17_init_J18 (G : wG) (t0 : Nat) (p1 : Int32) (b : Nat) (M : wM) (Q : wM → Prop) : Prop :=
  oIf ((1 : Int32) = 0) (False) (oNewa G M b .byte (.inl (fun _ => 0)) p1 (fun a1 M2 b3 => oPut G M2 t0 23 0 (.ref a1) (fun M4 => oPut G M4 t0 23 1 (.int (0 : Int32)) (fun M5 => B_J17_init_J18_38 G Q M5 b3))))
set_option maxHeartbeats 4000000 in
set_option maxRecDepth 100000 in
theorem P_J17_init_J18_ok {l : Launch} (hl0 : l.stackTraces = false) {G : wG} {t0 : Nat} {p1 : Int32} {b : Nat} {M : wM} {Q : wM → Prop} (hp : P_J17_init_J18 G t0 p1 b M Q) : wMet l yJ17_init (ws_ yJ17_init cJ17_init 2 (none)) 12 400 G [.ref t0, .int p1] M b (wqV Q) wX0 := by
  refine vx_ofW (cc := cJ17_init) (maxL := 2) (ret := none) (by decide) rfl ?_
  intro p e s m args below meth c s₁ B hml hnt hv
  obtain ⟨rfl, hM, hK, hZ, hz⟩ := hv
  have hC : wC G s := ⟨hK, hZ, hz⟩
  have hx := B.exec
  have hb := B.bytes
  have hr := B.returns
  have hts := atoms_spec (ws := (ws_ yJ17_init cJ17_init 2 (none))) B.pre
  have hts : ∀ w ∈ lw_all, w.before _ s = true := fun w h => hts w (List.mem_cons_of_mem _ h)
  have hown : s.vm.findClass RJ17 = some m.cls := findClass_of_methodNamed B.named
  have hlk := B.notSynchronized
  have hin0 : meth.name = "<init>" := (name_of_methodNamed B.named B.method).1
  have X : CallFix p m c cJ17_init 2 s ([.ref t0, .int p1] : List Value).toArray lw_all RJ17 := ⟨hx, hb, hml, hown, hts⟩
  have hS : va_S (wA G) s.heap s.heap [] := va_S.rf
  have hl := lv_entry ([.ref t0, .int p1]) (n := 2) (Nat.le_of_ble_eq_true rfl)
  rw [lg_entry_eq]
  generalize (lg_sl ([.ref t0, .int p1]) ++ List.replicate (2 - (lg_sl ([.ref t0, .int p1])).length) Slot.unset).toArray = ls at hl ⊢
  have hl : lv_has ls 2 [(0, .ref t0), (1, .int p1)] := hl
  have hB : 0 + b ≤ ((headSpec (ws_ yJ17_init cJ17_init 2 (none)) ({ frames := 12, cells := b, slots := b, locals := 400 })).room).cells ∧ 0 + b ≤ ((headSpec (ws_ yJ17_init cJ17_init 2 (none)) ({ frames := 12, cells := b, slots := b, locals := 400 })).room).slots := ⟨Nat.le_of_eq (Nat.zero_add b), Nat.le_of_eq (Nat.zero_add b)⟩
  have hB38 : ∀ (M : wM) (bq : Nat) (H : Heap) (locs : List Loc) (ls : Array Slot) (cells slots : Nat), B_J17_init_J18_38 G Q M bq → wR G M H → va_S (wA G) s.heap H locs → (cells + bq ≤ ((headSpec (ws_ yJ17_init cJ17_init 2 (none)) ({ frames := 12, cells := b, slots := b, locals := 400 })).room).cells ∧ slots + bq ≤ ((headSpec (ws_ yJ17_init cJ17_init 2 (none)) ({ frames := 12, cells := b, slots := b, locals := 400 })).room).slots) → lv_has ls 2 [] → W p l e (headSpec (ws_ yJ17_init cJ17_init 2 (none)) ({ frames := 12, cells := b, slots := b, locals := 400 })).room s m ([.ref t0, .int p1] : List Value).toArray below meth c H locs cells slots (vx_MQ below (wQ G (wqV Q)) (wXC G wX0) ([.ref t0, .int p1] : List Value).toArray s b b (wA G)) (F0 m 38 ls []) := by
    intro M bq H locs ls cells slots hp hM hS hB hl
    exact x_vret X hr hlk hM hS (w_fin hB) dJ17_init_38 ⟨rfl, hp⟩
  refine lv_aload_n hx hb dJ17_init_0 rfl (lv_at hl 0 rfl) ?_
  refine W.objInit hx hb hown (hts _ q606) (hts _ q218) (hts _ q219) rfl (by rw [hml]; exact hl.1) rfl dJ17_init_1 (Nat.le_of_ble_eq_true rfl) (Nat.le_of_ble_eq_true rfl) ?_
  refine W.eq (g2 := F0 m 4 ls []) rfl ?_
  refine x_gets X hC hS (C := "java/lang/String") (n := "COMPACT_STRINGS") (d := "Z") (v := .inl 1) (List.mem_of_getElem? (i := 0) rfl) q607 (fun _ h9 => h9) dJ17_init_4 ?_
  refine lv_if_eq (tgt := 25) hx hb dJ17_init_7 (by decide) (fun hc => ?_) (fun hc => ?_)
  · have hp := oIf.t hp hc
    exact hp.elim
  · have hp := oIf.f hp hc
    refine lv_aload_n hx hb dJ17_init_10 rfl (lv_at hl 0 rfl) ?_
    refine lv_iload_n hx hb dJ17_init_11 rfl (lv_at hl 1 rfl) ?_
    refine x_newa X hC hM hS hB .byte rfl q630 (by decide) (by decide) (fun _ h => h) (fun _ _ => rfl) dJ17_init_12 hp (fun a1 M2 H b3 cells slots hM hS hB hp => ?_)
    refine x_put X hC.1 hM hS (ci := 23) (C := RJ18) (T := TJ18) (N := 4) rfl in_J18 tyJ18 tyJ18_ok nmJ18 0 (by decide) q616 (fun _ h9 => h9) rfl rfl rfl dJ17_init_14 hp (fun M4 H locs hM hS hp => ?_)
    refine lv_aload_n hx hb dJ17_init_17 rfl (lv_at hl 0 rfl) ?_
    refine lv_iconst (v := 0) hx hb dJ17_init_18 (by decide) ?_
    refine x_put X hC.1 hM hS (ci := 23) (C := RJ18) (T := TJ18) (N := 4) rfl in_J18 tyJ18 tyJ18_ok nmJ18 1 (by decide) q617 (fun _ h9 => h9) rfl (by decide) (by decide) dJ17_init_19 hp (fun M5 H locs hM hS hp => ?_)
    refine lv_goto (tgt := 38) hx hb dJ17_init_22 (by decide) ?_
    exact hB38 _ _ _ _ _ _ _ hp hM hS hB (lv_sub hl [] rfl)
def P_J18_init (G : wG) (t0 : Nat) (b : Nat) (M : wM) (Q : wM → Prop) : Prop :=
  ∃ c2, c2 ≤ b ∧ P_J17_init_J18 G t0 (16 : Int32) c2 M (fun M1 => Q M1)
set_option maxHeartbeats 4000000 in
set_option maxRecDepth 100000 in
theorem P_J18_init_ok {l : Launch} (hl0 : l.stackTraces = false) {G : wG} {t0 : Nat} {b : Nat} {M : wM} {Q : wM → Prop} (hp : P_J18_init G t0 b M Q) : wMet l yJ18_init (ws_ yJ18_init cJ18_init 1 (none)) 13 421 G [.ref t0] M b (wqV Q) wX0 := by
  refine vx_ofW (cc := cJ18_init) (maxL := 1) (ret := none) (by decide) rfl ?_
  intro p e s m args below meth c s₁ B hml hnt hv
  obtain ⟨rfl, hM, hK, hZ, hz⟩ := hv
  have hC : wC G s := ⟨hK, hZ, hz⟩
  have hx := B.exec
  have hb := B.bytes
  have hr := B.returns
  have hts := atoms_spec (ws := (ws_ yJ18_init cJ18_init 1 (none))) B.pre
  have hts : ∀ w ∈ lw_all, w.before _ s = true := fun w h => hts w (List.mem_cons_of_mem _ h)
  have hown : s.vm.findClass RJ18 = some m.cls := findClass_of_methodNamed B.named
  have hlk := B.notSynchronized
  have hin0 : meth.name = "<init>" := (name_of_methodNamed B.named B.method).1
  have X : CallFix p m c cJ18_init 1 s ([.ref t0] : List Value).toArray lw_all RJ18 := ⟨hx, hb, hml, hown, hts⟩
  have hS : va_S (wA G) s.heap s.heap [] := va_S.rf
  have hl := lv_entry ([.ref t0]) (n := 1) (Nat.le_of_ble_eq_true rfl)
  rw [lg_entry_eq]
  generalize (lg_sl ([.ref t0]) ++ List.replicate (1 - (lg_sl ([.ref t0])).length) Slot.unset).toArray = ls at hl ⊢
  have hl : lv_has ls 1 [(0, .ref t0)] := hl
  have hB : 0 + b ≤ ((headSpec (ws_ yJ18_init cJ18_init 1 (none)) ({ frames := 13, cells := b, slots := b, locals := 421 })).room).cells ∧ 0 + b ≤ ((headSpec (ws_ yJ18_init cJ18_init 1 (none)) ({ frames := 13, cells := b, slots := b, locals := 421 })).room).slots := ⟨Nat.le_of_eq (Nat.zero_add b), Nat.le_of_eq (Nat.zero_add b)⟩
  refine lv_aload_n hx hb dJ18_init_0 rfl (lv_at hl 0 rfl) ?_
  refine lv_bipush (v := 16) hx hb dJ18_init_1 (by decide) ?_
  obtain ⟨c2, hc1, hp⟩ := hp
  refine x_callV (vx_runI (As := [.int (16 : Int32)]) (rest := []) X (P_J17_init_J18_ok (l := l) hl0 hp) (cwI 1 hts (lw_meth q605) rfl rfl rfl (hts _ q169) (hts _ q603) (hts _ q604) rfl (by decide +kernel) ⟨Nat.le_of_ble_eq_true rfl, Nat.le_of_ble_eq_true rfl⟩) ⟨wPc.blind, w_pre hC hM hS _⟩ rfl rfl hl.1 rfl (lv_room (Nat.le_of_ble_eq_true rfl)) dJ18_init_3 (w_room hB hc1)) hS hB hc1 (fun _ _ _ _ _ _ h => False.elim h) (fun M1 H locs hp hM hS hB => ?_)
  exact x_vret X hr hlk hM hS (w_fin hB) dJ18_init_6 ⟨rfl, hp⟩
def P_X1_init (G : wG) (t0 : Nat) (b : Nat) (M : wM) (Q : wM → Prop) : Prop :=
  oNew G M b 1 [.null, .null, .null, .null, .null, .null, .null, .null, .int 0] (fun a1 M2 b3 => oNew G M2 b3 2 [.null, .null, .null, .null, .null, .int 0, .int 0, .int 0] (fun a4 M5 b6 => ∃ c8, c8 ≤ b6 ∧ P_X3_init G a4 c8 M5 (fun M7 => ∃ c10, c10 ≤ (b6 - c8) ∧ P_X2_init G a1 a4 c10 M7 (fun M9 => oPut G M9 t0 0 0 (.ref a1) (fun M11 => oNew G M11 ((b6 - c8) - c10) 22 [.null, .int 0, .int 0] (fun a12 M13 b14 => ∃ c16, c16 ≤ b14 ∧ P_J25_init G a12 c16 M13 (fun M15 => oPut G M15 t0 0 2 (.ref a12) (fun M17 => oNewa G M17 (b14 - c16) .byte (.inl (fun _ => 0)) (900 : Int32) (fun a18 M19 b20 => oPut G M19 t0 0 3 (.ref a18) (fun M21 => oPut G M21 t0 0 6 (.int (-1 : Int32)) (fun M22 => oNew G M22 b20 23 [.null, .int 0, .int 0, .int 0] (fun a23 M24 b25 => ∃ c27, c27 ≤ b25 ∧ P_J18_init G a23 c27 M24 (fun M26 => oPut G M26 t0 0 7 (.ref a23) (fun M28 => Q M28))))))))))))))
set_option maxHeartbeats 4000000 in
set_option maxRecDepth 100000 in
theorem P_X1_init_ok {l : Launch} (hl0 : l.stackTraces = false) {G : wG} {t0 : Nat} {b : Nat} {M : wM} {Q : wM → Prop} (hp : P_X1_init G t0 b M Q) : wMet l yX1_init (ws_ yX1_init cX1_init 1 (none)) 19 553 G [.ref t0] M b (wqV Q) wX0 := by
  refine vx_ofW (cc := cX1_init) (maxL := 1) (ret := none) (by decide) rfl ?_
  intro p e s m args below meth c s₁ B hml hnt hv
  obtain ⟨rfl, hM, hK, hZ, hz⟩ := hv
  have hC : wC G s := ⟨hK, hZ, hz⟩
  have hx := B.exec
  have hb := B.bytes
  have hr := B.returns
  have hts := atoms_spec (ws := (ws_ yX1_init cX1_init 1 (none))) B.pre
  have hts : ∀ w ∈ lw_all, w.before _ s = true := fun w h => hts w (List.mem_cons_of_mem _ h)
  have hown : s.vm.findClass RX1 = some m.cls := findClass_of_methodNamed B.named
  have hlk := B.notSynchronized
  have hin0 : meth.name = "<init>" := (name_of_methodNamed B.named B.method).1
  have X : CallFix p m c cX1_init 1 s ([.ref t0] : List Value).toArray lw_all RX1 := ⟨hx, hb, hml, hown, hts⟩
  have hS : va_S (wA G) s.heap s.heap [] := va_S.rf
  have hl := lv_entry ([.ref t0]) (n := 1) (Nat.le_of_ble_eq_true rfl)
  rw [lg_entry_eq]
  generalize (lg_sl ([.ref t0]) ++ List.replicate (1 - (lg_sl ([.ref t0])).length) Slot.unset).toArray = ls at hl ⊢
  have hl : lv_has ls 1 [(0, .ref t0)] := hl
  have hB : 0 + b ≤ ((headSpec (ws_ yX1_init cX1_init 1 (none)) ({ frames := 19, cells := b, slots := b, locals := 553 })).room).cells ∧ 0 + b ≤ ((headSpec (ws_ yX1_init cX1_init 1 (none)) ({ frames := 19, cells := b, slots := b, locals := 553 })).room).slots := ⟨Nat.le_of_eq (Nat.zero_add b), Nat.le_of_eq (Nat.zero_add b)⟩
  refine lv_aload_n hx hb dX1_init_0 rfl (lv_at hl 0 rfl) ?_
  refine W.objInit hx hb hown (hts _ q217) (hts _ q218) (hts _ q219) rfl (by rw [hml]; exact hl.1) rfl dX1_init_1 (Nat.le_of_ble_eq_true rfl) (Nat.le_of_ble_eq_true rfl) ?_
  refine W.eq (g2 := F0 m 4 ls []) rfl ?_
  refine lv_aload_n hx hb dX1_init_4 rfl (lv_at hl 0 rfl) ?_
  refine x_new X hC hM hS hB (ci := 1) (C := RX2) (T := TX2) (N := 9) rfl in_X2 tyX2 tyX2_ok q220 q221 q149 rfl (by decide) dX1_init_5 hp (fun a1 M2 H b3 cells slots hM hS hB hp => ?_)
  refine lv_dup hx hb dX1_init_8 rfl ?_
  refine x_new X hC hM hS hB (ci := 2) (C := RX3) (T := TX3) (N := 8) rfl in_X3 tyX3 tyX3_ok q222 q223 q150 rfl (by decide) dX1_init_9 hp (fun a4 M5 H b6 cells slots hM hS hB hp => ?_)
  refine lv_dup hx hb dX1_init_12 rfl ?_
  obtain ⟨c8, hc1, hp⟩ := hp
  refine x_callV (vx_runI (As := []) (rest := [.ref a4, .ref a1, .ref a1, .ref t0]) X (P_X3_init_ok (l := l) hl0 hp) (cwI 0 hts (lw_meth q226) rfl rfl rfl (hts _ q150) (hts _ q224) (hts _ q225) rfl (by decide +kernel) ⟨Nat.le_of_ble_eq_true rfl, Nat.le_of_ble_eq_true rfl⟩) ⟨wPc.blind, w_pre hC hM hS _⟩ rfl rfl hl.1 rfl (lv_room (Nat.le_of_ble_eq_true rfl)) dX1_init_13 (w_room hB hc1)) hS hB hc1 (fun _ _ _ _ _ _ h => False.elim h) (fun M7 H locs hp hM hS hB => ?_)
  obtain ⟨c10, hc1, hp⟩ := hp
  refine x_callV (vx_runI (As := [.ref a4]) (rest := [.ref a1, .ref t0]) X (P_X2_init_ok (l := l) hl0 hp) (cwI 1 hts (lw_meth q443) rfl rfl rfl (hts _ q149) (hts _ q441) (hts _ q442) rfl (by decide +kernel) ⟨Nat.le_of_ble_eq_true rfl, Nat.le_of_ble_eq_true rfl⟩) ⟨wPc.blind, w_pre hC hM hS _⟩ rfl rfl hl.1 rfl (lv_room (Nat.le_of_ble_eq_true rfl)) dX1_init_16 (w_room hB hc1)) hS hB hc1 (fun _ _ _ _ _ _ h => False.elim h) (fun M9 H locs hp hM hS hB => ?_)
  refine x_put X hC.1 hM hS (ci := 0) (C := RX1) (T := TX1) (N := 8) rfl in_X1 tyX1 tyX1_ok nmX1 0 (by decide) q973 (fun _ h9 => h9) rfl rfl rfl dX1_init_19 hp (fun M11 H locs hM hS hp => ?_)
  refine lv_aload_n hx hb dX1_init_22 rfl (lv_at hl 0 rfl) ?_
  refine x_new X hC hM hS hB (ci := 22) (C := RJ25) (T := TJ25) (N := 3) rfl in_J25 tyJ25 tyJ25_ok q954 q955 q177 rfl (by decide) dX1_init_23 hp (fun a12 M13 H b14 cells slots hM hS hB hp => ?_)
  refine lv_dup hx hb dX1_init_26 rfl ?_
  obtain ⟨c16, hc1, hp⟩ := hp
  refine x_callV (vx_runI (As := []) (rest := [.ref a12, .ref t0]) X (P_J25_init_ok (l := l) hl0 hp) (cwI 0 hts (lw_meth q958) rfl rfl rfl (hts _ q177) (hts _ q956) (hts _ q957) rfl (by decide +kernel) ⟨Nat.le_of_ble_eq_true rfl, Nat.le_of_ble_eq_true rfl⟩) ⟨wPc.blind, w_pre hC hM hS _⟩ rfl rfl hl.1 rfl (lv_room (Nat.le_of_ble_eq_true rfl)) dX1_init_27 (w_room hB hc1)) hS hB hc1 (fun _ _ _ _ _ _ h => False.elim h) (fun M15 H locs hp hM hS hB => ?_)
  refine x_putF X hC.1 hM hS (ci := 0) (C := RX1) (T := TX1) (N := 8) rfl in_X1 tyX1 tyX1_ok nmX1 2 (by decide) q975 (fun _ h9 => h9) rfl hin0 rfl rfl rfl dX1_init_30 hp (fun M17 H locs hM hS hp => ?_)
  refine lv_aload_n hx hb dX1_init_33 rfl (lv_at hl 0 rfl) ?_
  refine lv_sipush (v := 900) hx hb dX1_init_34 (by decide) ?_
  refine x_newa X hC hM hS hB .byte rfl q630 (by decide) (by decide) (fun _ h => h) (fun _ _ => rfl) dX1_init_37 hp (fun a18 M19 H b20 cells slots hM hS hB hp => ?_)
  refine x_putF X hC.1 hM hS (ci := 0) (C := RX1) (T := TX1) (N := 8) rfl in_X1 tyX1 tyX1_ok nmX1 3 (by decide) q976 (fun _ h9 => h9) rfl hin0 rfl rfl rfl dX1_init_39 hp (fun M21 H locs hM hS hp => ?_)
  refine lv_aload_n hx hb dX1_init_42 rfl (lv_at hl 0 rfl) ?_
  refine lv_iconst (v := (-1)) hx hb dX1_init_43 (by decide) ?_
  refine x_put X hC.1 hM hS (ci := 0) (C := RX1) (T := TX1) (N := 8) rfl in_X1 tyX1 tyX1_ok nmX1 6 (by decide) q981 (fun _ h9 => h9) rfl rfl rfl dX1_init_44 hp (fun M22 H locs hM hS hp => ?_)
  refine lv_aload_n hx hb dX1_init_47 rfl (lv_at hl 0 rfl) ?_
  refine x_new X hC hM hS hB (ci := 23) (C := RJ18) (T := TJ18) (N := 4) rfl in_J18 tyJ18 tyJ18_ok q971 q599 q170 rfl (by decide) dX1_init_48 hp (fun a23 M24 H b25 cells slots hM hS hB hp => ?_)
  refine lv_dup hx hb dX1_init_51 rfl ?_
  obtain ⟨c27, hc1, hp⟩ := hp
  refine x_callV (vx_runI (As := []) (rest := [.ref a23, .ref t0]) X (P_J18_init_ok (l := l) hl0 hp) (cwI 0 hts (lw_meth q602) rfl rfl rfl (hts _ q170) (hts _ q972) (hts _ q601) rfl (by decide +kernel) ⟨Nat.le_of_ble_eq_true rfl, Nat.le_of_ble_eq_true rfl⟩) ⟨wPc.blind, w_pre hC hM hS _⟩ rfl rfl hl.1 rfl (lv_room (Nat.le_of_ble_eq_true rfl)) dX1_init_52 (w_room hB hc1)) hS hB hc1 (fun _ _ _ _ _ _ h => False.elim h) (fun M26 H locs hp hM hS hB => ?_)
  refine x_putF X hC.1 hM hS (ci := 0) (C := RX1) (T := TX1) (N := 8) rfl in_X1 tyX1 tyX1_ok nmX1 7 (by decide) q982 (fun _ h9 => h9) rfl hin0 rfl rfl rfl dX1_init_55 hp (fun M28 H locs hM hS hp => ?_)
  exact x_vret X hr hlk hM hS (w_fin hB) dX1_init_58 ⟨rfl, hp⟩

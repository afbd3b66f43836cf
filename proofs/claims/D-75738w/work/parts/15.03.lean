set_option maxRecDepth 100000
def B_X2_runningAt_63 (G : wG) (rec4 : Nat → Int32 → Int32 → Int32 → wM → Prop) (Q : Int32 → wM → Prop) (x0 : Nat) (x1 : Int32) (x2 : Int32) (x3 : Int32) (M : wM) : Prop :=
  rec4 x0 x1 x2 (x3 + 1) M
def B_X2_runningAt_4 (G : wG) (rec4 : Nat → Int32 → Int32 → Int32 → wM → Prop) (Q : Int32 → wM → Prop) (x0 : Nat) (x1 : Int32) (x2 : Int32) (x3 : Int32) (M : wM) : Prop :=
  oGetA M x0 1 2 (fun a1 => oIs M a1 16 (P_J2_size G a1 M (fun v4 M2 => oIf (v4 ≤ x3) (Q x2 M2) (oGetA M2 x0 1 2 (fun a5 => oIs M2 a5 16 (P_J2_get G a5 x3 M2 (fun r8 M6 => oCast M6 r8 10 (oRef r8 (fun a9 => oGetI M6 a9 10 0 (fun v10 => oIf (v10 = x1) (oGetA M6 x0 1 2 (fun a11 => oIs M6 a11 16 (P_J2_get G a11 x3 M6 (fun r14 M12 => oCast M12 r14 10 (oGetI M12 x0 1 8 (fun v15 => oRef r14 (fun a16 => oIs M12 a16 10 (P_X10_runs_X13 G a16 v15 M12 (fun r19 M17 => oIf (r19 = true) (B_X2_runningAt_63 G rec4 Q x0 x1 (x2 + 1) x3 M17) (B_X2_runningAt_63 G rec4 Q x0 x1 x2 x3 M17)))))))))) (B_X2_runningAt_63 G rec4 Q x0 x1 x2 x3 M6)))))))))))
def L_X2_runningAt_4 (G : wG) (Q : Int32 → wM → Prop) : Nat → Nat → Int32 → Int32 → Int32 → wM → Prop
  | 0 => fun _ _ _ _ _ => False
  | n + 1 => B_X2_runningAt_4 G (L_X2_runningAt_4 G Q n) Q
def P_X2_runningAt (G : wG) (t0 : Nat) (p1 : Int32) (M : wM) (Q : Int32 → wM → Prop) : Prop :=
  ∃ n, L_X2_runningAt_4 G Q n t0 p1 (0 : Int32) (0 : Int32) M
set_option maxHeartbeats 4000000 in
set_option maxRecDepth 100000 in
theorem P_X2_runningAt_ok {l : Launch} (hl0 : l.stackTraces = false) {G : wG} {t0 : Nat} {p1 : Int32} {M : wM} {Q : Int32 → wM → Prop} (hp : P_X2_runningAt G t0 p1 M Q) : wMet l yX2_runningAt (ws_ yX2_runningAt cX2_runningAt 4 (Option.some Jvm.ClassFile.FieldType.int)) 15 464 G [.ref t0, .int p1] M 0 (wqI Q) wX0 := by
  refine vx_ofW (cc := cX2_runningAt) (maxL := 4) (ret := Option.some Jvm.ClassFile.FieldType.int) (by decide) rfl ?_
  intro p e s m args below meth c s₁ B hml hnt hv
  obtain ⟨rfl, hM, hK, hZ, hz⟩ := hv
  have hC : wC G s := ⟨hK, hZ, hz⟩
  have hx := B.exec
  have hb := B.bytes
  have hr := B.returns
  have hts := atoms_spec (ws := (ws_ yX2_runningAt cX2_runningAt 4 (Option.some Jvm.ClassFile.FieldType.int))) B.pre
  have hts : ∀ w ∈ lw_all, w.before _ s = true := fun w h => hts w (List.mem_cons_of_mem _ h)
  have hown : s.vm.findClass RX2 = some m.cls := findClass_of_methodNamed B.named
  have hlk := B.notSynchronized
  have X : CallFix p m c cX2_runningAt 4 s ([.ref t0, .int p1] : List Value).toArray lw_all RX2 := ⟨hx, hb, hml, hown, hts⟩
  have hS : va_S (wA G) s.heap s.heap [] := va_S.rf
  have hl := lv_entry ([.ref t0, .int p1]) (n := 4) (Nat.le_of_ble_eq_true rfl)
  rw [lg_entry_eq]
  generalize (lg_sl ([.ref t0, .int p1]) ++ List.replicate (4 - (lg_sl ([.ref t0, .int p1])).length) Slot.unset).toArray = ls at hl ⊢
  have hl : lv_has ls 4 [(0, .ref t0), (1, .int p1)] := hl
  have hB63 : ∀ (rec4 : Nat → Int32 → Int32 → Int32 → wM → Prop) (hrec4 : ∀ (x0 : Nat) (x1 : Int32) (x2 : Int32) (x3 : Int32) (M : wM) (H : Heap) (locs : List Loc) (ls : Array Slot), rec4 x0 x1 x2 x3 M → wR G M H → va_S (wA G) s.heap H locs → lv_has ls 4 [(0, .ref x0), (1, .int x1), (2, .int x2), (3, .int x3)] → W p l e (headSpec (ws_ yX2_runningAt cX2_runningAt 4 (Option.some Jvm.ClassFile.FieldType.int)) ({ frames := 15, cells := 0, slots := 0, locals := 464 })).room s m ([.ref t0, .int p1] : List Value).toArray below meth c H locs 0 0 (vx_MQ below (wQ G (wqI Q)) (wXC G wX0) ([.ref t0, .int p1] : List Value).toArray s 0 0 (wA G)) (F0 m 4 ls [])), ∀ (x0 : Nat) (x1 : Int32) (x2 : Int32) (x3 : Int32) (M : wM) (H : Heap) (locs : List Loc) (ls : Array Slot), B_X2_runningAt_63 G rec4 Q x0 x1 x2 x3 M → wR G M H → va_S (wA G) s.heap H locs → lv_has ls 4 [(0, .ref x0), (1, .int x1), (2, .int x2), (3, .int x3)] → W p l e (headSpec (ws_ yX2_runningAt cX2_runningAt 4 (Option.some Jvm.ClassFile.FieldType.int)) ({ frames := 15, cells := 0, slots := 0, locals := 464 })).room s m ([.ref t0, .int p1] : List Value).toArray below meth c H locs 0 0 (vx_MQ below (wQ G (wqI Q)) (wXC G wX0) ([.ref t0, .int p1] : List Value).toArray s 0 0 (wA G)) (F0 m 63 ls []) := by
    intro rec4 hrec4 x0 x1 x2 x3 M H locs ls hp hM hS hl
    refine lv_iinc (v := (x3 + 1)) (lv' := [(3, .int (x3 + 1)), (0, .ref x0), (1, .int x1), (2, .int x2)]) hx hb dX2_runningAt_63 hl (k := 3) rfl rfl (by decide) rfl (fun ls hl => ?_)
    refine lv_goto (tgt := 4) hx hb dX2_runningAt_66 (by decide) ?_
    exact hrec4 _ _ _ _ _ _ _ _ hp hM hS (lv_sub hl [1, 2, 3, 0] rfl)
  have hB4 : ∀ (rec4 : Nat → Int32 → Int32 → Int32 → wM → Prop) (hrec4 : ∀ (x0 : Nat) (x1 : Int32) (x2 : Int32) (x3 : Int32) (M : wM) (H : Heap) (locs : List Loc) (ls : Array Slot), rec4 x0 x1 x2 x3 M → wR G M H → va_S (wA G) s.heap H locs → lv_has ls 4 [(0, .ref x0), (1, .int x1), (2, .int x2), (3, .int x3)] → W p l e (headSpec (ws_ yX2_runningAt cX2_runningAt 4 (Option.some Jvm.ClassFile.FieldType.int)) ({ frames := 15, cells := 0, slots := 0, locals := 464 })).room s m ([.ref t0, .int p1] : List Value).toArray below meth c H locs 0 0 (vx_MQ below (wQ G (wqI Q)) (wXC G wX0) ([.ref t0, .int p1] : List Value).toArray s 0 0 (wA G)) (F0 m 4 ls [])), ∀ (x0 : Nat) (x1 : Int32) (x2 : Int32) (x3 : Int32) (M : wM) (H : Heap) (locs : List Loc) (ls : Array Slot), B_X2_runningAt_4 G rec4 Q x0 x1 x2 x3 M → wR G M H → va_S (wA G) s.heap H locs → lv_has ls 4 [(0, .ref x0), (1, .int x1), (2, .int x2), (3, .int x3)] → W p l e (headSpec (ws_ yX2_runningAt cX2_runningAt 4 (Option.some Jvm.ClassFile.FieldType.int)) ({ frames := 15, cells := 0, slots := 0, locals := 464 })).room s m ([.ref t0, .int p1] : List Value).toArray below meth c H locs 0 0 (vx_MQ below (wQ G (wqI Q)) (wXC G wX0) ([.ref t0, .int p1] : List Value).toArray s 0 0 (wA G)) (F0 m 4 ls []) := by
    intro rec4 hrec4 x0 x1 x2 x3 M H locs ls hp hM hS hl
    refine lv_iload_n hx hb dX2_runningAt_4 rfl (lv_at hl 3 rfl) ?_
    refine lv_aload_n hx hb dX2_runningAt_5 rfl (lv_at hl 0 rfl) ?_
    refine x_getA X hC.1 hM (ci := 1) (C := RX2) (T := TX2) (N := 9) rfl in_X2 2 (by decide) q921 (fun _ h9 => h9) dX2_runningAt_6 hp (fun a1 hp => ?_)
    obtain ⟨hrec, hp⟩ := hp
    refine x_call0I5 (vx_runF (hC.1.1.1 16 (RJ2, TJ2, 3) rfl).2 (C := "java/util/ArrayList") (As := []) (rest := [.int x3]) X (P_J2_size_ok (l := l) hl0 hp) (va_cwF 0 hts (lw_app (w_mem4 q493 q496 q498 q153) (lw_meth q500)) rfl rfl rfl (wfw_13 hC.1) (by decide +kernel) ⟨Nat.le_of_ble_eq_true rfl, Nat.le_of_ble_eq_true rfl⟩) ⟨wPc.blind, w_recv hC.1 hM (ci := 16) (q := (RJ2, TJ2, 3)) rfl hrec, w_pre hC hM hS _⟩ rfl rfl hl.1 rfl (lv_room (Nat.le_of_ble_eq_true rfl)) dX2_runningAt_9 ⟨Nat.le_refl _, Nat.le_refl _⟩) hS ⟨Nat.le_refl _, Nat.le_refl _⟩ (fun _ _ _ _ _ _ h => False.elim h) (fun v4 M2 H locs hp hM hS => ?_)
    refine lv_icmp_ge (tgt := 69) hx hb dX2_runningAt_14 (by decide) (fun hc => ?_) (fun hc => ?_)
    · have hp := oIf.t hp hc
      refine lv_iload_n hx hb dX2_runningAt_69 rfl (lv_at hl 2 rfl) ?_
      exact x_iret X hr hlk hM hS ⟨Nat.le_refl _, Nat.le_refl _⟩ dX2_runningAt_70 ⟨_, rfl, hp⟩
    · have hp := oIf.f hp hc
      refine lv_aload_n hx hb dX2_runningAt_17 rfl (lv_at hl 0 rfl) ?_
      refine x_getA X hC.1 hM (ci := 1) (C := RX2) (T := TX2) (N := 9) rfl in_X2 2 (by decide) q921 (fun _ h9 => h9) dX2_runningAt_18 hp (fun a5 hp => ?_)
      refine lv_iload_n hx hb dX2_runningAt_21 rfl (lv_at hl 3 rfl) ?_
      obtain ⟨hrec, hp⟩ := hp
      refine x_call0R5 (vx_runF (hC.1.1.1 16 (RJ2, TJ2, 3) rfl).2 (C := "java/util/ArrayList") (As := [.int x3]) (rest := []) X (P_J2_get_ok (l := l) hl0 hp) (va_cwF 1 hts (lw_app (w_mem4 q519 q522 q524 q153) (lw_meth q526)) rfl rfl rfl (wfw_8 hC.1) (by decide +kernel) ⟨Nat.le_of_ble_eq_true rfl, Nat.le_of_ble_eq_true rfl⟩) ⟨wPc.blind, w_recv hC.1 hM (ci := 16) (q := (RJ2, TJ2, 3)) rfl hrec, w_pre hC hM hS _⟩ rfl rfl hl.1 rfl (lv_room (Nat.le_of_ble_eq_true rfl)) dX2_runningAt_22 ⟨Nat.le_refl _, Nat.le_refl _⟩) hS ⟨Nat.le_refl _, Nat.le_refl _⟩ (fun _ _ _ _ _ _ h => False.elim h) (fun r8 M6 H locs hp hM hS => ?_)
      refine x_cast (r := r8) X hC.1 hM q2138 (ci := 10) rfl (Or.inl rfl) dX2_runningAt_27 hp (fun hp => ?_)
      obtain ⟨a9, ea, hqa9⟩ := hp
      subst ea
      have hp := hqa9
      refine x_getI X hC.1 hM (ci := 10) (C := RX13) (T := TX13) (N := 4) rfl in_X13 0 (by decide) q2106 (fun x9 h9 => u_same (hts _ q2104) x9 h9) dX2_runningAt_30 hp (fun v10 hp => ?_)
      refine lv_iload_n hx hb dX2_runningAt_33 rfl (lv_at hl 1 rfl) ?_
      refine lv_icmp_ne (tgt := 63) hx hb dX2_runningAt_34 (by decide) (fun hc => ?_) (fun hc => ?_)
      · have hp := oIf.f hp hc
        exact hB63 rec4 hrec4 _ _ _ _ _ _ _ _ hp hM hS (lv_sub hl [0, 1, 2, 3] rfl)
      · have hp := oIf.t hp hc
        refine lv_aload_n hx hb dX2_runningAt_37 rfl (lv_at hl 0 rfl) ?_
        refine x_getA X hC.1 hM (ci := 1) (C := RX2) (T := TX2) (N := 9) rfl in_X2 2 (by decide) q921 (fun _ h9 => h9) dX2_runningAt_38 hp (fun a11 hp => ?_)
        refine lv_iload_n hx hb dX2_runningAt_41 rfl (lv_at hl 3 rfl) ?_
        obtain ⟨hrec, hp⟩ := hp
        refine x_call0R5 (vx_runF (hC.1.1.1 16 (RJ2, TJ2, 3) rfl).2 (C := "java/util/ArrayList") (As := [.int x3]) (rest := []) X (P_J2_get_ok (l := l) hl0 hp) (va_cwF 1 hts (lw_app (w_mem4 q519 q522 q524 q153) (lw_meth q526)) rfl rfl rfl (wfw_8 hC.1) (by decide +kernel) ⟨Nat.le_of_ble_eq_true rfl, Nat.le_of_ble_eq_true rfl⟩) ⟨wPc.blind, w_recv hC.1 hM (ci := 16) (q := (RJ2, TJ2, 3)) rfl hrec, w_pre hC hM hS _⟩ rfl rfl hl.1 rfl (lv_room (Nat.le_of_ble_eq_true rfl)) dX2_runningAt_42 ⟨Nat.le_refl _, Nat.le_refl _⟩) hS ⟨Nat.le_refl _, Nat.le_refl _⟩ (fun _ _ _ _ _ _ h => False.elim h) (fun r14 M12 H locs hp hM hS => ?_)
        refine x_cast (r := r14) X hC.1 hM q2138 (ci := 10) rfl (Or.inl rfl) dX2_runningAt_47 hp (fun hp => ?_)
        refine lv_aload_n hx hb dX2_runningAt_50 rfl (lv_at hl 0 rfl) ?_
        refine x_getI X hC.1 hM (ci := 1) (C := RX2) (T := TX2) (N := 9) rfl in_X2 8 (by decide) q933 (fun _ h9 => h9) dX2_runningAt_51 hp (fun v15 hp => ?_)
        obtain ⟨a16, ea, hqa16⟩ := hp
        subst ea
        have hp := hqa16
        obtain ⟨hrec, hp⟩ := hp
        refine x_call0Z (w_runD (C := "ParkingOffice$Visit") hC (As := [.int v15]) (rest := []) X (P_X10_runs_X13_ok (l := l) hl0 hp) q2280 q2278 q197 q2276 (Or.inl rfl) (List.mem_of_getElem? (i := 2) rfl) (List.mem_of_getElem? (i := 3) rfl) rfl rfl ⟨Nat.le_of_ble_eq_true rfl, Nat.le_of_ble_eq_true rfl⟩ ⟨wPc.blind, w_recv hC.1 hM (ci := 10) (q := (RX13, TX13, 4)) rfl hrec, w_pre hC hM hS _⟩ rfl rfl hl.1 rfl (lv_room (Nat.le_of_ble_eq_true rfl)) dX2_runningAt_54 ⟨Nat.le_refl _, Nat.le_refl _⟩) hS ⟨Nat.le_refl _, Nat.le_refl _⟩ (fun _ _ _ _ _ _ h => False.elim h) (fun r19 M17 H locs hp hM hS => ?_)
        refine x_ifeqB (tgt := 63) hx hb dX2_runningAt_57 (by decide) (fun hc => ?_) (fun hc => ?_)
        · have hp := oIf.bf hp hc
          exact hB63 rec4 hrec4 _ _ _ _ _ _ _ _ hp hM hS (lv_sub hl [0, 1, 2, 3] rfl)
        · have hp := oIf.bt hp hc
          refine lv_iinc (v := (x2 + 1)) (lv' := [(2, .int (x2 + 1)), (0, .ref x0), (1, .int x1), (3, .int x3)]) hx hb dX2_runningAt_60 hl (k := 2) rfl rfl (by decide) rfl (fun ls hl => ?_)
          exact hB63 rec4 hrec4 _ _ _ _ _ _ _ _ hp hM hS (lv_sub hl [1, 2, 0, 3] rfl)
  have hL4 : ∀ (n : Nat), ∀ (x0 : Nat) (x1 : Int32) (x2 : Int32) (x3 : Int32) (M : wM) (H : Heap) (locs : List Loc) (ls : Array Slot), L_X2_runningAt_4 G Q n x0 x1 x2 x3 M → wR G M H → va_S (wA G) s.heap H locs → lv_has ls 4 [(0, .ref x0), (1, .int x1), (2, .int x2), (3, .int x3)] → W p l e (headSpec (ws_ yX2_runningAt cX2_runningAt 4 (Option.some Jvm.ClassFile.FieldType.int)) ({ frames := 15, cells := 0, slots := 0, locals := 464 })).room s m ([.ref t0, .int p1] : List Value).toArray below meth c H locs 0 0 (vx_MQ below (wQ G (wqI Q)) (wXC G wX0) ([.ref t0, .int p1] : List Value).toArray s 0 0 (wA G)) (F0 m 4 ls []) := by
    intro n
    induction n with
    | zero => intro _ _ _ _ _ _ _ _ hp; exact False.elim hp
    | succ n ih => intro x0 x1 x2 x3 M H locs ls hp hM hS hl; exact hB4 (L_X2_runningAt_4 G Q n) ih _ _ _ _ _ _ _ _ hp hM hS hl
  refine lv_iconst (v := 0) hx hb dX2_runningAt_0 (by decide) ?_
  refine lv_istore_n (lv' := [(2, .int (0 : Int32)), (0, .ref t0), (1, .int p1)]) hx hb dX2_runningAt_1 rfl hl (by decide) rfl (fun ls hl => ?_)
  refine lv_iconst (v := 0) hx hb dX2_runningAt_2 (by decide) ?_
  refine lv_istore_n (lv' := [(3, .int (0 : Int32)), (2, .int (0 : Int32)), (0, .ref t0), (1, .int p1)]) hx hb dX2_runningAt_3 rfl hl (by decide) rfl (fun ls hl => ?_)
  obtain ⟨n, hp⟩ := hp
  exact hL4 n _ _ _ _ _ _ _ _ hp hM hS (lv_sub hl [2, 3, 1, 0] rfl)
def B_X2_isVisiting_60 (G : wG) (rec2 : Nat → Int32 → Int32 → wM → Prop) (Q : Bool → wM → Prop) (x0 : Nat) (x1 : Int32) (x2 : Int32) (M : wM) : Prop :=
  rec2 x0 x1 (x2 + 1) M
def B_X2_isVisiting_2 (G : wG) (rec2 : Nat → Int32 → Int32 → wM → Prop) (Q : Bool → wM → Prop) (x0 : Nat) (x1 : Int32) (x2 : Int32) (M : wM) : Prop :=
  oGetA M x0 1 2 (fun a1 => oIs M a1 16 (P_J2_size G a1 M (fun v4 M2 => oIf (v4 ≤ x2) (Q false M2) (oGetA M2 x0 1 2 (fun a5 => oIs M2 a5 16 (P_J2_get G a5 x2 M2 (fun r8 M6 => oCast M6 r8 10 (oRef r8 (fun a9 => oGetI M6 a9 10 1 (fun v10 => oIf (v10 = x1) (oGetA M6 x0 1 2 (fun a11 => oIs M6 a11 16 (P_J2_get G a11 x2 M6 (fun r14 M12 => oCast M12 r14 10 (oGetI M12 x0 1 8 (fun v15 => oRef r14 (fun a16 => oIs M12 a16 10 (P_X10_runs_X13 G a16 v15 M12 (fun r19 M17 => oIf (r19 = true) (Q true M17) (B_X2_isVisiting_60 G rec2 Q x0 x1 x2 M17)))))))))) (B_X2_isVisiting_60 G rec2 Q x0 x1 x2 M6)))))))))))
def L_X2_isVisiting_2 (G : wG) (Q : Bool → wM → Prop) : Nat → Nat → Int32 → Int32 → wM → Prop
  | 0 => fun _ _ _ _ => False
  | n + 1 => B_X2_isVisiting_2 G (L_X2_isVisiting_2 G Q n) Q
def P_X2_isVisiting (G : wG) (t0 : Nat) (p1 : Int32) (M : wM) (Q : Bool → wM → Prop) : Prop :=
  ∃ n, L_X2_isVisiting_2 G Q n t0 p1 (0 : Int32) M
set_option maxHeartbeats 4000000 in
set_option maxRecDepth 100000 in
theorem P_X2_isVisiting_ok {l : Launch} (hl0 : l.stackTraces = false) {G : wG} {t0 : Nat} {p1 : Int32} {M : wM} {Q : Bool → wM → Prop} (hp : P_X2_isVisiting G t0 p1 M Q) : wMet l yX2_isVisiting (ws_ yX2_isVisiting cX2_isVisiting 3 (Option.some Jvm.ClassFile.FieldType.boolean)) 15 464 G [.ref t0, .int p1] M 0 (wqZ Q) wX0 := by
  refine vx_ofW (cc := cX2_isVisiting) (maxL := 3) (ret := Option.some Jvm.ClassFile.FieldType.boolean) (by decide) rfl ?_
  intro p e s m args below meth c s₁ B hml hnt hv
  obtain ⟨rfl, hM, hK, hZ, hz⟩ := hv
  have hC : wC G s := ⟨hK, hZ, hz⟩
  have hx := B.exec
  have hb := B.bytes
  have hr := B.returns
  have hts := atoms_spec (ws := (ws_ yX2_isVisiting cX2_isVisiting 3 (Option.some Jvm.ClassFile.FieldType.boolean))) B.pre
  have hts : ∀ w ∈ lw_all, w.before _ s = true := fun w h => hts w (List.mem_cons_of_mem _ h)
  have hown : s.vm.findClass RX2 = some m.cls := findClass_of_methodNamed B.named
  have hlk := B.notSynchronized
  have X : CallFix p m c cX2_isVisiting 3 s ([.ref t0, .int p1] : List Value).toArray lw_all RX2 := ⟨hx, hb, hml, hown, hts⟩
  have hS : va_S (wA G) s.heap s.heap [] := va_S.rf
  have hl := lv_entry ([.ref t0, .int p1]) (n := 3) (Nat.le_of_ble_eq_true rfl)
  rw [lg_entry_eq]
  generalize (lg_sl ([.ref t0, .int p1]) ++ List.replicate (3 - (lg_sl ([.ref t0, .int p1])).length) Slot.unset).toArray = ls at hl ⊢
  have hl : lv_has ls 3 [(0, .ref t0), (1, .int p1)] := hl
  have hB60 : ∀ (rec2 : Nat → Int32 → Int32 → wM → Prop) (hrec2 : ∀ (x0 : Nat) (x1 : Int32) (x2 : Int32) (M : wM) (H : Heap) (locs : List Loc) (ls : Array Slot), rec2 x0 x1 x2 M → wR G M H → va_S (wA G) s.heap H locs → lv_has ls 3 [(0, .ref x0), (1, .int x1), (2, .int x2)] → W p l e (headSpec (ws_ yX2_isVisiting cX2_isVisiting 3 (Option.some Jvm.ClassFile.FieldType.boolean)) ({ frames := 15, cells := 0, slots := 0, locals := 464 })).room s m ([.ref t0, .int p1] : List Value).toArray below meth c H locs 0 0 (vx_MQ below (wQ G (wqZ Q)) (wXC G wX0) ([.ref t0, .int p1] : List Value).toArray s 0 0 (wA G)) (F0 m 2 ls [])), ∀ (x0 : Nat) (x1 : Int32) (x2 : Int32) (M : wM) (H : Heap) (locs : List Loc) (ls : Array Slot), B_X2_isVisiting_60 G rec2 Q x0 x1 x2 M → wR G M H → va_S (wA G) s.heap H locs → lv_has ls 3 [(0, .ref x0), (1, .int x1), (2, .int x2)] → W p l e (headSpec (ws_ yX2_isVisiting cX2_isVisiting 3 (Option.some Jvm.ClassFile.FieldType.boolean)) ({ frames := 15, cells := 0, slots := 0, locals := 464 })).room s m ([.ref t0, .int p1] : List Value).toArray below meth c H locs 0 0 (vx_MQ below (wQ G (wqZ Q)) (wXC G wX0) ([.ref t0, .int p1] : List Value).toArray s 0 0 (wA G)) (F0 m 60 ls []) := by
    intro rec2 hrec2 x0 x1 x2 M H locs ls hp hM hS hl
    refine lv_iinc (v := (x2 + 1)) (lv' := [(2, .int (x2 + 1)), (0, .ref x0), (1, .int x1)]) hx hb dX2_isVisiting_60 hl (k := 2) rfl rfl (by decide) rfl (fun ls hl => ?_)
    refine lv_goto (tgt := 2) hx hb dX2_isVisiting_63 (by decide) ?_
    exact hrec2 _ _ _ _ _ _ _ hp hM hS (lv_sub hl [1, 2, 0] rfl)
  have hB2 : ∀ (rec2 : Nat → Int32 → Int32 → wM → Prop) (hrec2 : ∀ (x0 : Nat) (x1 : Int32) (x2 : Int32) (M : wM) (H : Heap) (locs : List Loc) (ls : Array Slot), rec2 x0 x1 x2 M → wR G M H → va_S (wA G) s.heap H locs → lv_has ls 3 [(0, .ref x0), (1, .int x1), (2, .int x2)] → W p l e (headSpec (ws_ yX2_isVisiting cX2_isVisiting 3 (Option.some Jvm.ClassFile.FieldType.boolean)) ({ frames := 15, cells := 0, slots := 0, locals := 464 })).room s m ([.ref t0, .int p1] : List Value).toArray below meth c H locs 0 0 (vx_MQ below (wQ G (wqZ Q)) (wXC G wX0) ([.ref t0, .int p1] : List Value).toArray s 0 0 (wA G)) (F0 m 2 ls [])), ∀ (x0 : Nat) (x1 : Int32) (x2 : Int32) (M : wM) (H : Heap) (locs : List Loc) (ls : Array Slot), B_X2_isVisiting_2 G rec2 Q x0 x1 x2 M → wR G M H → va_S (wA G) s.heap H locs → lv_has ls 3 [(0, .ref x0), (1, .int x1), (2, .int x2)] → W p l e (headSpec (ws_ yX2_isVisiting cX2_isVisiting 3 (Option.some Jvm.ClassFile.FieldType.boolean)) ({ frames := 15, cells := 0, slots := 0, locals := 464 })).room s m ([.ref t0, .int p1] : List Value).toArray below meth c H locs 0 0 (vx_MQ below (wQ G (wqZ Q)) (wXC G wX0) ([.ref t0, .int p1] : List Value).toArray s 0 0 (wA G)) (F0 m 2 ls []) := by
    intro rec2 hrec2 x0 x1 x2 M H locs ls hp hM hS hl
    refine lv_iload_n hx hb dX2_isVisiting_2 rfl (lv_at hl 2 rfl) ?_
    refine lv_aload_n hx hb dX2_isVisiting_3 rfl (lv_at hl 0 rfl) ?_
    refine x_getA X hC.1 hM (ci := 1) (C := RX2) (T := TX2) (N := 9) rfl in_X2 2 (by decide) q921 (fun _ h9 => h9) dX2_isVisiting_4 hp (fun a1 hp => ?_)
    obtain ⟨hrec, hp⟩ := hp
    refine x_call0I5 (vx_runF (hC.1.1.1 16 (RJ2, TJ2, 3) rfl).2 (C := "java/util/ArrayList") (As := []) (rest := [.int x2]) X (P_J2_size_ok (l := l) hl0 hp) (va_cwF 0 hts (lw_app (w_mem4 q493 q496 q498 q153) (lw_meth q500)) rfl rfl rfl (wfw_13 hC.1) (by decide +kernel) ⟨Nat.le_of_ble_eq_true rfl, Nat.le_of_ble_eq_true rfl⟩) ⟨wPc.blind, w_recv hC.1 hM (ci := 16) (q := (RJ2, TJ2, 3)) rfl hrec, w_pre hC hM hS _⟩ rfl rfl hl.1 rfl (lv_room (Nat.le_of_ble_eq_true rfl)) dX2_isVisiting_7 ⟨Nat.le_refl _, Nat.le_refl _⟩) hS ⟨Nat.le_refl _, Nat.le_refl _⟩ (fun _ _ _ _ _ _ h => False.elim h) (fun v4 M2 H locs hp hM hS => ?_)
    refine lv_icmp_ge (tgt := 66) hx hb dX2_isVisiting_12 (by decide) (fun hc => ?_) (fun hc => ?_)
    · have hp := oIf.t hp hc
      refine lv_iconst (v := 0) hx hb dX2_isVisiting_66 (by decide) ?_
      exact x_zret X hr hlk hM hS ⟨Nat.le_refl _, Nat.le_refl _⟩ (by decide) dX2_isVisiting_67 ⟨false, rfl, hp⟩
    · have hp := oIf.f hp hc
      refine lv_aload_n hx hb dX2_isVisiting_15 rfl (lv_at hl 0 rfl) ?_
      refine x_getA X hC.1 hM (ci := 1) (C := RX2) (T := TX2) (N := 9) rfl in_X2 2 (by decide) q921 (fun _ h9 => h9) dX2_isVisiting_16 hp (fun a5 hp => ?_)
      refine lv_iload_n hx hb dX2_isVisiting_19 rfl (lv_at hl 2 rfl) ?_
      obtain ⟨hrec, hp⟩ := hp
      refine x_call0R5 (vx_runF (hC.1.1.1 16 (RJ2, TJ2, 3) rfl).2 (C := "java/util/ArrayList") (As := [.int x2]) (rest := []) X (P_J2_get_ok (l := l) hl0 hp) (va_cwF 1 hts (lw_app (w_mem4 q519 q522 q524 q153) (lw_meth q526)) rfl rfl rfl (wfw_8 hC.1) (by decide +kernel) ⟨Nat.le_of_ble_eq_true rfl, Nat.le_of_ble_eq_true rfl⟩) ⟨wPc.blind, w_recv hC.1 hM (ci := 16) (q := (RJ2, TJ2, 3)) rfl hrec, w_pre hC hM hS _⟩ rfl rfl hl.1 rfl (lv_room (Nat.le_of_ble_eq_true rfl)) dX2_isVisiting_20 ⟨Nat.le_refl _, Nat.le_refl _⟩) hS ⟨Nat.le_refl _, Nat.le_refl _⟩ (fun _ _ _ _ _ _ h => False.elim h) (fun r8 M6 H locs hp hM hS => ?_)
      refine x_cast (r := r8) X hC.1 hM q2138 (ci := 10) rfl (Or.inl rfl) dX2_isVisiting_25 hp (fun hp => ?_)
      obtain ⟨a9, ea, hqa9⟩ := hp
      subst ea
      have hp := hqa9
      refine x_getI X hC.1 hM (ci := 10) (C := RX13) (T := TX13) (N := 4) rfl in_X13 1 (by decide) q2115 (fun x9 h9 => u_same (hts _ q2113) x9 h9) dX2_isVisiting_28 hp (fun v10 hp => ?_)
      refine lv_iload_n hx hb dX2_isVisiting_31 rfl (lv_at hl 1 rfl) ?_
      refine lv_icmp_ne (tgt := 60) hx hb dX2_isVisiting_32 (by decide) (fun hc => ?_) (fun hc => ?_)
      · have hp := oIf.f hp hc
        exact hB60 rec2 hrec2 _ _ _ _ _ _ _ hp hM hS (lv_sub hl [0, 1, 2] rfl)
      · have hp := oIf.t hp hc
        refine lv_aload_n hx hb dX2_isVisiting_35 rfl (lv_at hl 0 rfl) ?_
        refine x_getA X hC.1 hM (ci := 1) (C := RX2) (T := TX2) (N := 9) rfl in_X2 2 (by decide) q921 (fun _ h9 => h9) dX2_isVisiting_36 hp (fun a11 hp => ?_)
        refine lv_iload_n hx hb dX2_isVisiting_39 rfl (lv_at hl 2 rfl) ?_
        obtain ⟨hrec, hp⟩ := hp
        refine x_call0R5 (vx_runF (hC.1.1.1 16 (RJ2, TJ2, 3) rfl).2 (C := "java/util/ArrayList") (As := [.int x2]) (rest := []) X (P_J2_get_ok (l := l) hl0 hp) (va_cwF 1 hts (lw_app (w_mem4 q519 q522 q524 q153) (lw_meth q526)) rfl rfl rfl (wfw_8 hC.1) (by decide +kernel) ⟨Nat.le_of_ble_eq_true rfl, Nat.le_of_ble_eq_true rfl⟩) ⟨wPc.blind, w_recv hC.1 hM (ci := 16) (q := (RJ2, TJ2, 3)) rfl hrec, w_pre hC hM hS _⟩ rfl rfl hl.1 rfl (lv_room (Nat.le_of_ble_eq_true rfl)) dX2_isVisiting_40 ⟨Nat.le_refl _, Nat.le_refl _⟩) hS ⟨Nat.le_refl _, Nat.le_refl _⟩ (fun _ _ _ _ _ _ h => False.elim h) (fun r14 M12 H locs hp hM hS => ?_)
        refine x_cast (r := r14) X hC.1 hM q2138 (ci := 10) rfl (Or.inl rfl) dX2_isVisiting_45 hp (fun hp => ?_)
        refine lv_aload_n hx hb dX2_isVisiting_48 rfl (lv_at hl 0 rfl) ?_
        refine x_getI X hC.1 hM (ci := 1) (C := RX2) (T := TX2) (N := 9) rfl in_X2 8 (by decide) q933 (fun _ h9 => h9) dX2_isVisiting_49 hp (fun v15 hp => ?_)
        obtain ⟨a16, ea, hqa16⟩ := hp
        subst ea
        have hp := hqa16
        obtain ⟨hrec, hp⟩ := hp
        refine x_call0Z (w_runD (C := "ParkingOffice$Visit") hC (As := [.int v15]) (rest := []) X (P_X10_runs_X13_ok (l := l) hl0 hp) q2280 q2278 q197 q2276 (Or.inl rfl) (List.mem_of_getElem? (i := 2) rfl) (List.mem_of_getElem? (i := 3) rfl) rfl rfl ⟨Nat.le_of_ble_eq_true rfl, Nat.le_of_ble_eq_true rfl⟩ ⟨wPc.blind, w_recv hC.1 hM (ci := 10) (q := (RX13, TX13, 4)) rfl hrec, w_pre hC hM hS _⟩ rfl rfl hl.1 rfl (lv_room (Nat.le_of_ble_eq_true rfl)) dX2_isVisiting_52 ⟨Nat.le_refl _, Nat.le_refl _⟩) hS ⟨Nat.le_refl _, Nat.le_refl _⟩ (fun _ _ _ _ _ _ h => False.elim h) (fun r19 M17 H locs hp hM hS => ?_)
        refine x_ifeqB (tgt := 60) hx hb dX2_isVisiting_55 (by decide) (fun hc => ?_) (fun hc => ?_)
        · have hp := oIf.bf hp hc
          exact hB60 rec2 hrec2 _ _ _ _ _ _ _ hp hM hS (lv_sub hl [0, 1, 2] rfl)
        · have hp := oIf.bt hp hc
          refine lv_iconst (v := 1) hx hb dX2_isVisiting_58 (by decide) ?_
          exact x_zret X hr hlk hM hS ⟨Nat.le_refl _, Nat.le_refl _⟩ (by decide) dX2_isVisiting_59 ⟨true, rfl, hp⟩
  have hL2 : ∀ (n : Nat), ∀ (x0 : Nat) (x1 : Int32) (x2 : Int32) (M : wM) (H : Heap) (locs : List Loc) (ls : Array Slot), L_X2_isVisiting_2 G Q n x0 x1 x2 M → wR G M H → va_S (wA G) s.heap H locs → lv_has ls 3 [(0, .ref x0), (1, .int x1), (2, .int x2)] → W p l e (headSpec (ws_ yX2_isVisiting cX2_isVisiting 3 (Option.some Jvm.ClassFile.FieldType.boolean)) ({ frames := 15, cells := 0, slots := 0, locals := 464 })).room s m ([.ref t0, .int p1] : List Value).toArray below meth c H locs 0 0 (vx_MQ below (wQ G (wqZ Q)) (wXC G wX0) ([.ref t0, .int p1] : List Value).toArray s 0 0 (wA G)) (F0 m 2 ls []) := by
    intro n
    induction n with
    | zero => intro _ _ _ _ _ _ _ hp; exact False.elim hp
    | succ n ih => intro x0 x1 x2 M H locs ls hp hM hS hl; exact hB2 (L_X2_isVisiting_2 G Q n) ih _ _ _ _ _ _ _ hp hM hS hl
  refine lv_iconst (v := 0) hx hb dX2_isVisiting_0 (by decide) ?_
  refine lv_istore_n (lv' := [(2, .int (0 : Int32)), (0, .ref t0), (1, .int p1)]) hx hb dX2_isVisiting_1 rfl hl (by decide) rfl (fun ls hl => ?_)
  obtain ⟨n, hp⟩ := hp
  exact hL2 n _ _ _ _ _ _ _ hp hM hS (lv_sub hl [1, 2, 0] rfl)
def B_J13_init_3_X17_60 (G : wG) (Q : wM → Prop) (M : wM) : Prop :=
  Q M
def B_J13_init_3_X17_41 (G : wG) (Q : wM → Prop) (x0 : Nat) (x1 : Option Nat) (x2 : Option Nat) (x3 : Int32) (M : wM) : Prop :=
  oPut G M x0 13 3 (va_rf x1) (fun M1 => oPut G M1 x0 13 0 (va_rf x2) (fun M2 => oIf (x3 = 0) (oPut G M2 x0 13 2 (va_rf none) (fun M3 => B_J13_init_3_X17_60 G Q M3)) (B_J13_init_3_X17_60 G Q M2)))
def P_J13_init_3_X17 (G : wG) (t0 : Nat) (p1 : Option Nat) (p2 : Option Nat) (p3 : Int32) (p4 : Int32) (M : wM) (Q : wM → Prop) : Prop :=
  oPut G M t0 13 0 (.ref t0) (fun M1 => ∀ r2 : Option Nat, (oPut G M1 t0 13 1 (va_rf r2) (fun M3 => ∀ r4 : Option Nat, (oPut G M3 t0 13 2 (va_rf r4) (fun M5 => oIf (p4 = 0) (oPut G M5 t0 13 1 (va_rf none) (fun M6 => B_J13_init_3_X17_41 G Q t0 p1 p2 p3 M6)) (False))))))
set_option maxHeartbeats 4000000 in
set_option maxRecDepth 100000 in
theorem P_J13_init_3_X17_ok {l : Launch} (hl0 : l.stackTraces = false) {G : wG} {t0 : Nat} {p1 : Option Nat} {p2 : Option Nat} {p3 : Int32} {p4 : Int32} {M : wM} {Q : wM → Prop} (hp : P_J13_init_3_X17 G t0 p1 p2 p3 p4 M Q) : wMet l yJ13_init_3 (ws_ yJ13_init_3 cJ13_init_3 5 (none)) 12 400 G [.ref t0, va_rf p1, va_rf p2, .int p3, .int p4] M 0 (wqV Q) wX0 := by
  refine vx_ofW (cc := cJ13_init_3) (maxL := 5) (ret := none) (by decide) rfl ?_
  intro p e s m args below meth c s₁ B hml hnt hv
  obtain ⟨rfl, hM, hK, hZ, hz⟩ := hv
  have hC : wC G s := ⟨hK, hZ, hz⟩
  have hx := B.exec
  have hb := B.bytes
  have hr := B.returns
  have hts := atoms_spec (ws := (ws_ yJ13_init_3 cJ13_init_3 5 (none))) B.pre
  have hts : ∀ w ∈ lw_all, w.before _ s = true := fun w h => hts w (List.mem_cons_of_mem _ h)
  have hown : s.vm.findClass RJ13 = some m.cls := findClass_of_methodNamed B.named
  have hlk := B.notSynchronized
  have hin0 : meth.name = "<init>" := (name_of_methodNamed B.named B.method).1
  have X : CallFix p m c cJ13_init_3 5 s ([.ref t0, va_rf p1, va_rf p2, .int p3, .int p4] : List Value).toArray lw_all RJ13 := ⟨hx, hb, hml, hown, hts⟩
  have hS : va_S (wA G) s.heap s.heap [] := va_S.rf
  have hl := lv_entry ([.ref t0, va_rf p1, va_rf p2, .int p3, .int p4]) (n := 5) (by cases p1 <;> cases p2 <;> exact Nat.le_of_ble_eq_true rfl)
  rw [lg_entry_eq]
  generalize (lg_sl ([.ref t0, va_rf p1, va_rf p2, .int p3, .int p4]) ++ List.replicate (5 - (lg_sl ([.ref t0, va_rf p1, va_rf p2, .int p3, .int p4])).length) Slot.unset).toArray = ls at hl ⊢
  have hl : lv_has ls 5 [(0, .ref t0), (1, va_rf p1), (2, va_rf p2), (3, .int p3), (4, .int p4)] := by cases p1 <;> cases p2 <;> exact hl
  have hB60 : ∀ (M : wM) (H : Heap) (locs : List Loc) (ls : Array Slot), B_J13_init_3_X17_60 G Q M → wR G M H → va_S (wA G) s.heap H locs → lv_has ls 5 [] → W p l e (headSpec (ws_ yJ13_init_3 cJ13_init_3 5 (none)) ({ frames := 12, cells := 0, slots := 0, locals := 400 })).room s m ([.ref t0, va_rf p1, va_rf p2, .int p3, .int p4] : List Value).toArray below meth c H locs 0 0 (vx_MQ below (wQ G (wqV Q)) (wXC G wX0) ([.ref t0, va_rf p1, va_rf p2, .int p3, .int p4] : List Value).toArray s 0 0 (wA G)) (F0 m 60 ls []) := by
    intro M H locs ls hp hM hS hl
    exact x_vret X hr hlk hM hS ⟨Nat.le_refl _, Nat.le_refl _⟩ dJ13_init_3_60 ⟨rfl, hp⟩
  have hB41 : ∀ (x0 : Nat) (x1 : Option Nat) (x2 : Option Nat) (x3 : Int32) (M : wM) (H : Heap) (locs : List Loc) (ls : Array Slot), B_J13_init_3_X17_41 G Q x0 x1 x2 x3 M → wR G M H → va_S (wA G) s.heap H locs → lv_has ls 5 [(0, .ref x0), (1, va_rf x1), (2, va_rf x2), (3, .int x3)] → W p l e (headSpec (ws_ yJ13_init_3 cJ13_init_3 5 (none)) ({ frames := 12, cells := 0, slots := 0, locals := 400 })).room s m ([.ref t0, va_rf p1, va_rf p2, .int p3, .int p4] : List Value).toArray below meth c H locs 0 0 (vx_MQ below (wQ G (wqV Q)) (wXC G wX0) ([.ref t0, va_rf p1, va_rf p2, .int p3, .int p4] : List Value).toArray s 0 0 (wA G)) (F0 m 41 ls []) := by
    intro x0 x1 x2 x3 M H locs ls hp hM hS hl
    refine lv_aload_n hx hb dJ13_init_3_41 rfl (lv_at hl 0 rfl) ?_
    refine x_aload_n (r := x1) hx hb dJ13_init_3_42 rfl (lv_at hl 1 rfl) ?_
    refine x_put X hC.1 hM hS (ci := 13) (C := RX17) (T := TX17) (N := 6) rfl in_X17 tyX17 tyX17_ok nmX17 3 (by decide) q832 (fun _ h9 => h9) rfl (w_nobj _ x1) (w_fobj _ x1) dJ13_init_3_43 hp (fun M1 H locs hM hS hp => ?_)
    refine lv_aload_n hx hb dJ13_init_3_46 rfl (lv_at hl 0 rfl) ?_
    refine x_aload_n (r := x2) hx hb dJ13_init_3_47 rfl (lv_at hl 2 rfl) ?_
    refine x_put X hC.1 hM hS (ci := 13) (C := RX17) (T := TX17) (N := 6) rfl in_X17 tyX17 tyX17_ok nmX17 0 (by decide) q833 (fun _ h9 => h9) rfl (w_nobj _ x2) (w_fobj _ x2) dJ13_init_3_48 hp (fun M2 H locs hM hS hp => ?_)
    refine lv_iload_n hx hb dJ13_init_3_51 rfl (lv_at hl 3 rfl) ?_
    refine lv_if_ne (tgt := 60) hx hb dJ13_init_3_52 (by decide) (fun hc => ?_) (fun hc => ?_)
    · have hp := oIf.f hp hc
      exact hB60 _ _ _ _ hp hM hS (lv_sub hl [] rfl)
    · have hp := oIf.t hp hc
      refine lv_aload_n hx hb dJ13_init_3_55 rfl (lv_at hl 0 rfl) ?_
      refine lv_null hx hb dJ13_init_3_56 ?_
      refine x_put X hC.1 hM hS (ci := 13) (C := RX17) (T := TX17) (N := 6) rfl in_X17 tyX17 tyX17_ok nmX17 2 (by decide) q835 (fun _ h9 => h9) rfl (w_nobj _ none) (w_fobj _ none) dJ13_init_3_57 hp (fun M3 H locs hM hS hp => ?_)
      exact hB60 _ _ _ _ hp hM hS (lv_sub hl [] rfl)
  refine lv_aload_n hx hb dJ13_init_3_0 rfl (lv_at hl 0 rfl) ?_
  refine W.objInit hx hb hown (hts _ q573) (hts _ q218) (hts _ q219) rfl (by rw [hml]; exact hl.1) rfl dJ13_init_3_1 (Nat.le_of_ble_eq_true rfl) (Nat.le_of_ble_eq_true rfl) ?_
  refine W.eq (g2 := F0 m 4 ls []) rfl ?_
  refine lv_aload_n hx hb dJ13_init_3_4 rfl (lv_at hl 0 rfl) ?_
  refine lv_aload_n hx hb dJ13_init_3_5 rfl (lv_at hl 0 rfl) ?_
  refine x_put X hC.1 hM hS (ci := 13) (C := RX17) (T := TX17) (N := 6) rfl in_X17 tyX17 tyX17_ok nmX17 0 (by decide) q833 (fun _ h9 => h9) rfl rfl rfl dJ13_init_3_6 hp (fun M1 H locs hM hS hp => ?_)
  refine lv_aload_n hx hb dJ13_init_3_9 rfl (lv_at hl 0 rfl) ?_
  refine x_getsQ X hS hC.2.1.2.2.1.1 q574 (fun _ h9 => h9) dJ13_init_3_10 (fun r2 => ?_)
  have hp := hp r2
  refine x_put X hC.1 hM hS (ci := 13) (C := RX17) (T := TX17) (N := 6) rfl in_X17 tyX17 tyX17_ok nmX17 1 (by decide) q834 (fun _ h9 => h9) rfl (w_narr _ r2) (w_farr _ r2) dJ13_init_3_13 hp (fun M3 H locs hM hS hp => ?_)
  refine lv_aload_n hx hb dJ13_init_3_16 rfl (lv_at hl 0 rfl) ?_
  refine x_getsQ X hS hC.2.1.2.2.2.1 q576 (fun _ h9 => h9) dJ13_init_3_17 (fun r4 => ?_)
  have hp := hp r4
  refine x_put X hC.1 hM hS (ci := 13) (C := RX17) (T := TX17) (N := 6) rfl in_X17 tyX17 tyX17_ok nmX17 2 (by decide) q835 (fun _ h9 => h9) rfl (w_nobj _ r4) (w_fobj _ r4) dJ13_init_3_20 hp (fun M5 H locs hM hS hp => ?_)
  refine lv_iload hx hb dJ13_init_3_23 (lv_at hl 4 rfl) ?_
  refine lv_if_eq (tgt := 36) hx hb dJ13_init_3_25 (by decide) (fun hc => ?_) (fun hc => ?_)
  · have hp := oIf.t hp hc
    refine lv_aload_n hx hb dJ13_init_3_36 rfl (lv_at hl 0 rfl) ?_
    refine lv_null hx hb dJ13_init_3_37 ?_
    refine x_put X hC.1 hM hS (ci := 13) (C := RX17) (T := TX17) (N := 6) rfl in_X17 tyX17 tyX17_ok nmX17 1 (by decide) q834 (fun _ h9 => h9) rfl (w_narr _ none) (w_farr _ none) dJ13_init_3_38 hp (fun M6 H locs hM hS hp => ?_)
    exact hB41 _ _ _ _ _ _ _ _ hp hM hS (lv_sub hl [0, 1, 2, 3] rfl)
  · have hp := oIf.f hp hc
    exact hp.elim
def P_J14_init_2_X17 (G : wG) (t0 : Nat) (p1 : Option Nat) (p2 : Option Nat) (p3 : Int32) (p4 : Int32) (M : wM) (Q : wM → Prop) : Prop :=
  P_J13_init_3_X17 G t0 p1 p2 p3 p4 M (fun M1 => Q M1)
set_option maxHeartbeats 4000000 in
set_option maxRecDepth 100000 in
theorem P_J14_init_2_X17_ok {l : Launch} (hl0 : l.stackTraces = false) {G : wG} {t0 : Nat} {p1 : Option Nat} {p2 : Option Nat} {p3 : Int32} {p4 : Int32} {M : wM} {Q : wM → Prop} (hp : P_J14_init_2_X17 G t0 p1 p2 p3 p4 M Q) : wMet l yJ14_init_2 (ws_ yJ14_init_2 cJ14_init_2 5 (none)) 13 424 G [.ref t0, va_rf p1, va_rf p2, .int p3, .int p4] M 0 (wqV Q) wX0 := by
  refine vx_ofW (cc := cJ14_init_2) (maxL := 5) (ret := none) (by decide) rfl ?_
  intro p e s m args below meth c s₁ B hml hnt hv
  obtain ⟨rfl, hM, hK, hZ, hz⟩ := hv
  have hC : wC G s := ⟨hK, hZ, hz⟩
  have hx := B.exec
  have hb := B.bytes
  have hr := B.returns
  have hts := atoms_spec (ws := (ws_ yJ14_init_2 cJ14_init_2 5 (none))) B.pre
  have hts : ∀ w ∈ lw_all, w.before _ s = true := fun w h => hts w (List.mem_cons_of_mem _ h)
  have hown : s.vm.findClass RJ14 = some m.cls := findClass_of_methodNamed B.named
  have hlk := B.notSynchronized
  have hin0 : meth.name = "<init>" := (name_of_methodNamed B.named B.method).1
  have X : CallFix p m c cJ14_init_2 5 s ([.ref t0, va_rf p1, va_rf p2, .int p3, .int p4] : List Value).toArray lw_all RJ14 := ⟨hx, hb, hml, hown, hts⟩
  have hS : va_S (wA G) s.heap s.heap [] := va_S.rf
  have hl := lv_entry ([.ref t0, va_rf p1, va_rf p2, .int p3, .int p4]) (n := 5) (by cases p1 <;> cases p2 <;> exact Nat.le_of_ble_eq_true rfl)
  rw [lg_entry_eq]
  generalize (lg_sl ([.ref t0, va_rf p1, va_rf p2, .int p3, .int p4]) ++ List.replicate (5 - (lg_sl ([.ref t0, va_rf p1, va_rf p2, .int p3, .int p4])).length) Slot.unset).toArray = ls at hl ⊢
  have hl : lv_has ls 5 [(0, .ref t0), (1, va_rf p1), (2, va_rf p2), (3, .int p3), (4, .int p4)] := by cases p1 <;> cases p2 <;> exact hl
  refine lv_aload_n hx hb dJ14_init_2_0 rfl (lv_at hl 0 rfl) ?_
  refine x_aload_n (r := p1) hx hb dJ14_init_2_1 rfl (lv_at hl 1 rfl) ?_
  refine x_aload_n (r := p2) hx hb dJ14_init_2_2 rfl (lv_at hl 2 rfl) ?_
  refine lv_iload_n hx hb dJ14_init_2_3 rfl (lv_at hl 3 rfl) ?_
  refine lv_iload hx hb dJ14_init_2_4 (lv_at hl 4 rfl) ?_
  refine x_call0V (vx_runI (As := [va_rf p1, va_rf p2, .int p3, .int p4]) (rest := []) X (P_J13_init_3_X17_ok (l := l) hl0 hp) (cwI 4 hts (lw_meth q1261) rfl rfl rfl (hts _ q165) (hts _ q1259) (hts _ q1260) rfl (by decide +kernel) ⟨Nat.le_of_ble_eq_true rfl, Nat.le_of_ble_eq_true rfl⟩) ⟨wPc.blind, w_pre hC hM hS _⟩ rfl rfl hl.1 rfl (lv_room (Nat.le_of_ble_eq_true rfl)) dJ14_init_2_6 ⟨Nat.le_refl _, Nat.le_refl _⟩) hS ⟨Nat.le_refl _, Nat.le_refl _⟩ (fun _ _ _ _ _ _ h => False.elim h) (fun M1 H locs hp hM hS => ?_)
  exact x_vret X hr hlk hM hS ⟨Nat.le_refl _, Nat.le_refl _⟩ dJ14_init_2_9 ⟨rfl, hp⟩
def P_X14_init_X17 (G : wG) (t0 : Nat) (p1 : Option Nat) (M : wM) (Q : wM → Prop) : Prop :=
  P_J14_init_2_X17 G t0 none p1 (0 : Int32) (0 : Int32) M (fun M1 => Q M1)
set_option maxHeartbeats 4000000 in
set_option maxRecDepth 100000 in
theorem P_X14_init_X17_ok {l : Launch} (hl0 : l.stackTraces = false) {G : wG} {t0 : Nat} {p1 : Option Nat} {M : wM} {Q : wM → Prop} (hp : P_X14_init_X17 G t0 p1 M Q) : wMet l yX14_init (ws_ yX14_init cX14_init 2 (none)) 14 448 G [.ref t0, va_rf p1] M 0 (wqV Q) wX0 := by
  refine vx_ofW (cc := cX14_init) (maxL := 2) (ret := none) (by decide) rfl ?_
  intro p e s m args below meth c s₁ B hml hnt hv
  obtain ⟨rfl, hM, hK, hZ, hz⟩ := hv
  have hC : wC G s := ⟨hK, hZ, hz⟩
  have hx := B.exec
  have hb := B.bytes
  have hr := B.returns
  have hts := atoms_spec (ws := (ws_ yX14_init cX14_init 2 (none))) B.pre
  have hts : ∀ w ∈ lw_all, w.before _ s = true := fun w h => hts w (List.mem_cons_of_mem _ h)
  have hown : s.vm.findClass RX14 = some m.cls := findClass_of_methodNamed B.named
  have hlk := B.notSynchronized
  have hin0 : meth.name = "<init>" := (name_of_methodNamed B.named B.method).1
  have X : CallFix p m c cX14_init 2 s ([.ref t0, va_rf p1] : List Value).toArray lw_all RX14 := ⟨hx, hb, hml, hown, hts⟩
  have hS : va_S (wA G) s.heap s.heap [] := va_S.rf
  have hl := lv_entry ([.ref t0, va_rf p1]) (n := 2) (by cases p1 <;> exact Nat.le_of_ble_eq_true rfl)
  rw [lg_entry_eq]
  generalize (lg_sl ([.ref t0, va_rf p1]) ++ List.replicate (2 - (lg_sl ([.ref t0, va_rf p1])).length) Slot.unset).toArray = ls at hl ⊢
  have hl : lv_has ls 2 [(0, .ref t0), (1, va_rf p1)] := by cases p1 <;> exact hl
  refine lv_aload_n hx hb dX14_init_0 rfl (lv_at hl 0 rfl) ?_
  refine lv_null hx hb dX14_init_1 ?_
  refine x_aload_n (r := p1) hx hb dX14_init_2 rfl (lv_at hl 1 rfl) ?_
  refine lv_iconst (v := 0) hx hb dX14_init_3 (by decide) ?_
  refine lv_iconst (v := 0) hx hb dX14_init_4 (by decide) ?_
  refine x_call0V (vx_runI (As := [va_rf none, va_rf p1, .int (0 : Int32), .int (0 : Int32)]) (rest := []) X (P_J14_init_2_X17_ok (l := l) hl0 hp) (cwI 4 hts (lw_meth q1258) rfl rfl rfl (hts _ q166) (hts _ q2654) (hts _ q1257) rfl (by decide +kernel) ⟨Nat.le_of_ble_eq_true rfl, Nat.le_of_ble_eq_true rfl⟩) ⟨wPc.blind, w_pre hC hM hS _⟩ rfl rfl hl.1 rfl (lv_room (Nat.le_of_ble_eq_true rfl)) dX14_init_5 ⟨Nat.le_refl _, Nat.le_refl _⟩) hS ⟨Nat.le_refl _, Nat.le_refl _⟩ (fun _ _ _ _ _ _ h => False.elim h) (fun M1 H locs hp hM hS => ?_)
  exact x_vret X hr hlk hM hS ⟨Nat.le_refl _, Nat.le_refl _⟩ dX14_init_8 ⟨rfl, hp⟩
def P_X17_init (G : wG) (t0 : Nat) (M : wM) (Q : wM → Prop) : Prop :=
  P_X14_init_X17 G t0 none M (fun M1 => Q M1)
set_option maxHeartbeats 4000000 in
set_option maxRecDepth 100000 in
theorem P_X17_init_ok {l : Launch} (hl0 : l.stackTraces = false) {G : wG} {t0 : Nat} {M : wM} {Q : wM → Prop} (hp : P_X17_init G t0 M Q) : wMet l yX17_init (ws_ yX17_init cX17_init 1 (none)) 15 469 G [.ref t0] M 0 (wqV Q) wX0 := by
  refine vx_ofW (cc := cX17_init) (maxL := 1) (ret := none) (by decide) rfl ?_
  intro p e s m args below meth c s₁ B hml hnt hv
  obtain ⟨rfl, hM, hK, hZ, hz⟩ := hv
  have hC : wC G s := ⟨hK, hZ, hz⟩
  have hx := B.exec
  have hb := B.bytes
  have hr := B.returns
  have hts := atoms_spec (ws := (ws_ yX17_init cX17_init 1 (none))) B.pre
  have hts : ∀ w ∈ lw_all, w.before _ s = true := fun w h => hts w (List.mem_cons_of_mem _ h)
  have hown : s.vm.findClass RX17 = some m.cls := findClass_of_methodNamed B.named
  have hlk := B.notSynchronized
  have hin0 : meth.name = "<init>" := (name_of_methodNamed B.named B.method).1
  have X : CallFix p m c cX17_init 1 s ([.ref t0] : List Value).toArray lw_all RX17 := ⟨hx, hb, hml, hown, hts⟩
  have hS : va_S (wA G) s.heap s.heap [] := va_S.rf
  have hl := lv_entry ([.ref t0]) (n := 1) (Nat.le_of_ble_eq_true rfl)
  rw [lg_entry_eq]
  generalize (lg_sl ([.ref t0]) ++ List.replicate (1 - (lg_sl ([.ref t0])).length) Slot.unset).toArray = ls at hl ⊢
  have hl : lv_has ls 1 [(0, .ref t0)] := hl
  refine lv_aload_n hx hb dX17_init_0 rfl (lv_at hl 0 rfl) ?_
  refine lv_null hx hb dX17_init_1 ?_
  refine x_call0V (vx_runI (As := [va_rf none]) (rest := []) X (P_X14_init_X17_ok (l := l) hl0 hp) (cwI 1 hts (lw_meth q2653) rfl rfl rfl (hts _ q204) (hts _ q2740) (hts _ q2652) rfl (by decide +kernel) ⟨Nat.le_of_ble_eq_true rfl, Nat.le_of_ble_eq_true rfl⟩) ⟨wPc.blind, w_pre hC hM hS _⟩ rfl rfl hl.1 rfl (lv_room (Nat.le_of_ble_eq_true rfl)) dX17_init_2 ⟨Nat.le_refl _, Nat.le_refl _⟩) hS ⟨Nat.le_refl _, Nat.le_refl _⟩ (fun _ _ _ _ _ _ h => False.elim h) (fun M1 H locs hp hM hS => ?_)
  exact x_vret X hr hlk hM hS ⟨Nat.le_refl _, Nat.le_refl _⟩ dX17_init_5 ⟨rfl, hp⟩
def B_X2_checkVisit_31 (G : wG) (Q : wM → Prop) (Xp : String → Nat → wM → Prop) (M : wM) (bq : Nat) : Prop :=
  oNew G M bq 11 [.null, .null, .null, .null, .null, .int 0] (fun a1 M2 b3 => P_X15_init G a1 M2 (fun M4 => (∃ fs, M4 a1 = some (.inr (11, fs))) ∧ wz G ≤ a1 ∧ Xp "ParkingOffice$NoPlace" a1 M4))
def P_X2_checkVisit (G : wG) (t0 : Nat) (p1 : Int32) (p2 : Int32) (p3 : Int32) (b : Nat) (M : wM) (Q : wM → Prop) (Xp : String → Nat → wM → Prop) : Prop :=
  oIs M t0 1 (P_X2_runningAt G t0 p1 M (fun v3 M1 => oIf (v3 = (2 : Int32)) (B_X2_checkVisit_31 G Q Xp M1 b) (oIs M1 t0 1 (P_X2_isVisiting G t0 p2 M1 (fun r6 M4 => oIf (r6 = true) (B_X2_checkVisit_31 G Q Xp M4 b) (oGetA M4 t0 1 2 (fun a7 => oIs M4 a7 16 (P_J2_size G a7 M4 (fun v10 M8 => oIf (v10 = (60 : Int32)) (B_X2_checkVisit_31 G Q Xp M8 b) (oGetA M8 t0 1 7 (fun a11 => oIald .int M8 a11 p1 (fun v12 => oIf (p3 ≤ v12) (Q M8) (oNew G M8 b 13 [.null, .null, .null, .null, .null, .int 0] (fun a13 M14 b15 => P_X17_init G a13 M14 (fun M16 => (∃ fs, M16 a13 = some (.inr (13, fs))) ∧ wz G ≤ a13 ∧ Xp "ParkingOffice$NoHours" a13 M16)))))))))))))))
set_option maxHeartbeats 4000000 in
set_option maxRecDepth 100000 in
theorem P_X2_checkVisit_ok {l : Launch} (hl0 : l.stackTraces = false) {G : wG} {t0 : Nat} {p1 : Int32} {p2 : Int32} {p3 : Int32} {b : Nat} {M : wM} {Q : wM → Prop} {Xp : String → Nat → wM → Prop} (hp : P_X2_checkVisit G t0 p1 p2 p3 b M Q Xp) : wMet l yX2_checkVisit (ws_ yX2_checkVisit cX2_checkVisit 4 (none)) 16 489 G [.ref t0, .int p1, .int p2, .int p3] M b (wqV Q) Xp := by
  refine vx_ofW (cc := cX2_checkVisit) (maxL := 4) (ret := none) (by decide) rfl ?_
  intro p e s m args below meth c s₁ B hml hnt hv
  obtain ⟨rfl, hM, hK, hZ, hz⟩ := hv
  have hC : wC G s := ⟨hK, hZ, hz⟩
  have hx := B.exec
  have hb := B.bytes
  have hr := B.returns
  have hts := atoms_spec (ws := (ws_ yX2_checkVisit cX2_checkVisit 4 (none))) B.pre
  have hts : ∀ w ∈ lw_all, w.before _ s = true := fun w h => hts w (List.mem_cons_of_mem _ h)
  have hown : s.vm.findClass RX2 = some m.cls := findClass_of_methodNamed B.named
  have hlk := B.notSynchronized
  have X : CallFix p m c cX2_checkVisit 4 s ([.ref t0, .int p1, .int p2, .int p3] : List Value).toArray lw_all RX2 := ⟨hx, hb, hml, hown, hts⟩
  have hS : va_S (wA G) s.heap s.heap [] := va_S.rf
  have hl := lv_entry ([.ref t0, .int p1, .int p2, .int p3]) (n := 4) (Nat.le_of_ble_eq_true rfl)
  rw [lg_entry_eq]
  generalize (lg_sl ([.ref t0, .int p1, .int p2, .int p3]) ++ List.replicate (4 - (lg_sl ([.ref t0, .int p1, .int p2, .int p3])).length) Slot.unset).toArray = ls at hl ⊢
  have hl : lv_has ls 4 [(0, .ref t0), (1, .int p1), (2, .int p2), (3, .int p3)] := hl
  have hB : 0 + b ≤ ((headSpec (ws_ yX2_checkVisit cX2_checkVisit 4 (none)) ({ frames := 16, cells := b, slots := b, locals := 489 })).room).cells ∧ 0 + b ≤ ((headSpec (ws_ yX2_checkVisit cX2_checkVisit 4 (none)) ({ frames := 16, cells := b, slots := b, locals := 489 })).room).slots := ⟨Nat.le_of_eq (Nat.zero_add b), Nat.le_of_eq (Nat.zero_add b)⟩
  have hB31 : ∀ (M : wM) (bq : Nat) (H : Heap) (locs : List Loc) (ls : Array Slot) (cells slots : Nat), B_X2_checkVisit_31 G Q Xp M bq → wR G M H → va_S (wA G) s.heap H locs → (cells + bq ≤ ((headSpec (ws_ yX2_checkVisit cX2_checkVisit 4 (none)) ({ frames := 16, cells := b, slots := b, locals := 489 })).room).cells ∧ slots + bq ≤ ((headSpec (ws_ yX2_checkVisit cX2_checkVisit 4 (none)) ({ frames := 16, cells := b, slots := b, locals := 489 })).room).slots) → lv_has ls 4 [] → W p l e (headSpec (ws_ yX2_checkVisit cX2_checkVisit 4 (none)) ({ frames := 16, cells := b, slots := b, locals := 489 })).room s m ([.ref t0, .int p1, .int p2, .int p3] : List Value).toArray below meth c H locs cells slots (vx_MQ below (wQ G (wqV Q)) (wXC G Xp) ([.ref t0, .int p1, .int p2, .int p3] : List Value).toArray s b b (wA G)) (F0 m 31 ls []) := by
    intro M bq H locs ls cells slots hp hM hS hB hl
    refine x_new X hC hM hS hB (ci := 11) (C := RX15) (T := TX15) (N := 6) rfl in_X15 tyX15 tyX15_ok q2635 q2640 q205 rfl (by decide) dX2_checkVisit_31 hp (fun a1 M2 H b3 cells slots hM hS hB hp => ?_)
    refine lv_dup hx hb dX2_checkVisit_34 rfl ?_
    refine x_call0V (vx_runI (As := []) (rest := [.ref a1]) X (P_X15_init_ok (l := l) hl0 hp) (cwI 0 hts (lw_meth q2650) rfl rfl rfl (hts _ q205) (hts _ q2648) (hts _ q2649) rfl (by decide +kernel) ⟨Nat.le_of_ble_eq_true rfl, Nat.le_of_ble_eq_true rfl⟩) ⟨wPc.blind, w_pre hC hM hS _⟩ rfl rfl hl.1 rfl (lv_room (Nat.le_of_ble_eq_true rfl)) dX2_checkVisit_35 (w_room0 hB)) hS (w_room0 hB) (fun _ _ _ _ _ _ h => False.elim h) (fun M4 H locs hp hM hS => ?_)
    refine vx_athrow hx hb dX2_checkVisit_38 ?_
    obtain ⟨ce, h1, h2, h3⟩ := w_exc hC.1 hM (ci := 11) (q := (RX15, TX15, 6)) rfl hp.1 hp.2.1
    exact x_out hlk (fun x h => (hnt x h).elim) hM hS (w_fin hB) h1 h2 h3 hp.2.2
  refine lv_aload_n hx hb dX2_checkVisit_0 rfl (lv_at hl 0 rfl) ?_
  refine lv_iload_n hx hb dX2_checkVisit_1 rfl (lv_at hl 1 rfl) ?_
  obtain ⟨hrec, hp⟩ := hp
  refine x_call0I (vx_runV (As := [.int p1]) (rest := []) X (P_X2_runningAt_ok (l := l) hl0 hp) (cwV 1 hts (lw_V q2723 q2274 qs40 q149 q2275) rfl rfl rfl (by decide +kernel) ⟨Nat.le_of_ble_eq_true rfl, Nat.le_of_ble_eq_true rfl⟩) ⟨wPc.blind, w_recv hC.1 hM (ci := 1) (q := (RX2, TX2, 9)) rfl hrec, w_pre hC hM hS _⟩ rfl rfl hl.1 rfl (lv_room (Nat.le_of_ble_eq_true rfl)) dX2_checkVisit_2 (w_room0 hB)) hS (w_room0 hB) (fun _ _ _ _ _ _ h => False.elim h) (fun v3 M1 H locs hp hM hS => ?_)
  refine lv_iconst (v := 2) hx hb dX2_checkVisit_5 (by decide) ?_
  refine lv_icmp_eq (tgt := 31) hx hb dX2_checkVisit_6 (by decide) (fun hc => ?_) (fun hc => ?_)
  · have hp := oIf.t hp hc
    exact hB31 _ _ _ _ _ _ _ hp hM hS hB (lv_sub hl [] rfl)
  · have hp := oIf.f hp hc
    refine lv_aload_n hx hb dX2_checkVisit_9 rfl (lv_at hl 0 rfl) ?_
    refine lv_iload_n hx hb dX2_checkVisit_10 rfl (lv_at hl 2 rfl) ?_
    obtain ⟨hrec, hp⟩ := hp
    refine x_call0Z (vx_runV (As := [.int p2]) (rest := []) X (P_X2_isVisiting_ok (l := l) hl0 hp) (cwV 1 hts (lw_V q2724 q2726 qs55 q149 q2727) rfl rfl rfl (by decide +kernel) ⟨Nat.le_of_ble_eq_true rfl, Nat.le_of_ble_eq_true rfl⟩) ⟨wPc.blind, w_recv hC.1 hM (ci := 1) (q := (RX2, TX2, 9)) rfl hrec, w_pre hC hM hS _⟩ rfl rfl hl.1 rfl (lv_room (Nat.le_of_ble_eq_true rfl)) dX2_checkVisit_11 (w_room0 hB)) hS (w_room0 hB) (fun _ _ _ _ _ _ h => False.elim h) (fun r6 M4 H locs hp hM hS => ?_)
    refine x_ifneB (tgt := 31) hx hb dX2_checkVisit_14 (by decide) (fun hc => ?_) (fun hc => ?_)
    · have hp := oIf.bt hp hc
      exact hB31 _ _ _ _ _ _ _ hp hM hS hB (lv_sub hl [] rfl)
    · have hp := oIf.bf hp hc
      refine lv_aload_n hx hb dX2_checkVisit_17 rfl (lv_at hl 0 rfl) ?_
      refine x_getA X hC.1 hM (ci := 1) (C := RX2) (T := TX2) (N := 9) rfl in_X2 2 (by decide) q921 (fun _ h9 => h9) dX2_checkVisit_18 hp (fun a7 hp => ?_)
      obtain ⟨hrec, hp⟩ := hp
      refine x_call0I5 (vx_runF (hC.1.1.1 16 (RJ2, TJ2, 3) rfl).2 (C := "java/util/ArrayList") (As := []) (rest := []) X (P_J2_size_ok (l := l) hl0 hp) (va_cwF 0 hts (lw_app (w_mem4 q493 q496 q498 q153) (lw_meth q500)) rfl rfl rfl (wfw_13 hC.1) (by decide +kernel) ⟨Nat.le_of_ble_eq_true rfl, Nat.le_of_ble_eq_true rfl⟩) ⟨wPc.blind, w_recv hC.1 hM (ci := 16) (q := (RJ2, TJ2, 3)) rfl hrec, w_pre hC hM hS _⟩ rfl rfl hl.1 rfl (lv_room (Nat.le_of_ble_eq_true rfl)) dX2_checkVisit_21 (w_room0 hB)) hS (w_room0 hB) (fun _ _ _ _ _ _ h => False.elim h) (fun v10 M8 H locs hp hM hS => ?_)
      refine lv_bipush (v := 60) hx hb dX2_checkVisit_26 (by decide) ?_
      refine lv_icmp_ne (tgt := 39) hx hb dX2_checkVisit_28 (by decide) (fun hc => ?_) (fun hc => ?_)
      · have hp := oIf.f hp hc
        refine lv_aload_n hx hb dX2_checkVisit_39 rfl (lv_at hl 0 rfl) ?_
        refine x_getA X hC.1 hM (ci := 1) (C := RX2) (T := TX2) (N := 9) rfl in_X2 7 (by decide) q931 (fun _ h9 => h9) dX2_checkVisit_40 hp (fun a11 hp => ?_)
        refine lv_iload_n hx hb dX2_checkVisit_43 rfl (lv_at hl 1 rfl) ?_
        refine x_iald X hC.1 hM dX2_checkVisit_44 hp (fun v12 hp => ?_)
        refine lv_iload_n hx hb dX2_checkVisit_45 rfl (lv_at hl 3 rfl) ?_
        refine lv_icmp_ge (tgt := 57) hx hb dX2_checkVisit_46 (by decide) (fun hc => ?_) (fun hc => ?_)
        · have hp := oIf.t hp hc
          exact x_vret X hr hlk hM hS (w_fin hB) dX2_checkVisit_57 ⟨rfl, hp⟩
        · have hp := oIf.f hp hc
          refine x_new X hC hM hS hB (ci := 13) (C := RX17) (T := TX17) (N := 6) rfl in_X17 tyX17 tyX17_ok q2728 q2729 q207 rfl (by decide) dX2_checkVisit_49 hp (fun a13 M14 H b15 cells slots hM hS hB hp => ?_)
          refine lv_dup hx hb dX2_checkVisit_52 rfl ?_
          refine x_call0V (vx_runI (As := []) (rest := [.ref a13]) X (P_X17_init_ok (l := l) hl0 hp) (cwI 0 hts (lw_meth q2739) rfl rfl rfl (hts _ q207) (hts _ q2737) (hts _ q2738) rfl (by decide +kernel) ⟨Nat.le_of_ble_eq_true rfl, Nat.le_of_ble_eq_true rfl⟩) ⟨wPc.blind, w_pre hC hM hS _⟩ rfl rfl hl.1 rfl (lv_room (Nat.le_of_ble_eq_true rfl)) dX2_checkVisit_53 (w_room0 hB)) hS (w_room0 hB) (fun _ _ _ _ _ _ h => False.elim h) (fun M16 H locs hp hM hS => ?_)
          refine vx_athrow hx hb dX2_checkVisit_56 ?_
          obtain ⟨ce, h1, h2, h3⟩ := w_exc hC.1 hM (ci := 13) (q := (RX17, TX17, 6)) rfl hp.1 hp.2.1
          exact x_out hlk (fun x h => (hnt x h).elim) hM hS (w_fin hB) h1 h2 h3 hp.2.2
      · have hp := oIf.t hp hc
        exact hB31 _ _ _ _ _ _ _ hp hM hS hB (lv_sub hl [] rfl)
def B_X1_admit_26 (G : wG) (Q : Int32 → wM → Prop) (Xp : String → Nat → wM → Prop) (y0 : Nat) (M : wM) (bq : Nat) : Prop :=
  7 ≤ bq ∧ ∀ q : Nat, Xp "java/lang/IllegalStateException" q M
def P_X1_admit (G : wG) (t0 : Nat) (p1 : Int32) (p2 : Int32) (p3 : Int32) (b : Nat) (M : wM) (Q : Int32 → wM → Prop) (Xp : String → Nat → wM → Prop) : Prop :=
  oIs M t0 0 (∃ c2, c2 ≤ b ∧ P_X1_checkHouse G t0 p1 c2 M (fun M1 => ∃ c4, c4 ≤ (b - c2) ∧ P_X1_checkPlate G p2 c4 M1 (fun M3 => ∃ c6, c6 ≤ ((b - c2) - c4) ∧ P_X1_checkHours G p3 c6 M3 (fun M5 => oGetA M5 t0 0 0 (fun a7 => oIs M5 a7 1 (∃ c9, c9 ≤ (((b - c2) - c4) - c6) ∧ P_X2_checkVisit G a7 p1 p2 p3 c9 M5 (fun M8 => oIs M8 t0 0 (∃ c11, c11 ≤ ((((b - c2) - c4) - c6) - c9) ∧ P_X1_remember G t0 c11 M8 (fun M10 => oGetA M10 t0 0 0 (fun a12 => oGetA M10 a12 1 7 (fun a13 => oIald .int M10 a13 p1 (fun v14 => oIast G M10 a13 p1 (v14 - p3) (fun M15 => oGetA M15 t0 0 0 (fun a16 => oGetA M15 a16 1 2 (fun a17 => oNew G M15 (((((b - c2) - c4) - c6) - c9) - c11) 10 [.int 0, .int 0, .int 0, .int 0] (fun a18 M19 b20 => oGetA M19 t0 0 0 (fun a21 => oGetI M19 a21 1 8 (fun v22 => oGetA M19 t0 0 0 (fun a23 => oGetI M19 a23 1 8 (fun v24 => P_X10_hours G p3 M19 (fun v27 M25 => P_X13_init G a18 p1 p2 v22 (v24 + v27) M25 (fun M28 => oIs M28 a17 16 (∃ c31, c31 ≤ b20 ∧ P_J2_add G a17 (some a18) c31 M28 (fun r32 M30 => oGetA M30 t0 0 0 (fun a33 => oGetA M30 a33 1 2 (fun a34 => oIs M30 a34 16 (P_J2_size G a34 M30 (fun v37 M35 => Q (v37 - (1 : Int32)) M35)))))))))))))))))))))) (fun E q38 M39 => (E = "ParkingOffice$NoHours" ∧ (B_X1_admit_26 G Q Xp q38 M39 ((((b - c2) - c4) - c6) - c9))) ∨ (E = "ParkingOffice$NoPlace" ∧ (B_X1_admit_26 G Q Xp q38 M39 ((((b - c2) - c4) - c6) - c9))))))) (fun E q40 M41 => (E = "java/lang/IllegalArgumentException" ∧ Xp E q40 M41))) (fun E q42 M43 => (E = "java/lang/IllegalArgumentException" ∧ Xp E q42 M43))) (fun E q44 M45 => (E = "java/lang/IndexOutOfBoundsException" ∧ Xp E q44 M45)))
set_option maxHeartbeats 4000000 in
set_option maxRecDepth 100000 in
theorem P_X1_admit_ok {l : Launch} (hl0 : l.stackTraces = false) {G : wG} {t0 : Nat} {p1 : Int32} {p2 : Int32} {p3 : Int32} {b : Nat} {M : wM} {Q : Int32 → wM → Prop} {Xp : String → Nat → wM → Prop} (hp : P_X1_admit G t0 p1 p2 p3 b M Q Xp) : wMet l yX1_admit (wsW_ yX1_admit cX1_admit 5 (Option.some Jvm.ClassFile.FieldType.int) [((13 : Nat), (23 : Nat), (26 : Nat), (437 : Nat)), ((13 : Nat), (23 : Nat), (26 : Nat), (439 : Nat))]) 20 575 G [.ref t0, .int p1, .int p2, .int p3] M b (wqI Q) Xp := by
  refine vx_ofWH (cc := cX1_admit) (maxL := 5) (ret := Option.some Jvm.ClassFile.FieldType.int) (hh := [((13 : Nat), (23 : Nat), (26 : Nat), (437 : Nat)), ((13 : Nat), (23 : Nat), (26 : Nat), (439 : Nat))]) (by decide) rfl ?_
  intro p e s m args below meth c s₁ B hml hv
  obtain ⟨rfl, hM, hK, hZ, hz⟩ := hv
  have hC : wC G s := ⟨hK, hZ, hz⟩
  have hx := B.exec
  have hb := B.bytes
  have hr := B.returns
  have hts := atoms_spec (ws := (wsW_ yX1_admit cX1_admit 5 (Option.some Jvm.ClassFile.FieldType.int) [((13 : Nat), (23 : Nat), (26 : Nat), (437 : Nat)), ((13 : Nat), (23 : Nat), (26 : Nat), (439 : Nat))])) B.pre
  have htab := vx_table (x := yX1_admit) B (hts _ List.mem_cons_self)
  have hts : ∀ w ∈ lw_all, w.before _ s = true := fun w h => hts w (List.mem_cons_of_mem _ h)
  have hown : s.vm.findClass RX1 = some m.cls := findClass_of_methodNamed B.named
  have hlk := B.notSynchronized
  have X : CallFix p m c cX1_admit 5 s ([.ref t0, .int p1, .int p2, .int p3] : List Value).toArray lw_all RX1 := ⟨hx, hb, hml, hown, hts⟩
  have hS : va_S (wA G) s.heap s.heap [] := va_S.rf
  have hl := lv_entry ([.ref t0, .int p1, .int p2, .int p3]) (n := 5) (Nat.le_of_ble_eq_true rfl)
  rw [lg_entry_eq]
  generalize (lg_sl ([.ref t0, .int p1, .int p2, .int p3]) ++ List.replicate (5 - (lg_sl ([.ref t0, .int p1, .int p2, .int p3])).length) Slot.unset).toArray = ls at hl ⊢
  have hl : lv_has ls 5 [(0, .ref t0), (1, .int p1), (2, .int p2), (3, .int p3)] := hl
  have hB : 0 + b ≤ ((headSpec (wsW_ yX1_admit cX1_admit 5 (Option.some Jvm.ClassFile.FieldType.int) [((13 : Nat), (23 : Nat), (26 : Nat), (437 : Nat)), ((13 : Nat), (23 : Nat), (26 : Nat), (439 : Nat))]) ({ frames := 20, cells := b, slots := b, locals := 575 })).room).cells ∧ 0 + b ≤ ((headSpec (wsW_ yX1_admit cX1_admit 5 (Option.some Jvm.ClassFile.FieldType.int) [((13 : Nat), (23 : Nat), (26 : Nat), (437 : Nat)), ((13 : Nat), (23 : Nat), (26 : Nat), (439 : Nat))]) ({ frames := 20, cells := b, slots := b, locals := 575 })).room).slots := ⟨Nat.le_of_eq (Nat.zero_add b), Nat.le_of_eq (Nat.zero_add b)⟩
  have hB26 : ∀ (y0 : Nat) (M : wM) (bq : Nat) (H : Heap) (locs : List Loc) (ls : Array Slot) (cells slots : Nat), B_X1_admit_26 G Q Xp y0 M bq → wR G M H → va_S (wA G) s.heap H locs → (cells + bq ≤ ((headSpec (wsW_ yX1_admit cX1_admit 5 (Option.some Jvm.ClassFile.FieldType.int) [((13 : Nat), (23 : Nat), (26 : Nat), (437 : Nat)), ((13 : Nat), (23 : Nat), (26 : Nat), (439 : Nat))]) ({ frames := 20, cells := b, slots := b, locals := 575 })).room).cells ∧ slots + bq ≤ ((headSpec (wsW_ yX1_admit cX1_admit 5 (Option.some Jvm.ClassFile.FieldType.int) [((13 : Nat), (23 : Nat), (26 : Nat), (437 : Nat)), ((13 : Nat), (23 : Nat), (26 : Nat), (439 : Nat))]) ({ frames := 20, cells := b, slots := b, locals := 575 })).room).slots) → lv_has ls 5 [] → W p l e (headSpec (wsW_ yX1_admit cX1_admit 5 (Option.some Jvm.ClassFile.FieldType.int) [((13 : Nat), (23 : Nat), (26 : Nat), (437 : Nat)), ((13 : Nat), (23 : Nat), (26 : Nat), (439 : Nat))]) ({ frames := 20, cells := b, slots := b, locals := 575 })).room s m ([.ref t0, .int p1, .int p2, .int p3] : List Value).toArray below meth c H locs cells slots (vx_MQ below (wQ G (wqI Q)) (wXC G Xp) ([.ref t0, .int p1, .int p2, .int p3] : List Value).toArray s b b (wA G)) (F0 m 26 ls [.ref y0]) := by
    intro y0 M bq H locs ls cells slots hp hM hS hB hl
    refine lv_astore (lv' := [(4, .ref y0)]) hx hb dX1_admit_26 hl (by decide) rfl (fun ls hl => ?_)
    exact x_throw0 X hC hl0 hM hS hB ⟨Nat.le_refl _, Nat.le_refl _⟩ (by decide +kernel) (by decide +kernel) q2674 q200 vg_X1_IllegalStateException (w_recat hts hC.1 vt_X1_IllegalStateException) (hl.1.trans hml.symm) dX1_admit_28 dX1_admit_31 dX1_admit_32 dX1_admit_35 (by rw [htab]; decide) (Nat.le_of_ble_eq_true rfl) (Nat.le_of_ble_eq_true rfl) hlk hp.1 hp.2
  refine lv_aload_n hx hb dX1_admit_0 rfl (lv_at hl 0 rfl) ?_
  refine lv_iload_n hx hb dX1_admit_1 rfl (lv_at hl 1 rfl) ?_
  obtain ⟨hrec, hp⟩ := hp
  obtain ⟨c2, hc1, hp⟩ := hp
  refine x_callV (vx_runV (As := [.int p1]) (rest := []) X (P_X1_checkHouse_ok (l := l) hl0 hp) (cwV 1 hts (lw_V q2246 q2248 qs39 q148 q2249) rfl rfl rfl (by decide +kernel) ⟨Nat.le_of_ble_eq_true rfl, Nat.le_of_ble_eq_true rfl⟩) ⟨wPc.blind, w_recv hC.1 hM (ci := 0) (q := (RX1, TX1, 8)) rfl hrec, w_pre hC hM hS _⟩ rfl rfl hl.1 rfl (lv_room (Nat.le_of_ble_eq_true rfl)) dX1_admit_2 (w_room hB hc1)) hS hB hc1 (fun E ce q44 M45 H locs hp hM hS hB hcell hcv hcl => ?_) (fun M1 H locs hp hM hS hB => ?_)
  · obtain ⟨rfl, hp⟩ := hp
    exact x_out hlk (by rw [htab]; decide) hM hS (w_fin hB) hcell hcv hcl hp
  · refine lv_iload_n hx hb dX1_admit_5 rfl (lv_at hl 2 rfl) ?_
    obtain ⟨c4, hc1, hp⟩ := hp
    refine x_callV (vx_runS (As := [.int p2]) (rest := []) X (P_X1_checkPlate_ok (l := l) hl0 hp) (va_cwS 1 hts (lw_S q2451 q2452 q148 q2453) rfl rfl rfl (by decide +kernel) ⟨Nat.le_of_ble_eq_true rfl, Nat.le_of_ble_eq_true rfl⟩) ⟨wPc.blind, w_pre hC hM hS _⟩ rfl rfl hl.1 rfl (lv_room (Nat.le_of_ble_eq_true rfl)) dX1_admit_6 (w_room hB hc1)) hS hB hc1 (fun E ce q42 M43 H locs hp hM hS hB hcell hcv hcl => ?_) (fun M3 H locs hp hM hS hB => ?_)
    · obtain ⟨rfl, hp⟩ := hp
      exact x_out hlk (by rw [htab]; decide) hM hS (w_fin hB) hcell hcv hcl hp
    · refine lv_iload_n hx hb dX1_admit_9 rfl (lv_at hl 3 rfl) ?_
      obtain ⟨c6, hc1, hp⟩ := hp
      refine x_callV (vx_runS (As := [.int p3]) (rest := []) X (P_X1_checkHours_ok (l := l) hl0 hp) (va_cwS 1 hts (lw_S q2716 q2717 q148 q2718) rfl rfl rfl (by decide +kernel) ⟨Nat.le_of_ble_eq_true rfl, Nat.le_of_ble_eq_true rfl⟩) ⟨wPc.blind, w_pre hC hM hS _⟩ rfl rfl hl.1 rfl (lv_room (Nat.le_of_ble_eq_true rfl)) dX1_admit_10 (w_room hB hc1)) hS hB hc1 (fun E ce q40 M41 H locs hp hM hS hB hcell hcv hcl => ?_) (fun M5 H locs hp hM hS hB => ?_)
      · obtain ⟨rfl, hp⟩ := hp
        exact x_out hlk (by rw [htab]; decide) hM hS (w_fin hB) hcell hcv hcl hp
      · refine lv_aload_n hx hb dX1_admit_13 rfl (lv_at hl 0 rfl) ?_
        refine x_getA X hC.1 hM (ci := 0) (C := RX1) (T := TX1) (N := 8) rfl in_X1 0 (by decide) q973 (fun _ h9 => h9) dX1_admit_14 hp (fun a7 hp => ?_)
        refine lv_iload_n hx hb dX1_admit_17 rfl (lv_at hl 1 rfl) ?_
        refine lv_iload_n hx hb dX1_admit_18 rfl (lv_at hl 2 rfl) ?_
        refine lv_iload_n hx hb dX1_admit_19 rfl (lv_at hl 3 rfl) ?_
        obtain ⟨hrec, hp⟩ := hp
        obtain ⟨c9, hc1, hp⟩ := hp
        refine x_callV (vx_runV (As := [.int p1, .int p2, .int p3]) (rest := []) X (P_X2_checkVisit_ok (l := l) hl0 hp) (cwV 3 hts (lw_V q2719 q2720 q2721 q149 q2722) rfl rfl rfl (by decide +kernel) ⟨Nat.le_of_ble_eq_true rfl, Nat.le_of_ble_eq_true rfl⟩) ⟨wPc.blind, w_recv hC.1 hM (ci := 1) (q := (RX2, TX2, 9)) rfl hrec, w_pre hC hM hS _⟩ rfl rfl hl.1 rfl (lv_room (Nat.le_of_ble_eq_true rfl)) dX1_admit_20 (w_room hB hc1)) hS hB hc1 (fun E ce q38 M39 H locs hp hM hS hB hcell hcv hcl => ?_) (fun M8 H locs hp hM hS hB => ?_)
        · rcases hp with ⟨rfl, hp⟩ | ⟨rfl, hp⟩
          · refine vx_catch (own := "ParkingOffice") (name := "ParkingOffice$NoHours") (E := "ParkingOffice$NoHours") hown [⟨13, 23, 26, 437⟩] ⟨13, 23, 26, 439⟩ [] (by rw [htab]; rfl) (List.forall_mem_cons.mpr ⟨(Or.inr ⟨by decide, "ParkingOffice$NoPlace", hts _ q2714, hC.1.2.2.2.2.2.1 ("ParkingOffice$NoHours", "ParkingOffice$NoPlace") (List.mem_of_getElem? (i := 39) rfl)⟩), (fun _ h => absurd h List.not_mem_nil)⟩) (by decide) (by decide) (hts _ q2715) (va_Nw.use rfl (hC.1.2.2.1 _ q2730 rfl)) hcell hcv hcl ?_
            exact hB26 _ _ _ _ _ _ _ _ hp hM hS hB (lv_sub hl [] rfl)
          · refine vx_catch (own := "ParkingOffice") (name := "ParkingOffice$NoPlace") (E := "ParkingOffice$NoPlace") hown [] ⟨13, 23, 26, 437⟩ [⟨13, 23, 26, 439⟩] (by rw [htab]; rfl) (fun _ h => absurd h List.not_mem_nil) (by decide) (by decide) (hts _ q2714) (va_Nw.use rfl (hC.1.2.2.1 _ q2641 rfl)) hcell hcv hcl ?_
            exact hB26 _ _ _ _ _ _ _ _ hp hM hS hB (lv_sub hl [] rfl)
        · refine lv_goto (tgt := 36) hx hb dX1_admit_23 (by decide) ?_
          refine lv_aload_n hx hb dX1_admit_36 rfl (lv_at hl 0 rfl) ?_
          obtain ⟨hrec, hp⟩ := hp
          obtain ⟨c11, hc1, hp⟩ := hp
          refine x_callV (vx_runV (As := []) (rest := []) X (P_X1_remember_ok (l := l) hl0 hp) (cwV 0 hts (lw_V q2543 q2545 qs49 q148 q2546) rfl rfl rfl (by decide +kernel) ⟨Nat.le_of_ble_eq_true rfl, Nat.le_of_ble_eq_true rfl⟩) ⟨wPc.blind, w_recv hC.1 hM (ci := 0) (q := (RX1, TX1, 8)) rfl hrec, w_pre hC hM hS _⟩ rfl rfl hl.1 rfl (lv_room (Nat.le_of_ble_eq_true rfl)) dX1_admit_37 (w_room hB hc1)) hS hB hc1 (fun _ _ _ _ _ _ h => False.elim h) (fun M10 H locs hp hM hS hB => ?_)
          refine lv_aload_n hx hb dX1_admit_40 rfl (lv_at hl 0 rfl) ?_
          refine x_getA X hC.1 hM (ci := 0) (C := RX1) (T := TX1) (N := 8) rfl in_X1 0 (by decide) q973 (fun _ h9 => h9) dX1_admit_41 hp (fun a12 hp => ?_)
          refine x_getAN X hC.1 hM (ci := 1) (C := RX2) (T := TX2) (N := 9) rfl in_X2 7 (by decide) q932 (fun _ h9 => h9) dX1_admit_44 hp (fun a13 hp => ?_)
          refine lv_iload_n hx hb dX1_admit_47 rfl (lv_at hl 1 rfl) ?_
          refine lv_dup2_11 hx hb dX1_admit_48 rfl rfl ?_
          refine x_iald X hC.1 hM dX1_admit_49 hp (fun v14 hp => ?_)
          refine lv_iload_n hx hb dX1_admit_50 rfl (lv_at hl 3 rfl) ?_
          refine lv_isub hx hb dX1_admit_51 ?_
          refine x_iast X hC.1 hM hS dX1_admit_52 hp (fun M15 H locs hM hS hp => ?_)
          refine lv_aload_n hx hb dX1_admit_53 rfl (lv_at hl 0 rfl) ?_
          refine x_getA X hC.1 hM (ci := 0) (C := RX1) (T := TX1) (N := 8) rfl in_X1 0 (by decide) q973 (fun _ h9 => h9) dX1_admit_54 hp (fun a16 hp => ?_)
          refine x_getAN X hC.1 hM (ci := 1) (C := RX2) (T := TX2) (N := 9) rfl in_X2 2 (by decide) q922 (fun _ h9 => h9) dX1_admit_57 hp (fun a17 hp => ?_)
          refine x_new X hC hM hS hB (ci := 10) (C := RX13) (T := TX13) (N := 4) rfl in_X13 tyX13 tyX13_ok q2434 q2144 q203 rfl (by decide) dX1_admit_60 hp (fun a18 M19 H b20 cells slots hM hS hB hp => ?_)
          refine lv_dup hx hb dX1_admit_63 rfl ?_
          refine lv_iload_n hx hb dX1_admit_64 rfl (lv_at hl 1 rfl) ?_
          refine lv_iload_n hx hb dX1_admit_65 rfl (lv_at hl 2 rfl) ?_
          refine lv_aload_n hx hb dX1_admit_66 rfl (lv_at hl 0 rfl) ?_
          refine x_getA X hC.1 hM (ci := 0) (C := RX1) (T := TX1) (N := 8) rfl in_X1 0 (by decide) q973 (fun _ h9 => h9) dX1_admit_67 hp (fun a21 hp => ?_)
          refine x_getIN X hC.1 hM (ci := 1) (C := RX2) (T := TX2) (N := 9) rfl in_X2 8 (by decide) q934 (fun _ h9 => h9) dX1_admit_70 hp (fun v22 hp => ?_)
          refine lv_aload_n hx hb dX1_admit_73 rfl (lv_at hl 0 rfl) ?_
          refine x_getA X hC.1 hM (ci := 0) (C := RX1) (T := TX1) (N := 8) rfl in_X1 0 (by decide) q973 (fun _ h9 => h9) dX1_admit_74 hp (fun a23 hp => ?_)
          refine x_getIN X hC.1 hM (ci := 1) (C := RX2) (T := TX2) (N := 9) rfl in_X2 8 (by decide) q934 (fun _ h9 => h9) dX1_admit_77 hp (fun v24 hp => ?_)
          refine lv_iload_n hx hb dX1_admit_80 rfl (lv_at hl 3 rfl) ?_
          refine x_call0I (vx_runS (As := [.int p3]) (rest := [.int v24, .int v22, .int p2, .int p1, .ref a18, .ref a18, .ref a17]) X (P_X10_hours_ok (l := l) hl0 hp) (va_cwS 1 hts (lw_S q2743 q2298 q197 q2299) rfl rfl rfl (by decide +kernel) ⟨Nat.le_of_ble_eq_true rfl, Nat.le_of_ble_eq_true rfl⟩) ⟨wPc.blind, w_pre hC hM hS _⟩ rfl rfl hl.1 rfl (lv_room (Nat.le_of_ble_eq_true rfl)) dX1_admit_81 (w_room0 hB)) hS (w_room0 hB) (fun _ _ _ _ _ _ h => False.elim h) (fun v27 M25 H locs hp hM hS => ?_)
          refine lv_iadd hx hb dX1_admit_84 ?_
          refine x_call0V (vx_runI (As := [.int p1, .int p2, .int v22, .int (v24 + v27)]) (rest := [.ref a18, .ref a17]) X (P_X13_init_ok (l := l) hl0 hp) (cwI 4 hts (lw_meth q2147) rfl rfl rfl (hts _ q203) (hts _ q2744) (hts _ q2146) rfl (by decide +kernel) ⟨Nat.le_of_ble_eq_true rfl, Nat.le_of_ble_eq_true rfl⟩) ⟨wPc.blind, w_pre hC hM hS _⟩ rfl rfl hl.1 rfl (lv_room (Nat.le_of_ble_eq_true rfl)) dX1_admit_85 (w_room0 hB)) hS (w_room0 hB) (fun _ _ _ _ _ _ h => False.elim h) (fun M28 H locs hp hM hS => ?_)
          obtain ⟨hrec, hp⟩ := hp
          obtain ⟨c31, hc1, hp⟩ := hp
          refine x_callZ5 (vx_runF (hC.1.1.1 16 (RJ2, TJ2, 3) rfl).2 (C := "java/util/ArrayList") (As := [va_rf (some a18)]) (rest := []) X (P_J2_add_ok (l := l) hl0 hp) (va_cwF 1 hts (lw_app (w_mem4 q2681 q266 q268 q153) (lw_meth q270)) rfl rfl rfl (wfw_5 hC.1) (by decide +kernel) ⟨Nat.le_of_ble_eq_true rfl, Nat.le_of_ble_eq_true rfl⟩) ⟨wPc.blind, w_recv hC.1 hM (ci := 16) (q := (RJ2, TJ2, 3)) rfl hrec, w_pre hC hM hS _⟩ rfl rfl hl.1 rfl (lv_room (Nat.le_of_ble_eq_true rfl)) dX1_admit_88 (w_room hB hc1)) hS hB hc1 (fun _ _ _ _ _ _ h => False.elim h) (fun r32 M30 H locs hp hM hS hB => ?_)
          refine lv_pop hx hb dX1_admit_93 rfl ?_
          refine lv_aload_n hx hb dX1_admit_94 rfl (lv_at hl 0 rfl) ?_
          refine x_getA X hC.1 hM (ci := 0) (C := RX1) (T := TX1) (N := 8) rfl in_X1 0 (by decide) q973 (fun _ h9 => h9) dX1_admit_95 hp (fun a33 hp => ?_)
          refine x_getAN X hC.1 hM (ci := 1) (C := RX2) (T := TX2) (N := 9) rfl in_X2 2 (by decide) q922 (fun _ h9 => h9) dX1_admit_98 hp (fun a34 hp => ?_)
          obtain ⟨hrec, hp⟩ := hp
          refine x_call0I5 (vx_runF (hC.1.1.1 16 (RJ2, TJ2, 3) rfl).2 (C := "java/util/ArrayList") (As := []) (rest := []) X (P_J2_size_ok (l := l) hl0 hp) (va_cwF 0 hts (lw_app (w_mem4 q1540 q496 q498 q153) (lw_meth q500)) rfl rfl rfl (wfw_13 hC.1) (by decide +kernel) ⟨Nat.le_of_ble_eq_true rfl, Nat.le_of_ble_eq_true rfl⟩) ⟨wPc.blind, w_recv hC.1 hM (ci := 16) (q := (RJ2, TJ2, 3)) rfl hrec, w_pre hC hM hS _⟩ rfl rfl hl.1 rfl (lv_room (Nat.le_of_ble_eq_true rfl)) dX1_admit_101 (w_room0 hB)) hS (w_room0 hB) (fun _ _ _ _ _ _ h => False.elim h) (fun v37 M35 H locs hp hM hS => ?_)
          refine lv_iconst (v := 1) hx hb dX1_admit_106 (by decide) ?_
          refine lv_isub hx hb dX1_admit_107 ?_
          exact x_iret X hr hlk hM hS (w_fin hB) dX1_admit_108 ⟨_, rfl, hp⟩
def P_X1_checkRule (G : wG) (p1 : Int32) (b : Nat) (M : wM) (Q : wM → Prop) (Xp : String → Nat → wM → Prop) : Prop :=
  P_X1_inRange G p1 (1 : Int32) (6 : Int32) M (fun r3 M1 => ∃ c5, c5 ≤ b ∧ P_X1_checkArgument G (wb r3) c5 M1 (fun M4 => Q M4) (fun E q6 M7 => (E = "java/lang/IllegalArgumentException" ∧ Xp E q6 M7)))
set_option maxHeartbeats 4000000 in
set_option maxRecDepth 100000 in
theorem P_X1_checkRule_ok {l : Launch} (hl0 : l.stackTraces = false) {G : wG} {p1 : Int32} {b : Nat} {M : wM} {Q : wM → Prop} {Xp : String → Nat → wM → Prop} (hp : P_X1_checkRule G p1 b M Q Xp) : wMet l yX1_checkRule (ws_ yX1_checkRule cX1_checkRule 1 (none)) 13 422 G [.int p1] M b (wqV Q) Xp := by
  refine vx_ofW (cc := cX1_checkRule) (maxL := 1) (ret := none) (by decide) rfl ?_
  intro p e s m args below meth c s₁ B hml hnt hv
  obtain ⟨rfl, hM, hK, hZ, hz⟩ := hv
  have hC : wC G s := ⟨hK, hZ, hz⟩
  have hx := B.exec
  have hb := B.bytes
  have hr := B.returns
  have hts := atoms_spec (ws := (ws_ yX1_checkRule cX1_checkRule 1 (none))) B.pre
  have hts : ∀ w ∈ lw_all, w.before _ s = true := fun w h => hts w (List.mem_cons_of_mem _ h)
  have hown : s.vm.findClass RX1 = some m.cls := findClass_of_methodNamed B.named
  have hlk := B.notSynchronized
  have X : CallFix p m c cX1_checkRule 1 s ([.int p1] : List Value).toArray lw_all RX1 := ⟨hx, hb, hml, hown, hts⟩
  have hS : va_S (wA G) s.heap s.heap [] := va_S.rf
  have hl := lv_entry ([.int p1]) (n := 1) (Nat.le_of_ble_eq_true rfl)
  rw [lg_entry_eq]
  generalize (lg_sl ([.int p1]) ++ List.replicate (1 - (lg_sl ([.int p1])).length) Slot.unset).toArray = ls at hl ⊢
  have hl : lv_has ls 1 [(0, .int p1)] := hl
  have hB : 0 + b ≤ ((headSpec (ws_ yX1_checkRule cX1_checkRule 1 (none)) ({ frames := 13, cells := b, slots := b, locals := 422 })).room).cells ∧ 0 + b ≤ ((headSpec (ws_ yX1_checkRule cX1_checkRule 1 (none)) ({ frames := 13, cells := b, slots := b, locals := 422 })).room).slots := ⟨Nat.le_of_eq (Nat.zero_add b), Nat.le_of_eq (Nat.zero_add b)⟩
  refine lv_iload_n hx hb dX1_checkRule_0 rfl (lv_at hl 0 rfl) ?_
  refine lv_iconst (v := 1) hx hb dX1_checkRule_1 (by decide) ?_
  refine lv_bipush (v := 6) hx hb dX1_checkRule_2 (by decide) ?_
  refine x_call0Z (vx_runS (As := [.int p1, .int (1 : Int32), .int (6 : Int32)]) (rest := []) X (P_X1_inRange_ok (l := l) hl0 hp) (va_cwS 3 hts (lw_S q1012 q1013 q148 q1014) rfl rfl rfl (by decide +kernel) ⟨Nat.le_of_ble_eq_true rfl, Nat.le_of_ble_eq_true rfl⟩) ⟨wPc.blind, w_pre hC hM hS _⟩ rfl rfl hl.1 rfl (lv_room (Nat.le_of_ble_eq_true rfl)) dX1_checkRule_4 (w_room0 hB)) hS (w_room0 hB) (fun _ _ _ _ _ _ h => False.elim h) (fun r3 M1 H locs hp hM hS => ?_)
  obtain ⟨c5, hc1, hp⟩ := hp
  refine x_callV (vx_runS (As := [.int (wb r3)]) (rest := []) X (P_X1_checkArgument_ok (l := l) hl0 hp) (va_cwS 1 hts (lw_S q2325 q2326 q148 q2327) rfl rfl rfl (by decide +kernel) ⟨Nat.le_of_ble_eq_true rfl, Nat.le_of_ble_eq_true rfl⟩) ⟨wPc.blind, w_pre hC hM hS _⟩ rfl rfl hl.1 rfl (lv_room (Nat.le_of_ble_eq_true rfl)) dX1_checkRule_7 (w_room hB hc1)) hS hB hc1 (fun E ce q6 M7 H locs hp hM hS hB hcell hcv hcl => ?_) (fun M4 H locs hp hM hS hB => ?_)
  · obtain ⟨rfl, hp⟩ := hp
    exact x_out hlk (fun x h => (hnt x h).elim) hM hS (w_fin hB) hcell hcv hcl hp
  · exact x_vret X hr hlk hM hS (w_fin hB) dX1_checkRule_10 ⟨rfl, hp⟩
def P_X1_amount (G : wG) (t0 : Nat) (p1 : Int32) (b : Nat) (M : wM) (Q : Int32 → wM → Prop) (Xp : String → Nat → wM → Prop) : Prop :=
  ∃ c2, c2 ≤ b ∧ P_X1_checkRule G p1 c2 M (fun M1 => oIs M1 t0 0 (P_X1_setup G t0 M1 (fun r5 M3 => oRef r5 (fun a6 => oGetA M3 a6 2 4 (fun a7 => oIald .int M3 a7 p1 (fun v8 => Q v8 M3)))))) (fun E q9 M10 => (E = "java/lang/IllegalArgumentException" ∧ Xp E q9 M10))
set_option maxHeartbeats 4000000 in
set_option maxRecDepth 100000 in
theorem P_X1_amount_ok {l : Launch} (hl0 : l.stackTraces = false) {G : wG} {t0 : Nat} {p1 : Int32} {b : Nat} {M : wM} {Q : Int32 → wM → Prop} {Xp : String → Nat → wM → Prop} (hp : P_X1_amount G t0 p1 b M Q Xp) : wMet l yX1_amount (ws_ yX1_amount cX1_amount 2 (Option.some Jvm.ClassFile.FieldType.int)) 14 442 G [.ref t0, .int p1] M b (wqI Q) Xp := by
  refine vx_ofW (cc := cX1_amount) (maxL := 2) (ret := Option.some Jvm.ClassFile.FieldType.int) (by decide) rfl ?_
  intro p e s m args below meth c s₁ B hml hnt hv
  obtain ⟨rfl, hM, hK, hZ, hz⟩ := hv
  have hC : wC G s := ⟨hK, hZ, hz⟩
  have hx := B.exec
  have hb := B.bytes
  have hr := B.returns
  have hts := atoms_spec (ws := (ws_ yX1_amount cX1_amount 2 (Option.some Jvm.ClassFile.FieldType.int))) B.pre
  have hts : ∀ w ∈ lw_all, w.before _ s = true := fun w h => hts w (List.mem_cons_of_mem _ h)
  have hown : s.vm.findClass RX1 = some m.cls := findClass_of_methodNamed B.named
  have hlk := B.notSynchronized
  have X : CallFix p m c cX1_amount 2 s ([.ref t0, .int p1] : List Value).toArray lw_all RX1 := ⟨hx, hb, hml, hown, hts⟩
  have hS : va_S (wA G) s.heap s.heap [] := va_S.rf
  have hl := lv_entry ([.ref t0, .int p1]) (n := 2) (Nat.le_of_ble_eq_true rfl)
  rw [lg_entry_eq]
  generalize (lg_sl ([.ref t0, .int p1]) ++ List.replicate (2 - (lg_sl ([.ref t0, .int p1])).length) Slot.unset).toArray = ls at hl ⊢
  have hl : lv_has ls 2 [(0, .ref t0), (1, .int p1)] := hl
  have hB : 0 + b ≤ ((headSpec (ws_ yX1_amount cX1_amount 2 (Option.some Jvm.ClassFile.FieldType.int)) ({ frames := 14, cells := b, slots := b, locals := 442 })).room).cells ∧ 0 + b ≤ ((headSpec (ws_ yX1_amount cX1_amount 2 (Option.some Jvm.ClassFile.FieldType.int)) ({ frames := 14, cells := b, slots := b, locals := 442 })).room).slots := ⟨Nat.le_of_eq (Nat.zero_add b), Nat.le_of_eq (Nat.zero_add b)⟩
  refine lv_iload_n hx hb dX1_amount_0 rfl (lv_at hl 1 rfl) ?_
  obtain ⟨c2, hc1, hp⟩ := hp
  refine x_callV (vx_runS (As := [.int p1]) (rest := []) X (P_X1_checkRule_ok (l := l) hl0 hp) (va_cwS 1 hts (lw_S q2322 q2323 q148 q2324) rfl rfl rfl (by decide +kernel) ⟨Nat.le_of_ble_eq_true rfl, Nat.le_of_ble_eq_true rfl⟩) ⟨wPc.blind, w_pre hC hM hS _⟩ rfl rfl hl.1 rfl (lv_room (Nat.le_of_ble_eq_true rfl)) dX1_amount_1 (w_room hB hc1)) hS hB hc1 (fun E ce q9 M10 H locs hp hM hS hB hcell hcv hcl => ?_) (fun M1 H locs hp hM hS hB => ?_)
  · obtain ⟨rfl, hp⟩ := hp
    exact x_out hlk (fun x h => (hnt x h).elim) hM hS (w_fin hB) hcell hcv hcl hp
  · refine lv_aload_n hx hb dX1_amount_4 rfl (lv_at hl 0 rfl) ?_
    obtain ⟨hrec, hp⟩ := hp
    refine x_call0R (vx_runV (As := []) (rest := []) X (P_X1_setup_ok (l := l) hl0 hp) (cwV 0 hts (lw_V q1535 q1537 qs29 q148 q1538) rfl rfl rfl (by decide +kernel) ⟨Nat.le_of_ble_eq_true rfl, Nat.le_of_ble_eq_true rfl⟩) ⟨wPc.blind, w_recv hC.1 hM (ci := 0) (q := (RX1, TX1, 8)) rfl hrec, w_pre hC hM hS _⟩ rfl rfl hl.1 rfl (lv_room (Nat.le_of_ble_eq_true rfl)) dX1_amount_5 (w_room0 hB)) hS (w_room0 hB) (fun _ _ _ _ _ _ h => False.elim h) (fun r5 M3 H locs hp hM hS => ?_)
    obtain ⟨a6, ea, hqa6⟩ := hp
    subst ea
    have hp := hqa6
    refine x_getAN X hC.1 hM (ci := 2) (C := RX3) (T := TX3) (N := 8) rfl in_X3 4 (by decide) q412 (fun _ h9 => h9) dX1_amount_8 hp (fun a7 hp => ?_)
    refine lv_iload_n hx hb dX1_amount_11 rfl (lv_at hl 1 rfl) ?_
    refine x_iald X hC.1 hM dX1_amount_12 hp (fun v8 hp => ?_)
    exact x_iret X hr hlk hM hS (w_fin hB) dX1_amount_13 ⟨_, rfl, hp⟩
def P_X19_init (G : wG) (t0 : Nat) (p1 : Int32) (p2 : Int32) (p3 : Int32) (p4 : Int32) (p5 : Int32) (p6 : Int32) (M : wM) (Q : wM → Prop) : Prop :=
  oPut G M t0 15 0 (.int p1) (fun M1 => oPut G M1 t0 15 1 (.int p2) (fun M2 => oPut G M2 t0 15 2 (.int p3) (fun M3 => oPut G M3 t0 15 3 (.int p4) (fun M4 => oPut G M4 t0 15 4 (.int p5) (fun M5 => oPut G M5 t0 15 5 (.int p6) (fun M6 => Q M6))))))
set_option maxHeartbeats 4000000 in
set_option maxRecDepth 100000 in
theorem P_X19_init_ok {l : Launch} (hl0 : l.stackTraces = false) {G : wG} {t0 : Nat} {p1 : Int32} {p2 : Int32} {p3 : Int32} {p4 : Int32} {p5 : Int32} {p6 : Int32} {M : wM} {Q : wM → Prop} (hp : P_X19_init G t0 p1 p2 p3 p4 p5 p6 M Q) : wMet l yX19_init (ws_ yX19_init cX19_init 7 (none)) 12 400 G [.ref t0, .int p1, .int p2, .int p3, .int p4, .int p5, .int p6] M 0 (wqV Q) wX0 := by
  refine vx_ofW (cc := cX19_init) (maxL := 7) (ret := none) (by decide) rfl ?_
  intro p e s m args below meth c s₁ B hml hnt hv
  obtain ⟨rfl, hM, hK, hZ, hz⟩ := hv
  have hC : wC G s := ⟨hK, hZ, hz⟩
  have hx := B.exec
  have hb := B.bytes
  have hr := B.returns
  have hts := atoms_spec (ws := (ws_ yX19_init cX19_init 7 (none))) B.pre
  have hts : ∀ w ∈ lw_all, w.before _ s = true := fun w h => hts w (List.mem_cons_of_mem _ h)
  have hown : s.vm.findClass RX19 = some m.cls := findClass_of_methodNamed B.named
  have hlk := B.notSynchronized
  have hin0 : meth.name = "<init>" := (name_of_methodNamed B.named B.method).1
  have X : CallFix p m c cX19_init 7 s ([.ref t0, .int p1, .int p2, .int p3, .int p4, .int p5, .int p6] : List Value).toArray lw_all RX19 := ⟨hx, hb, hml, hown, hts⟩
  have hS : va_S (wA G) s.heap s.heap [] := va_S.rf
  have hl := lv_entry ([.ref t0, .int p1, .int p2, .int p3, .int p4, .int p5, .int p6]) (n := 7) (Nat.le_of_ble_eq_true rfl)
  rw [lg_entry_eq]
  generalize (lg_sl ([.ref t0, .int p1, .int p2, .int p3, .int p4, .int p5, .int p6]) ++ List.replicate (7 - (lg_sl ([.ref t0, .int p1, .int p2, .int p3, .int p4, .int p5, .int p6])).length) Slot.unset).toArray = ls at hl ⊢
  have hl : lv_has ls 7 [(0, .ref t0), (1, .int p1), (2, .int p2), (3, .int p3), (4, .int p4), (5, .int p5), (6, .int p6)] := hl
  refine lv_aload_n hx hb dX19_init_0 rfl (lv_at hl 0 rfl) ?_
  refine W.objInit hx hb hown (hts _ q2900) (hts _ q218) (hts _ q219) rfl (by rw [hml]; exact hl.1) rfl dX19_init_1 (Nat.le_of_ble_eq_true rfl) (Nat.le_of_ble_eq_true rfl) ?_
  refine W.eq (g2 := F0 m 4 ls []) rfl ?_
  refine lv_aload_n hx hb dX19_init_4 rfl (lv_at hl 0 rfl) ?_
  refine lv_iload_n hx hb dX19_init_5 rfl (lv_at hl 1 rfl) ?_
  refine x_putF X hC.1 hM hS (ci := 15) (C := RX19) (T := TX19) (N := 6) rfl in_X19 tyX19 tyX19_ok nmX19 0 (by decide) q2901 (fun _ h9 => h9) rfl hin0 rfl rfl rfl dX19_init_6 hp (fun M1 H locs hM hS hp => ?_)
  refine lv_aload_n hx hb dX19_init_9 rfl (lv_at hl 0 rfl) ?_
  refine lv_iload_n hx hb dX19_init_10 rfl (lv_at hl 2 rfl) ?_
  refine x_putF X hC.1 hM hS (ci := 15) (C := RX19) (T := TX19) (N := 6) rfl in_X19 tyX19 tyX19_ok nmX19 1 (by decide) q2904 (fun _ h9 => h9) rfl hin0 rfl rfl rfl dX19_init_11 hp (fun M2 H locs hM hS hp => ?_)
  refine lv_aload_n hx hb dX19_init_14 rfl (lv_at hl 0 rfl) ?_
  refine lv_iload_n hx hb dX19_init_15 rfl (lv_at hl 3 rfl) ?_
  refine x_putF X hC.1 hM hS (ci := 15) (C := RX19) (T := TX19) (N := 6) rfl in_X19 tyX19 tyX19_ok nmX19 2 (by decide) q2906 (fun _ h9 => h9) rfl hin0 rfl rfl rfl dX19_init_16 hp (fun M3 H locs hM hS hp => ?_)
  refine lv_aload_n hx hb dX19_init_19 rfl (lv_at hl 0 rfl) ?_
  refine lv_iload hx hb dX19_init_20 (lv_at hl 4 rfl) ?_
  refine x_putF X hC.1 hM hS (ci := 15) (C := RX19) (T := TX19) (N := 6) rfl in_X19 tyX19 tyX19_ok nmX19 3 (by decide) q2909 (fun _ h9 => h9) rfl hin0 rfl rfl rfl dX19_init_22 hp (fun M4 H locs hM hS hp => ?_)
  refine lv_aload_n hx hb dX19_init_25 rfl (lv_at hl 0 rfl) ?_
  refine lv_iload hx hb dX19_init_26 (lv_at hl 5 rfl) ?_
  refine x_putF X hC.1 hM hS (ci := 15) (C := RX19) (T := TX19) (N := 6) rfl in_X19 tyX19 tyX19_ok nmX19 4 (by decide) q2911 (fun _ h9 => h9) rfl hin0 rfl rfl rfl dX19_init_28 hp (fun M5 H locs hM hS hp => ?_)
  refine lv_aload_n hx hb dX19_init_31 rfl (lv_at hl 0 rfl) ?_
  refine lv_iload hx hb dX19_init_32 (lv_at hl 6 rfl) ?_
  refine x_putF X hC.1 hM hS (ci := 15) (C := RX19) (T := TX19) (N := 6) rfl in_X19 tyX19 tyX19_ok nmX19 5 (by decide) q2913 (fun _ h9 => h9) rfl hin0 rfl rfl rfl dX19_init_34 hp (fun M6 H locs hM hS hp => ?_)
  exact x_vret X hr hlk hM hS ⟨Nat.le_refl _, Nat.le_refl _⟩ dX19_init_37 ⟨rfl, hp⟩
def P_X19_as (G : wG) (t0 : Nat) (p1 : Int32) (b : Nat) (M : wM) (Q : Option Nat → wM → Prop) : Prop :=
  oNew G M b 15 [.int 0, .int 0, .int 0, .int 0, .int 0, .int 0] (fun a1 M2 b3 => oGetI M2 t0 15 0 (fun v4 => oGetI M2 t0 15 1 (fun v5 => oGetI M2 t0 15 2 (fun v6 => oGetI M2 t0 15 3 (fun v7 => oGetI M2 t0 15 4 (fun v8 => P_X19_init G a1 v4 v5 v6 v7 v8 p1 M2 (fun M9 => Q (some a1) M9)))))))
set_option maxHeartbeats 4000000 in
set_option maxRecDepth 100000 in
theorem P_X19_as_ok {l : Launch} (hl0 : l.stackTraces = false) {G : wG} {t0 : Nat} {p1 : Int32} {b : Nat} {M : wM} {Q : Option Nat → wM → Prop} (hp : P_X19_as G t0 p1 b M Q) : wMet l yX19_as (ws_ yX19_as cX19_as 2 (Option.some (Jvm.ClassFile.FieldType.object "ParkingOffice$Fine"))) 13 426 G [.ref t0, .int p1] M b (wqR Q) wX0 := by
  refine vx_ofW (cc := cX19_as) (maxL := 2) (ret := Option.some (Jvm.ClassFile.FieldType.object "ParkingOffice$Fine")) (by decide) rfl ?_
  intro p e s m args below meth c s₁ B hml hnt hv
  obtain ⟨rfl, hM, hK, hZ, hz⟩ := hv
  have hC : wC G s := ⟨hK, hZ, hz⟩
  have hx := B.exec
  have hb := B.bytes
  have hr := B.returns
  have hts := atoms_spec (ws := (ws_ yX19_as cX19_as 2 (Option.some (Jvm.ClassFile.FieldType.object "ParkingOffice$Fine")))) B.pre
  have hts : ∀ w ∈ lw_all, w.before _ s = true := fun w h => hts w (List.mem_cons_of_mem _ h)
  have hown : s.vm.findClass RX19 = some m.cls := findClass_of_methodNamed B.named
  have hlk := B.notSynchronized
  have X : CallFix p m c cX19_as 2 s ([.ref t0, .int p1] : List Value).toArray lw_all RX19 := ⟨hx, hb, hml, hown, hts⟩
  have hS : va_S (wA G) s.heap s.heap [] := va_S.rf
  have hl := lv_entry ([.ref t0, .int p1]) (n := 2) (Nat.le_of_ble_eq_true rfl)
  rw [lg_entry_eq]
  generalize (lg_sl ([.ref t0, .int p1]) ++ List.replicate (2 - (lg_sl ([.ref t0, .int p1])).length) Slot.unset).toArray = ls at hl ⊢
  have hl : lv_has ls 2 [(0, .ref t0), (1, .int p1)] := hl
  have hB : 0 + b ≤ ((headSpec (ws_ yX19_as cX19_as 2 (Option.some (Jvm.ClassFile.FieldType.object "ParkingOffice$Fine"))) ({ frames := 13, cells := b, slots := b, locals := 426 })).room).cells ∧ 0 + b ≤ ((headSpec (ws_ yX19_as cX19_as 2 (Option.some (Jvm.ClassFile.FieldType.object "ParkingOffice$Fine"))) ({ frames := 13, cells := b, slots := b, locals := 426 })).room).slots := ⟨Nat.le_of_eq (Nat.zero_add b), Nat.le_of_eq (Nat.zero_add b)⟩
  refine x_new X hC hM hS hB (ci := 15) (C := RX19) (T := TX19) (N := 6) rfl in_X19 tyX19 tyX19_ok q2940 q2896 q210 rfl (by decide) dX19_as_0 hp (fun a1 M2 H b3 cells slots hM hS hB hp => ?_)
  refine lv_dup hx hb dX19_as_3 rfl ?_
  refine lv_aload_n hx hb dX19_as_4 rfl (lv_at hl 0 rfl) ?_
  refine x_getI X hC.1 hM (ci := 15) (C := RX19) (T := TX19) (N := 6) rfl in_X19 0 (by decide) q2901 (fun _ h9 => h9) dX19_as_5 hp (fun v4 hp => ?_)
  refine lv_aload_n hx hb dX19_as_8 rfl (lv_at hl 0 rfl) ?_
  refine x_getI X hC.1 hM (ci := 15) (C := RX19) (T := TX19) (N := 6) rfl in_X19 1 (by decide) q2904 (fun _ h9 => h9) dX19_as_9 hp (fun v5 hp => ?_)
  refine lv_aload_n hx hb dX19_as_12 rfl (lv_at hl 0 rfl) ?_
  refine x_getI X hC.1 hM (ci := 15) (C := RX19) (T := TX19) (N := 6) rfl in_X19 2 (by decide) q2906 (fun _ h9 => h9) dX19_as_13 hp (fun v6 hp => ?_)
  refine lv_aload_n hx hb dX19_as_16 rfl (lv_at hl 0 rfl) ?_
  refine x_getI X hC.1 hM (ci := 15) (C := RX19) (T := TX19) (N := 6) rfl in_X19 3 (by decide) q2909 (fun _ h9 => h9) dX19_as_17 hp (fun v7 hp => ?_)
  refine lv_aload_n hx hb dX19_as_20 rfl (lv_at hl 0 rfl) ?_
  refine x_getI X hC.1 hM (ci := 15) (C := RX19) (T := TX19) (N := 6) rfl in_X19 4 (by decide) q2911 (fun _ h9 => h9) dX19_as_21 hp (fun v8 hp => ?_)
  refine lv_iload_n hx hb dX19_as_24 rfl (lv_at hl 1 rfl) ?_
  refine x_call0V (vx_runI (As := [.int v4, .int v5, .int v6, .int v7, .int v8, .int p1]) (rest := [.ref a1]) X (P_X19_init_ok (l := l) hl0 hp) (cwI 6 hts (lw_meth q2899) rfl rfl rfl (hts _ q210) (hts _ q2941) (hts _ q2898) rfl (by decide +kernel) ⟨Nat.le_of_ble_eq_true rfl, Nat.le_of_ble_eq_true rfl⟩) ⟨wPc.blind, w_pre hC hM hS _⟩ rfl rfl hl.1 rfl (lv_room (Nat.le_of_ble_eq_true rfl)) dX19_as_25 (w_room0 hB)) hS (w_room0 hB) (fun _ _ _ _ _ _ h => False.elim h) (fun M9 H locs hp hM hS => ?_)
  exact x_aret (v := (some a1)) X hr (by first | exact Or.inl ⟨_, rfl⟩ | exact Or.inr ⟨_, rfl⟩) hlk hM hS (w_fin hB) dX19_as_28 ⟨(some a1), rfl, hp⟩
def P_J2_set (G : wG) (t0 : Nat) (p1 : Int32) (p2 : Option Nat) (M : wM) (Q : Option Nat → wM → Prop) : Prop :=
  oGetI M t0 16 2 (fun v1 => P_J11_checkIndex G p1 v1 M (fun v4 M2 => oIs M2 t0 16 (P_J2_elementData G t0 p1 M2 (fun r7 M5 => oGetA M5 t0 16 1 (fun a8 => oAast G (.object "java/lang/Object") M5 a8 p1 p2 (fun M9 => Q r7 M9))))))
set_option maxHeartbeats 4000000 in
set_option maxRecDepth 100000 in
theorem P_J2_set_ok {l : Launch} (hl0 : l.stackTraces = false) {G : wG} {t0 : Nat} {p1 : Int32} {p2 : Option Nat} {M : wM} {Q : Option Nat → wM → Prop} (hp : P_J2_set G t0 p1 p2 M Q) : wMet l yJ2_set (ws_ yJ2_set cJ2_set 4 (Option.some (Jvm.ClassFile.FieldType.object "java/lang/Object"))) 14 443 G [.ref t0, .int p1, va_rf p2] M 0 (wqR Q) wX0 := by
  refine vx_ofW (cc := cJ2_set) (maxL := 4) (ret := Option.some (Jvm.ClassFile.FieldType.object "java/lang/Object")) (by decide) rfl ?_
  intro p e s m args below meth c s₁ B hml hnt hv
  obtain ⟨rfl, hM, hK, hZ, hz⟩ := hv
  have hC : wC G s := ⟨hK, hZ, hz⟩
  have hx := B.exec
  have hb := B.bytes
  have hr := B.returns
  have hts := atoms_spec (ws := (ws_ yJ2_set cJ2_set 4 (Option.some (Jvm.ClassFile.FieldType.object "java/lang/Object")))) B.pre
  have hts : ∀ w ∈ lw_all, w.before _ s = true := fun w h => hts w (List.mem_cons_of_mem _ h)
  have hown : s.vm.findClass RJ2 = some m.cls := findClass_of_methodNamed B.named
  have hlk := B.notSynchronized
  have X : CallFix p m c cJ2_set 4 s ([.ref t0, .int p1, va_rf p2] : List Value).toArray lw_all RJ2 := ⟨hx, hb, hml, hown, hts⟩
  have hS : va_S (wA G) s.heap s.heap [] := va_S.rf
  have hl := lv_entry ([.ref t0, .int p1, va_rf p2]) (n := 4) (by cases p2 <;> exact Nat.le_of_ble_eq_true rfl)
  rw [lg_entry_eq]
  generalize (lg_sl ([.ref t0, .int p1, va_rf p2]) ++ List.replicate (4 - (lg_sl ([.ref t0, .int p1, va_rf p2])).length) Slot.unset).toArray = ls at hl ⊢
  have hl : lv_has ls 4 [(0, .ref t0), (1, .int p1), (2, va_rf p2)] := by cases p2 <;> exact hl
  refine lv_iload_n hx hb dJ2_set_0 rfl (lv_at hl 1 rfl) ?_
  refine lv_aload_n hx hb dJ2_set_1 rfl (lv_at hl 0 rfl) ?_
  refine x_getI X hC.1 hM (ci := 16) (C := RJ2) (T := TJ2) (N := 3) rfl in_J2 2 (by decide) q245 (fun _ h9 => h9) dJ2_set_2 hp (fun v1 hp => ?_)
  refine x_call0I (vx_runS (As := [.int p1, .int v1]) (rest := []) X (P_J11_checkIndex_ok (l := l) hl0 hp) (va_cwS 2 hts (lw_S q527 q528 q163 q529) rfl rfl rfl (by decide +kernel) ⟨Nat.le_of_ble_eq_true rfl, Nat.le_of_ble_eq_true rfl⟩) ⟨wPc.blind, w_pre hC hM hS _⟩ rfl rfl hl.1 rfl (lv_room (Nat.le_of_ble_eq_true rfl)) dJ2_set_5 ⟨Nat.le_refl _, Nat.le_refl _⟩) hS ⟨Nat.le_refl _, Nat.le_refl _⟩ (fun _ _ _ _ _ _ h => False.elim h) (fun v4 M2 H locs hp hM hS => ?_)
  refine lv_pop hx hb dJ2_set_8 rfl ?_
  refine lv_aload_n hx hb dJ2_set_9 rfl (lv_at hl 0 rfl) ?_
  refine lv_iload_n hx hb dJ2_set_10 rfl (lv_at hl 1 rfl) ?_
  obtain ⟨hrec, hp⟩ := hp
  refine x_call0R (vx_runV (As := [.int p1]) (rest := []) X (P_J2_elementData_ok (l := l) hl0 hp) (cwV 1 hts (lw_V q533 q534 q535 q153 q536) rfl rfl rfl (by decide +kernel) ⟨Nat.le_of_ble_eq_true rfl, Nat.le_of_ble_eq_true rfl⟩) ⟨wPc.blind, w_recv hC.1 hM (ci := 16) (q := (RJ2, TJ2, 3)) rfl hrec, w_pre hC hM hS _⟩ rfl rfl hl.1 rfl (lv_room (Nat.le_of_ble_eq_true rfl)) dJ2_set_11 ⟨Nat.le_refl _, Nat.le_refl _⟩) hS ⟨Nat.le_refl _, Nat.le_refl _⟩ (fun _ _ _ _ _ _ h => False.elim h) (fun r7 M5 H locs hp hM hS => ?_)
  refine x_astore_n (r := r7) (lv' := [(3, va_rf r7), (0, .ref t0), (1, .int p1), (2, va_rf p2)]) hx hb dJ2_set_14 rfl hl (by decide) (by cases p2 <;> rfl) (fun ls hl => ?_)
  refine lv_aload_n hx hb dJ2_set_15 rfl (lv_at hl 1 rfl) ?_
  refine x_getA X hC.1 hM (ci := 16) (C := RJ2) (T := TJ2) (N := 3) rfl in_J2 1 (by decide) q242 (fun _ h9 => h9) dJ2_set_16 hp (fun a8 hp => ?_)
  refine lv_iload_n hx hb dJ2_set_19 rfl (lv_at hl 2 rfl) ?_
  refine x_aload_n (r := p2) hx hb dJ2_set_20 rfl (lv_at hl 3 rfl) ?_
  refine x_aast (r := p2) X hC hM hS w_obj (C := "java/lang/Object") (by decide) dJ2_set_21 hp (fun M9 H locs hM hS hp => ?_)
  refine x_aload_n (r := r7) hx hb dJ2_set_22 rfl (lv_at hl 0 rfl) ?_
  exact x_aret (v := r7) X hr (by first | exact Or.inl ⟨_, rfl⟩ | exact Or.inr ⟨_, rfl⟩) hlk hM hS ⟨Nat.le_refl _, Nat.le_refl _⟩ dJ2_set_23 ⟨r7, rfl, hp⟩
def B_J9_get_68 (G : wG) (Q : Bool → wM → Prop) (y0 : Int32) (M : wM) : Prop :=
  ∃ r : Bool, y0 = wb r ∧ Q r M
def B_J9_get_67 (G : wG) (Q : Bool → wM → Prop) (M : wM) : Prop :=
  B_J9_get_68 G Q (0 : Int32) M
def P_J9_get (G : wG) (t0 : Nat) (p1 : Int32) (M : wM) (Q : Bool → wM → Prop) : Prop :=
  oIf (0 ≤ p1) (oIs M t0 21 (P_J9_checkInvariants G t0 M (fun M1 => P_J9_wordIndex G p1 M1 (fun v5 M3 => oGetI M3 t0 21 1 (fun v6 => oIf (v6 ≤ v5) (B_J9_get_67 G Q M3) (oGetA M3 t0 21 0 (fun a7 => oLald M3 a7 v5 (fun v8 => oIf ((lg_cmp (v8 &&& ((1 : Int64) <<< (p1.toInt64 &&& 63))) (0 : Int64)) = 0) (B_J9_get_67 G Q M3) (B_J9_get_68 G Q (1 : Int32) M3))))))))) (False)
set_option maxHeartbeats 4000000 in
set_option maxRecDepth 100000 in
theorem P_J9_get_ok {l : Launch} (hl0 : l.stackTraces = false) {G : wG} {t0 : Nat} {p1 : Int32} {M : wM} {Q : Bool → wM → Prop} (hp : P_J9_get G t0 p1 M Q) : wMet l yJ9_get (ws_ yJ9_get cJ9_get 3 (Option.some Jvm.ClassFile.FieldType.boolean)) 13 420 G [.ref t0, .int p1] M 0 (wqZ Q) wX0 := by
  refine vx_ofW (cc := cJ9_get) (maxL := 3) (ret := Option.some Jvm.ClassFile.FieldType.boolean) (by decide) rfl ?_
  intro p e s m args below meth c s₁ B hml hnt hv
  obtain ⟨rfl, hM, hK, hZ, hz⟩ := hv
  have hC : wC G s := ⟨hK, hZ, hz⟩
  have hx := B.exec
  have hb := B.bytes
  have hr := B.returns
  have hts := atoms_spec (ws := (ws_ yJ9_get cJ9_get 3 (Option.some Jvm.ClassFile.FieldType.boolean))) B.pre
  have hts : ∀ w ∈ lw_all, w.before _ s = true := fun w h => hts w (List.mem_cons_of_mem _ h)
  have hown : s.vm.findClass RJ9 = some m.cls := findClass_of_methodNamed B.named
  have hlk := B.notSynchronized
  have X : CallFix p m c cJ9_get 3 s ([.ref t0, .int p1] : List Value).toArray lw_all RJ9 := ⟨hx, hb, hml, hown, hts⟩
  have hS : va_S (wA G) s.heap s.heap [] := va_S.rf
  have hl := lv_entry ([.ref t0, .int p1]) (n := 3) (Nat.le_of_ble_eq_true rfl)
  rw [lg_entry_eq]
  generalize (lg_sl ([.ref t0, .int p1]) ++ List.replicate (3 - (lg_sl ([.ref t0, .int p1])).length) Slot.unset).toArray = ls at hl ⊢
  have hl : lv_has ls 3 [(0, .ref t0), (1, .int p1)] := hl
  have hB68 : ∀ (y0 : Int32) (M : wM) (H : Heap) (locs : List Loc) (ls : Array Slot), B_J9_get_68 G Q y0 M → wR G M H → va_S (wA G) s.heap H locs → lv_has ls 3 [] → W p l e (headSpec (ws_ yJ9_get cJ9_get 3 (Option.some Jvm.ClassFile.FieldType.boolean)) ({ frames := 13, cells := 0, slots := 0, locals := 420 })).room s m ([.ref t0, .int p1] : List Value).toArray below meth c H locs 0 0 (vx_MQ below (wQ G (wqZ Q)) (wXC G wX0) ([.ref t0, .int p1] : List Value).toArray s 0 0 (wA G)) (F0 m 68 ls [.int y0]) := by
    intro y0 M H locs ls hp hM hS hl
    obtain ⟨r, hr0, hp⟩ := hp
    exact x_zret X hr hlk hM hS ⟨Nat.le_refl _, Nat.le_refl _⟩ (by rw [hr0]; exact w_nz _) dJ9_get_68 ⟨r, by rw [hr0], hp⟩
  have hB67 : ∀ (M : wM) (H : Heap) (locs : List Loc) (ls : Array Slot), B_J9_get_67 G Q M → wR G M H → va_S (wA G) s.heap H locs → lv_has ls 3 [] → W p l e (headSpec (ws_ yJ9_get cJ9_get 3 (Option.some Jvm.ClassFile.FieldType.boolean)) ({ frames := 13, cells := 0, slots := 0, locals := 420 })).room s m ([.ref t0, .int p1] : List Value).toArray below meth c H locs 0 0 (vx_MQ below (wQ G (wqZ Q)) (wXC G wX0) ([.ref t0, .int p1] : List Value).toArray s 0 0 (wA G)) (F0 m 67 ls []) := by
    intro M H locs ls hp hM hS hl
    refine lv_iconst (v := 0) hx hb dJ9_get_67 (by decide) ?_
    exact hB68 _ _ _ _ _ hp hM hS (lv_sub hl [] rfl)
  refine lv_iload_n hx hb dJ9_get_0 rfl (lv_at hl 1 rfl) ?_
  refine lv_if_ge (tgt := 31) hx hb dJ9_get_1 (by decide) (fun hc => ?_) (fun hc => ?_)
  · have hp := oIf.t hp hc
    refine lv_aload_n hx hb dJ9_get_31 rfl (lv_at hl 0 rfl) ?_
    obtain ⟨hrec, hp⟩ := hp
    refine x_call0V (vx_runV (As := []) (rest := []) X (P_J9_checkInvariants_ok (l := l) hl0 hp) (cwV 0 hts (lw_V q1497 q1499 qs25 q161 q1500) rfl rfl rfl (by decide +kernel) ⟨Nat.le_of_ble_eq_true rfl, Nat.le_of_ble_eq_true rfl⟩) ⟨wPc.blind, w_recv hC.1 hM (ci := 21) (q := (RJ9, TJ9, 3)) rfl hrec, w_pre hC hM hS _⟩ rfl rfl hl.1 rfl (lv_room (Nat.le_of_ble_eq_true rfl)) dJ9_get_32 ⟨Nat.le_refl _, Nat.le_refl _⟩) hS ⟨Nat.le_refl _, Nat.le_refl _⟩ (fun _ _ _ _ _ _ h => False.elim h) (fun M1 H locs hp hM hS => ?_)
    refine lv_iload_n hx hb dJ9_get_35 rfl (lv_at hl 1 rfl) ?_
    refine x_call0I (vx_runS (As := [.int p1]) (rest := []) X (P_J9_wordIndex_ok (l := l) hl0 hp) (va_cwS 1 hts (lw_S q478 q479 q161 q480) rfl rfl rfl (by decide +kernel) ⟨Nat.le_of_ble_eq_true rfl, Nat.le_of_ble_eq_true rfl⟩) ⟨wPc.blind, w_pre hC hM hS _⟩ rfl rfl hl.1 rfl (lv_room (Nat.le_of_ble_eq_true rfl)) dJ9_get_36 ⟨Nat.le_refl _, Nat.le_refl _⟩) hS ⟨Nat.le_refl _, Nat.le_refl _⟩ (fun _ _ _ _ _ _ h => False.elim h) (fun v5 M3 H locs hp hM hS => ?_)
    refine lv_istore_n (lv' := [(2, .int v5), (0, .ref t0), (1, .int p1)]) hx hb dJ9_get_39 rfl hl (by decide) rfl (fun ls hl => ?_)
    refine lv_iload_n hx hb dJ9_get_40 rfl (lv_at hl 0 rfl) ?_
    refine lv_aload_n hx hb dJ9_get_41 rfl (lv_at hl 1 rfl) ?_
    refine x_getI X hC.1 hM (ci := 21) (C := RJ9) (T := TJ9) (N := 3) rfl in_J9 1 (by decide) q482 (fun _ h9 => h9) dJ9_get_42 hp (fun v6 hp => ?_)
    refine lv_icmp_ge (tgt := 67) hx hb dJ9_get_45 (by decide) (fun hc => ?_) (fun hc => ?_)
    · have hp := oIf.t hp hc
      exact hB67 _ _ _ _ hp hM hS (lv_sub hl [] rfl)
    · have hp := oIf.f hp hc
      refine lv_aload_n hx hb dJ9_get_48 rfl (lv_at hl 1 rfl) ?_
      refine x_getA X hC.1 hM (ci := 21) (C := RJ9) (T := TJ9) (N := 3) rfl in_J9 0 (by decide) q481 (fun _ h9 => h9) dJ9_get_49 hp (fun a7 hp => ?_)
      refine lv_iload_n hx hb dJ9_get_52 rfl (lv_at hl 0 rfl) ?_
      refine x_lald X hC.1 hM dJ9_get_53 hp (fun v8 hp => ?_)
      refine lv_lconst (v := 1) hx hb dJ9_get_54 (by decide) ?_
      refine lv_iload_n hx hb dJ9_get_55 rfl (lv_at hl 2 rfl) ?_
      refine lv_lshl (v := ((1 : Int64) <<< (p1.toInt64 &&& 63))) hx hb dJ9_get_56 rfl ?_
      refine lv_land hx hb dJ9_get_57 ?_
      refine lv_lconst (v := 0) hx hb dJ9_get_58 (by decide) ?_
      refine W.lcmp hx hb dJ9_get_59 ?_
      refine lv_if_eq (tgt := 67) hx hb dJ9_get_60 (by decide) (fun hc => ?_) (fun hc => ?_)
      · have hp := oIf.t hp hc
        exact hB67 _ _ _ _ hp hM hS (lv_sub hl [] rfl)
      · have hp := oIf.f hp hc
        refine lv_iconst (v := 1) hx hb dJ9_get_63 (by decide) ?_
        refine lv_goto (tgt := 68) hx hb dJ9_get_64 (by decide) ?_
        exact hB68 _ _ _ _ _ hp hM hS (lv_sub hl [] rfl)
  · have hp := oIf.f hp hc
    exact hp.elim
def B_X2_isZoneOf_49 (G : wG) (Q : Bool → wM → Prop) (y0 : Int32) (M : wM) : Prop :=
  ∃ r : Bool, y0 = wb r ∧ Q r M
def B_X2_isZoneOf_44 (G : wG) (Q : Bool → wM → Prop) (M : wM) : Prop :=
  B_X2_isZoneOf_49 G Q (1 : Int32) M
def B_X2_isZoneOf_48 (G : wG) (Q : Bool → wM → Prop) (M : wM) : Prop :=
  B_X2_isZoneOf_49 G Q (0 : Int32) M
def P_X2_isZoneOf (G : wG) (t0 : Nat) (p1 : Int32) (p2 : Int32) (M : wM) (Q : Bool → wM → Prop) : Prop :=
  oGetA M t0 1 0 (fun a1 => oGetA M a1 2 1 (fun a2 => oIs M a2 16 (P_J2_get G a2 p1 M (fun r5 M3 => oCast M3 r5 7 (oRef r5 (fun a6 => oGetI M3 a6 7 0 (fun v7 => oIf (v7 = p2) (B_X2_isZoneOf_44 G Q M3) (oGetI M3 a6 7 2 (fun v8 => oIf (v8 = p2) (oGetA M3 t0 1 5 (fun a9 => oIs M3 a9 21 (P_J9_get G a9 p1 M3 (fun r12 M10 => oIf (r12 = true) (B_X2_isZoneOf_48 G Q M10) (B_X2_isZoneOf_44 G Q M10))))) (B_X2_isZoneOf_48 G Q M3))))))))))
set_option maxHeartbeats 4000000 in
set_option maxRecDepth 100000 in
theorem P_X2_isZoneOf_ok {l : Launch} (hl0 : l.stackTraces = false) {G : wG} {t0 : Nat} {p1 : Int32} {p2 : Int32} {M : wM} {Q : Bool → wM → Prop} (hp : P_X2_isZoneOf G t0 p1 p2 M Q) : wMet l yX2_isZoneOf (ws_ yX2_isZoneOf cX2_isZoneOf 4 (Option.some Jvm.ClassFile.FieldType.boolean)) 15 464 G [.ref t0, .int p1, .int p2] M 0 (wqZ Q) wX0 := by
  refine vx_ofW (cc := cX2_isZoneOf) (maxL := 4) (ret := Option.some Jvm.ClassFile.FieldType.boolean) (by decide) rfl ?_
  intro p e s m args below meth c s₁ B hml hnt hv
  obtain ⟨rfl, hM, hK, hZ, hz⟩ := hv
  have hC : wC G s := ⟨hK, hZ, hz⟩
  have hx := B.exec
  have hb := B.bytes
  have hr := B.returns
  have hts := atoms_spec (ws := (ws_ yX2_isZoneOf cX2_isZoneOf 4 (Option.some Jvm.ClassFile.FieldType.boolean))) B.pre
  have hts : ∀ w ∈ lw_all, w.before _ s = true := fun w h => hts w (List.mem_cons_of_mem _ h)
  have hown : s.vm.findClass RX2 = some m.cls := findClass_of_methodNamed B.named
  have hlk := B.notSynchronized
  have X : CallFix p m c cX2_isZoneOf 4 s ([.ref t0, .int p1, .int p2] : List Value).toArray lw_all RX2 := ⟨hx, hb, hml, hown, hts⟩
  have hS : va_S (wA G) s.heap s.heap [] := va_S.rf
  have hl := lv_entry ([.ref t0, .int p1, .int p2]) (n := 4) (Nat.le_of_ble_eq_true rfl)
  rw [lg_entry_eq]
  generalize (lg_sl ([.ref t0, .int p1, .int p2]) ++ List.replicate (4 - (lg_sl ([.ref t0, .int p1, .int p2])).length) Slot.unset).toArray = ls at hl ⊢
  have hl : lv_has ls 4 [(0, .ref t0), (1, .int p1), (2, .int p2)] := hl
  have hB49 : ∀ (y0 : Int32) (M : wM) (H : Heap) (locs : List Loc) (ls : Array Slot), B_X2_isZoneOf_49 G Q y0 M → wR G M H → va_S (wA G) s.heap H locs → lv_has ls 4 [] → W p l e (headSpec (ws_ yX2_isZoneOf cX2_isZoneOf 4 (Option.some Jvm.ClassFile.FieldType.boolean)) ({ frames := 15, cells := 0, slots := 0, locals := 464 })).room s m ([.ref t0, .int p1, .int p2] : List Value).toArray below meth c H locs 0 0 (vx_MQ below (wQ G (wqZ Q)) (wXC G wX0) ([.ref t0, .int p1, .int p2] : List Value).toArray s 0 0 (wA G)) (F0 m 49 ls [.int y0]) := by
    intro y0 M H locs ls hp hM hS hl
    obtain ⟨r, hr0, hp⟩ := hp
    exact x_zret X hr hlk hM hS ⟨Nat.le_refl _, Nat.le_refl _⟩ (by rw [hr0]; exact w_nz _) dX2_isZoneOf_49 ⟨r, by rw [hr0], hp⟩
  have hB44 : ∀ (M : wM) (H : Heap) (locs : List Loc) (ls : Array Slot), B_X2_isZoneOf_44 G Q M → wR G M H → va_S (wA G) s.heap H locs → lv_has ls 4 [] → W p l e (headSpec (ws_ yX2_isZoneOf cX2_isZoneOf 4 (Option.some Jvm.ClassFile.FieldType.boolean)) ({ frames := 15, cells := 0, slots := 0, locals := 464 })).room s m ([.ref t0, .int p1, .int p2] : List Value).toArray below meth c H locs 0 0 (vx_MQ below (wQ G (wqZ Q)) (wXC G wX0) ([.ref t0, .int p1, .int p2] : List Value).toArray s 0 0 (wA G)) (F0 m 44 ls []) := by
    intro M H locs ls hp hM hS hl
    refine lv_iconst (v := 1) hx hb dX2_isZoneOf_44 (by decide) ?_
    refine lv_goto (tgt := 49) hx hb dX2_isZoneOf_45 (by decide) ?_
    exact hB49 _ _ _ _ _ hp hM hS (lv_sub hl [] rfl)
  have hB48 : ∀ (M : wM) (H : Heap) (locs : List Loc) (ls : Array Slot), B_X2_isZoneOf_48 G Q M → wR G M H → va_S (wA G) s.heap H locs → lv_has ls 4 [] → W p l e (headSpec (ws_ yX2_isZoneOf cX2_isZoneOf 4 (Option.some Jvm.ClassFile.FieldType.boolean)) ({ frames := 15, cells := 0, slots := 0, locals := 464 })).room s m ([.ref t0, .int p1, .int p2] : List Value).toArray below meth c H locs 0 0 (vx_MQ below (wQ G (wqZ Q)) (wXC G wX0) ([.ref t0, .int p1, .int p2] : List Value).toArray s 0 0 (wA G)) (F0 m 48 ls []) := by
    intro M H locs ls hp hM hS hl
    refine lv_iconst (v := 0) hx hb dX2_isZoneOf_48 (by decide) ?_
    exact hB49 _ _ _ _ _ hp hM hS (lv_sub hl [] rfl)
  refine lv_aload_n hx hb dX2_isZoneOf_0 rfl (lv_at hl 0 rfl) ?_
  refine x_getA X hC.1 hM (ci := 1) (C := RX2) (T := TX2) (N := 9) rfl in_X2 0 (by decide) q917 (fun _ h9 => h9) dX2_isZoneOf_1 hp (fun a1 hp => ?_)
  refine x_getAN X hC.1 hM (ci := 2) (C := RX3) (T := TX3) (N := 8) rfl in_X3 1 (by decide) q402 (fun _ h9 => h9) dX2_isZoneOf_4 hp (fun a2 hp => ?_)
  refine lv_iload_n hx hb dX2_isZoneOf_7 rfl (lv_at hl 1 rfl) ?_
  obtain ⟨hrec, hp⟩ := hp
  refine x_call0R5 (vx_runF (hC.1.1.1 16 (RJ2, TJ2, 3) rfl).2 (C := "java/util/ArrayList") (As := [.int p1]) (rest := []) X (P_J2_get_ok (l := l) hl0 hp) (va_cwF 1 hts (lw_app (w_mem4 q519 q522 q524 q153) (lw_meth q526)) rfl rfl rfl (wfw_8 hC.1) (by decide +kernel) ⟨Nat.le_of_ble_eq_true rfl, Nat.le_of_ble_eq_true rfl⟩) ⟨wPc.blind, w_recv hC.1 hM (ci := 16) (q := (RJ2, TJ2, 3)) rfl hrec, w_pre hC hM hS _⟩ rfl rfl hl.1 rfl (lv_room (Nat.le_of_ble_eq_true rfl)) dX2_isZoneOf_8 ⟨Nat.le_refl _, Nat.le_refl _⟩) hS ⟨Nat.le_refl _, Nat.le_refl _⟩ (fun _ _ _ _ _ _ h => False.elim h) (fun r5 M3 H locs hp hM hS => ?_)
  refine x_cast (r := r5) X hC.1 hM q2462 (ci := 7) rfl (Or.inl rfl) dX2_isZoneOf_13 hp (fun hp => ?_)
  refine x_astore_n (r := r5) (lv' := [(3, va_rf r5), (0, .ref t0), (1, .int p1), (2, .int p2)]) hx hb dX2_isZoneOf_16 rfl hl (by decide) rfl (fun ls hl => ?_)
  refine x_aload_n (r := r5) hx hb dX2_isZoneOf_17 rfl (lv_at hl 0 rfl) ?_
  obtain ⟨a6, ea, hqa6⟩ := hp
  subst ea
  have hp := hqa6
  have hl : lv_has ls 4 [(3, .ref a6), (0, .ref t0), (1, .int p1), (2, .int p2)] := hl
  refine x_getIN X hC.1 hM (ci := 7) (C := RX8) (T := TX8) (N := 3) rfl in_X8 0 (by decide) q1440 (fun _ h9 => h9) dX2_isZoneOf_18 hp (fun v7 hp => ?_)
  refine lv_iload_n hx hb dX2_isZoneOf_21 rfl (lv_at hl 3 rfl) ?_
  refine lv_icmp_eq (tgt := 44) hx hb dX2_isZoneOf_22 (by decide) (fun hc => ?_) (fun hc => ?_)
  · have hp := oIf.t hp hc
    exact hB44 _ _ _ _ hp hM hS (lv_sub hl [] rfl)
  · have hp := oIf.f hp hc
    refine lv_aload_n hx hb dX2_isZoneOf_25 rfl (lv_at hl 0 rfl) ?_
    refine x_getIN X hC.1 hM (ci := 7) (C := RX8) (T := TX8) (N := 3) rfl in_X8 2 (by decide) q1446 (fun _ h9 => h9) dX2_isZoneOf_26 hp (fun v8 hp => ?_)
    refine lv_iload_n hx hb dX2_isZoneOf_29 rfl (lv_at hl 3 rfl) ?_
    refine lv_icmp_ne (tgt := 48) hx hb dX2_isZoneOf_30 (by decide) (fun hc => ?_) (fun hc => ?_)
    · have hp := oIf.f hp hc
      exact hB48 _ _ _ _ hp hM hS (lv_sub hl [] rfl)
    · have hp := oIf.t hp hc
      refine lv_aload_n hx hb dX2_isZoneOf_33 rfl (lv_at hl 1 rfl) ?_
      refine x_getA X hC.1 hM (ci := 1) (C := RX2) (T := TX2) (N := 9) rfl in_X2 5 (by decide) q927 (fun _ h9 => h9) dX2_isZoneOf_34 hp (fun a9 hp => ?_)
      refine lv_iload_n hx hb dX2_isZoneOf_37 rfl (lv_at hl 2 rfl) ?_
      obtain ⟨hrec, hp⟩ := hp
      refine x_call0Z (vx_runV (As := [.int p1]) (rest := []) X (P_J9_get_ok (l := l) hl0 hp) (cwV 1 hts (lw_V q2476 q1486 q1487 q161 q1488) rfl rfl rfl (by decide +kernel) ⟨Nat.le_of_ble_eq_true rfl, Nat.le_of_ble_eq_true rfl⟩) ⟨wPc.blind, w_recv hC.1 hM (ci := 21) (q := (RJ9, TJ9, 3)) rfl hrec, w_pre hC hM hS _⟩ rfl rfl hl.1 rfl (lv_room (Nat.le_of_ble_eq_true rfl)) dX2_isZoneOf_38 ⟨Nat.le_refl _, Nat.le_refl _⟩) hS ⟨Nat.le_refl _, Nat.le_refl _⟩ (fun _ _ _ _ _ _ h => False.elim h) (fun r12 M10 H locs hp hM hS => ?_)
      refine x_ifneB (tgt := 48) hx hb dX2_isZoneOf_41 (by decide) (fun hc => ?_) (fun hc => ?_)
      · have hp := oIf.bt hp hc
        exact hB48 _ _ _ _ hp hM hS (lv_sub hl [] rfl)
      · have hp := oIf.bf hp hc
        exact hB44 _ _ _ _ hp hM hS (lv_sub hl [] rfl)
def B_X2_hasPermit_66 (G : wG) (rec3 : Nat → Int32 → Int32 → Int32 → Int32 → wM → Prop) (Q : Bool → wM → Prop) (x0 : Nat) (x1 : Int32) (x2 : Int32) (x3 : Int32) (x4 : Int32) (M : wM) : Prop :=
  rec3 x0 x1 x2 x3 (x4 + 1) M
def B_X2_hasPermit_3 (G : wG) (rec3 : Nat → Int32 → Int32 → Int32 → Int32 → wM → Prop) (Q : Bool → wM → Prop) (x0 : Nat) (x1 : Int32) (x2 : Int32) (x3 : Int32) (x4 : Int32) (M : wM) : Prop :=
  oGetA M x0 1 1 (fun a1 => oIs M a1 16 (P_J2_size G a1 M (fun v4 M2 => oIf (v4 ≤ x4) (Q false M2) (oGetA M2 x0 1 1 (fun a5 => oIs M2 a5 16 (P_J2_get G a5 x4 M2 (fun r8 M6 => oCast M6 r8 9 (oRef r8 (fun a9 => oGetI M6 a9 9 1 (fun v10 => oIf (v10 = x1) (oGetI M6 a9 9 4 (fun v11 => oIf (v11 = x3) (oGetI M6 a9 9 2 (fun v12 => oIs M6 x0 1 (P_X2_isZoneOf G x0 x2 v12 M6 (fun r15 M13 => oIf (r15 = true) (Q true M13) (B_X2_hasPermit_66 G rec3 Q x0 x1 x2 x3 x4 M13))))) (B_X2_hasPermit_66 G rec3 Q x0 x1 x2 x3 x4 M6))) (B_X2_hasPermit_66 G rec3 Q x0 x1 x2 x3 x4 M6)))))))))))
def L_X2_hasPermit_3 (G : wG) (Q : Bool → wM → Prop) : Nat → Nat → Int32 → Int32 → Int32 → Int32 → wM → Prop
  | 0 => fun _ _ _ _ _ _ => False
  | n + 1 => B_X2_hasPermit_3 G (L_X2_hasPermit_3 G Q n) Q
def P_X2_hasPermit (G : wG) (t0 : Nat) (p1 : Int32) (p2 : Int32) (p3 : Int32) (M : wM) (Q : Bool → wM → Prop) : Prop :=
  ∃ n, L_X2_hasPermit_3 G Q n t0 p1 p2 p3 (0 : Int32) M
set_option maxHeartbeats 4000000 in
set_option maxRecDepth 100000 in
theorem P_X2_hasPermit_ok {l : Launch} (hl0 : l.stackTraces = false) {G : wG} {t0 : Nat} {p1 : Int32} {p2 : Int32} {p3 : Int32} {M : wM} {Q : Bool → wM → Prop} (hp : P_X2_hasPermit G t0 p1 p2 p3 M Q) : wMet l yX2_hasPermit (ws_ yX2_hasPermit cX2_hasPermit 6 (Option.some Jvm.ClassFile.FieldType.boolean)) 16 487 G [.ref t0, .int p1, .int p2, .int p3] M 0 (wqZ Q) wX0 := by
  refine vx_ofW (cc := cX2_hasPermit) (maxL := 6) (ret := Option.some Jvm.ClassFile.FieldType.boolean) (by decide) rfl ?_
  intro p e s m args below meth c s₁ B hml hnt hv
  obtain ⟨rfl, hM, hK, hZ, hz⟩ := hv
  have hC : wC G s := ⟨hK, hZ, hz⟩
  have hx := B.exec
  have hb := B.bytes
  have hr := B.returns
  have hts := atoms_spec (ws := (ws_ yX2_hasPermit cX2_hasPermit 6 (Option.some Jvm.ClassFile.FieldType.boolean))) B.pre
  have hts : ∀ w ∈ lw_all, w.before _ s = true := fun w h => hts w (List.mem_cons_of_mem _ h)
  have hown : s.vm.findClass RX2 = some m.cls := findClass_of_methodNamed B.named
  have hlk := B.notSynchronized
  have X : CallFix p m c cX2_hasPermit 6 s ([.ref t0, .int p1, .int p2, .int p3] : List Value).toArray lw_all RX2 := ⟨hx, hb, hml, hown, hts⟩
  have hS : va_S (wA G) s.heap s.heap [] := va_S.rf
  have hl := lv_entry ([.ref t0, .int p1, .int p2, .int p3]) (n := 6) (Nat.le_of_ble_eq_true rfl)
  rw [lg_entry_eq]
  generalize (lg_sl ([.ref t0, .int p1, .int p2, .int p3]) ++ List.replicate (6 - (lg_sl ([.ref t0, .int p1, .int p2, .int p3])).length) Slot.unset).toArray = ls at hl ⊢
  have hl : lv_has ls 6 [(0, .ref t0), (1, .int p1), (2, .int p2), (3, .int p3)] := hl
  have hB66 : ∀ (rec3 : Nat → Int32 → Int32 → Int32 → Int32 → wM → Prop) (hrec3 : ∀ (x0 : Nat) (x1 : Int32) (x2 : Int32) (x3 : Int32) (x4 : Int32) (M : wM) (H : Heap) (locs : List Loc) (ls : Array Slot), rec3 x0 x1 x2 x3 x4 M → wR G M H → va_S (wA G) s.heap H locs → lv_has ls 6 [(0, .ref x0), (1, .int x1), (2, .int x2), (3, .int x3), (4, .int x4)] → W p l e (headSpec (ws_ yX2_hasPermit cX2_hasPermit 6 (Option.some Jvm.ClassFile.FieldType.boolean)) ({ frames := 16, cells := 0, slots := 0, locals := 487 })).room s m ([.ref t0, .int p1, .int p2, .int p3] : List Value).toArray below meth c H locs 0 0 (vx_MQ below (wQ G (wqZ Q)) (wXC G wX0) ([.ref t0, .int p1, .int p2, .int p3] : List Value).toArray s 0 0 (wA G)) (F0 m 3 ls [])), ∀ (x0 : Nat) (x1 : Int32) (x2 : Int32) (x3 : Int32) (x4 : Int32) (M : wM) (H : Heap) (locs : List Loc) (ls : Array Slot), B_X2_hasPermit_66 G rec3 Q x0 x1 x2 x3 x4 M → wR G M H → va_S (wA G) s.heap H locs → lv_has ls 6 [(0, .ref x0), (1, .int x1), (2, .int x2), (3, .int x3), (4, .int x4)] → W p l e (headSpec (ws_ yX2_hasPermit cX2_hasPermit 6 (Option.some Jvm.ClassFile.FieldType.boolean)) ({ frames := 16, cells := 0, slots := 0, locals := 487 })).room s m ([.ref t0, .int p1, .int p2, .int p3] : List Value).toArray below meth c H locs 0 0 (vx_MQ below (wQ G (wqZ Q)) (wXC G wX0) ([.ref t0, .int p1, .int p2, .int p3] : List Value).toArray s 0 0 (wA G)) (F0 m 66 ls []) := by
    intro rec3 hrec3 x0 x1 x2 x3 x4 M H locs ls hp hM hS hl
    refine lv_iinc (v := (x4 + 1)) (lv' := [(4, .int (x4 + 1)), (0, .ref x0), (1, .int x1), (2, .int x2), (3, .int x3)]) hx hb dX2_hasPermit_66 hl (k := 4) rfl rfl (by decide) rfl (fun ls hl => ?_)
    refine lv_goto (tgt := 3) hx hb dX2_hasPermit_69 (by decide) ?_
    exact hrec3 _ _ _ _ _ _ _ _ _ hp hM hS (lv_sub hl [1, 2, 3, 4, 0] rfl)
  have hB3 : ∀ (rec3 : Nat → Int32 → Int32 → Int32 → Int32 → wM → Prop) (hrec3 : ∀ (x0 : Nat) (x1 : Int32) (x2 : Int32) (x3 : Int32) (x4 : Int32) (M : wM) (H : Heap) (locs : List Loc) (ls : Array Slot), rec3 x0 x1 x2 x3 x4 M → wR G M H → va_S (wA G) s.heap H locs → lv_has ls 6 [(0, .ref x0), (1, .int x1), (2, .int x2), (3, .int x3), (4, .int x4)] → W p l e (headSpec (ws_ yX2_hasPermit cX2_hasPermit 6 (Option.some Jvm.ClassFile.FieldType.boolean)) ({ frames := 16, cells := 0, slots := 0, locals := 487 })).room s m ([.ref t0, .int p1, .int p2, .int p3] : List Value).toArray below meth c H locs 0 0 (vx_MQ below (wQ G (wqZ Q)) (wXC G wX0) ([.ref t0, .int p1, .int p2, .int p3] : List Value).toArray s 0 0 (wA G)) (F0 m 3 ls [])), ∀ (x0 : Nat) (x1 : Int32) (x2 : Int32) (x3 : Int32) (x4 : Int32) (M : wM) (H : Heap) (locs : List Loc) (ls : Array Slot), B_X2_hasPermit_3 G rec3 Q x0 x1 x2 x3 x4 M → wR G M H → va_S (wA G) s.heap H locs → lv_has ls 6 [(0, .ref x0), (1, .int x1), (2, .int x2), (3, .int x3), (4, .int x4)] → W p l e (headSpec (ws_ yX2_hasPermit cX2_hasPermit 6 (Option.some Jvm.ClassFile.FieldType.boolean)) ({ frames := 16, cells := 0, slots := 0, locals := 487 })).room s m ([.ref t0, .int p1, .int p2, .int p3] : List Value).toArray below meth c H locs 0 0 (vx_MQ below (wQ G (wqZ Q)) (wXC G wX0) ([.ref t0, .int p1, .int p2, .int p3] : List Value).toArray s 0 0 (wA G)) (F0 m 3 ls []) := by
    intro rec3 hrec3 x0 x1 x2 x3 x4 M H locs ls hp hM hS hl
    refine lv_iload hx hb dX2_hasPermit_3 (lv_at hl 4 rfl) ?_
    refine lv_aload_n hx hb dX2_hasPermit_5 rfl (lv_at hl 0 rfl) ?_
    refine x_getA X hC.1 hM (ci := 1) (C := RX2) (T := TX2) (N := 9) rfl in_X2 1 (by decide) q919 (fun _ h9 => h9) dX2_hasPermit_6 hp (fun a1 hp => ?_)
    obtain ⟨hrec, hp⟩ := hp
    refine x_call0I5 (vx_runF (hC.1.1.1 16 (RJ2, TJ2, 3) rfl).2 (C := "java/util/ArrayList") (As := []) (rest := [.int x4]) X (P_J2_size_ok (l := l) hl0 hp) (va_cwF 0 hts (lw_app (w_mem4 q493 q496 q498 q153) (lw_meth q500)) rfl rfl rfl (wfw_13 hC.1) (by decide +kernel) ⟨Nat.le_of_ble_eq_true rfl, Nat.le_of_ble_eq_true rfl⟩) ⟨wPc.blind, w_recv hC.1 hM (ci := 16) (q := (RJ2, TJ2, 3)) rfl hrec, w_pre hC hM hS _⟩ rfl rfl hl.1 rfl (lv_room (Nat.le_of_ble_eq_true rfl)) dX2_hasPermit_9 ⟨Nat.le_refl _, Nat.le_refl _⟩) hS ⟨Nat.le_refl _, Nat.le_refl _⟩ (fun _ _ _ _ _ _ h => False.elim h) (fun v4 M2 H locs hp hM hS => ?_)
    refine lv_icmp_ge (tgt := 72) hx hb dX2_hasPermit_14 (by decide) (fun hc => ?_) (fun hc => ?_)
    · have hp := oIf.t hp hc
      refine lv_iconst (v := 0) hx hb dX2_hasPermit_72 (by decide) ?_
      exact x_zret X hr hlk hM hS ⟨Nat.le_refl _, Nat.le_refl _⟩ (by decide) dX2_hasPermit_73 ⟨false, rfl, hp⟩
    · have hp := oIf.f hp hc
      refine lv_aload_n hx hb dX2_hasPermit_17 rfl (lv_at hl 0 rfl) ?_
      refine x_getA X hC.1 hM (ci := 1) (C := RX2) (T := TX2) (N := 9) rfl in_X2 1 (by decide) q919 (fun _ h9 => h9) dX2_hasPermit_18 hp (fun a5 hp => ?_)
      refine lv_iload hx hb dX2_hasPermit_21 (lv_at hl 4 rfl) ?_
      obtain ⟨hrec, hp⟩ := hp
      refine x_call0R5 (vx_runF (hC.1.1.1 16 (RJ2, TJ2, 3) rfl).2 (C := "java/util/ArrayList") (As := [.int x4]) (rest := []) X (P_J2_get_ok (l := l) hl0 hp) (va_cwF 1 hts (lw_app (w_mem4 q519 q522 q524 q153) (lw_meth q526)) rfl rfl rfl (wfw_8 hC.1) (by decide +kernel) ⟨Nat.le_of_ble_eq_true rfl, Nat.le_of_ble_eq_true rfl⟩) ⟨wPc.blind, w_recv hC.1 hM (ci := 16) (q := (RJ2, TJ2, 3)) rfl hrec, w_pre hC hM hS _⟩ rfl rfl hl.1 rfl (lv_room (Nat.le_of_ble_eq_true rfl)) dX2_hasPermit_23 ⟨Nat.le_refl _, Nat.le_refl _⟩) hS ⟨Nat.le_refl _, Nat.le_refl _⟩ (fun _ _ _ _ _ _ h => False.elim h) (fun r8 M6 H locs hp hM hS => ?_)
      refine x_cast (r := r8) X hC.1 hM q2070 (ci := 9) rfl (Or.inl rfl) dX2_hasPermit_28 hp (fun hp => ?_)
      refine x_astore (r := r8) (lv' := [(5, va_rf r8), (0, .ref x0), (1, .int x1), (2, .int x2), (3, .int x3), (4, .int x4)]) hx hb dX2_hasPermit_31 hl (by decide) rfl (fun ls hl => ?_)
      refine x_aload (r := r8) hx hb dX2_hasPermit_33 (lv_at hl 0 rfl) ?_
      obtain ⟨a9, ea, hqa9⟩ := hp
      subst ea
      have hp := hqa9
      have hl : lv_has ls 6 [(5, .ref a9), (0, .ref x0), (1, .int x1), (2, .int x2), (3, .int x3), (4, .int x4)] := hl
      refine x_getI X hC.1 hM (ci := 9) (C := RX12) (T := TX12) (N := 8) rfl in_X12 1 (by decide) q2114 (fun x9 h9 => u_same (hts _ q2111) x9 h9) dX2_hasPermit_35 hp (fun v10 hp => ?_)
      refine lv_iload_n hx hb dX2_hasPermit_38 rfl (lv_at hl 2 rfl) ?_
      refine lv_icmp_ne (tgt := 66) hx hb dX2_hasPermit_39 (by decide) (fun hc => ?_) (fun hc => ?_)
      · have hp := oIf.f hp hc
        exact hB66 rec3 hrec3 _ _ _ _ _ _ _ _ _ hp hM hS (lv_sub hl [1, 2, 3, 4, 5] rfl)
      · have hp := oIf.t hp hc
        refine lv_aload hx hb dX2_hasPermit_42 (lv_at hl 0 rfl) ?_
        refine x_getIN X hC.1 hM (ci := 9) (C := RX12) (T := TX12) (N := 8) rfl in_X12 4 (by decide) q2090 (fun _ h9 => h9) dX2_hasPermit_44 hp (fun v11 hp => ?_)
        refine lv_iload_n hx hb dX2_hasPermit_47 rfl (lv_at hl 4 rfl) ?_
        refine lv_icmp_ne (tgt := 66) hx hb dX2_hasPermit_48 (by decide) (fun hc => ?_) (fun hc => ?_)
        · have hp := oIf.f hp hc
          exact hB66 rec3 hrec3 _ _ _ _ _ _ _ _ _ hp hM hS (lv_sub hl [1, 2, 3, 4, 5] rfl)
        · have hp := oIf.t hp hc
          refine lv_aload_n hx hb dX2_hasPermit_51 rfl (lv_at hl 1 rfl) ?_
          refine lv_iload_n hx hb dX2_hasPermit_52 rfl (lv_at hl 3 rfl) ?_
          refine lv_aload hx hb dX2_hasPermit_53 (lv_at hl 0 rfl) ?_
          refine x_getIN X hC.1 hM (ci := 9) (C := RX12) (T := TX12) (N := 8) rfl in_X12 2 (by decide) q2085 (fun _ h9 => h9) dX2_hasPermit_55 hp (fun v12 hp => ?_)
          obtain ⟨hrec, hp⟩ := hp
          refine x_call0Z (vx_runV (As := [.int x2, .int v12]) (rest := []) X (P_X2_isZoneOf_ok (l := l) hl0 hp) (cwV 2 hts (lw_V q2472 q2474 qs44 q149 q2475) rfl rfl rfl (by decide +kernel) ⟨Nat.le_of_ble_eq_true rfl, Nat.le_of_ble_eq_true rfl⟩) ⟨wPc.blind, w_recv hC.1 hM (ci := 1) (q := (RX2, TX2, 9)) rfl hrec, w_pre hC hM hS _⟩ rfl rfl hl.1 rfl (lv_room (Nat.le_of_ble_eq_true rfl)) dX2_hasPermit_58 ⟨Nat.le_refl _, Nat.le_refl _⟩) hS ⟨Nat.le_refl _, Nat.le_refl _⟩ (fun _ _ _ _ _ _ h => False.elim h) (fun r15 M13 H locs hp hM hS => ?_)
          refine x_ifeqB (tgt := 66) hx hb dX2_hasPermit_61 (by decide) (fun hc => ?_) (fun hc => ?_)
          · have hp := oIf.bf hp hc
            exact hB66 rec3 hrec3 _ _ _ _ _ _ _ _ _ hp hM hS (lv_sub hl [1, 2, 3, 4, 5] rfl)
          · have hp := oIf.bt hp hc
            refine lv_iconst (v := 1) hx hb dX2_hasPermit_64 (by decide) ?_
            exact x_zret X hr hlk hM hS ⟨Nat.le_refl _, Nat.le_refl _⟩ (by decide) dX2_hasPermit_65 ⟨true, rfl, hp⟩
  have hL3 : ∀ (n : Nat), ∀ (x0 : Nat) (x1 : Int32) (x2 : Int32) (x3 : Int32) (x4 : Int32) (M : wM) (H : Heap) (locs : List Loc) (ls : Array Slot), L_X2_hasPermit_3 G Q n x0 x1 x2 x3 x4 M → wR G M H → va_S (wA G) s.heap H locs → lv_has ls 6 [(0, .ref x0), (1, .int x1), (2, .int x2), (3, .int x3), (4, .int x4)] → W p l e (headSpec (ws_ yX2_hasPermit cX2_hasPermit 6 (Option.some Jvm.ClassFile.FieldType.boolean)) ({ frames := 16, cells := 0, slots := 0, locals := 487 })).room s m ([.ref t0, .int p1, .int p2, .int p3] : List Value).toArray below meth c H locs 0 0 (vx_MQ below (wQ G (wqZ Q)) (wXC G wX0) ([.ref t0, .int p1, .int p2, .int p3] : List Value).toArray s 0 0 (wA G)) (F0 m 3 ls []) := by
    intro n
    induction n with
    | zero => intro _ _ _ _ _ _ _ _ _ hp; exact False.elim hp
    | succ n ih => intro x0 x1 x2 x3 x4 M H locs ls hp hM hS hl; exact hB3 (L_X2_hasPermit_3 G Q n) ih _ _ _ _ _ _ _ _ _ hp hM hS hl
  refine lv_iconst (v := 0) hx hb dX2_hasPermit_0 (by decide) ?_
  refine lv_istore (lv' := [(4, .int (0 : Int32)), (0, .ref t0), (1, .int p1), (2, .int p2), (3, .int p3)]) hx hb dX2_hasPermit_1 hl (by decide) rfl (fun ls hl => ?_)
  obtain ⟨n, hp⟩ := hp
  exact hL3 n _ _ _ _ _ _ _ _ _ hp hM hS (lv_sub hl [1, 2, 3, 4, 0] rfl)
def P_X1_fineAt (G : wG) (t0 : Nat) (p1 : Int32) (b : Nat) (M : wM) (Q : Option Nat → wM → Prop) (Xp : String → Nat → wM → Prop) : Prop :=
  oGetA M t0 0 0 (fun a1 => oGetA M a1 1 4 (fun a2 => oIs M a2 16 (P_J2_size G a2 M (fun v5 M3 => P_X1_inRange G p1 (0 : Int32) (v5 - (1 : Int32)) M3 (fun r8 M6 => ∃ c10, c10 ≤ b ∧ P_X1_checkIndex G (wb r8) c10 M6 (fun M9 => oGetA M9 t0 0 0 (fun a11 => oGetA M9 a11 1 4 (fun a12 => oIs M9 a12 16 (P_J2_get G a12 p1 M9 (fun r15 M13 => oCast M13 r15 15 (Q r15 M13)))))) (fun E q16 M17 => (E = "java/lang/IndexOutOfBoundsException" ∧ Xp E q16 M17)))))))
set_option maxHeartbeats 4000000 in
set_option maxRecDepth 100000 in
theorem P_X1_fineAt_ok {l : Launch} (hl0 : l.stackTraces = false) {G : wG} {t0 : Nat} {p1 : Int32} {b : Nat} {M : wM} {Q : Option Nat → wM → Prop} {Xp : String → Nat → wM → Prop} (hp : P_X1_fineAt G t0 p1 b M Q Xp) : wMet l yX1_fineAt (ws_ yX1_fineAt cX1_fineAt 2 (Option.some (Jvm.ClassFile.FieldType.object "ParkingOffice$Fine"))) 15 464 G [.ref t0, .int p1] M b (wqR Q) Xp := by
  refine vx_ofW (cc := cX1_fineAt) (maxL := 2) (ret := Option.some (Jvm.ClassFile.FieldType.object "ParkingOffice$Fine")) (by decide) rfl ?_
  intro p e s m args below meth c s₁ B hml hnt hv
  obtain ⟨rfl, hM, hK, hZ, hz⟩ := hv
  have hC : wC G s := ⟨hK, hZ, hz⟩
  have hx := B.exec
  have hb := B.bytes
  have hr := B.returns
  have hts := atoms_spec (ws := (ws_ yX1_fineAt cX1_fineAt 2 (Option.some (Jvm.ClassFile.FieldType.object "ParkingOffice$Fine")))) B.pre
  have hts : ∀ w ∈ lw_all, w.before _ s = true := fun w h => hts w (List.mem_cons_of_mem _ h)
  have hown : s.vm.findClass RX1 = some m.cls := findClass_of_methodNamed B.named
  have hlk := B.notSynchronized
  have X : CallFix p m c cX1_fineAt 2 s ([.ref t0, .int p1] : List Value).toArray lw_all RX1 := ⟨hx, hb, hml, hown, hts⟩
  have hS : va_S (wA G) s.heap s.heap [] := va_S.rf
  have hl := lv_entry ([.ref t0, .int p1]) (n := 2) (Nat.le_of_ble_eq_true rfl)
  rw [lg_entry_eq]
  generalize (lg_sl ([.ref t0, .int p1]) ++ List.replicate (2 - (lg_sl ([.ref t0, .int p1])).length) Slot.unset).toArray = ls at hl ⊢
  have hl : lv_has ls 2 [(0, .ref t0), (1, .int p1)] := hl
  have hB : 0 + b ≤ ((headSpec (ws_ yX1_fineAt cX1_fineAt 2 (Option.some (Jvm.ClassFile.FieldType.object "ParkingOffice$Fine"))) ({ frames := 15, cells := b, slots := b, locals := 464 })).room).cells ∧ 0 + b ≤ ((headSpec (ws_ yX1_fineAt cX1_fineAt 2 (Option.some (Jvm.ClassFile.FieldType.object "ParkingOffice$Fine"))) ({ frames := 15, cells := b, slots := b, locals := 464 })).room).slots := ⟨Nat.le_of_eq (Nat.zero_add b), Nat.le_of_eq (Nat.zero_add b)⟩
  refine lv_iload_n hx hb dX1_fineAt_0 rfl (lv_at hl 1 rfl) ?_
  refine lv_iconst (v := 0) hx hb dX1_fineAt_1 (by decide) ?_
  refine lv_aload_n hx hb dX1_fineAt_2 rfl (lv_at hl 0 rfl) ?_
  refine x_getA X hC.1 hM (ci := 0) (C := RX1) (T := TX1) (N := 8) rfl in_X1 0 (by decide) q973 (fun _ h9 => h9) dX1_fineAt_3 hp (fun a1 hp => ?_)
  refine x_getAN X hC.1 hM (ci := 1) (C := RX2) (T := TX2) (N := 9) rfl in_X2 4 (by decide) q926 (fun _ h9 => h9) dX1_fineAt_6 hp (fun a2 hp => ?_)
  obtain ⟨hrec, hp⟩ := hp
  refine x_call0I5 (vx_runF (hC.1.1.1 16 (RJ2, TJ2, 3) rfl).2 (C := "java/util/ArrayList") (As := []) (rest := [.int (0 : Int32), .int p1]) X (P_J2_size_ok (l := l) hl0 hp) (va_cwF 0 hts (lw_app (w_mem4 q1540 q496 q498 q153) (lw_meth q500)) rfl rfl rfl (wfw_13 hC.1) (by decide +kernel) ⟨Nat.le_of_ble_eq_true rfl, Nat.le_of_ble_eq_true rfl⟩) ⟨wPc.blind, w_recv hC.1 hM (ci := 16) (q := (RJ2, TJ2, 3)) rfl hrec, w_pre hC hM hS _⟩ rfl rfl hl.1 rfl (lv_room (Nat.le_of_ble_eq_true rfl)) dX1_fineAt_9 (w_room0 hB)) hS (w_room0 hB) (fun _ _ _ _ _ _ h => False.elim h) (fun v5 M3 H locs hp hM hS => ?_)
  refine lv_iconst (v := 1) hx hb dX1_fineAt_14 (by decide) ?_
  refine lv_isub hx hb dX1_fineAt_15 ?_
  refine x_call0Z (vx_runS (As := [.int p1, .int (0 : Int32), .int (v5 - (1 : Int32))]) (rest := []) X (P_X1_inRange_ok (l := l) hl0 hp) (va_cwS 3 hts (lw_S q1012 q1013 q148 q1014) rfl rfl rfl (by decide +kernel) ⟨Nat.le_of_ble_eq_true rfl, Nat.le_of_ble_eq_true rfl⟩) ⟨wPc.blind, w_pre hC hM hS _⟩ rfl rfl hl.1 rfl (lv_room (Nat.le_of_ble_eq_true rfl)) dX1_fineAt_16 (w_room0 hB)) hS (w_room0 hB) (fun _ _ _ _ _ _ h => False.elim h) (fun r8 M6 H locs hp hM hS => ?_)
  obtain ⟨c10, hc1, hp⟩ := hp
  refine x_callV (vx_runS (As := [.int (wb r8)]) (rest := []) X (P_X1_checkIndex_ok (l := l) hl0 hp) (va_cwS 1 hts (lw_S q2200 q2201 q148 q2202) rfl rfl rfl (by decide +kernel) ⟨Nat.le_of_ble_eq_true rfl, Nat.le_of_ble_eq_true rfl⟩) ⟨wPc.blind, w_pre hC hM hS _⟩ rfl rfl hl.1 rfl (lv_room (Nat.le_of_ble_eq_true rfl)) dX1_fineAt_19 (w_room hB hc1)) hS hB hc1 (fun E ce q16 M17 H locs hp hM hS hB hcell hcv hcl => ?_) (fun M9 H locs hp hM hS hB => ?_)
  · obtain ⟨rfl, hp⟩ := hp
    exact x_out hlk (fun x h => (hnt x h).elim) hM hS (w_fin hB) hcell hcv hcl hp
  · refine lv_aload_n hx hb dX1_fineAt_22 rfl (lv_at hl 0 rfl) ?_
    refine x_getA X hC.1 hM (ci := 0) (C := RX1) (T := TX1) (N := 8) rfl in_X1 0 (by decide) q973 (fun _ h9 => h9) dX1_fineAt_23 hp (fun a11 hp => ?_)
    refine x_getAN X hC.1 hM (ci := 1) (C := RX2) (T := TX2) (N := 9) rfl in_X2 4 (by decide) q926 (fun _ h9 => h9) dX1_fineAt_26 hp (fun a12 hp => ?_)
    refine lv_iload_n hx hb dX1_fineAt_29 rfl (lv_at hl 1 rfl) ?_
    obtain ⟨hrec, hp⟩ := hp
    refine x_call0R5 (vx_runF (hC.1.1.1 16 (RJ2, TJ2, 3) rfl).2 (C := "java/util/ArrayList") (As := [.int p1]) (rest := []) X (P_J2_get_ok (l := l) hl0 hp) (va_cwF 1 hts (lw_app (w_mem4 q1667 q522 q524 q153) (lw_meth q526)) rfl rfl rfl (wfw_8 hC.1) (by decide +kernel) ⟨Nat.le_of_ble_eq_true rfl, Nat.le_of_ble_eq_true rfl⟩) ⟨wPc.blind, w_recv hC.1 hM (ci := 16) (q := (RJ2, TJ2, 3)) rfl hrec, w_pre hC hM hS _⟩ rfl rfl hl.1 rfl (lv_room (Nat.le_of_ble_eq_true rfl)) dX1_fineAt_30 (w_room0 hB)) hS (w_room0 hB) (fun _ _ _ _ _ _ h => False.elim h) (fun r15 M13 H locs hp hM hS => ?_)
    refine x_cast (r := r15) X hC.1 hM q2019 (ci := 15) rfl (Or.inl rfl) dX1_fineAt_35 hp (fun hp => ?_)
    exact x_aret (v := r15) X hr (by first | exact Or.inl ⟨_, rfl⟩ | exact Or.inr ⟨_, rfl⟩) hlk hM hS (w_fin hB) dX1_fineAt_38 ⟨r15, rfl, hp⟩
def B_X1_appeal_102 (G : wG) (Q : Bool → wM → Prop) (Xp : String → Nat → wM → Prop) (x3 : Int32) (y0 : Int32) (y1 : Nat) (y2 : Int32) (y3 : Nat) (M : wM) (bq : Nat) : Prop :=
  oIs M y1 15 (∃ c2, c2 ≤ bq ∧ P_X19_as G y1 y0 c2 M (fun r3 M1 => oIs M1 y3 16 (P_J2_set G y3 y2 r3 M1 (fun r6 M4 => ∃ r : Bool, x3 = wb r ∧ Q r M4))))
def B_X1_appeal_83 (G : wG) (Q : Bool → wM → Prop) (Xp : String → Nat → wM → Prop) (x0 : Nat) (x1 : Int32) (x2 : Nat) (y0 : Int32) (M : wM) (bq : Nat) : Prop :=
  oGetA M x0 0 0 (fun a1 => oGetA M a1 1 4 (fun a2 => oIf (y0 = 0) (B_X1_appeal_102 G Q Xp y0 (2 : Int32) x2 x1 a2 M bq) (B_X1_appeal_102 G Q Xp y0 (1 : Int32) x2 x1 a2 M bq)))
def B_X1_appeal_82 (G : wG) (Q : Bool → wM → Prop) (Xp : String → Nat → wM → Prop) (x0 : Nat) (x1 : Int32) (x2 : Nat) (M : wM) (bq : Nat) : Prop :=
  B_X1_appeal_83 G Q Xp x0 x1 x2 (0 : Int32) M bq
def B_X1_appeal_59 (G : wG) (Q : Bool → wM → Prop) (Xp : String → Nat → wM → Prop) (x0 : Nat) (x1 : Int32) (x2 : Nat) (M : wM) (bq : Nat) : Prop :=
  oGetA M x0 0 0 (fun a1 => oGetI M x2 15 0 (fun v2 => oGetI M x2 15 1 (fun v3 => oIs M a1 1 (P_X2_hasPermit G a1 v2 v3 (2 : Int32) M (fun r6 M4 => oIf (r6 = true) (B_X1_appeal_83 G Q Xp x0 x1 x2 (1 : Int32) M4 bq) (B_X1_appeal_82 G Q Xp x0 x1 x2 M4 bq))))))
def B_X1_appeal_36 (G : wG) (Q : Bool → wM → Prop) (Xp : String → Nat → wM → Prop) (x0 : Nat) (x1 : Int32) (x2 : Nat) (y0 : Int32) (M : wM) (bq : Nat) : Prop :=
  ∃ c2, c2 ≤ bq ∧ P_X1_checkState G y0 c2 M (fun M1 => oIs M1 x0 0 (∃ c4, c4 ≤ (bq - c2) ∧ P_X1_remember G x0 c4 M1 (fun M3 => oGetI M3 x2 15 3 (fun v5 => oIf (v5 = (1 : Int32)) (B_X1_appeal_59 G Q Xp x0 x1 x2 M3 ((bq - c2) - c4)) (oGetI M3 x2 15 3 (fun v6 => oIf (v6 = (3 : Int32)) (B_X1_appeal_59 G Q Xp x0 x1 x2 M3 ((bq - c2) - c4)) (B_X1_appeal_82 G Q Xp x0 x1 x2 M3 ((bq - c2) - c4)))))))) (fun E q7 M8 => (E = "java/lang/IllegalStateException" ∧ Xp E q7 M8))
def B_X1_appeal_35 (G : wG) (Q : Bool → wM → Prop) (Xp : String → Nat → wM → Prop) (x0 : Nat) (x1 : Int32) (x2 : Nat) (M : wM) (bq : Nat) : Prop :=
  B_X1_appeal_36 G Q Xp x0 x1 x2 (0 : Int32) M bq
def P_X1_appeal (G : wG) (t0 : Nat) (p1 : Int32) (b : Nat) (M : wM) (Q : Bool → wM → Prop) (Xp : String → Nat → wM → Prop) : Prop :=
  oIs M t0 0 (∃ c2, c2 ≤ b ∧ P_X1_fineAt G t0 p1 c2 M (fun r3 M1 => oRef r3 (fun a4 => oGetI M1 a4 15 5 (fun v5 => oIf (v5 = 0) (oGetA M1 t0 0 0 (fun a6 => oGetI M1 a6 1 8 (fun v7 => oGetI M1 a4 15 2 (fun v8 => oIf ((1440 : Int32) < (v7 - v8)) (B_X1_appeal_35 G Q Xp t0 p1 a4 M1 (b - c2)) (B_X1_appeal_36 G Q Xp t0 p1 a4 (1 : Int32) M1 (b - c2)))))) (B_X1_appeal_35 G Q Xp t0 p1 a4 M1 (b - c2))))) (fun E q9 M10 => (E = "java/lang/IndexOutOfBoundsException" ∧ Xp E q9 M10)))
set_option maxHeartbeats 4000000 in
set_option maxRecDepth 100000 in
theorem P_X1_appeal_ok {l : Launch} (hl0 : l.stackTraces = false) {G : wG} {t0 : Nat} {p1 : Int32} {b : Nat} {M : wM} {Q : Bool → wM → Prop} {Xp : String → Nat → wM → Prop} (hp : P_X1_appeal G t0 p1 b M Q Xp) : wMet l yX1_appeal (ws_ yX1_appeal cX1_appeal 4 (Option.some Jvm.ClassFile.FieldType.boolean)) 20 575 G [.ref t0, .int p1] M b (wqZ Q) Xp := by
  refine vx_ofW (cc := cX1_appeal) (maxL := 4) (ret := Option.some Jvm.ClassFile.FieldType.boolean) (by decide) rfl ?_
  intro p e s m args below meth c s₁ B hml hnt hv
  obtain ⟨rfl, hM, hK, hZ, hz⟩ := hv
  have hC : wC G s := ⟨hK, hZ, hz⟩
  have hx := B.exec
  have hb := B.bytes
  have hr := B.returns
  have hts := atoms_spec (ws := (ws_ yX1_appeal cX1_appeal 4 (Option.some Jvm.ClassFile.FieldType.boolean))) B.pre
  have hts : ∀ w ∈ lw_all, w.before _ s = true := fun w h => hts w (List.mem_cons_of_mem _ h)
  have hown : s.vm.findClass RX1 = some m.cls := findClass_of_methodNamed B.named
  have hlk := B.notSynchronized
  have X : CallFix p m c cX1_appeal 4 s ([.ref t0, .int p1] : List Value).toArray lw_all RX1 := ⟨hx, hb, hml, hown, hts⟩
  have hS : va_S (wA G) s.heap s.heap [] := va_S.rf
  have hl := lv_entry ([.ref t0, .int p1]) (n := 4) (Nat.le_of_ble_eq_true rfl)
  rw [lg_entry_eq]
  generalize (lg_sl ([.ref t0, .int p1]) ++ List.replicate (4 - (lg_sl ([.ref t0, .int p1])).length) Slot.unset).toArray = ls at hl ⊢
  have hl : lv_has ls 4 [(0, .ref t0), (1, .int p1)] := hl
  have hB : 0 + b ≤ ((headSpec (ws_ yX1_appeal cX1_appeal 4 (Option.some Jvm.ClassFile.FieldType.boolean)) ({ frames := 20, cells := b, slots := b, locals := 575 })).room).cells ∧ 0 + b ≤ ((headSpec (ws_ yX1_appeal cX1_appeal 4 (Option.some Jvm.ClassFile.FieldType.boolean)) ({ frames := 20, cells := b, slots := b, locals := 575 })).room).slots := ⟨Nat.le_of_eq (Nat.zero_add b), Nat.le_of_eq (Nat.zero_add b)⟩
  have hB102 : ∀ (x3 : Int32) (y0 : Int32) (y1 : Nat) (y2 : Int32) (y3 : Nat) (M : wM) (bq : Nat) (H : Heap) (locs : List Loc) (ls : Array Slot) (cells slots : Nat), B_X1_appeal_102 G Q Xp x3 y0 y1 y2 y3 M bq → wR G M H → va_S (wA G) s.heap H locs → (cells + bq ≤ ((headSpec (ws_ yX1_appeal cX1_appeal 4 (Option.some Jvm.ClassFile.FieldType.boolean)) ({ frames := 20, cells := b, slots := b, locals := 575 })).room).cells ∧ slots + bq ≤ ((headSpec (ws_ yX1_appeal cX1_appeal 4 (Option.some Jvm.ClassFile.FieldType.boolean)) ({ frames := 20, cells := b, slots := b, locals := 575 })).room).slots) → lv_has ls 4 [(3, .int x3)] → W p l e (headSpec (ws_ yX1_appeal cX1_appeal 4 (Option.some Jvm.ClassFile.FieldType.boolean)) ({ frames := 20, cells := b, slots := b, locals := 575 })).room s m ([.ref t0, .int p1] : List Value).toArray below meth c H locs cells slots (vx_MQ below (wQ G (wqZ Q)) (wXC G Xp) ([.ref t0, .int p1] : List Value).toArray s b b (wA G)) (F0 m 102 ls [.int y0, .ref y1, .int y2, .ref y3]) := by
    intro x3 y0 y1 y2 y3 M bq H locs ls cells slots hp hM hS hB hl
    obtain ⟨hrec, hp⟩ := hp
    obtain ⟨c2, hc1, hp⟩ := hp
    refine x_callR (vx_runV (As := [.int y0]) (rest := [.int y2, .ref y3]) X (P_X19_as_ok (l := l) hl0 hp) (cwV 1 hts (lw_V q2936 q2937 q2938 q210 q2939) rfl rfl rfl (by decide +kernel) ⟨Nat.le_of_ble_eq_true rfl, Nat.le_of_ble_eq_true rfl⟩) ⟨wPc.blind, w_recv hC.1 hM (ci := 15) (q := (RX19, TX19, 6)) rfl hrec, w_pre hC hM hS _⟩ rfl rfl hl.1 rfl (lv_room (Nat.le_of_ble_eq_true rfl)) dX1_appeal_102 (w_room hB hc1)) hS hB hc1 (fun _ _ _ _ _ _ h => False.elim h) (fun r3 M1 H locs hp hM hS hB => ?_)
    obtain ⟨hrec, hp⟩ := hp
    refine x_call0R5 (vx_runF (hC.1.1.1 16 (RJ2, TJ2, 3) rfl).2 (C := "java/util/ArrayList") (As := [.int y2, va_rf r3]) (rest := []) X (P_J2_set_ok (l := l) hl0 hp) (va_cwF 2 hts (lw_app (w_mem4 q2943 q2946 q2948 q153) (lw_meth q2950)) rfl rfl rfl (wfw_12 hC.1) (by decide +kernel) ⟨Nat.le_of_ble_eq_true rfl, Nat.le_of_ble_eq_true rfl⟩) ⟨wPc.blind, w_recv hC.1 hM (ci := 16) (q := (RJ2, TJ2, 3)) rfl hrec, w_pre hC hM hS _⟩ rfl rfl hl.1 rfl (lv_room (Nat.le_of_ble_eq_true rfl)) dX1_appeal_105 (w_room0 hB)) hS (w_room0 hB) (fun _ _ _ _ _ _ h => False.elim h) (fun r6 M4 H locs hp hM hS => ?_)
    refine lv_pop hx hb dX1_appeal_110 (w_cat _) ?_
    refine lv_iload_n hx hb dX1_appeal_111 rfl (lv_at hl 0 rfl) ?_
    obtain ⟨r, hr0, hp⟩ := hp
    exact x_zret X hr hlk hM hS (w_fin hB) (by rw [hr0]; exact w_nz _) dX1_appeal_112 ⟨r, by rw [hr0], hp⟩
  have hB83 : ∀ (x0 : Nat) (x1 : Int32) (x2 : Nat) (y0 : Int32) (M : wM) (bq : Nat) (H : Heap) (locs : List Loc) (ls : Array Slot) (cells slots : Nat), B_X1_appeal_83 G Q Xp x0 x1 x2 y0 M bq → wR G M H → va_S (wA G) s.heap H locs → (cells + bq ≤ ((headSpec (ws_ yX1_appeal cX1_appeal 4 (Option.some Jvm.ClassFile.FieldType.boolean)) ({ frames := 20, cells := b, slots := b, locals := 575 })).room).cells ∧ slots + bq ≤ ((headSpec (ws_ yX1_appeal cX1_appeal 4 (Option.some Jvm.ClassFile.FieldType.boolean)) ({ frames := 20, cells := b, slots := b, locals := 575 })).room).slots) → lv_has ls 4 [(0, .ref x0), (1, .int x1), (2, .ref x2)] → W p l e (headSpec (ws_ yX1_appeal cX1_appeal 4 (Option.some Jvm.ClassFile.FieldType.boolean)) ({ frames := 20, cells := b, slots := b, locals := 575 })).room s m ([.ref t0, .int p1] : List Value).toArray below meth c H locs cells slots (vx_MQ below (wQ G (wqZ Q)) (wXC G Xp) ([.ref t0, .int p1] : List Value).toArray s b b (wA G)) (F0 m 83 ls [.int y0]) := by
    intro x0 x1 x2 y0 M bq H locs ls cells slots hp hM hS hB hl
    refine lv_istore_n (lv' := [(3, .int y0), (0, .ref x0), (1, .int x1), (2, .ref x2)]) hx hb dX1_appeal_83 rfl hl (by decide) rfl (fun ls hl => ?_)
    refine lv_aload_n hx hb dX1_appeal_84 rfl (lv_at hl 1 rfl) ?_
    refine x_getA X hC.1 hM (ci := 0) (C := RX1) (T := TX1) (N := 8) rfl in_X1 0 (by decide) q973 (fun _ h9 => h9) dX1_appeal_85 hp (fun a1 hp => ?_)
    refine x_getAN X hC.1 hM (ci := 1) (C := RX2) (T := TX2) (N := 9) rfl in_X2 4 (by decide) q926 (fun _ h9 => h9) dX1_appeal_88 hp (fun a2 hp => ?_)
    refine lv_iload_n hx hb dX1_appeal_91 rfl (lv_at hl 2 rfl) ?_
    refine lv_aload_n hx hb dX1_appeal_92 rfl (lv_at hl 3 rfl) ?_
    refine lv_iload_n hx hb dX1_appeal_93 rfl (lv_at hl 0 rfl) ?_
    refine lv_if_eq (tgt := 101) hx hb dX1_appeal_94 (by decide) (fun hc => ?_) (fun hc => ?_)
    · have hp := oIf.t hp hc
      refine lv_iconst (v := 2) hx hb dX1_appeal_101 (by decide) ?_
      exact hB102 _ _ _ _ _ _ _ _ _ _ _ _ hp hM hS hB (lv_sub hl [0] rfl)
    · have hp := oIf.f hp hc
      refine lv_iconst (v := 1) hx hb dX1_appeal_97 (by decide) ?_
      refine lv_goto (tgt := 102) hx hb dX1_appeal_98 (by decide) ?_
      exact hB102 _ _ _ _ _ _ _ _ _ _ _ _ hp hM hS hB (lv_sub hl [0] rfl)
  have hB82 : ∀ (x0 : Nat) (x1 : Int32) (x2 : Nat) (M : wM) (bq : Nat) (H : Heap) (locs : List Loc) (ls : Array Slot) (cells slots : Nat), B_X1_appeal_82 G Q Xp x0 x1 x2 M bq → wR G M H → va_S (wA G) s.heap H locs → (cells + bq ≤ ((headSpec (ws_ yX1_appeal cX1_appeal 4 (Option.some Jvm.ClassFile.FieldType.boolean)) ({ frames := 20, cells := b, slots := b, locals := 575 })).room).cells ∧ slots + bq ≤ ((headSpec (ws_ yX1_appeal cX1_appeal 4 (Option.some Jvm.ClassFile.FieldType.boolean)) ({ frames := 20, cells := b, slots := b, locals := 575 })).room).slots) → lv_has ls 4 [(0, .ref x0), (1, .int x1), (2, .ref x2)] → W p l e (headSpec (ws_ yX1_appeal cX1_appeal 4 (Option.some Jvm.ClassFile.FieldType.boolean)) ({ frames := 20, cells := b, slots := b, locals := 575 })).room s m ([.ref t0, .int p1] : List Value).toArray below meth c H locs cells slots (vx_MQ below (wQ G (wqZ Q)) (wXC G Xp) ([.ref t0, .int p1] : List Value).toArray s b b (wA G)) (F0 m 82 ls []) := by
    intro x0 x1 x2 M bq H locs ls cells slots hp hM hS hB hl
    refine lv_iconst (v := 0) hx hb dX1_appeal_82 (by decide) ?_
    exact hB83 _ _ _ _ _ _ _ _ _ _ _ hp hM hS hB (lv_sub hl [0, 1, 2] rfl)
  have hB59 : ∀ (x0 : Nat) (x1 : Int32) (x2 : Nat) (M : wM) (bq : Nat) (H : Heap) (locs : List Loc) (ls : Array Slot) (cells slots : Nat), B_X1_appeal_59 G Q Xp x0 x1 x2 M bq → wR G M H → va_S (wA G) s.heap H locs → (cells + bq ≤ ((headSpec (ws_ yX1_appeal cX1_appeal 4 (Option.some Jvm.ClassFile.FieldType.boolean)) ({ frames := 20, cells := b, slots := b, locals := 575 })).room).cells ∧ slots + bq ≤ ((headSpec (ws_ yX1_appeal cX1_appeal 4 (Option.some Jvm.ClassFile.FieldType.boolean)) ({ frames := 20, cells := b, slots := b, locals := 575 })).room).slots) → lv_has ls 4 [(0, .ref x0), (1, .int x1), (2, .ref x2)] → W p l e (headSpec (ws_ yX1_appeal cX1_appeal 4 (Option.some Jvm.ClassFile.FieldType.boolean)) ({ frames := 20, cells := b, slots := b, locals := 575 })).room s m ([.ref t0, .int p1] : List Value).toArray below meth c H locs cells slots (vx_MQ below (wQ G (wqZ Q)) (wXC G Xp) ([.ref t0, .int p1] : List Value).toArray s b b (wA G)) (F0 m 59 ls []) := by
    intro x0 x1 x2 M bq H locs ls cells slots hp hM hS hB hl
    refine lv_aload_n hx hb dX1_appeal_59 rfl (lv_at hl 0 rfl) ?_
    refine x_getA X hC.1 hM (ci := 0) (C := RX1) (T := TX1) (N := 8) rfl in_X1 0 (by decide) q973 (fun _ h9 => h9) dX1_appeal_60 hp (fun a1 hp => ?_)
    refine lv_aload_n hx hb dX1_appeal_63 rfl (lv_at hl 2 rfl) ?_
    refine x_getIN X hC.1 hM (ci := 15) (C := RX19) (T := TX19) (N := 6) rfl in_X19 0 (by decide) q2903 (fun _ h9 => h9) dX1_appeal_64 hp (fun v2 hp => ?_)
    refine lv_aload_n hx hb dX1_appeal_67 rfl (lv_at hl 2 rfl) ?_
    refine x_getIN X hC.1 hM (ci := 15) (C := RX19) (T := TX19) (N := 6) rfl in_X19 1 (by decide) q2905 (fun _ h9 => h9) dX1_appeal_68 hp (fun v3 hp => ?_)
    refine lv_iconst (v := 2) hx hb dX1_appeal_71 (by decide) ?_
    obtain ⟨hrec, hp⟩ := hp
    refine x_call0Z (vx_runV (As := [.int v2, .int v3, .int (2 : Int32)]) (rest := []) X (P_X2_hasPermit_ok (l := l) hl0 hp) (cwV 3 hts (lw_V q2935 q2469 q2470 q149 q2471) rfl rfl rfl (by decide +kernel) ⟨Nat.le_of_ble_eq_true rfl, Nat.le_of_ble_eq_true rfl⟩) ⟨wPc.blind, w_recv hC.1 hM (ci := 1) (q := (RX2, TX2, 9)) rfl hrec, w_pre hC hM hS _⟩ rfl rfl hl.1 rfl (lv_room (Nat.le_of_ble_eq_true rfl)) dX1_appeal_72 (w_room0 hB)) hS (w_room0 hB) (fun _ _ _ _ _ _ h => False.elim h) (fun r6 M4 H locs hp hM hS => ?_)
    refine x_ifeqB (tgt := 82) hx hb dX1_appeal_75 (by decide) (fun hc => ?_) (fun hc => ?_)
    · have hp := oIf.bf hp hc
      exact hB82 _ _ _ _ _ _ _ _ _ _ hp hM hS hB (lv_sub hl [0, 1, 2] rfl)
    · have hp := oIf.bt hp hc
      refine lv_iconst (v := 1) hx hb dX1_appeal_78 (by decide) ?_
      refine lv_goto (tgt := 83) hx hb dX1_appeal_79 (by decide) ?_
      exact hB83 _ _ _ _ _ _ _ _ _ _ _ hp hM hS hB (lv_sub hl [0, 1, 2] rfl)
  have hB36 : ∀ (x0 : Nat) (x1 : Int32) (x2 : Nat) (y0 : Int32) (M : wM) (bq : Nat) (H : Heap) (locs : List Loc) (ls : Array Slot) (cells slots : Nat), B_X1_appeal_36 G Q Xp x0 x1 x2 y0 M bq → wR G M H → va_S (wA G) s.heap H locs → (cells + bq ≤ ((headSpec (ws_ yX1_appeal cX1_appeal 4 (Option.some Jvm.ClassFile.FieldType.boolean)) ({ frames := 20, cells := b, slots := b, locals := 575 })).room).cells ∧ slots + bq ≤ ((headSpec (ws_ yX1_appeal cX1_appeal 4 (Option.some Jvm.ClassFile.FieldType.boolean)) ({ frames := 20, cells := b, slots := b, locals := 575 })).room).slots) → lv_has ls 4 [(0, .ref x0), (1, .int x1), (2, .ref x2)] → W p l e (headSpec (ws_ yX1_appeal cX1_appeal 4 (Option.some Jvm.ClassFile.FieldType.boolean)) ({ frames := 20, cells := b, slots := b, locals := 575 })).room s m ([.ref t0, .int p1] : List Value).toArray below meth c H locs cells slots (vx_MQ below (wQ G (wqZ Q)) (wXC G Xp) ([.ref t0, .int p1] : List Value).toArray s b b (wA G)) (F0 m 36 ls [.int y0]) := by
    intro x0 x1 x2 y0 M bq H locs ls cells slots hp hM hS hB hl
    obtain ⟨c2, hc1, hp⟩ := hp
    refine x_callV (vx_runS (As := [.int y0]) (rest := []) X (P_X1_checkState_ok (l := l) hl0 hp) (va_cwS 1 hts (lw_S q2690 q2691 q148 q2692) rfl rfl rfl (by decide +kernel) ⟨Nat.le_of_ble_eq_true rfl, Nat.le_of_ble_eq_true rfl⟩) ⟨wPc.blind, w_pre hC hM hS _⟩ rfl rfl hl.1 rfl (lv_room (Nat.le_of_ble_eq_true rfl)) dX1_appeal_36 (w_room hB hc1)) hS hB hc1 (fun E ce q7 M8 H locs hp hM hS hB hcell hcv hcl => ?_) (fun M1 H locs hp hM hS hB => ?_)
    · obtain ⟨rfl, hp⟩ := hp
      exact x_out hlk (fun x h => (hnt x h).elim) hM hS (w_fin hB) hcell hcv hcl hp
    · refine lv_aload_n hx hb dX1_appeal_39 rfl (lv_at hl 0 rfl) ?_
      obtain ⟨hrec, hp⟩ := hp
      obtain ⟨c4, hc1, hp⟩ := hp
      refine x_callV (vx_runV (As := []) (rest := []) X (P_X1_remember_ok (l := l) hl0 hp) (cwV 0 hts (lw_V q2543 q2545 qs49 q148 q2546) rfl rfl rfl (by decide +kernel) ⟨Nat.le_of_ble_eq_true rfl, Nat.le_of_ble_eq_true rfl⟩) ⟨wPc.blind, w_recv hC.1 hM (ci := 0) (q := (RX1, TX1, 8)) rfl hrec, w_pre hC hM hS _⟩ rfl rfl hl.1 rfl (lv_room (Nat.le_of_ble_eq_true rfl)) dX1_appeal_40 (w_room hB hc1)) hS hB hc1 (fun _ _ _ _ _ _ h => False.elim h) (fun M3 H locs hp hM hS hB => ?_)
      refine lv_aload_n hx hb dX1_appeal_43 rfl (lv_at hl 2 rfl) ?_
      refine x_getIN X hC.1 hM (ci := 15) (C := RX19) (T := TX19) (N := 6) rfl in_X19 3 (by decide) q2910 (fun _ h9 => h9) dX1_appeal_44 hp (fun v5 hp => ?_)
      refine lv_iconst (v := 1) hx hb dX1_appeal_47 (by decide) ?_
      refine lv_icmp_eq (tgt := 59) hx hb dX1_appeal_48 (by decide) (fun hc => ?_) (fun hc => ?_)
      · have hp := oIf.t hp hc
        exact hB59 _ _ _ _ _ _ _ _ _ _ hp hM hS hB (lv_sub hl [0, 1, 2] rfl)
      · have hp := oIf.f hp hc
        refine lv_aload_n hx hb dX1_appeal_51 rfl (lv_at hl 2 rfl) ?_
        refine x_getIN X hC.1 hM (ci := 15) (C := RX19) (T := TX19) (N := 6) rfl in_X19 3 (by decide) q2910 (fun _ h9 => h9) dX1_appeal_52 hp (fun v6 hp => ?_)
        refine lv_iconst (v := 3) hx hb dX1_appeal_55 (by decide) ?_
        refine lv_icmp_ne (tgt := 82) hx hb dX1_appeal_56 (by decide) (fun hc => ?_) (fun hc => ?_)
        · have hp := oIf.f hp hc
          exact hB82 _ _ _ _ _ _ _ _ _ _ hp hM hS hB (lv_sub hl [0, 1, 2] rfl)
        · have hp := oIf.t hp hc
          exact hB59 _ _ _ _ _ _ _ _ _ _ hp hM hS hB (lv_sub hl [0, 1, 2] rfl)
  have hB35 : ∀ (x0 : Nat) (x1 : Int32) (x2 : Nat) (M : wM) (bq : Nat) (H : Heap) (locs : List Loc) (ls : Array Slot) (cells slots : Nat), B_X1_appeal_35 G Q Xp x0 x1 x2 M bq → wR G M H → va_S (wA G) s.heap H locs → (cells + bq ≤ ((headSpec (ws_ yX1_appeal cX1_appeal 4 (Option.some Jvm.ClassFile.FieldType.boolean)) ({ frames := 20, cells := b, slots := b, locals := 575 })).room).cells ∧ slots + bq ≤ ((headSpec (ws_ yX1_appeal cX1_appeal 4 (Option.some Jvm.ClassFile.FieldType.boolean)) ({ frames := 20, cells := b, slots := b, locals := 575 })).room).slots) → lv_has ls 4 [(0, .ref x0), (1, .int x1), (2, .ref x2)] → W p l e (headSpec (ws_ yX1_appeal cX1_appeal 4 (Option.some Jvm.ClassFile.FieldType.boolean)) ({ frames := 20, cells := b, slots := b, locals := 575 })).room s m ([.ref t0, .int p1] : List Value).toArray below meth c H locs cells slots (vx_MQ below (wQ G (wqZ Q)) (wXC G Xp) ([.ref t0, .int p1] : List Value).toArray s b b (wA G)) (F0 m 35 ls []) := by
    intro x0 x1 x2 M bq H locs ls cells slots hp hM hS hB hl
    refine lv_iconst (v := 0) hx hb dX1_appeal_35 (by decide) ?_
    exact hB36 _ _ _ _ _ _ _ _ _ _ _ hp hM hS hB (lv_sub hl [0, 1, 2] rfl)
  refine lv_aload_n hx hb dX1_appeal_0 rfl (lv_at hl 0 rfl) ?_
  refine lv_iload_n hx hb dX1_appeal_1 rfl (lv_at hl 1 rfl) ?_
  obtain ⟨hrec, hp⟩ := hp
  obtain ⟨c2, hc1, hp⟩ := hp
  refine x_callR (vx_runV (As := [.int p1]) (rest := []) X (P_X1_fineAt_ok (l := l) hl0 hp) (cwV 1 hts (lw_V q2518 q2520 qs48 q148 q2521) rfl rfl rfl (by decide +kernel) ⟨Nat.le_of_ble_eq_true rfl, Nat.le_of_ble_eq_true rfl⟩) ⟨wPc.blind, w_recv hC.1 hM (ci := 0) (q := (RX1, TX1, 8)) rfl hrec, w_pre hC hM hS _⟩ rfl rfl hl.1 rfl (lv_room (Nat.le_of_ble_eq_true rfl)) dX1_appeal_2 (w_room hB hc1)) hS hB hc1 (fun E ce q9 M10 H locs hp hM hS hB hcell hcv hcl => ?_) (fun r3 M1 H locs hp hM hS hB => ?_)
  · obtain ⟨rfl, hp⟩ := hp
    exact x_out hlk (fun x h => (hnt x h).elim) hM hS (w_fin hB) hcell hcv hcl hp
  · refine x_astore_n (r := r3) (lv' := [(2, va_rf r3), (0, .ref t0), (1, .int p1)]) hx hb dX1_appeal_5 rfl hl (by decide) rfl (fun ls hl => ?_)
    refine x_aload_n (r := r3) hx hb dX1_appeal_6 rfl (lv_at hl 0 rfl) ?_
    obtain ⟨a4, ea, hqa4⟩ := hp
    subst ea
    have hp := hqa4
    have hl : lv_has ls 4 [(2, .ref a4), (0, .ref t0), (1, .int p1)] := hl
    refine x_getIN X hC.1 hM (ci := 15) (C := RX19) (T := TX19) (N := 6) rfl in_X19 5 (by decide) q2914 (fun _ h9 => h9) dX1_appeal_7 hp (fun v5 hp => ?_)
    refine lv_if_ne (tgt := 35) hx hb dX1_appeal_10 (by decide) (fun hc => ?_) (fun hc => ?_)
    · have hp := oIf.f hp hc
      exact hB35 _ _ _ _ _ _ _ _ _ _ hp hM hS hB (lv_sub hl [1, 2, 0] rfl)
    · have hp := oIf.t hp hc
      refine lv_aload_n hx hb dX1_appeal_13 rfl (lv_at hl 1 rfl) ?_
      refine x_getA X hC.1 hM (ci := 0) (C := RX1) (T := TX1) (N := 8) rfl in_X1 0 (by decide) q973 (fun _ h9 => h9) dX1_appeal_14 hp (fun a6 hp => ?_)
      refine x_getIN X hC.1 hM (ci := 1) (C := RX2) (T := TX2) (N := 9) rfl in_X2 8 (by decide) q934 (fun _ h9 => h9) dX1_appeal_17 hp (fun v7 hp => ?_)
      refine lv_aload_n hx hb dX1_appeal_20 rfl (lv_at hl 0 rfl) ?_
      refine x_getIN X hC.1 hM (ci := 15) (C := RX19) (T := TX19) (N := 6) rfl in_X19 2 (by decide) q2908 (fun _ h9 => h9) dX1_appeal_21 hp (fun v8 hp => ?_)
      refine lv_isub hx hb dX1_appeal_24 ?_
      refine lv_sipush (v := 1440) hx hb dX1_appeal_25 (by decide) ?_
      refine lv_icmp_gt (tgt := 35) hx hb dX1_appeal_28 (by decide) (fun hc => ?_) (fun hc => ?_)
      · have hp := oIf.t hp hc
        exact hB35 _ _ _ _ _ _ _ _ _ _ hp hM hS hB (lv_sub hl [1, 2, 0] rfl)
      · have hp := oIf.f hp hc
        refine lv_iconst (v := 1) hx hb dX1_appeal_31 (by decide) ?_
        refine lv_goto (tgt := 36) hx hb dX1_appeal_32 (by decide) ?_
        exact hB36 _ _ _ _ _ _ _ _ _ _ _ hp hM hS hB (lv_sub hl [1, 2, 0] rfl)
def B_X12_isActive_13 (G : wG) (Q : Bool → wM → Prop) (y0 : Int32) (M : wM) : Prop :=
  ∃ r : Bool, y0 = wb r ∧ Q r M
def P_X12_isActive (G : wG) (t0 : Nat) (M : wM) (Q : Bool → wM → Prop) : Prop :=
  oGetI M t0 9 4 (fun v1 => oIf ((2 : Int32) < v1) (B_X12_isActive_13 G Q (0 : Int32) M) (B_X12_isActive_13 G Q (1 : Int32) M))
set_option maxHeartbeats 4000000 in
set_option maxRecDepth 100000 in
theorem P_X12_isActive_ok {l : Launch} (hl0 : l.stackTraces = false) {G : wG} {t0 : Nat} {M : wM} {Q : Bool → wM → Prop} (hp : P_X12_isActive G t0 M Q) : wMet l yX12_isActive (ws_ yX12_isActive cX12_isActive 1 (Option.some Jvm.ClassFile.FieldType.boolean)) 12 400 G [.ref t0] M 0 (wqZ Q) wX0 := by
  refine vx_ofW (cc := cX12_isActive) (maxL := 1) (ret := Option.some Jvm.ClassFile.FieldType.boolean) (by decide) rfl ?_
  intro p e s m args below meth c s₁ B hml hnt hv
  obtain ⟨rfl, hM, hK, hZ, hz⟩ := hv
  have hC : wC G s := ⟨hK, hZ, hz⟩
  have hx := B.exec
  have hb := B.bytes
  have hr := B.returns
  have hts := atoms_spec (ws := (ws_ yX12_isActive cX12_isActive 1 (Option.some Jvm.ClassFile.FieldType.boolean))) B.pre
  have hts : ∀ w ∈ lw_all, w.before _ s = true := fun w h => hts w (List.mem_cons_of_mem _ h)
  have hown : s.vm.findClass RX12 = some m.cls := findClass_of_methodNamed B.named
  have hlk := B.notSynchronized
  have X : CallFix p m c cX12_isActive 1 s ([.ref t0] : List Value).toArray lw_all RX12 := ⟨hx, hb, hml, hown, hts⟩
  have hS : va_S (wA G) s.heap s.heap [] := va_S.rf
  have hl := lv_entry ([.ref t0]) (n := 1) (Nat.le_of_ble_eq_true rfl)
  rw [lg_entry_eq]
  generalize (lg_sl ([.ref t0]) ++ List.replicate (1 - (lg_sl ([.ref t0])).length) Slot.unset).toArray = ls at hl ⊢
  have hl : lv_has ls 1 [(0, .ref t0)] := hl
  have hB13 : ∀ (y0 : Int32) (M : wM) (H : Heap) (locs : List Loc) (ls : Array Slot), B_X12_isActive_13 G Q y0 M → wR G M H → va_S (wA G) s.heap H locs → lv_has ls 1 [] → W p l e (headSpec (ws_ yX12_isActive cX12_isActive 1 (Option.some Jvm.ClassFile.FieldType.boolean)) ({ frames := 12, cells := 0, slots := 0, locals := 400 })).room s m ([.ref t0] : List Value).toArray below meth c H locs 0 0 (vx_MQ below (wQ G (wqZ Q)) (wXC G wX0) ([.ref t0] : List Value).toArray s 0 0 (wA G)) (F0 m 13 ls [.int y0]) := by
    intro y0 M H locs ls hp hM hS hl
    obtain ⟨r, hr0, hp⟩ := hp
    exact x_zret X hr hlk hM hS ⟨Nat.le_refl _, Nat.le_refl _⟩ (by rw [hr0]; exact w_nz _) dX12_isActive_13 ⟨r, by rw [hr0], hp⟩
  refine lv_aload_n hx hb dX12_isActive_0 rfl (lv_at hl 0 rfl) ?_
  refine x_getI X hC.1 hM (ci := 9) (C := RX12) (T := TX12) (N := 8) rfl in_X12 4 (by decide) q2089 (fun _ h9 => h9) dX12_isActive_1 hp (fun v1 hp => ?_)
  refine lv_iconst (v := 2) hx hb dX12_isActive_4 (by decide) ?_
  refine lv_icmp_gt (tgt := 12) hx hb dX12_isActive_5 (by decide) (fun hc => ?_) (fun hc => ?_)
  · have hp := oIf.t hp hc
    refine lv_iconst (v := 0) hx hb dX12_isActive_12 (by decide) ?_
    exact hB13 _ _ _ _ _ hp hM hS (lv_sub hl [] rfl)
  · have hp := oIf.f hp hc
    refine lv_iconst (v := 1) hx hb dX12_isActive_8 (by decide) ?_
    refine lv_goto (tgt := 13) hx hb dX12_isActive_9 (by decide) ?_
    exact hB13 _ _ _ _ _ hp hM hS (lv_sub hl [] rfl)
def B_X1_lambda_house_0_20 (G : wG) (Q : Bool → wM → Prop) (y0 : Int32) (M : wM) : Prop :=
  ∃ r : Bool, y0 = wb r ∧ Q r M
def B_X1_lambda_house_0_19 (G : wG) (Q : Bool → wM → Prop) (M : wM) : Prop :=
  B_X1_lambda_house_0_20 G Q (0 : Int32) M
def P_X1_lambda_house_0 (G : wG) (p1 : Int32) (p2 : Nat) (M : wM) (Q : Bool → wM → Prop) : Prop :=
  oGetI M p2 9 0 (fun v1 => oIf (v1 = p1) (oIs M p2 9 (P_X12_isActive G p2 M (fun r4 M2 => oIf (r4 = true) (B_X1_lambda_house_0_20 G Q (1 : Int32) M2) (B_X1_lambda_house_0_19 G Q M2)))) (B_X1_lambda_house_0_19 G Q M))
set_option maxHeartbeats 4000000 in
set_option maxRecDepth 100000 in
theorem P_X1_lambda_house_0_ok {l : Launch} (hl0 : l.stackTraces = false) {G : wG} {p1 : Int32} {p2 : Nat} {M : wM} {Q : Bool → wM → Prop} (hp : P_X1_lambda_house_0 G p1 p2 M Q) : wMet l yX1_lambda_house_0 (ws_ yX1_lambda_house_0 cX1_lambda_house_0 2 (Option.some Jvm.ClassFile.FieldType.boolean)) 13 420 G [.int p1, .ref p2] M 0 (wqZ Q) wX0 := by
  refine vx_ofW (cc := cX1_lambda_house_0) (maxL := 2) (ret := Option.some Jvm.ClassFile.FieldType.boolean) (by decide) rfl ?_
  intro p e s m args below meth c s₁ B hml hnt hv
  obtain ⟨rfl, hM, hK, hZ, hz⟩ := hv
  have hC : wC G s := ⟨hK, hZ, hz⟩
  have hx := B.exec
  have hb := B.bytes
  have hr := B.returns
  have hts := atoms_spec (ws := (ws_ yX1_lambda_house_0 cX1_lambda_house_0 2 (Option.some Jvm.ClassFile.FieldType.boolean))) B.pre
  have hts : ∀ w ∈ lw_all, w.before _ s = true := fun w h => hts w (List.mem_cons_of_mem _ h)
  have hown : s.vm.findClass RX1 = some m.cls := findClass_of_methodNamed B.named
  have hlk := B.notSynchronized
  have X : CallFix p m c cX1_lambda_house_0 2 s ([.int p1, .ref p2] : List Value).toArray lw_all RX1 := ⟨hx, hb, hml, hown, hts⟩
  have hS : va_S (wA G) s.heap s.heap [] := va_S.rf
  have hl := lv_entry ([.int p1, .ref p2]) (n := 2) (Nat.le_of_ble_eq_true rfl)
  rw [lg_entry_eq]
  generalize (lg_sl ([.int p1, .ref p2]) ++ List.replicate (2 - (lg_sl ([.int p1, .ref p2])).length) Slot.unset).toArray = ls at hl ⊢
  have hl : lv_has ls 2 [(0, .int p1), (1, .ref p2)] := hl
  have hB20 : ∀ (y0 : Int32) (M : wM) (H : Heap) (locs : List Loc) (ls : Array Slot), B_X1_lambda_house_0_20 G Q y0 M → wR G M H → va_S (wA G) s.heap H locs → lv_has ls 2 [] → W p l e (headSpec (ws_ yX1_lambda_house_0 cX1_lambda_house_0 2 (Option.some Jvm.ClassFile.FieldType.boolean)) ({ frames := 13, cells := 0, slots := 0, locals := 420 })).room s m ([.int p1, .ref p2] : List Value).toArray below meth c H locs 0 0 (vx_MQ below (wQ G (wqZ Q)) (wXC G wX0) ([.int p1, .ref p2] : List Value).toArray s 0 0 (wA G)) (F0 m 20 ls [.int y0]) := by
    intro y0 M H locs ls hp hM hS hl
    obtain ⟨r, hr0, hp⟩ := hp
    exact x_zret X hr hlk hM hS ⟨Nat.le_refl _, Nat.le_refl _⟩ (by rw [hr0]; exact w_nz _) dX1_lambda_house_0_20 ⟨r, by rw [hr0], hp⟩
  have hB19 : ∀ (M : wM) (H : Heap) (locs : List Loc) (ls : Array Slot), B_X1_lambda_house_0_19 G Q M → wR G M H → va_S (wA G) s.heap H locs → lv_has ls 2 [] → W p l e (headSpec (ws_ yX1_lambda_house_0 cX1_lambda_house_0 2 (Option.some Jvm.ClassFile.FieldType.boolean)) ({ frames := 13, cells := 0, slots := 0, locals := 420 })).room s m ([.int p1, .ref p2] : List Value).toArray below meth c H locs 0 0 (vx_MQ below (wQ G (wqZ Q)) (wXC G wX0) ([.int p1, .ref p2] : List Value).toArray s 0 0 (wA G)) (F0 m 19 ls []) := by
    intro M H locs ls hp hM hS hl
    refine lv_iconst (v := 0) hx hb dX1_lambda_house_0_19 (by decide) ?_
    exact hB20 _ _ _ _ _ hp hM hS (lv_sub hl [] rfl)
  refine lv_aload_n hx hb dX1_lambda_house_0_0 rfl (lv_at hl 1 rfl) ?_
  refine x_getI X hC.1 hM (ci := 9) (C := RX12) (T := TX12) (N := 8) rfl in_X12 0 (by decide) q2107 (fun x9 h9 => u_same (hts _ q2102) x9 h9) dX1_lambda_house_0_1 hp (fun v1 hp => ?_)
  refine lv_iload_n hx hb dX1_lambda_house_0_4 rfl (lv_at hl 0 rfl) ?_
  refine lv_icmp_ne (tgt := 19) hx hb dX1_lambda_house_0_5 (by decide) (fun hc => ?_) (fun hc => ?_)
  · have hp := oIf.f hp hc
    exact hB19 _ _ _ _ hp hM hS (lv_sub hl [] rfl)
  · have hp := oIf.t hp hc
    refine lv_aload_n hx hb dX1_lambda_house_0_8 rfl (lv_at hl 1 rfl) ?_
    obtain ⟨hrec, hp⟩ := hp
    refine x_call0Z (vx_runV (As := []) (rest := []) X (P_X12_isActive_ok (l := l) hl0 hp) (cwV 0 hts (lw_V q1687 q1688 q1689 q202 q1690) rfl rfl rfl (by decide +kernel) ⟨Nat.le_of_ble_eq_true rfl, Nat.le_of_ble_eq_true rfl⟩) ⟨wPc.blind, w_recv hC.1 hM (ci := 9) (q := (RX12, TX12, 8)) rfl hrec, w_pre hC hM hS _⟩ rfl rfl hl.1 rfl (lv_room (Nat.le_of_ble_eq_true rfl)) dX1_lambda_house_0_9 ⟨Nat.le_refl _, Nat.le_refl _⟩) hS ⟨Nat.le_refl _, Nat.le_refl _⟩ (fun _ _ _ _ _ _ h => False.elim h) (fun r4 M2 H locs hp hM hS => ?_)
    refine x_ifeqB (tgt := 19) hx hb dX1_lambda_house_0_12 (by decide) (fun hc => ?_) (fun hc => ?_)
    · have hp := oIf.bf hp hc
      exact hB19 _ _ _ _ hp hM hS (lv_sub hl [] rfl)
    · have hp := oIf.bt hp hc
      refine lv_iconst (v := 1) hx hb dX1_lambda_house_0_15 (by decide) ?_
      refine lv_goto (tgt := 20) hx hb dX1_lambda_house_0_16 (by decide) ?_
      exact hB20 _ _ _ _ _ hp hM hS (lv_sub hl [] rfl)
def B_X2_lambda_checkApply_0_20 (G : wG) (Q : Bool → wM → Prop) (y0 : Int32) (M : wM) : Prop :=
  ∃ r : Bool, y0 = wb r ∧ Q r M
def B_X2_lambda_checkApply_0_19 (G : wG) (Q : Bool → wM → Prop) (M : wM) : Prop :=
  B_X2_lambda_checkApply_0_20 G Q (0 : Int32) M
def P_X2_lambda_checkApply_0 (G : wG) (p1 : Int32) (p2 : Nat) (M : wM) (Q : Bool → wM → Prop) : Prop :=
  oGetI M p2 9 0 (fun v1 => oIf (v1 = p1) (oIs M p2 9 (P_X12_isActive G p2 M (fun r4 M2 => oIf (r4 = true) (B_X2_lambda_checkApply_0_20 G Q (1 : Int32) M2) (B_X2_lambda_checkApply_0_19 G Q M2)))) (B_X2_lambda_checkApply_0_19 G Q M))
set_option maxHeartbeats 4000000 in
set_option maxRecDepth 100000 in
theorem P_X2_lambda_checkApply_0_ok {l : Launch} (hl0 : l.stackTraces = false) {G : wG} {p1 : Int32} {p2 : Nat} {M : wM} {Q : Bool → wM → Prop} (hp : P_X2_lambda_checkApply_0 G p1 p2 M Q) : wMet l yX2_lambda_checkApply_0 (ws_ yX2_lambda_checkApply_0 cX2_lambda_checkApply_0 2 (Option.some Jvm.ClassFile.FieldType.boolean)) 13 420 G [.int p1, .ref p2] M 0 (wqZ Q) wX0 := by
  refine vx_ofW (cc := cX2_lambda_checkApply_0) (maxL := 2) (ret := Option.some Jvm.ClassFile.FieldType.boolean) (by decide) rfl ?_
  intro p e s m args below meth c s₁ B hml hnt hv
  obtain ⟨rfl, hM, hK, hZ, hz⟩ := hv
  have hC : wC G s := ⟨hK, hZ, hz⟩
  have hx := B.exec
  have hb := B.bytes
  have hr := B.returns
  have hts := atoms_spec (ws := (ws_ yX2_lambda_checkApply_0 cX2_lambda_checkApply_0 2 (Option.some Jvm.ClassFile.FieldType.boolean))) B.pre
  have hts : ∀ w ∈ lw_all, w.before _ s = true := fun w h => hts w (List.mem_cons_of_mem _ h)
  have hown : s.vm.findClass RX2 = some m.cls := findClass_of_methodNamed B.named
  have hlk := B.notSynchronized
  have X : CallFix p m c cX2_lambda_checkApply_0 2 s ([.int p1, .ref p2] : List Value).toArray lw_all RX2 := ⟨hx, hb, hml, hown, hts⟩
  have hS : va_S (wA G) s.heap s.heap [] := va_S.rf
  have hl := lv_entry ([.int p1, .ref p2]) (n := 2) (Nat.le_of_ble_eq_true rfl)
  rw [lg_entry_eq]
  generalize (lg_sl ([.int p1, .ref p2]) ++ List.replicate (2 - (lg_sl ([.int p1, .ref p2])).length) Slot.unset).toArray = ls at hl ⊢
  have hl : lv_has ls 2 [(0, .int p1), (1, .ref p2)] := hl
  have hB20 : ∀ (y0 : Int32) (M : wM) (H : Heap) (locs : List Loc) (ls : Array Slot), B_X2_lambda_checkApply_0_20 G Q y0 M → wR G M H → va_S (wA G) s.heap H locs → lv_has ls 2 [] → W p l e (headSpec (ws_ yX2_lambda_checkApply_0 cX2_lambda_checkApply_0 2 (Option.some Jvm.ClassFile.FieldType.boolean)) ({ frames := 13, cells := 0, slots := 0, locals := 420 })).room s m ([.int p1, .ref p2] : List Value).toArray below meth c H locs 0 0 (vx_MQ below (wQ G (wqZ Q)) (wXC G wX0) ([.int p1, .ref p2] : List Value).toArray s 0 0 (wA G)) (F0 m 20 ls [.int y0]) := by
    intro y0 M H locs ls hp hM hS hl
    obtain ⟨r, hr0, hp⟩ := hp
    exact x_zret X hr hlk hM hS ⟨Nat.le_refl _, Nat.le_refl _⟩ (by rw [hr0]; exact w_nz _) dX2_lambda_checkApply_0_20 ⟨r, by rw [hr0], hp⟩
  have hB19 : ∀ (M : wM) (H : Heap) (locs : List Loc) (ls : Array Slot), B_X2_lambda_checkApply_0_19 G Q M → wR G M H → va_S (wA G) s.heap H locs → lv_has ls 2 [] → W p l e (headSpec (ws_ yX2_lambda_checkApply_0 cX2_lambda_checkApply_0 2 (Option.some Jvm.ClassFile.FieldType.boolean)) ({ frames := 13, cells := 0, slots := 0, locals := 420 })).room s m ([.int p1, .ref p2] : List Value).toArray below meth c H locs 0 0 (vx_MQ below (wQ G (wqZ Q)) (wXC G wX0) ([.int p1, .ref p2] : List Value).toArray s 0 0 (wA G)) (F0 m 19 ls []) := by
    intro M H locs ls hp hM hS hl
    refine lv_iconst (v := 0) hx hb dX2_lambda_checkApply_0_19 (by decide) ?_
    exact hB20 _ _ _ _ _ hp hM hS (lv_sub hl [] rfl)
  refine lv_aload_n hx hb dX2_lambda_checkApply_0_0 rfl (lv_at hl 1 rfl) ?_
  refine x_getI X hC.1 hM (ci := 9) (C := RX12) (T := TX12) (N := 8) rfl in_X12 0 (by decide) q2105 (fun x9 h9 => u_same (hts _ q2102) x9 h9) dX2_lambda_checkApply_0_1 hp (fun v1 hp => ?_)
  refine lv_iload_n hx hb dX2_lambda_checkApply_0_4 rfl (lv_at hl 0 rfl) ?_
  refine lv_icmp_ne (tgt := 19) hx hb dX2_lambda_checkApply_0_5 (by decide) (fun hc => ?_) (fun hc => ?_)
  · have hp := oIf.f hp hc
    exact hB19 _ _ _ _ hp hM hS (lv_sub hl [] rfl)
  · have hp := oIf.t hp hc
    refine lv_aload_n hx hb dX2_lambda_checkApply_0_8 rfl (lv_at hl 1 rfl) ?_
    obtain ⟨hrec, hp⟩ := hp
    refine x_call0Z (vx_runV (As := []) (rest := []) X (P_X12_isActive_ok (l := l) hl0 hp) (cwV 0 hts (lw_V q2638 q1688 q1689 q202 q1690) rfl rfl rfl (by decide +kernel) ⟨Nat.le_of_ble_eq_true rfl, Nat.le_of_ble_eq_true rfl⟩) ⟨wPc.blind, w_recv hC.1 hM (ci := 9) (q := (RX12, TX12, 8)) rfl hrec, w_pre hC hM hS _⟩ rfl rfl hl.1 rfl (lv_room (Nat.le_of_ble_eq_true rfl)) dX2_lambda_checkApply_0_9 ⟨Nat.le_refl _, Nat.le_refl _⟩) hS ⟨Nat.le_refl _, Nat.le_refl _⟩ (fun _ _ _ _ _ _ h => False.elim h) (fun r4 M2 H locs hp hM hS => ?_)
    refine x_ifeqB (tgt := 19) hx hb dX2_lambda_checkApply_0_12 (by decide) (fun hc => ?_) (fun hc => ?_)
    · have hp := oIf.bf hp hc
      exact hB19 _ _ _ _ hp hM hS (lv_sub hl [] rfl)
    · have hp := oIf.bt hp hc
      refine lv_iconst (v := 1) hx hb dX2_lambda_checkApply_0_15 (by decide) ?_
      refine lv_goto (tgt := 20) hx hb dX2_lambda_checkApply_0_16 (by decide) ?_
      exact hB20 _ _ _ _ _ hp hM hS (lv_sub hl [] rfl)
def B_X2_lambda_checkApply_1_20 (G : wG) (Q : Bool → wM → Prop) (y0 : Int32) (M : wM) : Prop :=
  ∃ r : Bool, y0 = wb r ∧ Q r M
def B_X2_lambda_checkApply_1_19 (G : wG) (Q : Bool → wM → Prop) (M : wM) : Prop :=
  B_X2_lambda_checkApply_1_20 G Q (0 : Int32) M
def P_X2_lambda_checkApply_1 (G : wG) (p1 : Int32) (p2 : Nat) (M : wM) (Q : Bool → wM → Prop) : Prop :=
  oGetI M p2 9 1 (fun v1 => oIf (v1 = p1) (oIs M p2 9 (P_X12_isActive G p2 M (fun r4 M2 => oIf (r4 = true) (B_X2_lambda_checkApply_1_20 G Q (1 : Int32) M2) (B_X2_lambda_checkApply_1_19 G Q M2)))) (B_X2_lambda_checkApply_1_19 G Q M))
set_option maxHeartbeats 4000000 in
set_option maxRecDepth 100000 in
theorem P_X2_lambda_checkApply_1_ok {l : Launch} (hl0 : l.stackTraces = false) {G : wG} {p1 : Int32} {p2 : Nat} {M : wM} {Q : Bool → wM → Prop} (hp : P_X2_lambda_checkApply_1 G p1 p2 M Q) : wMet l yX2_lambda_checkApply_1 (ws_ yX2_lambda_checkApply_1 cX2_lambda_checkApply_1 2 (Option.some Jvm.ClassFile.FieldType.boolean)) 13 420 G [.int p1, .ref p2] M 0 (wqZ Q) wX0 := by
  refine vx_ofW (cc := cX2_lambda_checkApply_1) (maxL := 2) (ret := Option.some Jvm.ClassFile.FieldType.boolean) (by decide) rfl ?_
  intro p e s m args below meth c s₁ B hml hnt hv
  obtain ⟨rfl, hM, hK, hZ, hz⟩ := hv
  have hC : wC G s := ⟨hK, hZ, hz⟩
  have hx := B.exec
  have hb := B.bytes
  have hr := B.returns
  have hts := atoms_spec (ws := (ws_ yX2_lambda_checkApply_1 cX2_lambda_checkApply_1 2 (Option.some Jvm.ClassFile.FieldType.boolean))) B.pre
  have hts : ∀ w ∈ lw_all, w.before _ s = true := fun w h => hts w (List.mem_cons_of_mem _ h)
  have hown : s.vm.findClass RX2 = some m.cls := findClass_of_methodNamed B.named
  have hlk := B.notSynchronized
  have X : CallFix p m c cX2_lambda_checkApply_1 2 s ([.int p1, .ref p2] : List Value).toArray lw_all RX2 := ⟨hx, hb, hml, hown, hts⟩
  have hS : va_S (wA G) s.heap s.heap [] := va_S.rf
  have hl := lv_entry ([.int p1, .ref p2]) (n := 2) (Nat.le_of_ble_eq_true rfl)
  rw [lg_entry_eq]
  generalize (lg_sl ([.int p1, .ref p2]) ++ List.replicate (2 - (lg_sl ([.int p1, .ref p2])).length) Slot.unset).toArray = ls at hl ⊢
  have hl : lv_has ls 2 [(0, .int p1), (1, .ref p2)] := hl
  have hB20 : ∀ (y0 : Int32) (M : wM) (H : Heap) (locs : List Loc) (ls : Array Slot), B_X2_lambda_checkApply_1_20 G Q y0 M → wR G M H → va_S (wA G) s.heap H locs → lv_has ls 2 [] → W p l e (headSpec (ws_ yX2_lambda_checkApply_1 cX2_lambda_checkApply_1 2 (Option.some Jvm.ClassFile.FieldType.boolean)) ({ frames := 13, cells := 0, slots := 0, locals := 420 })).room s m ([.int p1, .ref p2] : List Value).toArray below meth c H locs 0 0 (vx_MQ below (wQ G (wqZ Q)) (wXC G wX0) ([.int p1, .ref p2] : List Value).toArray s 0 0 (wA G)) (F0 m 20 ls [.int y0]) := by
    intro y0 M H locs ls hp hM hS hl
    obtain ⟨r, hr0, hp⟩ := hp
    exact x_zret X hr hlk hM hS ⟨Nat.le_refl _, Nat.le_refl _⟩ (by rw [hr0]; exact w_nz _) dX2_lambda_checkApply_1_20 ⟨r, by rw [hr0], hp⟩
  have hB19 : ∀ (M : wM) (H : Heap) (locs : List Loc) (ls : Array Slot), B_X2_lambda_checkApply_1_19 G Q M → wR G M H → va_S (wA G) s.heap H locs → lv_has ls 2 [] → W p l e (headSpec (ws_ yX2_lambda_checkApply_1 cX2_lambda_checkApply_1 2 (Option.some Jvm.ClassFile.FieldType.boolean)) ({ frames := 13, cells := 0, slots := 0, locals := 420 })).room s m ([.int p1, .ref p2] : List Value).toArray below meth c H locs 0 0 (vx_MQ below (wQ G (wqZ Q)) (wXC G wX0) ([.int p1, .ref p2] : List Value).toArray s 0 0 (wA G)) (F0 m 19 ls []) := by
    intro M H locs ls hp hM hS hl
    refine lv_iconst (v := 0) hx hb dX2_lambda_checkApply_1_19 (by decide) ?_
    exact hB20 _ _ _ _ _ hp hM hS (lv_sub hl [] rfl)
  refine lv_aload_n hx hb dX2_lambda_checkApply_1_0 rfl (lv_at hl 1 rfl) ?_
  refine x_getI X hC.1 hM (ci := 9) (C := RX12) (T := TX12) (N := 8) rfl in_X12 1 (by decide) q2114 (fun x9 h9 => u_same (hts _ q2111) x9 h9) dX2_lambda_checkApply_1_1 hp (fun v1 hp => ?_)
  refine lv_iload_n hx hb dX2_lambda_checkApply_1_4 rfl (lv_at hl 0 rfl) ?_
  refine lv_icmp_ne (tgt := 19) hx hb dX2_lambda_checkApply_1_5 (by decide) (fun hc => ?_) (fun hc => ?_)
  · have hp := oIf.f hp hc
    exact hB19 _ _ _ _ hp hM hS (lv_sub hl [] rfl)
  · have hp := oIf.t hp hc
    refine lv_aload_n hx hb dX2_lambda_checkApply_1_8 rfl (lv_at hl 1 rfl) ?_
    obtain ⟨hrec, hp⟩ := hp
    refine x_call0Z (vx_runV (As := []) (rest := []) X (P_X12_isActive_ok (l := l) hl0 hp) (cwV 0 hts (lw_V q2638 q1688 q1689 q202 q1690) rfl rfl rfl (by decide +kernel) ⟨Nat.le_of_ble_eq_true rfl, Nat.le_of_ble_eq_true rfl⟩) ⟨wPc.blind, w_recv hC.1 hM (ci := 9) (q := (RX12, TX12, 8)) rfl hrec, w_pre hC hM hS _⟩ rfl rfl hl.1 rfl (lv_room (Nat.le_of_ble_eq_true rfl)) dX2_lambda_checkApply_1_9 ⟨Nat.le_refl _, Nat.le_refl _⟩) hS ⟨Nat.le_refl _, Nat.le_refl _⟩ (fun _ _ _ _ _ _ h => False.elim h) (fun r4 M2 H locs hp hM hS => ?_)
    refine x_ifeqB (tgt := 19) hx hb dX2_lambda_checkApply_1_12 (by decide) (fun hc => ?_) (fun hc => ?_)
    · have hp := oIf.bf hp hc
      exact hB19 _ _ _ _ hp hM hS (lv_sub hl [] rfl)
    · have hp := oIf.bt hp hc
      refine lv_iconst (v := 1) hx hb dX2_lambda_checkApply_1_15 (by decide) ?_
      refine lv_goto (tgt := 20) hx hb dX2_lambda_checkApply_1_16 (by decide) ?_
      exact hB20 _ _ _ _ _ hp hM hS (lv_sub hl [] rfl)
def B_X1_lambda_enoughLimit_1_20 (G : wG) (Q : Bool → wM → Prop) (y0 : Int32) (M : wM) : Prop :=
  ∃ r : Bool, y0 = wb r ∧ Q r M
def B_X1_lambda_enoughLimit_1_19 (G : wG) (Q : Bool → wM → Prop) (M : wM) : Prop :=
  B_X1_lambda_enoughLimit_1_20 G Q (0 : Int32) M
def P_X1_lambda_enoughLimit_1 (G : wG) (p1 : Int32) (p2 : Nat) (M : wM) (Q : Bool → wM → Prop) : Prop :=
  oGetI M p2 9 2 (fun v1 => oIf (v1 = p1) (oIs M p2 9 (P_X12_isActive G p2 M (fun r4 M2 => oIf (r4 = true) (B_X1_lambda_enoughLimit_1_20 G Q (1 : Int32) M2) (B_X1_lambda_enoughLimit_1_19 G Q M2)))) (B_X1_lambda_enoughLimit_1_19 G Q M))
set_option maxHeartbeats 4000000 in
set_option maxRecDepth 100000 in
theorem P_X1_lambda_enoughLimit_1_ok {l : Launch} (hl0 : l.stackTraces = false) {G : wG} {p1 : Int32} {p2 : Nat} {M : wM} {Q : Bool → wM → Prop} (hp : P_X1_lambda_enoughLimit_1 G p1 p2 M Q) : wMet l yX1_lambda_enoughLimit_1 (ws_ yX1_lambda_enoughLimit_1 cX1_lambda_enoughLimit_1 2 (Option.some Jvm.ClassFile.FieldType.boolean)) 13 420 G [.int p1, .ref p2] M 0 (wqZ Q) wX0 := by
  refine vx_ofW (cc := cX1_lambda_enoughLimit_1) (maxL := 2) (ret := Option.some Jvm.ClassFile.FieldType.boolean) (by decide) rfl ?_
  intro p e s m args below meth c s₁ B hml hnt hv
  obtain ⟨rfl, hM, hK, hZ, hz⟩ := hv
  have hC : wC G s := ⟨hK, hZ, hz⟩
  have hx := B.exec
  have hb := B.bytes
  have hr := B.returns
  have hts := atoms_spec (ws := (ws_ yX1_lambda_enoughLimit_1 cX1_lambda_enoughLimit_1 2 (Option.some Jvm.ClassFile.FieldType.boolean))) B.pre
  have hts : ∀ w ∈ lw_all, w.before _ s = true := fun w h => hts w (List.mem_cons_of_mem _ h)
  have hown : s.vm.findClass RX1 = some m.cls := findClass_of_methodNamed B.named
  have hlk := B.notSynchronized
  have X : CallFix p m c cX1_lambda_enoughLimit_1 2 s ([.int p1, .ref p2] : List Value).toArray lw_all RX1 := ⟨hx, hb, hml, hown, hts⟩
  have hS : va_S (wA G) s.heap s.heap [] := va_S.rf
  have hl := lv_entry ([.int p1, .ref p2]) (n := 2) (Nat.le_of_ble_eq_true rfl)
  rw [lg_entry_eq]
  generalize (lg_sl ([.int p1, .ref p2]) ++ List.replicate (2 - (lg_sl ([.int p1, .ref p2])).length) Slot.unset).toArray = ls at hl ⊢
  have hl : lv_has ls 2 [(0, .int p1), (1, .ref p2)] := hl
  have hB20 : ∀ (y0 : Int32) (M : wM) (H : Heap) (locs : List Loc) (ls : Array Slot), B_X1_lambda_enoughLimit_1_20 G Q y0 M → wR G M H → va_S (wA G) s.heap H locs → lv_has ls 2 [] → W p l e (headSpec (ws_ yX1_lambda_enoughLimit_1 cX1_lambda_enoughLimit_1 2 (Option.some Jvm.ClassFile.FieldType.boolean)) ({ frames := 13, cells := 0, slots := 0, locals := 420 })).room s m ([.int p1, .ref p2] : List Value).toArray below meth c H locs 0 0 (vx_MQ below (wQ G (wqZ Q)) (wXC G wX0) ([.int p1, .ref p2] : List Value).toArray s 0 0 (wA G)) (F0 m 20 ls [.int y0]) := by
    intro y0 M H locs ls hp hM hS hl
    obtain ⟨r, hr0, hp⟩ := hp
    exact x_zret X hr hlk hM hS ⟨Nat.le_refl _, Nat.le_refl _⟩ (by rw [hr0]; exact w_nz _) dX1_lambda_enoughLimit_1_20 ⟨r, by rw [hr0], hp⟩
  have hB19 : ∀ (M : wM) (H : Heap) (locs : List Loc) (ls : Array Slot), B_X1_lambda_enoughLimit_1_19 G Q M → wR G M H → va_S (wA G) s.heap H locs → lv_has ls 2 [] → W p l e (headSpec (ws_ yX1_lambda_enoughLimit_1 cX1_lambda_enoughLimit_1 2 (Option.some Jvm.ClassFile.FieldType.boolean)) ({ frames := 13, cells := 0, slots := 0, locals := 420 })).room s m ([.int p1, .ref p2] : List Value).toArray below meth c H locs 0 0 (vx_MQ below (wQ G (wqZ Q)) (wXC G wX0) ([.int p1, .ref p2] : List Value).toArray s 0 0 (wA G)) (F0 m 19 ls []) := by
    intro M H locs ls hp hM hS hl
    refine lv_iconst (v := 0) hx hb dX1_lambda_enoughLimit_1_19 (by decide) ?_
    exact hB20 _ _ _ _ _ hp hM hS (lv_sub hl [] rfl)
  refine lv_aload_n hx hb dX1_lambda_enoughLimit_1_0 rfl (lv_at hl 1 rfl) ?_
  refine x_getIN X hC.1 hM (ci := 9) (C := RX12) (T := TX12) (N := 8) rfl in_X12 2 (by decide) q2086 (fun _ h9 => h9) dX1_lambda_enoughLimit_1_1 hp (fun v1 hp => ?_)
  refine lv_iload_n hx hb dX1_lambda_enoughLimit_1_4 rfl (lv_at hl 0 rfl) ?_
  refine lv_icmp_ne (tgt := 19) hx hb dX1_lambda_enoughLimit_1_5 (by decide) (fun hc => ?_) (fun hc => ?_)
  · have hp := oIf.f hp hc
    exact hB19 _ _ _ _ hp hM hS (lv_sub hl [] rfl)
  · have hp := oIf.t hp hc
    refine lv_aload_n hx hb dX1_lambda_enoughLimit_1_8 rfl (lv_at hl 1 rfl) ?_
    obtain ⟨hrec, hp⟩ := hp
    refine x_call0Z (vx_runV (As := []) (rest := []) X (P_X12_isActive_ok (l := l) hl0 hp) (cwV 0 hts (lw_V q1687 q1688 q1689 q202 q1690) rfl rfl rfl (by decide +kernel) ⟨Nat.le_of_ble_eq_true rfl, Nat.le_of_ble_eq_true rfl⟩) ⟨wPc.blind, w_recv hC.1 hM (ci := 9) (q := (RX12, TX12, 8)) rfl hrec, w_pre hC hM hS _⟩ rfl rfl hl.1 rfl (lv_room (Nat.le_of_ble_eq_true rfl)) dX1_lambda_enoughLimit_1_9 ⟨Nat.le_refl _, Nat.le_refl _⟩) hS ⟨Nat.le_refl _, Nat.le_refl _⟩ (fun _ _ _ _ _ _ h => False.elim h) (fun r4 M2 H locs hp hM hS => ?_)
    refine x_ifeqB (tgt := 19) hx hb dX1_lambda_enoughLimit_1_12 (by decide) (fun hc => ?_) (fun hc => ?_)
    · have hp := oIf.bf hp hc
      exact hB19 _ _ _ _ hp hM hS (lv_sub hl [] rfl)
    · have hp := oIf.bt hp hc
      refine lv_iconst (v := 1) hx hb dX1_lambda_enoughLimit_1_15 (by decide) ?_
      refine lv_goto (tgt := 20) hx hb dX1_lambda_enoughLimit_1_16 (by decide) ?_
      exact hB20 _ _ _ _ _ hp hM hS (lv_sub hl [] rfl)
def P_which (G : wG) (t0 p1 : Nat) (M : wM) (Q : Bool → wM → Prop) : Prop := wz G ≤ t0 ∧ ((∃ f : Nat → Int32, M t0 = some (.inl (.object "L1", 1, .inl f)) ∧ P_X1_lambda_house_0 G (f 0) p1 M Q) ∨ (∃ f : Nat → Int32, M t0 = some (.inl (.object "L2", 1, .inl f)) ∧ P_X2_lambda_checkApply_0 G (f 0) p1 M Q) ∨ (∃ f : Nat → Int32, M t0 = some (.inl (.object "L3", 1, .inl f)) ∧ P_X2_lambda_checkApply_1 G (f 0) p1 M Q) ∨ (∃ f : Nat → Int32, M t0 = some (.inl (.object "L4", 1, .inl f)) ∧ P_X1_lambda_enoughLimit_1 G (f 0) p1 M Q))
theorem P_which_run {p : Program} {l : Launch} {e : Env} {R : Room} {s : State} {m : MethodId} {args : Array Value} {below : List Frame} {meth : Method} {c : Code} {H : Heap} {locs : List Loc} {cells slots : Nat} {cc : ByteArray} {nL pc : Nat} {ls : Array Slot} {rest : List Value} {own : String} {G : wG} {M : wM} {t0 p1 : Nat} {Q : Bool → wM → Prop} (X0 : CallFix p m c cc nL s args lw_all own) (hls : c.maxLocals = ls.size) (hl0 : l.stackTraces = false) (hC : wC G s) (hM : wR G M H) (hS : va_S (wA G) s.heap H locs) {index count : Nat} (hlink : Cond.methodLink own index wWh ∈ lw_all) (hp : P_which G t0 p1 M Q) (hB : cells ≤ R.cells ∧ slots ≤ R.slots) (hfr : 15 ≤ R.frames) (hlo : (rest.map fun v => v.category).sum + 480 ≤ R.locals) (hd : decode cc pc = .ok (.invokeinterface index count, 5)) : vx_Run5 p l e R s m args below meth c H locs cells slots 0 0 (F0 m pc ls (.ref p1 :: .ref t0 :: rest)) rest (wQ G (wqZ Q) #[]) (wXC G wX0) (wA G) := by
  obtain ⟨hz0, hp⟩ := hp
  rcases hp with ⟨f, hlam, hp⟩ | ⟨f, hlam, hp⟩ | ⟨f, hlam, hp⟩ | ⟨f, hlam, hp⟩
  · exact x_which X0 hls hC hM hS hlink q3886 (σ := wSh1) (nm := "L1") (List.mem_of_getElem? (i := 0) rfl) hlam hz0 (y := yX1_lambda_house_0) (by decide +kernel) (by decide +kernel) (by decide +kernel) (by decide +kernel) (by decide +kernel) (P_X1_lambda_house_0_ok (l := l) hl0 hp) q2259 q2258 q148 hB (by omega) (by omega) hd
  · exact x_which X0 hls hC hM hS hlink q3886 (σ := wSh2) (nm := "L2") (List.mem_of_getElem? (i := 1) rfl) hlam hz0 (y := yX2_lambda_checkApply_0) (by decide +kernel) (by decide +kernel) (by decide +kernel) (by decide +kernel) (by decide +kernel) (P_X2_lambda_checkApply_0_ok (l := l) hl0 hp) q2637 q2636 q149 hB (by omega) (by omega) hd
  · exact x_which X0 hls hC hM hS hlink q3886 (σ := wSh3) (nm := "L3") (List.mem_of_getElem? (i := 2) rfl) hlam hz0 (y := yX2_lambda_checkApply_1) (by decide +kernel) (by decide +kernel) (by decide +kernel) (by decide +kernel) (by decide +kernel) (P_X2_lambda_checkApply_1_ok (l := l) hl0 hp) q2658 q2657 q149 hB (by omega) (by omega) hd
  · exact x_which X0 hls hC hM hS hlink q3886 (σ := wSh4) (nm := "L4") (List.mem_of_getElem? (i := 3) rfl) hlam hz0 (y := yX1_lambda_enoughLimit_1) (by decide +kernel) (by decide +kernel) (by decide +kernel) (by decide +kernel) (by decide +kernel) (P_X1_lambda_enoughLimit_1_ok (l := l) hl0 hp) q3048 q3047 q148 hB (by omega) (by omega) hd
def B_X2_many_42 (G : wG) (rec4 : Nat → Nat → Int32 → Int32 → wM → Prop) (Q : Int32 → wM → Prop) (x0 : Nat) (x1 : Nat) (x2 : Int32) (x3 : Int32) (M : wM) : Prop :=
  rec4 x0 x1 x2 (x3 + 1) M
def B_X2_many_4 (G : wG) (rec4 : Nat → Nat → Int32 → Int32 → wM → Prop) (Q : Int32 → wM → Prop) (x0 : Nat) (x1 : Nat) (x2 : Int32) (x3 : Int32) (M : wM) : Prop :=
  oGetA M x0 1 1 (fun a1 => oIs M a1 16 (P_J2_size G a1 M (fun v4 M2 => oIf (v4 ≤ x3) (Q x2 M2) (oGetA M2 x0 1 1 (fun a5 => oIs M2 a5 16 (P_J2_get G a5 x3 M2 (fun r8 M6 => oCast M6 r8 9 (oRef r8 (fun a9 => P_which G x1 a9 M6 (fun r10 M11 => oIf (r10 = true) (B_X2_many_42 G rec4 Q x0 x1 (x2 + 1) x3 M11) (B_X2_many_42 G rec4 Q x0 x1 x2 x3 M11)))))))))))
def L_X2_many_4 (G : wG) (Q : Int32 → wM → Prop) : Nat → Nat → Nat → Int32 → Int32 → wM → Prop
  | 0 => fun _ _ _ _ _ => False
  | n + 1 => B_X2_many_4 G (L_X2_many_4 G Q n) Q
def P_X2_many (G : wG) (t0 : Nat) (p1 : Nat) (M : wM) (Q : Int32 → wM → Prop) : Prop :=
  ∃ n, L_X2_many_4 G Q n t0 p1 (0 : Int32) (0 : Int32) M
set_option maxHeartbeats 4000000 in
set_option maxRecDepth 100000 in
theorem P_X2_many_ok {l : Launch} (hl0 : l.stackTraces = false) {G : wG} {t0 : Nat} {p1 : Nat} {M : wM} {Q : Int32 → wM → Prop} (hp : P_X2_many G t0 p1 M Q) : wMet l yX2_many (ws_ yX2_many cX2_many 4 (Option.some Jvm.ClassFile.FieldType.int)) 23 540 G [.ref t0, .ref p1] M 0 (wqI Q) wX0 := by
  refine vx_ofW (cc := cX2_many) (maxL := 4) (ret := Option.some Jvm.ClassFile.FieldType.int) (by decide) rfl ?_
  intro p e s m args below meth c s₁ B hml hnt hv
  obtain ⟨rfl, hM, hK, hZ, hz⟩ := hv
  have hC : wC G s := ⟨hK, hZ, hz⟩
  have hx := B.exec
  have hb := B.bytes
  have hr := B.returns
  have hts := atoms_spec (ws := (ws_ yX2_many cX2_many 4 (Option.some Jvm.ClassFile.FieldType.int))) B.pre
  have hts : ∀ w ∈ lw_all, w.before _ s = true := fun w h => hts w (List.mem_cons_of_mem _ h)
  have hown : s.vm.findClass RX2 = some m.cls := findClass_of_methodNamed B.named
  have hlk := B.notSynchronized
  have X : CallFix p m c cX2_many 4 s ([.ref t0, .ref p1] : List Value).toArray lw_all RX2 := ⟨hx, hb, hml, hown, hts⟩
  have hS : va_S (wA G) s.heap s.heap [] := va_S.rf
  have hl := lv_entry ([.ref t0, .ref p1]) (n := 4) (Nat.le_of_ble_eq_true rfl)
  rw [lg_entry_eq]
  generalize (lg_sl ([.ref t0, .ref p1]) ++ List.replicate (4 - (lg_sl ([.ref t0, .ref p1])).length) Slot.unset).toArray = ls at hl ⊢
  have hl : lv_has ls 4 [(0, .ref t0), (1, .ref p1)] := hl
  have hB42 : ∀ (rec4 : Nat → Nat → Int32 → Int32 → wM → Prop) (hrec4 : ∀ (x0 : Nat) (x1 : Nat) (x2 : Int32) (x3 : Int32) (M : wM) (H : Heap) (locs : List Loc) (ls : Array Slot), rec4 x0 x1 x2 x3 M → wR G M H → va_S (wA G) s.heap H locs → lv_has ls 4 [(0, .ref x0), (1, .ref x1), (2, .int x2), (3, .int x3)] → W p l e (headSpec (ws_ yX2_many cX2_many 4 (Option.some Jvm.ClassFile.FieldType.int)) ({ frames := 23, cells := 0, slots := 0, locals := 540 })).room s m ([.ref t0, .ref p1] : List Value).toArray below meth c H locs 0 0 (vx_MQ below (wQ G (wqI Q)) (wXC G wX0) ([.ref t0, .ref p1] : List Value).toArray s 0 0 (wA G)) (F0 m 4 ls [])), ∀ (x0 : Nat) (x1 : Nat) (x2 : Int32) (x3 : Int32) (M : wM) (H : Heap) (locs : List Loc) (ls : Array Slot), B_X2_many_42 G rec4 Q x0 x1 x2 x3 M → wR G M H → va_S (wA G) s.heap H locs → lv_has ls 4 [(0, .ref x0), (1, .ref x1), (2, .int x2), (3, .int x3)] → W p l e (headSpec (ws_ yX2_many cX2_many 4 (Option.some Jvm.ClassFile.FieldType.int)) ({ frames := 23, cells := 0, slots := 0, locals := 540 })).room s m ([.ref t0, .ref p1] : List Value).toArray below meth c H locs 0 0 (vx_MQ below (wQ G (wqI Q)) (wXC G wX0) ([.ref t0, .ref p1] : List Value).toArray s 0 0 (wA G)) (F0 m 42 ls []) := by
    intro rec4 hrec4 x0 x1 x2 x3 M H locs ls hp hM hS hl
    refine lv_iinc (v := (x3 + 1)) (lv' := [(3, .int (x3 + 1)), (0, .ref x0), (1, .ref x1), (2, .int x2)]) hx hb dX2_many_42 hl (k := 3) rfl rfl (by decide) rfl (fun ls hl => ?_)
    refine lv_goto (tgt := 4) hx hb dX2_many_45 (by decide) ?_
    exact hrec4 _ _ _ _ _ _ _ _ hp hM hS (lv_sub hl [1, 2, 3, 0] rfl)
  have hB4 : ∀ (rec4 : Nat → Nat → Int32 → Int32 → wM → Prop) (hrec4 : ∀ (x0 : Nat) (x1 : Nat) (x2 : Int32) (x3 : Int32) (M : wM) (H : Heap) (locs : List Loc) (ls : Array Slot), rec4 x0 x1 x2 x3 M → wR G M H → va_S (wA G) s.heap H locs → lv_has ls 4 [(0, .ref x0), (1, .ref x1), (2, .int x2), (3, .int x3)] → W p l e (headSpec (ws_ yX2_many cX2_many 4 (Option.some Jvm.ClassFile.FieldType.int)) ({ frames := 23, cells := 0, slots := 0, locals := 540 })).room s m ([.ref t0, .ref p1] : List Value).toArray below meth c H locs 0 0 (vx_MQ below (wQ G (wqI Q)) (wXC G wX0) ([.ref t0, .ref p1] : List Value).toArray s 0 0 (wA G)) (F0 m 4 ls [])), ∀ (x0 : Nat) (x1 : Nat) (x2 : Int32) (x3 : Int32) (M : wM) (H : Heap) (locs : List Loc) (ls : Array Slot), B_X2_many_4 G rec4 Q x0 x1 x2 x3 M → wR G M H → va_S (wA G) s.heap H locs → lv_has ls 4 [(0, .ref x0), (1, .ref x1), (2, .int x2), (3, .int x3)] → W p l e (headSpec (ws_ yX2_many cX2_many 4 (Option.some Jvm.ClassFile.FieldType.int)) ({ frames := 23, cells := 0, slots := 0, locals := 540 })).room s m ([.ref t0, .ref p1] : List Value).toArray below meth c H locs 0 0 (vx_MQ below (wQ G (wqI Q)) (wXC G wX0) ([.ref t0, .ref p1] : List Value).toArray s 0 0 (wA G)) (F0 m 4 ls []) := by
    intro rec4 hrec4 x0 x1 x2 x3 M H locs ls hp hM hS hl
    refine lv_iload_n hx hb dX2_many_4 rfl (lv_at hl 3 rfl) ?_
    refine lv_aload_n hx hb dX2_many_5 rfl (lv_at hl 0 rfl) ?_
    refine x_getA X hC.1 hM (ci := 1) (C := RX2) (T := TX2) (N := 9) rfl in_X2 1 (by decide) q919 (fun _ h9 => h9) dX2_many_6 hp (fun a1 hp => ?_)
    obtain ⟨hrec, hp⟩ := hp
    refine x_call0I5 (vx_runF (hC.1.1.1 16 (RJ2, TJ2, 3) rfl).2 (C := "java/util/ArrayList") (As := []) (rest := [.int x3]) X (P_J2_size_ok (l := l) hl0 hp) (va_cwF 0 hts (lw_app (w_mem4 q493 q496 q498 q153) (lw_meth q500)) rfl rfl rfl (wfw_13 hC.1) (by decide +kernel) ⟨Nat.le_of_ble_eq_true rfl, Nat.le_of_ble_eq_true rfl⟩) ⟨wPc.blind, w_recv hC.1 hM (ci := 16) (q := (RJ2, TJ2, 3)) rfl hrec, w_pre hC hM hS _⟩ rfl rfl hl.1 rfl (lv_room (Nat.le_of_ble_eq_true rfl)) dX2_many_9 ⟨Nat.le_refl _, Nat.le_refl _⟩) hS ⟨Nat.le_refl _, Nat.le_refl _⟩ (fun _ _ _ _ _ _ h => False.elim h) (fun v4 M2 H locs hp hM hS => ?_)
    refine lv_icmp_ge (tgt := 48) hx hb dX2_many_14 (by decide) (fun hc => ?_) (fun hc => ?_)
    · have hp := oIf.t hp hc
      refine lv_iload_n hx hb dX2_many_48 rfl (lv_at hl 2 rfl) ?_
      exact x_iret X hr hlk hM hS ⟨Nat.le_refl _, Nat.le_refl _⟩ dX2_many_49 ⟨_, rfl, hp⟩
    · have hp := oIf.f hp hc
      refine lv_aload_n hx hb dX2_many_17 rfl (lv_at hl 1 rfl) ?_
      refine lv_aload_n hx hb dX2_many_18 rfl (lv_at hl 0 rfl) ?_
      refine x_getA X hC.1 hM (ci := 1) (C := RX2) (T := TX2) (N := 9) rfl in_X2 1 (by decide) q919 (fun _ h9 => h9) dX2_many_19 hp (fun a5 hp => ?_)
      refine lv_iload_n hx hb dX2_many_22 rfl (lv_at hl 3 rfl) ?_
      obtain ⟨hrec, hp⟩ := hp
      refine x_call0R5 (vx_runF (hC.1.1.1 16 (RJ2, TJ2, 3) rfl).2 (C := "java/util/ArrayList") (As := [.int x3]) (rest := [.ref x1]) X (P_J2_get_ok (l := l) hl0 hp) (va_cwF 1 hts (lw_app (w_mem4 q519 q522 q524 q153) (lw_meth q526)) rfl rfl rfl (wfw_8 hC.1) (by decide +kernel) ⟨Nat.le_of_ble_eq_true rfl, Nat.le_of_ble_eq_true rfl⟩) ⟨wPc.blind, w_recv hC.1 hM (ci := 16) (q := (RJ2, TJ2, 3)) rfl hrec, w_pre hC hM hS _⟩ rfl rfl hl.1 rfl (lv_room (Nat.le_of_ble_eq_true rfl)) dX2_many_23 ⟨Nat.le_refl _, Nat.le_refl _⟩) hS ⟨Nat.le_refl _, Nat.le_refl _⟩ (fun _ _ _ _ _ _ h => False.elim h) (fun r8 M6 H locs hp hM hS => ?_)
      refine x_cast (r := r8) X hC.1 hM q2070 (ci := 9) rfl (Or.inl rfl) dX2_many_28 hp (fun hp => ?_)
      obtain ⟨a9, ea, hqa9⟩ := hp
      subst ea
      have hp := hqa9
      refine x_call0Z5 (P_which_run X (hml.trans hl.1.symm) hl0 hC hM hS q2265 hp ⟨Nat.zero_le _, Nat.zero_le _⟩ (Nat.le_of_ble_eq_true rfl) (Nat.le_of_ble_eq_true rfl) dX2_many_31) hS ⟨Nat.le_refl _, Nat.le_refl _⟩ (fun _ _ _ _ _ _ h => False.elim h) (fun r10 M11 H locs hp hM hS => ?_)
      refine x_ifeqB (tgt := 42) hx hb dX2_many_36 (by decide) (fun hc => ?_) (fun hc => ?_)
      · have hp := oIf.bf hp hc
        exact hB42 rec4 hrec4 _ _ _ _ _ _ _ _ hp hM hS (lv_sub hl [0, 1, 2, 3] rfl)
      · have hp := oIf.bt hp hc
        refine lv_iinc (v := (x2 + 1)) (lv' := [(2, .int (x2 + 1)), (0, .ref x0), (1, .ref x1), (3, .int x3)]) hx hb dX2_many_39 hl (k := 2) rfl rfl (by decide) rfl (fun ls hl => ?_)
        exact hB42 rec4 hrec4 _ _ _ _ _ _ _ _ hp hM hS (lv_sub hl [1, 2, 0, 3] rfl)
  have hL4 : ∀ (n : Nat), ∀ (x0 : Nat) (x1 : Nat) (x2 : Int32) (x3 : Int32) (M : wM) (H : Heap) (locs : List Loc) (ls : Array Slot), L_X2_many_4 G Q n x0 x1 x2 x3 M → wR G M H → va_S (wA G) s.heap H locs → lv_has ls 4 [(0, .ref x0), (1, .ref x1), (2, .int x2), (3, .int x3)] → W p l e (headSpec (ws_ yX2_many cX2_many 4 (Option.some Jvm.ClassFile.FieldType.int)) ({ frames := 23, cells := 0, slots := 0, locals := 540 })).room s m ([.ref t0, .ref p1] : List Value).toArray below meth c H locs 0 0 (vx_MQ below (wQ G (wqI Q)) (wXC G wX0) ([.ref t0, .ref p1] : List Value).toArray s 0 0 (wA G)) (F0 m 4 ls []) := by
    intro n
    induction n with
    | zero => intro _ _ _ _ _ _ _ _ hp; exact False.elim hp
    | succ n ih => intro x0 x1 x2 x3 M H locs ls hp hM hS hl; exact hB4 (L_X2_many_4 G Q n) ih _ _ _ _ _ _ _ _ hp hM hS hl
  refine lv_iconst (v := 0) hx hb dX2_many_0 (by decide) ?_
  refine lv_istore_n (lv' := [(2, .int (0 : Int32)), (0, .ref t0), (1, .ref p1)]) hx hb dX2_many_1 rfl hl (by decide) rfl (fun ls hl => ?_)
  refine lv_iconst (v := 0) hx hb dX2_many_2 (by decide) ?_
  refine lv_istore_n (lv' := [(3, .int (0 : Int32)), (2, .int (0 : Int32)), (0, .ref t0), (1, .ref p1)]) hx hb dX2_many_3 rfl hl (by decide) rfl (fun ls hl => ?_)
  obtain ⟨n, hp⟩ := hp
  exact hL4 n _ _ _ _ _ _ _ _ hp hM hS (lv_sub hl [2, 3, 1, 0] rfl)
def B_J13_init_3_X16_60 (G : wG) (Q : wM → Prop) (M : wM) : Prop :=
  Q M
def B_J13_init_3_X16_41 (G : wG) (Q : wM → Prop) (x0 : Nat) (x1 : Option Nat) (x2 : Option Nat) (x3 : Int32) (M : wM) : Prop :=
  oPut G M x0 12 3 (va_rf x1) (fun M1 => oPut G M1 x0 12 0 (va_rf x2) (fun M2 => oIf (x3 = 0) (oPut G M2 x0 12 2 (va_rf none) (fun M3 => B_J13_init_3_X16_60 G Q M3)) (B_J13_init_3_X16_60 G Q M2)))
def P_J13_init_3_X16 (G : wG) (t0 : Nat) (p1 : Option Nat) (p2 : Option Nat) (p3 : Int32) (p4 : Int32) (M : wM) (Q : wM → Prop) : Prop :=
  oPut G M t0 12 0 (.ref t0) (fun M1 => ∀ r2 : Option Nat, (oPut G M1 t0 12 1 (va_rf r2) (fun M3 => ∀ r4 : Option Nat, (oPut G M3 t0 12 2 (va_rf r4) (fun M5 => oIf (p4 = 0) (oPut G M5 t0 12 1 (va_rf none) (fun M6 => B_J13_init_3_X16_41 G Q t0 p1 p2 p3 M6)) (False))))))
set_option maxHeartbeats 4000000 in
set_option maxRecDepth 100000 in
theorem P_J13_init_3_X16_ok {l : Launch} (hl0 : l.stackTraces = false) {G : wG} {t0 : Nat} {p1 : Option Nat} {p2 : Option Nat} {p3 : Int32} {p4 : Int32} {M : wM} {Q : wM → Prop} (hp : P_J13_init_3_X16 G t0 p1 p2 p3 p4 M Q) : wMet l yJ13_init_3 (ws_ yJ13_init_3 cJ13_init_3 5 (none)) 12 400 G [.ref t0, va_rf p1, va_rf p2, .int p3, .int p4] M 0 (wqV Q) wX0 := by
  refine vx_ofW (cc := cJ13_init_3) (maxL := 5) (ret := none) (by decide) rfl ?_
  intro p e s m args below meth c s₁ B hml hnt hv
  obtain ⟨rfl, hM, hK, hZ, hz⟩ := hv
  have hC : wC G s := ⟨hK, hZ, hz⟩
  have hx := B.exec
  have hb := B.bytes
  have hr := B.returns
  have hts := atoms_spec (ws := (ws_ yJ13_init_3 cJ13_init_3 5 (none))) B.pre
  have hts : ∀ w ∈ lw_all, w.before _ s = true := fun w h => hts w (List.mem_cons_of_mem _ h)
  have hown : s.vm.findClass RJ13 = some m.cls := findClass_of_methodNamed B.named
  have hlk := B.notSynchronized
  have hin0 : meth.name = "<init>" := (name_of_methodNamed B.named B.method).1
  have X : CallFix p m c cJ13_init_3 5 s ([.ref t0, va_rf p1, va_rf p2, .int p3, .int p4] : List Value).toArray lw_all RJ13 := ⟨hx, hb, hml, hown, hts⟩
  have hS : va_S (wA G) s.heap s.heap [] := va_S.rf
  have hl := lv_entry ([.ref t0, va_rf p1, va_rf p2, .int p3, .int p4]) (n := 5) (by cases p1 <;> cases p2 <;> exact Nat.le_of_ble_eq_true rfl)
  rw [lg_entry_eq]
  generalize (lg_sl ([.ref t0, va_rf p1, va_rf p2, .int p3, .int p4]) ++ List.replicate (5 - (lg_sl ([.ref t0, va_rf p1, va_rf p2, .int p3, .int p4])).length) Slot.unset).toArray = ls at hl ⊢
  have hl : lv_has ls 5 [(0, .ref t0), (1, va_rf p1), (2, va_rf p2), (3, .int p3), (4, .int p4)] := by cases p1 <;> cases p2 <;> exact hl
  have hB60 : ∀ (M : wM) (H : Heap) (locs : List Loc) (ls : Array Slot), B_J13_init_3_X16_60 G Q M → wR G M H → va_S (wA G) s.heap H locs → lv_has ls 5 [] → W p l e (headSpec (ws_ yJ13_init_3 cJ13_init_3 5 (none)) ({ frames := 12, cells := 0, slots := 0, locals := 400 })).room s m ([.ref t0, va_rf p1, va_rf p2, .int p3, .int p4] : List Value).toArray below meth c H locs 0 0 (vx_MQ below (wQ G (wqV Q)) (wXC G wX0) ([.ref t0, va_rf p1, va_rf p2, .int p3, .int p4] : List Value).toArray s 0 0 (wA G)) (F0 m 60 ls []) := by
    intro M H locs ls hp hM hS hl
    exact x_vret X hr hlk hM hS ⟨Nat.le_refl _, Nat.le_refl _⟩ dJ13_init_3_60 ⟨rfl, hp⟩
  have hB41 : ∀ (x0 : Nat) (x1 : Option Nat) (x2 : Option Nat) (x3 : Int32) (M : wM) (H : Heap) (locs : List Loc) (ls : Array Slot), B_J13_init_3_X16_41 G Q x0 x1 x2 x3 M → wR G M H → va_S (wA G) s.heap H locs → lv_has ls 5 [(0, .ref x0), (1, va_rf x1), (2, va_rf x2), (3, .int x3)] → W p l e (headSpec (ws_ yJ13_init_3 cJ13_init_3 5 (none)) ({ frames := 12, cells := 0, slots := 0, locals := 400 })).room s m ([.ref t0, va_rf p1, va_rf p2, .int p3, .int p4] : List Value).toArray below meth c H locs 0 0 (vx_MQ below (wQ G (wqV Q)) (wXC G wX0) ([.ref t0, va_rf p1, va_rf p2, .int p3, .int p4] : List Value).toArray s 0 0 (wA G)) (F0 m 41 ls []) := by
    intro x0 x1 x2 x3 M H locs ls hp hM hS hl
    refine lv_aload_n hx hb dJ13_init_3_41 rfl (lv_at hl 0 rfl) ?_
    refine x_aload_n (r := x1) hx hb dJ13_init_3_42 rfl (lv_at hl 1 rfl) ?_
    refine x_put X hC.1 hM hS (ci := 12) (C := RX16) (T := TX16) (N := 6) rfl in_X16 tyX16 tyX16_ok nmX16 3 (by decide) q832 (fun _ h9 => h9) rfl (w_nobj _ x1) (w_fobj _ x1) dJ13_init_3_43 hp (fun M1 H locs hM hS hp => ?_)
    refine lv_aload_n hx hb dJ13_init_3_46 rfl (lv_at hl 0 rfl) ?_
    refine x_aload_n (r := x2) hx hb dJ13_init_3_47 rfl (lv_at hl 2 rfl) ?_
    refine x_put X hC.1 hM hS (ci := 12) (C := RX16) (T := TX16) (N := 6) rfl in_X16 tyX16 tyX16_ok nmX16 0 (by decide) q833 (fun _ h9 => h9) rfl (w_nobj _ x2) (w_fobj _ x2) dJ13_init_3_48 hp (fun M2 H locs hM hS hp => ?_)
    refine lv_iload_n hx hb dJ13_init_3_51 rfl (lv_at hl 3 rfl) ?_
    refine lv_if_ne (tgt := 60) hx hb dJ13_init_3_52 (by decide) (fun hc => ?_) (fun hc => ?_)
    · have hp := oIf.f hp hc
      exact hB60 _ _ _ _ hp hM hS (lv_sub hl [] rfl)
    · have hp := oIf.t hp hc
      refine lv_aload_n hx hb dJ13_init_3_55 rfl (lv_at hl 0 rfl) ?_
      refine lv_null hx hb dJ13_init_3_56 ?_
      refine x_put X hC.1 hM hS (ci := 12) (C := RX16) (T := TX16) (N := 6) rfl in_X16 tyX16 tyX16_ok nmX16 2 (by decide) q835 (fun _ h9 => h9) rfl (w_nobj _ none) (w_fobj _ none) dJ13_init_3_57 hp (fun M3 H locs hM hS hp => ?_)
      exact hB60 _ _ _ _ hp hM hS (lv_sub hl [] rfl)
  refine lv_aload_n hx hb dJ13_init_3_0 rfl (lv_at hl 0 rfl) ?_
  refine W.objInit hx hb hown (hts _ q573) (hts _ q218) (hts _ q219) rfl (by rw [hml]; exact hl.1) rfl dJ13_init_3_1 (Nat.le_of_ble_eq_true rfl) (Nat.le_of_ble_eq_true rfl) ?_
  refine W.eq (g2 := F0 m 4 ls []) rfl ?_
  refine lv_aload_n hx hb dJ13_init_3_4 rfl (lv_at hl 0 rfl) ?_
  refine lv_aload_n hx hb dJ13_init_3_5 rfl (lv_at hl 0 rfl) ?_
  refine x_put X hC.1 hM hS (ci := 12) (C := RX16) (T := TX16) (N := 6) rfl in_X16 tyX16 tyX16_ok nmX16 0 (by decide) q833 (fun _ h9 => h9) rfl rfl rfl dJ13_init_3_6 hp (fun M1 H locs hM hS hp => ?_)
  refine lv_aload_n hx hb dJ13_init_3_9 rfl (lv_at hl 0 rfl) ?_
  refine x_getsQ X hS hC.2.1.2.2.1.1 q574 (fun _ h9 => h9) dJ13_init_3_10 (fun r2 => ?_)
  have hp := hp r2
  refine x_put X hC.1 hM hS (ci := 12) (C := RX16) (T := TX16) (N := 6) rfl in_X16 tyX16 tyX16_ok nmX16 1 (by decide) q834 (fun _ h9 => h9) rfl (w_narr _ r2) (w_farr _ r2) dJ13_init_3_13 hp (fun M3 H locs hM hS hp => ?_)
  refine lv_aload_n hx hb dJ13_init_3_16 rfl (lv_at hl 0 rfl) ?_
  refine x_getsQ X hS hC.2.1.2.2.2.1 q576 (fun _ h9 => h9) dJ13_init_3_17 (fun r4 => ?_)
  have hp := hp r4
  refine x_put X hC.1 hM hS (ci := 12) (C := RX16) (T := TX16) (N := 6) rfl in_X16 tyX16 tyX16_ok nmX16 2 (by decide) q835 (fun _ h9 => h9) rfl (w_nobj _ r4) (w_fobj _ r4) dJ13_init_3_20 hp (fun M5 H locs hM hS hp => ?_)
  refine lv_iload hx hb dJ13_init_3_23 (lv_at hl 4 rfl) ?_
  refine lv_if_eq (tgt := 36) hx hb dJ13_init_3_25 (by decide) (fun hc => ?_) (fun hc => ?_)
  · have hp := oIf.t hp hc
    refine lv_aload_n hx hb dJ13_init_3_36 rfl (lv_at hl 0 rfl) ?_
    refine lv_null hx hb dJ13_init_3_37 ?_
    refine x_put X hC.1 hM hS (ci := 12) (C := RX16) (T := TX16) (N := 6) rfl in_X16 tyX16 tyX16_ok nmX16 1 (by decide) q834 (fun _ h9 => h9) rfl (w_narr _ none) (w_farr _ none) dJ13_init_3_38 hp (fun M6 H locs hM hS hp => ?_)
    exact hB41 _ _ _ _ _ _ _ _ hp hM hS (lv_sub hl [0, 1, 2, 3] rfl)
  · have hp := oIf.f hp hc
    exact hp.elim
def P_J14_init_2_X16 (G : wG) (t0 : Nat) (p1 : Option Nat) (p2 : Option Nat) (p3 : Int32) (p4 : Int32) (M : wM) (Q : wM → Prop) : Prop :=
  P_J13_init_3_X16 G t0 p1 p2 p3 p4 M (fun M1 => Q M1)
set_option maxHeartbeats 4000000 in
set_option maxRecDepth 100000 in
theorem P_J14_init_2_X16_ok {l : Launch} (hl0 : l.stackTraces = false) {G : wG} {t0 : Nat} {p1 : Option Nat} {p2 : Option Nat} {p3 : Int32} {p4 : Int32} {M : wM} {Q : wM → Prop} (hp : P_J14_init_2_X16 G t0 p1 p2 p3 p4 M Q) : wMet l yJ14_init_2 (ws_ yJ14_init_2 cJ14_init_2 5 (none)) 13 424 G [.ref t0, va_rf p1, va_rf p2, .int p3, .int p4] M 0 (wqV Q) wX0 := by
  refine vx_ofW (cc := cJ14_init_2) (maxL := 5) (ret := none) (by decide) rfl ?_
  intro p e s m args below meth c s₁ B hml hnt hv
  obtain ⟨rfl, hM, hK, hZ, hz⟩ := hv
  have hC : wC G s := ⟨hK, hZ, hz⟩
  have hx := B.exec
  have hb := B.bytes
  have hr := B.returns
  have hts := atoms_spec (ws := (ws_ yJ14_init_2 cJ14_init_2 5 (none))) B.pre
  have hts : ∀ w ∈ lw_all, w.before _ s = true := fun w h => hts w (List.mem_cons_of_mem _ h)
  have hown : s.vm.findClass RJ14 = some m.cls := findClass_of_methodNamed B.named
  have hlk := B.notSynchronized
  have hin0 : meth.name = "<init>" := (name_of_methodNamed B.named B.method).1
  have X : CallFix p m c cJ14_init_2 5 s ([.ref t0, va_rf p1, va_rf p2, .int p3, .int p4] : List Value).toArray lw_all RJ14 := ⟨hx, hb, hml, hown, hts⟩
  have hS : va_S (wA G) s.heap s.heap [] := va_S.rf
  have hl := lv_entry ([.ref t0, va_rf p1, va_rf p2, .int p3, .int p4]) (n := 5) (by cases p1 <;> cases p2 <;> exact Nat.le_of_ble_eq_true rfl)
  rw [lg_entry_eq]
  generalize (lg_sl ([.ref t0, va_rf p1, va_rf p2, .int p3, .int p4]) ++ List.replicate (5 - (lg_sl ([.ref t0, va_rf p1, va_rf p2, .int p3, .int p4])).length) Slot.unset).toArray = ls at hl ⊢
  have hl : lv_has ls 5 [(0, .ref t0), (1, va_rf p1), (2, va_rf p2), (3, .int p3), (4, .int p4)] := by cases p1 <;> cases p2 <;> exact hl
  refine lv_aload_n hx hb dJ14_init_2_0 rfl (lv_at hl 0 rfl) ?_
  refine x_aload_n (r := p1) hx hb dJ14_init_2_1 rfl (lv_at hl 1 rfl) ?_
  refine x_aload_n (r := p2) hx hb dJ14_init_2_2 rfl (lv_at hl 2 rfl) ?_
  refine lv_iload_n hx hb dJ14_init_2_3 rfl (lv_at hl 3 rfl) ?_
  refine lv_iload hx hb dJ14_init_2_4 (lv_at hl 4 rfl) ?_
  refine x_call0V (vx_runI (As := [va_rf p1, va_rf p2, .int p3, .int p4]) (rest := []) X (P_J13_init_3_X16_ok (l := l) hl0 hp) (cwI 4 hts (lw_meth q1261) rfl rfl rfl (hts _ q165) (hts _ q1259) (hts _ q1260) rfl (by decide +kernel) ⟨Nat.le_of_ble_eq_true rfl, Nat.le_of_ble_eq_true rfl⟩) ⟨wPc.blind, w_pre hC hM hS _⟩ rfl rfl hl.1 rfl (lv_room (Nat.le_of_ble_eq_true rfl)) dJ14_init_2_6 ⟨Nat.le_refl _, Nat.le_refl _⟩) hS ⟨Nat.le_refl _, Nat.le_refl _⟩ (fun _ _ _ _ _ _ h => False.elim h) (fun M1 H locs hp hM hS => ?_)
  exact x_vret X hr hlk hM hS ⟨Nat.le_refl _, Nat.le_refl _⟩ dJ14_init_2_9 ⟨rfl, hp⟩
def P_X14_init_X16 (G : wG) (t0 : Nat) (p1 : Option Nat) (M : wM) (Q : wM → Prop) : Prop :=
  P_J14_init_2_X16 G t0 none p1 (0 : Int32) (0 : Int32) M (fun M1 => Q M1)
set_option maxHeartbeats 4000000 in
set_option maxRecDepth 100000 in
theorem P_X14_init_X16_ok {l : Launch} (hl0 : l.stackTraces = false) {G : wG} {t0 : Nat} {p1 : Option Nat} {M : wM} {Q : wM → Prop} (hp : P_X14_init_X16 G t0 p1 M Q) : wMet l yX14_init (ws_ yX14_init cX14_init 2 (none)) 14 448 G [.ref t0, va_rf p1] M 0 (wqV Q) wX0 := by
  refine vx_ofW (cc := cX14_init) (maxL := 2) (ret := none) (by decide) rfl ?_
  intro p e s m args below meth c s₁ B hml hnt hv
  obtain ⟨rfl, hM, hK, hZ, hz⟩ := hv
  have hC : wC G s := ⟨hK, hZ, hz⟩
  have hx := B.exec
  have hb := B.bytes
  have hr := B.returns
  have hts := atoms_spec (ws := (ws_ yX14_init cX14_init 2 (none))) B.pre
  have hts : ∀ w ∈ lw_all, w.before _ s = true := fun w h => hts w (List.mem_cons_of_mem _ h)
  have hown : s.vm.findClass RX14 = some m.cls := findClass_of_methodNamed B.named
  have hlk := B.notSynchronized
  have hin0 : meth.name = "<init>" := (name_of_methodNamed B.named B.method).1
  have X : CallFix p m c cX14_init 2 s ([.ref t0, va_rf p1] : List Value).toArray lw_all RX14 := ⟨hx, hb, hml, hown, hts⟩
  have hS : va_S (wA G) s.heap s.heap [] := va_S.rf
  have hl := lv_entry ([.ref t0, va_rf p1]) (n := 2) (by cases p1 <;> exact Nat.le_of_ble_eq_true rfl)
  rw [lg_entry_eq]
  generalize (lg_sl ([.ref t0, va_rf p1]) ++ List.replicate (2 - (lg_sl ([.ref t0, va_rf p1])).length) Slot.unset).toArray = ls at hl ⊢
  have hl : lv_has ls 2 [(0, .ref t0), (1, va_rf p1)] := by cases p1 <;> exact hl
  refine lv_aload_n hx hb dX14_init_0 rfl (lv_at hl 0 rfl) ?_
  refine lv_null hx hb dX14_init_1 ?_
  refine x_aload_n (r := p1) hx hb dX14_init_2 rfl (lv_at hl 1 rfl) ?_
  refine lv_iconst (v := 0) hx hb dX14_init_3 (by decide) ?_
  refine lv_iconst (v := 0) hx hb dX14_init_4 (by decide) ?_
  refine x_call0V (vx_runI (As := [va_rf none, va_rf p1, .int (0 : Int32), .int (0 : Int32)]) (rest := []) X (P_J14_init_2_X16_ok (l := l) hl0 hp) (cwI 4 hts (lw_meth q1258) rfl rfl rfl (hts _ q166) (hts _ q2654) (hts _ q1257) rfl (by decide +kernel) ⟨Nat.le_of_ble_eq_true rfl, Nat.le_of_ble_eq_true rfl⟩) ⟨wPc.blind, w_pre hC hM hS _⟩ rfl rfl hl.1 rfl (lv_room (Nat.le_of_ble_eq_true rfl)) dX14_init_5 ⟨Nat.le_refl _, Nat.le_refl _⟩) hS ⟨Nat.le_refl _, Nat.le_refl _⟩ (fun _ _ _ _ _ _ h => False.elim h) (fun M1 H locs hp hM hS => ?_)
  exact x_vret X hr hlk hM hS ⟨Nat.le_refl _, Nat.le_refl _⟩ dX14_init_8 ⟨rfl, hp⟩
def P_X16_init (G : wG) (t0 : Nat) (p1 : Option Nat) (M : wM) (Q : wM → Prop) : Prop :=
  P_X14_init_X16 G t0 p1 M (fun M1 => Q M1)
set_option maxHeartbeats 4000000 in
set_option maxRecDepth 100000 in
theorem P_X16_init_ok {l : Launch} (hl0 : l.stackTraces = false) {G : wG} {t0 : Nat} {p1 : Option Nat} {M : wM} {Q : wM → Prop} (hp : P_X16_init G t0 p1 M Q) : wMet l yX16_init (ws_ yX16_init cX16_init 2 (none)) 15 469 G [.ref t0, va_rf p1] M 0 (wqV Q) wX0 := by
  refine vx_ofW (cc := cX16_init) (maxL := 2) (ret := none) (by decide) rfl ?_
  intro p e s m args below meth c s₁ B hml hnt hv
  obtain ⟨rfl, hM, hK, hZ, hz⟩ := hv
  have hC : wC G s := ⟨hK, hZ, hz⟩
  have hx := B.exec
  have hb := B.bytes
  have hr := B.returns
  have hts := atoms_spec (ws := (ws_ yX16_init cX16_init 2 (none))) B.pre
  have hts : ∀ w ∈ lw_all, w.before _ s = true := fun w h => hts w (List.mem_cons_of_mem _ h)
  have hown : s.vm.findClass RX16 = some m.cls := findClass_of_methodNamed B.named
  have hlk := B.notSynchronized
  have hin0 : meth.name = "<init>" := (name_of_methodNamed B.named B.method).1
  have X : CallFix p m c cX16_init 2 s ([.ref t0, va_rf p1] : List Value).toArray lw_all RX16 := ⟨hx, hb, hml, hown, hts⟩
  have hS : va_S (wA G) s.heap s.heap [] := va_S.rf
  have hl := lv_entry ([.ref t0, va_rf p1]) (n := 2) (by cases p1 <;> exact Nat.le_of_ble_eq_true rfl)
  rw [lg_entry_eq]
  generalize (lg_sl ([.ref t0, va_rf p1]) ++ List.replicate (2 - (lg_sl ([.ref t0, va_rf p1])).length) Slot.unset).toArray = ls at hl ⊢
  have hl : lv_has ls 2 [(0, .ref t0), (1, va_rf p1)] := by cases p1 <;> exact hl
  refine lv_aload_n hx hb dX16_init_0 rfl (lv_at hl 0 rfl) ?_
  refine x_aload_n (r := p1) hx hb dX16_init_1 rfl (lv_at hl 1 rfl) ?_
  refine x_call0V (vx_runI (As := [va_rf p1]) (rest := []) X (P_X14_init_X16_ok (l := l) hl0 hp) (cwI 1 hts (lw_meth q2653) rfl rfl rfl (hts _ q204) (hts _ q2671) (hts _ q2652) rfl (by decide +kernel) ⟨Nat.le_of_ble_eq_true rfl, Nat.le_of_ble_eq_true rfl⟩) ⟨wPc.blind, w_pre hC hM hS _⟩ rfl rfl hl.1 rfl (lv_room (Nat.le_of_ble_eq_true rfl)) dX16_init_2 ⟨Nat.le_refl _, Nat.le_refl _⟩) hS ⟨Nat.le_refl _, Nat.le_refl _⟩ (fun _ _ _ _ _ _ h => False.elim h) (fun M1 H locs hp hM hS => ?_)
  exact x_vret X hr hlk hM hS ⟨Nat.le_refl _, Nat.le_refl _⟩ dX16_init_5 ⟨rfl, hp⟩
def B_X2_checkApply_79 (G : wG) (Q : wM → Prop) (Xp : String → Nat → wM → Prop) (y0 : Nat) (M : wM) (bq : Nat) : Prop :=
  oNew G M bq 12 [.null, .null, .null, .null, .null, .int 0] (fun a1 M2 b3 => P_X16_init G a1 (some y0) M2 (fun M4 => (∃ fs, M4 a1 = some (.inr (12, fs))) ∧ wz G ≤ a1 ∧ Xp "ParkingOffice$NotNow" a1 M4))
def B_X2_checkApply_46 (G : wG) (Q : wM → Prop) (Xp : String → Nat → wM → Prop) (M : wM) (bq : Nat) : Prop :=
  oNew G M bq 11 [.null, .null, .null, .null, .null, .int 0] (fun a1 M2 b3 => P_X15_init G a1 M2 (fun M4 => (∃ fs, M4 a1 = some (.inr (11, fs))) ∧ wz G ≤ a1 ∧ (B_X2_checkApply_79 G Q Xp a1 M4 b3)))
def P_X2_checkApply (G : wG) (t0 : Nat) (p1 : Int32) (p2 : Int32) (b : Nat) (M : wM) (Q : wM → Prop) (Xp : String → Nat → wM → Prop) : Prop :=
  oGetA M t0 1 1 (fun a1 => oIs M a1 16 (P_J2_size G a1 M (fun v4 M2 => oIf (v4 = (60 : Int32)) (B_X2_checkApply_46 G Q Xp M2 b) (oLam G M2 b "L2" p1 (fun a5 M6 b7 => oIs M6 t0 1 (P_X2_many G t0 a5 M6 (fun v10 M8 => oGetA M8 t0 1 0 (fun a11 => oGetA M8 a11 2 2 (fun a12 => oIs M8 a12 16 (P_J2_get G a12 p1 M8 (fun r15 M13 => oCast M13 r15 8 (oRef r15 (fun a16 => oGetI M13 a16 8 1 (fun v17 => oIf (v10 < v17) (oLam G M13 b7 "L3" p2 (fun a18 M19 b20 => oIs M19 t0 1 (P_X2_many G t0 a18 M19 (fun v23 M21 => oIf (v23 ≤ 0) (Q M21) (oNew G M21 b20 12 [.null, .null, .null, .null, .null, .int 0] (fun a24 M25 b26 => P_X16_init G a24 none M25 (fun M27 => (∃ fs, M27 a24 = some (.inr (12, fs))) ∧ wz G ≤ a24 ∧ Xp "ParkingOffice$NotNow" a24 M27))))))) (B_X2_checkApply_46 G Q Xp M13 b7)))))))))))))))
set_option maxHeartbeats 4000000 in
set_option maxRecDepth 100000 in
theorem P_X2_checkApply_ok {l : Launch} (hl0 : l.stackTraces = false) {G : wG} {t0 : Nat} {p1 : Int32} {p2 : Int32} {b : Nat} {M : wM} {Q : wM → Prop} {Xp : String → Nat → wM → Prop} (hp : P_X2_checkApply G t0 p1 p2 b M Q Xp) : wMet l yX2_checkApply (wsW_ yX2_checkApply cX2_checkApply 4 (none) [((0 : Nat), (76 : Nat), (79 : Nat), (308 : Nat))]) 24 3300 G [.ref t0, .int p1, .int p2] M b (wqV Q) Xp := by
  refine vx_ofWH (cc := cX2_checkApply) (maxL := 4) (ret := none) (hh := [((0 : Nat), (76 : Nat), (79 : Nat), (308 : Nat))]) (by decide) rfl ?_
  intro p e s m args below meth c s₁ B hml hv
  obtain ⟨rfl, hM, hK, hZ, hz⟩ := hv
  have hC : wC G s := ⟨hK, hZ, hz⟩
  have hx := B.exec
  have hb := B.bytes
  have hr := B.returns
  have hts := atoms_spec (ws := (wsW_ yX2_checkApply cX2_checkApply 4 (none) [((0 : Nat), (76 : Nat), (79 : Nat), (308 : Nat))])) B.pre
  have htab := vx_table (x := yX2_checkApply) B (hts _ List.mem_cons_self)
  have hts : ∀ w ∈ lw_all, w.before _ s = true := fun w h => hts w (List.mem_cons_of_mem _ h)
  have hown : s.vm.findClass RX2 = some m.cls := findClass_of_methodNamed B.named
  have hlk := B.notSynchronized
  have X : CallFix p m c cX2_checkApply 4 s ([.ref t0, .int p1, .int p2] : List Value).toArray lw_all RX2 := ⟨hx, hb, hml, hown, hts⟩
  have hS : va_S (wA G) s.heap s.heap [] := va_S.rf
  have hl := lv_entry ([.ref t0, .int p1, .int p2]) (n := 4) (Nat.le_of_ble_eq_true rfl)
  rw [lg_entry_eq]
  generalize (lg_sl ([.ref t0, .int p1, .int p2]) ++ List.replicate (4 - (lg_sl ([.ref t0, .int p1, .int p2])).length) Slot.unset).toArray = ls at hl ⊢
  have hl : lv_has ls 4 [(0, .ref t0), (1, .int p1), (2, .int p2)] := hl
  have hB : 0 + b ≤ ((headSpec (wsW_ yX2_checkApply cX2_checkApply 4 (none) [((0 : Nat), (76 : Nat), (79 : Nat), (308 : Nat))]) ({ frames := 24, cells := b, slots := b, locals := 3300 })).room).cells ∧ 0 + b ≤ ((headSpec (wsW_ yX2_checkApply cX2_checkApply 4 (none) [((0 : Nat), (76 : Nat), (79 : Nat), (308 : Nat))]) ({ frames := 24, cells := b, slots := b, locals := 3300 })).room).slots := ⟨Nat.le_of_eq (Nat.zero_add b), Nat.le_of_eq (Nat.zero_add b)⟩
  have hB79 : ∀ (y0 : Nat) (M : wM) (bq : Nat) (H : Heap) (locs : List Loc) (ls : Array Slot) (cells slots : Nat), B_X2_checkApply_79 G Q Xp y0 M bq → wR G M H → va_S (wA G) s.heap H locs → (cells + bq ≤ ((headSpec (wsW_ yX2_checkApply cX2_checkApply 4 (none) [((0 : Nat), (76 : Nat), (79 : Nat), (308 : Nat))]) ({ frames := 24, cells := b, slots := b, locals := 3300 })).room).cells ∧ slots + bq ≤ ((headSpec (wsW_ yX2_checkApply cX2_checkApply 4 (none) [((0 : Nat), (76 : Nat), (79 : Nat), (308 : Nat))]) ({ frames := 24, cells := b, slots := b, locals := 3300 })).room).slots) → lv_has ls 4 [] → W p l e (headSpec (wsW_ yX2_checkApply cX2_checkApply 4 (none) [((0 : Nat), (76 : Nat), (79 : Nat), (308 : Nat))]) ({ frames := 24, cells := b, slots := b, locals := 3300 })).room s m ([.ref t0, .int p1, .int p2] : List Value).toArray below meth c H locs cells slots (vx_MQ below (wQ G (wqV Q)) (wXC G Xp) ([.ref t0, .int p1, .int p2] : List Value).toArray s b b (wA G)) (F0 m 79 ls [.ref y0]) := by
    intro y0 M bq H locs ls cells slots hp hM hS hB hl
    refine lv_astore_n (lv' := [(3, .ref y0)]) hx hb dX2_checkApply_79 rfl hl (by decide) rfl (fun ls hl => ?_)
    refine x_new X hC hM hS hB (ci := 12) (C := RX16) (T := TX16) (N := 6) rfl in_X16 tyX16 tyX16_ok q2659 q2660 q206 rfl (by decide) dX2_checkApply_80 hp (fun a1 M2 H b3 cells slots hM hS hB hp => ?_)
    refine lv_dup hx hb dX2_checkApply_83 rfl ?_
    refine lv_aload_n hx hb dX2_checkApply_84 rfl (lv_at hl 0 rfl) ?_
    refine x_call0V (vx_runI (As := [va_rf (some y0)]) (rest := [.ref a1]) X (P_X16_init_ok (l := l) hl0 hp) (cwI 1 hts (lw_meth q2670) rfl rfl rfl (hts _ q206) (hts _ q2668) (hts _ q2669) rfl (by decide +kernel) ⟨Nat.le_of_ble_eq_true rfl, Nat.le_of_ble_eq_true rfl⟩) ⟨wPc.blind, w_pre hC hM hS _⟩ rfl rfl hl.1 rfl (lv_room (Nat.le_of_ble_eq_true rfl)) dX2_checkApply_85 (w_room0 hB)) hS (w_room0 hB) (fun _ _ _ _ _ _ h => False.elim h) (fun M4 H locs hp hM hS => ?_)
    refine vx_athrow hx hb dX2_checkApply_88 ?_
    obtain ⟨ce, h1, h2, h3⟩ := w_exc hC.1 hM (ci := 12) (q := (RX16, TX16, 6)) rfl hp.1 hp.2.1
    exact x_out hlk (by rw [htab]; decide) hM hS (w_fin hB) h1 h2 h3 hp.2.2
  have hB46 : ∀ (M : wM) (bq : Nat) (H : Heap) (locs : List Loc) (ls : Array Slot) (cells slots : Nat), B_X2_checkApply_46 G Q Xp M bq → wR G M H → va_S (wA G) s.heap H locs → (cells + bq ≤ ((headSpec (wsW_ yX2_checkApply cX2_checkApply 4 (none) [((0 : Nat), (76 : Nat), (79 : Nat), (308 : Nat))]) ({ frames := 24, cells := b, slots := b, locals := 3300 })).room).cells ∧ slots + bq ≤ ((headSpec (wsW_ yX2_checkApply cX2_checkApply 4 (none) [((0 : Nat), (76 : Nat), (79 : Nat), (308 : Nat))]) ({ frames := 24, cells := b, slots := b, locals := 3300 })).room).slots) → lv_has ls 4 [] → W p l e (headSpec (wsW_ yX2_checkApply cX2_checkApply 4 (none) [((0 : Nat), (76 : Nat), (79 : Nat), (308 : Nat))]) ({ frames := 24, cells := b, slots := b, locals := 3300 })).room s m ([.ref t0, .int p1, .int p2] : List Value).toArray below meth c H locs cells slots (vx_MQ below (wQ G (wqV Q)) (wXC G Xp) ([.ref t0, .int p1, .int p2] : List Value).toArray s b b (wA G)) (F0 m 46 ls []) := by
    intro M bq H locs ls cells slots hp hM hS hB hl
    refine x_new X hC hM hS hB (ci := 11) (C := RX15) (T := TX15) (N := 6) rfl in_X15 tyX15 tyX15_ok q2635 q2640 q205 rfl (by decide) dX2_checkApply_46 hp (fun a1 M2 H b3 cells slots hM hS hB hp => ?_)
    refine lv_dup hx hb dX2_checkApply_49 rfl ?_
    refine x_call0V (vx_runI (As := []) (rest := [.ref a1]) X (P_X15_init_ok (l := l) hl0 hp) (cwI 0 hts (lw_meth q2650) rfl rfl rfl (hts _ q205) (hts _ q2648) (hts _ q2649) rfl (by decide +kernel) ⟨Nat.le_of_ble_eq_true rfl, Nat.le_of_ble_eq_true rfl⟩) ⟨wPc.blind, w_pre hC hM hS _⟩ rfl rfl hl.1 rfl (lv_room (Nat.le_of_ble_eq_true rfl)) dX2_checkApply_50 (w_room0 hB)) hS (w_room0 hB) (fun _ _ _ _ _ _ h => False.elim h) (fun M4 H locs hp hM hS => ?_)
    refine vx_athrow hx hb dX2_checkApply_53 ?_
    obtain ⟨h0, hz0, hp⟩ := hp
    obtain ⟨ce, h1, h2, h3⟩ := w_exc hC.1 hM (ci := 11) (q := (RX15, TX15, 6)) rfl h0 hz0
    refine vx_catch (own := "ParkingOffice$Books") (name := "ParkingOffice$NoPlace") (E := "ParkingOffice$NoPlace") hown [] ⟨0, 76, 79, 308⟩ [] (by rw [htab]; rfl) (fun _ h => absurd h List.not_mem_nil) (by decide) (by decide) (hts _ q2635) (va_Nw.use rfl (hC.1.2.2.1 _ q2641 rfl)) h1 h2 h3 ?_
    exact hB79 _ _ _ _ _ _ _ _ hp hM hS hB (lv_sub hl [] rfl)
  refine lv_aload_n hx hb dX2_checkApply_0 rfl (lv_at hl 0 rfl) ?_
  refine x_getA X hC.1 hM (ci := 1) (C := RX2) (T := TX2) (N := 9) rfl in_X2 1 (by decide) q919 (fun _ h9 => h9) dX2_checkApply_1 hp (fun a1 hp => ?_)
  obtain ⟨hrec, hp⟩ := hp
  refine x_call0I5 (vx_runF (hC.1.1.1 16 (RJ2, TJ2, 3) rfl).2 (C := "java/util/ArrayList") (As := []) (rest := []) X (P_J2_size_ok (l := l) hl0 hp) (va_cwF 0 hts (lw_app (w_mem4 q493 q496 q498 q153) (lw_meth q500)) rfl rfl rfl (wfw_13 hC.1) (by decide +kernel) ⟨Nat.le_of_ble_eq_true rfl, Nat.le_of_ble_eq_true rfl⟩) ⟨wPc.blind, w_recv hC.1 hM (ci := 16) (q := (RJ2, TJ2, 3)) rfl hrec, w_pre hC hM hS _⟩ rfl rfl hl.1 rfl (lv_room (Nat.le_of_ble_eq_true rfl)) dX2_checkApply_4 (w_room0 hB)) hS (w_room0 hB) (fun _ _ _ _ _ _ h => False.elim h) (fun v4 M2 H locs hp hM hS => ?_)
  refine lv_bipush (v := 60) hx hb dX2_checkApply_9 (by decide) ?_
  refine lv_icmp_eq (tgt := 46) hx hb dX2_checkApply_11 (by decide) (fun hc => ?_) (fun hc => ?_)
  · have hp := oIf.t hp hc
    exact hB46 _ _ _ _ _ _ _ hp hM hS hB (lv_sub hl [] rfl)
  · have hp := oIf.f hp hc
    refine lv_aload_n hx hb dX2_checkApply_14 rfl (lv_at hl 0 rfl) ?_
    refine lv_iload_n hx hb dX2_checkApply_15 rfl (lv_at hl 1 rfl) ?_
    refine x_indy X (hml.trans hl.1.symm) B.named hC hM hS hB (σ := wSh2) (nm := "L2") (List.mem_of_getElem? (i := 1) rfl) q3886 dX2_checkApply_16 (Nat.le_of_ble_eq_true rfl) hp (fun a5 M6 H b7 cells slots hM hS hB hp => ?_)
    obtain ⟨hrec, hp⟩ := hp
    refine x_call0I (vx_runV (As := [.ref a5]) (rest := []) X (P_X2_many_ok (l := l) hl0 hp) (cwV 1 hts (lw_V q2639 q2261 q2262 q149 q2263) rfl rfl rfl (by decide +kernel) ⟨Nat.le_of_ble_eq_true rfl, Nat.le_of_ble_eq_true rfl⟩) ⟨wPc.blind, w_recv hC.1 hM (ci := 1) (q := (RX2, TX2, 9)) rfl hrec, w_pre hC hM hS _⟩ rfl rfl hl.1 rfl (lv_room (Nat.le_of_ble_eq_true rfl)) dX2_checkApply_21 (w_room0 hB)) hS (w_room0 hB) (fun _ _ _ _ _ _ h => False.elim h) (fun v10 M8 H locs hp hM hS => ?_)
    refine lv_aload_n hx hb dX2_checkApply_24 rfl (lv_at hl 0 rfl) ?_
    refine x_getA X hC.1 hM (ci := 1) (C := RX2) (T := TX2) (N := 9) rfl in_X2 0 (by decide) q917 (fun _ h9 => h9) dX2_checkApply_25 hp (fun a11 hp => ?_)
    refine x_getAN X hC.1 hM (ci := 2) (C := RX3) (T := TX3) (N := 8) rfl in_X3 2 (by decide) q404 (fun _ h9 => h9) dX2_checkApply_28 hp (fun a12 hp => ?_)
    refine lv_iload_n hx hb dX2_checkApply_31 rfl (lv_at hl 1 rfl) ?_
    obtain ⟨hrec, hp⟩ := hp
    refine x_call0R5 (vx_runF (hC.1.1.1 16 (RJ2, TJ2, 3) rfl).2 (C := "java/util/ArrayList") (As := [.int p1]) (rest := [.int v10]) X (P_J2_get_ok (l := l) hl0 hp) (va_cwF 1 hts (lw_app (w_mem4 q519 q522 q524 q153) (lw_meth q526)) rfl rfl rfl (wfw_8 hC.1) (by decide +kernel) ⟨Nat.le_of_ble_eq_true rfl, Nat.le_of_ble_eq_true rfl⟩) ⟨wPc.blind, w_recv hC.1 hM (ci := 16) (q := (RJ2, TJ2, 3)) rfl hrec, w_pre hC hM hS _⟩ rfl rfl hl.1 rfl (lv_room (Nat.le_of_ble_eq_true rfl)) dX2_checkApply_32 (w_room0 hB)) hS (w_room0 hB) (fun _ _ _ _ _ _ h => False.elim h) (fun r15 M13 H locs hp hM hS => ?_)
    refine x_cast (r := r15) X hC.1 hM q916 (ci := 8) rfl (Or.inl rfl) dX2_checkApply_37 hp (fun hp => ?_)
    obtain ⟨a16, ea, hqa16⟩ := hp
    subst ea
    have hp := hqa16
    refine x_getIN X hC.1 hM (ci := 8) (C := RX9) (T := TX9) (N := 3) rfl in_X9 1 (by decide) q1470 (fun _ h9 => h9) dX2_checkApply_40 hp (fun v17 hp => ?_)
    refine lv_icmp_lt (tgt := 54) hx hb dX2_checkApply_43 (by decide) (fun hc => ?_) (fun hc => ?_)
    · have hp := oIf.t hp hc
      refine lv_aload_n hx hb dX2_checkApply_54 rfl (lv_at hl 0 rfl) ?_
      refine lv_iload_n hx hb dX2_checkApply_55 rfl (lv_at hl 2 rfl) ?_
      refine x_indy X (hml.trans hl.1.symm) B.named hC hM hS hB (σ := wSh3) (nm := "L3") (List.mem_of_getElem? (i := 2) rfl) q3886 dX2_checkApply_56 (Nat.le_of_ble_eq_true rfl) hp (fun a18 M19 H b20 cells slots hM hS hB hp => ?_)
      obtain ⟨hrec, hp⟩ := hp
      refine x_call0I (vx_runV (As := [.ref a18]) (rest := []) X (P_X2_many_ok (l := l) hl0 hp) (cwV 1 hts (lw_V q2639 q2261 q2262 q149 q2263) rfl rfl rfl (by decide +kernel) ⟨Nat.le_of_ble_eq_true rfl, Nat.le_of_ble_eq_true rfl⟩) ⟨wPc.blind, w_recv hC.1 hM (ci := 1) (q := (RX2, TX2, 9)) rfl hrec, w_pre hC hM hS _⟩ rfl rfl hl.1 rfl (lv_room (Nat.le_of_ble_eq_true rfl)) dX2_checkApply_61 (w_room0 hB)) hS (w_room0 hB) (fun _ _ _ _ _ _ h => False.elim h) (fun v23 M21 H locs hp hM hS => ?_)
      refine lv_if_le (tgt := 76) hx hb dX2_checkApply_64 (by decide) (fun hc => ?_) (fun hc => ?_)
      · have hp := oIf.t hp hc
        refine lv_goto (tgt := 89) hx hb dX2_checkApply_76 (by decide) ?_
        exact x_vret X hr hlk hM hS (w_fin hB) dX2_checkApply_89 ⟨rfl, hp⟩
      · have hp := oIf.f hp hc
        refine x_new X hC hM hS hB (ci := 12) (C := RX16) (T := TX16) (N := 6) rfl in_X16 tyX16 tyX16_ok q2659 q2660 q206 rfl (by decide) dX2_checkApply_67 hp (fun a24 M25 H b26 cells slots hM hS hB hp => ?_)
        refine lv_dup hx hb dX2_checkApply_70 rfl ?_
        refine lv_null hx hb dX2_checkApply_71 ?_
        refine x_call0V (vx_runI (As := [va_rf none]) (rest := [.ref a24]) X (P_X16_init_ok (l := l) hl0 hp) (cwI 1 hts (lw_meth q2670) rfl rfl rfl (hts _ q206) (hts _ q2668) (hts _ q2669) rfl (by decide +kernel) ⟨Nat.le_of_ble_eq_true rfl, Nat.le_of_ble_eq_true rfl⟩) ⟨wPc.blind, w_pre hC hM hS _⟩ rfl rfl hl.1 rfl (lv_room (Nat.le_of_ble_eq_true rfl)) dX2_checkApply_72 (w_room0 hB)) hS (w_room0 hB) (fun _ _ _ _ _ _ h => False.elim h) (fun M27 H locs hp hM hS => ?_)
        refine vx_athrow hx hb dX2_checkApply_75 ?_
        obtain ⟨ce, h1, h2, h3⟩ := w_exc hC.1 hM (ci := 12) (q := (RX16, TX16, 6)) rfl hp.1 hp.2.1
        exact x_outP hown hlk (by rw [htab]; exact (List.forall_mem_cons.mpr ⟨(Or.inr ⟨by decide, "ParkingOffice$NoPlace", hts _ q2635, hC.1.2.2.2.2.2.1 ("ParkingOffice$NotNow", "ParkingOffice$NoPlace") (List.mem_of_getElem? (i := 46) rfl)⟩), (fun _ h => absurd h List.not_mem_nil)⟩)) hM hS (w_fin hB) h1 h2 h3 hp.2.2
    · have hp := oIf.f hp hc
      exact hB46 _ _ _ _ _ _ _ hp hM hS hB (lv_sub hl [] rfl)
def P_X3_zoneOf (G : wG) (t0 : Nat) (p1 : Int32) (M : wM) (Q : Int32 → wM → Prop) : Prop :=
  oGetA M t0 2 1 (fun a1 => oGetA M t0 2 2 (fun a2 => oIs M a2 16 (P_J2_get G a2 p1 M (fun r5 M3 => oCast M3 r5 8 (oRef r5 (fun a6 => oGetI M3 a6 8 0 (fun v7 => oIs M3 a1 16 (P_J2_get G a1 v7 M3 (fun r10 M8 => oCast M8 r10 7 (oRef r10 (fun a11 => oGetI M8 a11 7 0 (fun v12 => Q v12 M8))))))))))))
set_option maxHeartbeats 4000000 in
set_option maxRecDepth 100000 in
theorem P_X3_zoneOf_ok {l : Launch} (hl0 : l.stackTraces = false) {G : wG} {t0 : Nat} {p1 : Int32} {M : wM} {Q : Int32 → wM → Prop} (hp : P_X3_zoneOf G t0 p1 M Q) : wMet l yX3_zoneOf (ws_ yX3_zoneOf cX3_zoneOf 2 (Option.some Jvm.ClassFile.FieldType.int)) 15 464 G [.ref t0, .int p1] M 0 (wqI Q) wX0 := by
  refine vx_ofW (cc := cX3_zoneOf) (maxL := 2) (ret := Option.some Jvm.ClassFile.FieldType.int) (by decide) rfl ?_
  intro p e s m args below meth c s₁ B hml hnt hv
  obtain ⟨rfl, hM, hK, hZ, hz⟩ := hv
  have hC : wC G s := ⟨hK, hZ, hz⟩
  have hx := B.exec
  have hb := B.bytes
  have hr := B.returns
  have hts := atoms_spec (ws := (ws_ yX3_zoneOf cX3_zoneOf 2 (Option.some Jvm.ClassFile.FieldType.int))) B.pre
  have hts : ∀ w ∈ lw_all, w.before _ s = true := fun w h => hts w (List.mem_cons_of_mem _ h)
  have hown : s.vm.findClass RX3 = some m.cls := findClass_of_methodNamed B.named
  have hlk := B.notSynchronized
  have X : CallFix p m c cX3_zoneOf 2 s ([.ref t0, .int p1] : List Value).toArray lw_all RX3 := ⟨hx, hb, hml, hown, hts⟩
  have hS : va_S (wA G) s.heap s.heap [] := va_S.rf
  have hl := lv_entry ([.ref t0, .int p1]) (n := 2) (Nat.le_of_ble_eq_true rfl)
  rw [lg_entry_eq]
  generalize (lg_sl ([.ref t0, .int p1]) ++ List.replicate (2 - (lg_sl ([.ref t0, .int p1])).length) Slot.unset).toArray = ls at hl ⊢
  have hl : lv_has ls 2 [(0, .ref t0), (1, .int p1)] := hl
  refine lv_aload_n hx hb dX3_zoneOf_0 rfl (lv_at hl 0 rfl) ?_
  refine x_getA X hC.1 hM (ci := 2) (C := RX3) (T := TX3) (N := 8) rfl in_X3 1 (by decide) q399 (fun _ h9 => h9) dX3_zoneOf_1 hp (fun a1 hp => ?_)
  refine lv_aload_n hx hb dX3_zoneOf_4 rfl (lv_at hl 0 rfl) ?_
  refine x_getA X hC.1 hM (ci := 2) (C := RX3) (T := TX3) (N := 8) rfl in_X3 2 (by decide) q403 (fun _ h9 => h9) dX3_zoneOf_5 hp (fun a2 hp => ?_)
  refine lv_iload_n hx hb dX3_zoneOf_8 rfl (lv_at hl 1 rfl) ?_
  obtain ⟨hrec, hp⟩ := hp
  refine x_call0R5 (vx_runF (hC.1.1.1 16 (RJ2, TJ2, 3) rfl).2 (C := "java/util/ArrayList") (As := [.int p1]) (rest := [.ref a1]) X (P_J2_get_ok (l := l) hl0 hp) (va_cwF 1 hts (lw_app (w_mem4 q2255 q522 q524 q153) (lw_meth q526)) rfl rfl rfl (wfw_8 hC.1) (by decide +kernel) ⟨Nat.le_of_ble_eq_true rfl, Nat.le_of_ble_eq_true rfl⟩) ⟨wPc.blind, w_recv hC.1 hM (ci := 16) (q := (RJ2, TJ2, 3)) rfl hrec, w_pre hC hM hS _⟩ rfl rfl hl.1 rfl (lv_room (Nat.le_of_ble_eq_true rfl)) dX3_zoneOf_9 ⟨Nat.le_refl _, Nat.le_refl _⟩) hS ⟨Nat.le_refl _, Nat.le_refl _⟩ (fun _ _ _ _ _ _ h => False.elim h) (fun r5 M3 H locs hp hM hS => ?_)
  refine x_cast (r := r5) X hC.1 hM q2256 (ci := 8) rfl (Or.inl rfl) dX3_zoneOf_14 hp (fun hp => ?_)
  obtain ⟨a6, ea, hqa6⟩ := hp
  subst ea
  have hp := hqa6
  refine x_getIN X hC.1 hM (ci := 8) (C := RX9) (T := TX9) (N := 3) rfl in_X9 0 (by decide) q1466 (fun _ h9 => h9) dX3_zoneOf_17 hp (fun v7 hp => ?_)
  obtain ⟨hrec, hp⟩ := hp
  refine x_call0R5 (vx_runF (hC.1.1.1 16 (RJ2, TJ2, 3) rfl).2 (C := "java/util/ArrayList") (As := [.int v7]) (rest := []) X (P_J2_get_ok (l := l) hl0 hp) (va_cwF 1 hts (lw_app (w_mem4 q2255 q522 q524 q153) (lw_meth q526)) rfl rfl rfl (wfw_8 hC.1) (by decide +kernel) ⟨Nat.le_of_ble_eq_true rfl, Nat.le_of_ble_eq_true rfl⟩) ⟨wPc.blind, w_recv hC.1 hM (ci := 16) (q := (RJ2, TJ2, 3)) rfl hrec, w_pre hC hM hS _⟩ rfl rfl hl.1 rfl (lv_room (Nat.le_of_ble_eq_true rfl)) dX3_zoneOf_20 ⟨Nat.le_refl _, Nat.le_refl _⟩) hS ⟨Nat.le_refl _, Nat.le_refl _⟩ (fun _ _ _ _ _ _ h => False.elim h) (fun r10 M8 H locs hp hM hS => ?_)
  refine x_cast (r := r10) X hC.1 hM q2257 (ci := 7) rfl (Or.inl rfl) dX3_zoneOf_25 hp (fun hp => ?_)
  obtain ⟨a11, ea, hqa11⟩ := hp
  subst ea
  have hp := hqa11
  refine x_getIN X hC.1 hM (ci := 7) (C := RX8) (T := TX8) (N := 3) rfl in_X8 0 (by decide) q1439 (fun _ h9 => h9) dX3_zoneOf_28 hp (fun v12 hp => ?_)
  exact x_iret X hr hlk hM hS ⟨Nat.le_refl _, Nat.le_refl _⟩ dX3_zoneOf_31 ⟨_, rfl, hp⟩
